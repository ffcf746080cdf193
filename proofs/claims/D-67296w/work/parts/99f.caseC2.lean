theorem HaC.up {ν : Nat → Nat} {c D : Nat} {u u' : Sg} {X : Nat → Prop} {H : List Nat} {p : Nat → Nat} (h : HaC ν u H p) (hs : SC ν c u) (hx : Ux ν c u u' X) (hg : Gr FC D u u') (hb : ∀ k, 36 ≤ k → k ≤ 43 → D.testBit k = false) : HaC ν u' H p := by
  obtain ⟨⟨a1, a2, a3, a4⟩, ⟨b1, b2, b3, b4, b5⟩, h3, h4, h5, h6, h7⟩ := h
  have hn := hx.n hs
  have I := fun k (h1 : 36 ≤ k) (h2 : k ≤ 43) => hg.I k (hb k h1 h2)
  have A := fun k (h1 : 36 ≤ k) (h2 : k ≤ 43) (i : Nat) => hg.N k (hb k h1 h2) i
  have L := fun k (h1 : 36 ≤ k) (h2 : k ≤ 43) => hg.Ln k (hb k h1 h2)
  refine ⟨⟨by rw [I 43 (by omega) (by omega)]; exact a1, a2, by rw [L 40 (by omega) (by omega)]; exact a3, by rw [L 41 (by omega) (by omega)]; exact a4⟩, ⟨by rw [L 39 (by omega) (by omega), L 42 (by omega) (by omega)]; exact b1, by rw [L 37 (by omega) (by omega), L 42 (by omega) (by omega)]; exact b2, by rw [L 38 (by omega) (by omega), L 42 (by omega) (by omega)]; exact b3, by rw [L 42 (by omega) (by omega)]; exact b4, by rw [L 42 (by omega) (by omega)]; exact b5⟩, h3, fun i t hi => ?_, fun x hx' => ⟨?_, fun he => ?_⟩, fun i hi => by rw [A 41 (by omega) (by omega)]; exact h6 i hi, h7⟩
  · obtain ⟨x, x1, x2, x3, x4, x5, x6, x7⟩ := h4 i t hi
    exact ⟨x, by rw [A 40 (by omega) (by omega)]; exact x1, x2, by omega, by rw [hx.tr hs x3]; exact x4, by rw [L 42 (by omega) (by omega)]; exact x5, by rw [A 42 (by omega) (by omega), I 36 (by omega) (by omega)]; exact x6, by rw [A 39 (by omega) (by omega)]; exact x7⟩
  · rw [L 42 (by omega) (by omega)] at hx'
    rw [A 42 (by omega) (by omega), I 36 (by omega) (by omega)]
    exact (h5 x hx').1
  · rw [L 42 (by omega) (by omega)] at hx'
    rw [A 42 (by omega) (by omega), I 36 (by omega) (by omega)] at he
    obtain ⟨i, hi, e⟩ := (h5 x hx').2 he
    exact ⟨i, hi, by rw [A 40 (by omega) (by omega)]; exact e⟩
theorem FcM.up {ν : Nat → Nat} {c D : Nat} {u u' : Sg} {X : Nat → Prop} {M : List (Nat × Nat × Nat)} (h : FcM ν u M) (hs : SC ν c u) (hx : Ux ν c u u' X) (hg : Gr FC D u u') (h46 : D.testBit 46 = false) (h47 : D.testBit 47 = false) (h48 : D.testBit 48 = false) (h51 : D.testBit 51 = false) : FcM ν u' M := by
  obtain ⟨⟨a1, a2, a3, a4, a5, a6⟩, a7⟩ := h
  refine ⟨⟨by rw [hg.I 51 h51]; exact a1, by rw [hg.Ln 46 h46]; exact a2, by rw [hg.Ln 46 h46, hg.Ln 47 h47]; exact a3, by rw [hg.Ln 46 h46, hg.Ln 48 h48]; exact a4, by rw [hg.Ln 46 h46]; exact a5, by rw [hg.Ln 46 h46]; exact a6⟩, fun k t m a hk => ?_⟩
  obtain ⟨b1, b2, b3⟩ := a7 k t m a hk
  rw [hg.N 46 h46, hg.N 47 h47, hg.N 48 h48]
  exact ⟨b1.up hs hx, b2, b3.up hs hx⟩
theorem FcJ.up {ν : Nat → Nat} {c D : Nat} {u u' : Sg} {X : Nat → Prop} {J : List (Nat × Nat)} (h : FcJ ν u J) (hs : SC ν c u) (hx : Ux ν c u u' X) (hg : Gr FC D u u') (h49 : D.testBit 49 = false) (h50 : D.testBit 50 = false) (h52 : D.testBit 52 = false) : FcJ ν u' J := by
  obtain ⟨⟨a1, a2, a3, a4, a5⟩, a6⟩ := h
  refine ⟨⟨by rw [hg.I 52 h52]; exact a1, by rw [hg.Ln 49 h49]; exact a2, by rw [hg.Ln 49 h49, hg.Ln 50 h50]; exact a3, by rw [hg.Ln 49 h49]; exact a4, by rw [hg.Ln 49 h49]; exact a5⟩, fun k t j hk => ?_⟩
  obtain ⟨b1, b2⟩ := a6 k t j hk
  rw [hg.N 49 h49, hg.N 50 h50]
  exact ⟨b1.up hs hx, b2⟩
/-- a mask touches nothing of the store -/
theorem Gr.ux {ν : Nat → Nat} {c D : Nat} {u u' : Sg} {X : Nat → Prop} (hg : Gr FC D u u') (hs : SC ν c u) (hD : D &&& 8191 = 0) : EqS u u' ∧ Up ν c u u' X := by
  have hb : ∀ k, k ≤ 12 → D.testBit k = false := fun k hk => by
    have h1 := congrArg (fun z => Nat.testBit z k) hD
    simp only [Nat.testBit_and, Nat.zero_testBit] at h1
    have h2 : Nat.testBit 8191 k = true := (by decide : ∀ k, k ≤ 12 → Nat.testBit 8191 k = true) k hk
    rw [h2, Bool.and_true] at h1
    exact h1
  have e : EqS u u' := hg.eqS (fun k hk => hb k (by omega))
  have hr := hs.r
  have er : rC u' = rC u := by unfold rC; rw [hg.I 12 (hb 12 (by omega))]
  have s' : SC ν c u' := e.sc hs ⟨by rw [hg.I 12 (hb 12 (by omega)), er]; exact hr.1, by rw [er, hg.Ln 11 (hb 11 (by omega))]; exact hr.2.1⟩ ⟨by rw [hg.Ln 11 (hb 11 (by omega))]; exact hr.2.2.1, by rw [hg.Ln 11 (hb 11 (by omega))]; exact hr.2.2.2⟩
  exact ⟨e, s'.1, s'.2.1, s'.2.2, by rw [e.st]; exact Ext.rf, fun t ht => Or.inl ((e.nd t).mp ht), er, fun i _ => hg.N 11 (hb 11 (by omega)) i⟩
/-- an array twice as long -/
theorem wp_cpy2 {u : Sg} {id : Nat} {n : Int} {K : Sg → Option (Int × Sg)} {Q : Int → Sg → Prop} (hn : n = ((2 * gL u id : Nat) : Int)) (h1 : 16 ≤ gL u id) (h2 : gL u id ≤ 60000000) (k : ∀ u', (∀ j, gI u' j = gI u j) → (∀ j, j ≠ id → gL u' j = gL u j ∧ ∀ i, gN u' j i = gN u j i) → gL u' id = 2 * gL u id → (∀ i, i < gL u id → gN u' id i = gN u id i) → wp (K u') Q) : wp (cpy u id n K) Q := by
  rw [wp_cpy, hn]
  refine ⟨⟨by rw [Int.toNat_natCast]; omega, by rw [Int.toNat_natCast]; omega, by omega⟩, k _ (fun _ => rfl) (fun j hj => ⟨by rw [gL_sN', if_neg hj], fun i => by rw [gN_sN', if_neg hj]⟩) (by rw [gL_sN', if_pos rfl, Int.toNat_natCast]) (fun i hi => ?_)⟩
  rw [gN_sN', if_pos rfl, if_pos hi]; rfl
theorem adjFact_L2 {d : Nat} {ν : Nat → Nat} {c : Nat} {u : Sg} {J : List (Nat × Nat)} (hJ : FcJ ν u J) (hs : SC ν c u) {x j : Nat} (hx : x < nC u) {xx : Int → Int → Sg → Option (Int × Sg)} {xy : Sg → Option (Int × Sg)} : ∀ (m i f : Nat), i + m = J.length → m < f → ((∃ k, i ≤ k ∧ J[k]? = some (trC ν u x, j)) → bX1_adjectiveFact_L2 (runC d) f (x : Int) (j : Int) (i : Int) u xx xy = xy u) ∧ (¬ (∃ k, i ≤ k ∧ J[k]? = some (trC ν u x, j)) → bX1_adjectiveFact_L2 (runC d) f (x : Int) (j : Int) (i : Int) u xx xy = xx (x : Int) (j : Int) u) := by
  obtain ⟨⟨j1, j2, j3, j4, j5⟩, j6⟩ := hJ
  intro m
  induction m with
  | zero =>
    intro i f hi hf
    obtain ⟨f, rfl⟩ : ∃ f', f = f' + 1 := ⟨f - 1, by omega⟩
    rw [bX1_adjectiveFact_L2, un_eq, j1, if_neg (by omega)]
    exact ⟨fun ⟨k, q1, q2⟩ => by have := (List.getElem?_eq_some_iff.mp q2).1; omega, fun _ => rfl⟩
  | succ m ih =>
    intro i f hi hf
    obtain ⟨f, rfl⟩ : ∃ f', f = f' + 1 := ⟨f - 1, by omega⟩
    have hil : i < J.length := by omega
    obtain ⟨t', j', hget⟩ : ∃ t' j', J[i]? = some (t', j') := ⟨_, _, List.getElem?_eq_getElem hil⟩
    obtain ⟨⟨y, y1, y2, y3⟩, e2⟩ := j6 i t' j' hget
    have nxt := ih (i + 1) f (by omega) (by omega)
    have cont : ¬ (t' = trC ν u x ∧ j' = j) → ((∃ k, i ≤ k ∧ J[k]? = some (trC ν u x, j)) → (ar ((i : Int) + 1) fun v4 => bX1_adjectiveFact_L2 (runC d) f (x : Int) (j : Int) v4 u xx xy) = xy u) ∧ (¬ (∃ k, i ≤ k ∧ J[k]? = some (trC ν u x, j)) → (ar ((i : Int) + 1) fun v4 => bX1_adjectiveFact_L2 (runC d) f (x : Int) (j : Int) v4 u xx xy) = xx (x : Int) (j : Int) u) := fun hno => by
      rw [ar_pos ⟨by omega, by omega⟩, show (i : Int) + 1 = ((i + 1 : Nat) : Int) by omega]
      refine ⟨fun ⟨k, q1, q2⟩ => nxt.1 ⟨k, ?_, q2⟩, fun q => nxt.2 (fun ⟨k, q1, q2⟩ => q ⟨k, by omega, q2⟩)⟩
      by_cases hk : k = i
      · rw [hk, hget] at q2
        have e := Option.some.inj q2
        simp only [Prod.mk.injEq] at e
        exact absurd e hno
      · omega
    rw [bX1_adjectiveFact_L2, un_eq, j1, if_pos (by omega), ld_nat (by omega), y1]
    by_cases hxy : (y : Int) = (x : Int)
    · have eyx : y = x := by omega
      rw [if_pos hxy, ld_nat (by omega), e2]
      by_cases hj : (j' : Int) = (j : Int)
      · rw [if_pos hj]
        exact ⟨fun _ => rfl, fun q => absurd ⟨i, Nat.le_refl _, by rw [hget, ← eyx, y3, show j' = j by omega]⟩ q⟩
      · rw [if_neg hj]
        exact cont (fun q => hj (by rw [q.2]))
    · rw [if_neg hxy]
      refine cont (fun q => hxy ?_)
      rw [trC_inj hs y2 hx (by rw [y3]; exact q.1)]
theorem rX1_adjFact {d : Nat} (hd : 3 ≤ d) {ν : Nat → Nat} {c : Nat} {u : Sg} {J : List (Nat × Nat)} (hw : WF FC u) (hJ : FcJ ν u J) (hs : SC ν c u) (hJl : J.length ≤ 50000) {x j : Nat} (hx : x < nC u) (hxl : x < 1000000) (hj : j < 1000) : wp (runC d 50 [(x : Int), (j : Int)] u) (fun r u' => (r = 0 ∧ (trC ν u x, j) ∈ J ∧ u' = u) ∨ (r = 1 ∧ (trC ν u x, j) ∉ J ∧ FcJ ν u' (J ++ [(trC ν u x, j)]) ∧ WF FC u' ∧ Gr FC DX1_adjectiveFact u u')) := by
  have hJ' := hJ
  obtain ⟨⟨j1, j2, j3, j4, j5⟩, j6⟩ := hJ
  have hKF := KF_300
  by_cases hm : (trC ν u x, j) ∈ J
  · obtain ⟨d, rfl⟩ : ∃ d', d = d' + 1 := ⟨d - 1, by omega⟩
    rw [runC_eq (by omega)]
    show wp (bX1_adjectiveFact (runC d) x j u) _
    unfold bX1_adjectiveFact
    obtain ⟨k, hk⟩ := List.getElem?_of_mem hm
    have e := (adjFact_L2 (d := d) (j := j) hJ' hs hx (xx := fun v2 v3 s1 => jn (fun (a1 a2 : Int) (s5 : Sg) => un (gI s5 52) fun v6 => stA s5 49 v6 a1 fun s7 => un (gI s7 52) fun v8 => stA s7 50 v8 a2 fun s9 => un (gI s9 52) fun v10 => ar (v10 + 1) fun v11 => un (sI s9 52 v11) fun s12 => some (1, s12)) fun j4 => un (gI s1 52) fun v13 => un (gL s1 49 : Int) fun v14 => if v13 = v14 then (un (gI s1 52) fun v15 => ar (2 * v15) fun v16 => cpy s1 49 v16 fun s17 => un (gI s17 52) fun v18 => ar (2 * v18) fun v19 => cpy s17 50 v19 fun s20 => j4 v2 v3 s20) else (j4 v2 v3 s1)) (xy := fun s21 => some (0, s21)) J.length 0 KF (by omega) (by omega)).1 ⟨k, Nat.zero_le _, hk⟩
    exact ⟨0, u, e, Or.inl ⟨rfl, hm, rfl⟩⟩
  · have main : wp (runC d 50 [(x : Int), (j : Int)] u) (fun r u' => r = 1 ∧ gI u' 52 = ((J.length + 1 : Nat) : Int) ∧ (J.length + 1 ≤ gL u' 49 ∧ gL u' 50 = gL u' 49 ∧ 512 ≤ gL u' 49 ∧ gL u' 49 ≤ 131072) ∧ gN u' 49 J.length = (x : Int) ∧ gN u' 50 J.length = (j : Int) ∧ ∀ i, i < J.length → gN u' 49 i = gN u 49 i ∧ gN u' 50 i = gN u 50 i) := by
      obtain ⟨d, rfl⟩ : ∃ d', d = d' + 1 := ⟨d - 1, by omega⟩
      rw [runC_eq (by omega)]
      show wp (bX1_adjectiveFact (runC d) x j u) _
      unfold bX1_adjectiveFact
      rw [show bX1_adjectiveFact_L2 (runC d) KF (x : Int) (j : Int) 0 u _ _ = _ from (adjFact_L2 (d := d) (j := j) hJ' hs hx J.length 0 KF (by omega) (by omega)).2 (fun ⟨k, _, hk⟩ => hm (List.mem_of_getElem? hk))]
      -- once there is room
      have put : ∀ s : Sg, gI s 52 = (J.length : Int) → J.length < gL s 49 → gL s 50 = gL s 49 → 512 ≤ gL s 49 → gL s 49 ≤ 131072 → (∀ i, i < J.length → gN s 49 i = gN u 49 i ∧ gN s 50 i = gN u 50 i) → wp (un (gI s 52) fun v6 => stA s 49 v6 (x : Int) fun s7 => un (gI s7 52) fun v8 => stA s7 50 v8 (j : Int) fun s9 => un (gI s9 52) fun v10 => ar (v10 + 1) fun v11 => un (sI s9 52 v11) fun s12 => some (1, s12)) (fun r u' => r = 1 ∧ gI u' 52 = ((J.length + 1 : Nat) : Int) ∧ (J.length + 1 ≤ gL u' 49 ∧ gL u' 50 = gL u' 49 ∧ 512 ≤ gL u' 49 ∧ gL u' 49 ≤ 131072) ∧ gN u' 49 J.length = (x : Int) ∧ gN u' 50 J.length = (j : Int) ∧ ∀ i, i < J.length → gN u' 49 i = gN u 49 i ∧ gN u' 50 i = gN u 50 i) := fun s i1 i2 i3 i4 i5 i6 => by
        rw [wp_un, i1, stA_pos ⟨by omega, by omega⟩, wp_un, gI_sA, i1, stA_pos ⟨by omega, by rw [gL_sA]; omega⟩, wp_un, gI_sA, gI_sA, i1, wp_ar]
        refine ⟨⟨by omega, by omega⟩, ?_⟩
        rw [wp_un, wp_some]
        refine ⟨rfl, by rw [gI_sI, if_pos rfl]; omega, ⟨by rw [gL_sI, gL_sA, gL_sA]; omega, by rw [gL_sI, gL_sA, gL_sA, gL_sI, gL_sA, gL_sA]; exact i3, by rw [gL_sI, gL_sA, gL_sA]; exact i4, by rw [gL_sI, gL_sA, gL_sA]; exact i5⟩, ?_, ?_, fun i hi => ⟨?_, ?_⟩⟩
        · rw [gN_sI, gN_sAn, if_neg (by omega), gN_sAn, if_pos ⟨rfl, rfl⟩]
        · rw [gN_sI, gN_sAn, if_pos ⟨rfl, rfl⟩]
        · rw [gN_sI, gN_sAn, if_neg (by omega), gN_sAn, if_neg (by omega)]; exact (i6 i hi).1
        · rw [gN_sI, gN_sAn, if_neg (by omega), gN_sAn, if_neg (by omega)]; exact (i6 i hi).2
      rw [wp_jn, wp_un, j1, wp_un]
      refine wp_ite (fun he => ?_) (fun he => ?_)
      · rw [wp_un, wp_ar]
        refine ⟨⟨by omega, by omega⟩, ?_⟩
        refine wp_cpy2 (by omega) (by omega) (by omega) (fun s1 a1 a2 a3 a4 => ?_)
        rw [wp_un, a1, j1, wp_ar]
        refine ⟨⟨by omega, by omega⟩, ?_⟩
        have l50 := (a2 50 (by omega)).1
        refine wp_cpy2 (by rw [l50]; omega) (by omega) (by omega) (fun s2 b1 b2 b3 b4 => ?_)
        have l49 := (b2 49 (by omega)).1
        refine put s2 (by rw [b1, a1]; exact j1) (by omega) (by omega) (by omega) (by omega) (fun i hi => ⟨?_, ?_⟩)
        · rw [(b2 49 (by omega)).2, a4 i (by omega)]
        · rw [b4 i (by omega), (a2 50 (by omega)).2]
      · exact put u j1 (by omega) j3 j4 j5 (fun i hi => ⟨rfl, rfl⟩)
    refine wp_mono (gX1_adjectiveFact hw ⟨by omega, by omega⟩ ⟨by omega, by omega⟩ main) (fun r u' ⟨⟨q1, q2, ⟨q3, q4, q5, q6⟩, q7, q8, q9⟩, g, w, _⟩ => Or.inr ⟨q1, hm, ⟨⟨by rw [q2, List.length_append]; rfl, by rw [List.length_append]; exact q3, q4, q5, q6⟩, fun k t j' hk => ?_⟩, w, g⟩)
    obtain ⟨e, hU⟩ := g.ux (X := fun _ => False) hs (by decide +kernel)
    by_cases hkl : k < J.length
    · rw [List.getElem?_append_left hkl] at hk
      obtain ⟨b1, b2⟩ := j6 k t j' hk
      rw [(q9 k hkl).1, (q9 k hkl).2]
      exact ⟨b1.up hs hU.ux, b2⟩
    · rw [List.getElem?_append_right (by omega)] at hk
      have h0 : k - J.length = 0 := by have := (List.getElem?_eq_some_iff.mp hk).1; simp at this; omega
      rw [h0] at hk
      simp at hk
      have ek : k = J.length := by omega
      rw [ek, q7, q8, ← hk.1, ← hk.2]
      exact ⟨⟨x, rfl, by rw [e.n]; exact hx, by rw [e.tr]⟩, rfl⟩
