def RvA (ν : Nat → Nat) (c D : Nat) (u : Sg) (a t : Nat) (X : Nat → Prop) : Int → Sg → Prop := fun r u' => ∃ x : Nat, r = (x : Int) ∧ 0 < x ∧ x ≤ nT u' ∧ trT ν u' x = t ∧ (ST ν c u' ∧ Ext (stT ν u) (stT ν u') ∧ (∀ t, ndT ν u' t → ndT ν u t ∨ X t)) ∧ hT u' = a ∧ (∀ i, i < a → gN u' 12 i = gN u 12 i) ∧ WF FT u' ∧ Gr FT D u u'
theorem setH {ν : Nat → Nat} {c : Nat} {u : Sg} {a : Nat} (hs : ST ν c u) (hw : WF FT u) (ha : a ≤ gL u 12) : EqT u (sI u 13 (a : Int)) ∧ ST ν c (sI u 13 (a : Int)) ∧ hT (sI u 13 (a : Int)) = a ∧ WF FT (sI u 13 (a : Int)) := by
  have he : EqT u (sI u 13 (a : Int)) := ⟨fun k _ => rfl, fun k hk => by rw [gI_sI, if_neg (by omega)]⟩
  have er : hT (sI u 13 (a : Int)) = a := by unfold hT; rw [gI_sI, if_pos rfl]; omega
  have r := hs.r
  refine ⟨he, he.sT hs ⟨by rw [er, gI_sI, if_pos rfl], by rw [er]; exact ha⟩ ⟨r.2.2.1, r.2.2.2⟩, er, hw.sI ⟨by omega, by omega⟩ (fun h => ?_)⟩
  have : FT.2.1 13 = 0 := by decide
  rw [this] at h; cases h
/-- an answer, and then the hand goes back to a place -/
theorem RvA.set {ν : Nat → Nat} {c D D1 : Nat} {u s : Sg} {a t : Nat} {X : Nat → Prop} {x : Nat} (x0 : 0 < x) (hx : x ≤ nT s) (ht : trT ν s x = t) (hs : ST ν c s) (hE : Ext (stT ν u) (stT ν s)) (hnd : ∀ t, ndT ν s t → ndT ν u t ∨ X t) (ha : a ≤ gL s 12) (hrow : ∀ i, i < a → gN s 12 i = gN u 12 i) (hw : WF FT s) (hg : Gr FT D1 u s) (hD : D1 &&& D = D1) (h13 : D.testBit 13 = true) : RvA ν c D u a t X (x : Int) (sI s 13 (a : Int)) := by
  obtain ⟨e1, e2, e3, e4⟩ := setH (a := a) hs hw ha
  refine ⟨x, rfl, x0, by rw [e1.n]; exact hx, by rw [e1.tr]; exact ht, ⟨e2, by rw [e1.st]; exact hE, fun t ⟨y, y0, hy, et⟩ => hnd t ⟨y, y0, by rw [← e1.n]; exact hy, by rw [← e1.tr]; exact et⟩⟩, e3, fun i hi => hrow i hi, e4, Gr.tr (Gr.sub hD hg) (Gr_sI h13)⟩
theorem flat_eq {L : List Nat} (h0 : noT ∉ L) (hy : ∀ f ∈ L, kd f = 9 → f = yesT) : L.flatMap fltT = L.flatMap flt := by
  refine flatMap_c (fun f hf => ?_)
  have hne : ¬ f = noT := fun q => h0 (q ▸ hf)
  unfold fltT flt
  rw [if_neg hne]
  by_cases k9 : kd f = 9
  · have := hy f hf k9
    rw [if_pos k9, if_neg (by omega), if_pos this]
  · rw [if_neg k9]
    by_cases k17 : kd f = 17
    · rw [if_pos k17, if_pos k17]
    · rw [if_neg k17, if_neg k17, if_neg (fun q => k9 (by rw [q]; exact kd_yes))]
theorem tree_and (ν : Nat → Nat) (u : Sg) (ys : List Nat) : treeT ν u (16, ys.map (fun (y : Nat) => (y : Int))) = mk 17 0 (ys.map (trT ν u)) := by
  unfold treeT
  have e : labT ν (16, ys.map (fun (y : Nat) => (y : Int))) = (17, 0, ys) := by
    unfold labT
    simp [fsT, nk]
    rw [show (Int.toNat ∘ fun (y : Nat) => (y : Int)) = id from funext fun y => by simp, List.map_id]
  rw [e]; rfl
theorem tX3_and2 {d : Nat} (hd : 8 ≤ d) {ν : Nat → Nat} {c : Nat} {u0 : Sg} {a : Nat} {L : List Nat} {X : Nat → Prop} (hw : WF FT u0) (hs0 : ST ν c u0) (hR : RowT ν u0 a L) (hpos : ∀ f ∈ L, kd f = 17 → ∀ t ∈ ps f, 0 < t) (hnot : ∀ f ∈ L, kd f = 16 → ∃ g, ps f = [g] ∧ 0 < g ∧ f = mk 16 0 [g] ∧ (kd g = 9 → g = yesT)) (hyes : ∀ f ∈ L, kd f = 9 → f = yesT) (hr : hT u0 + (L.flatMap fltT).length ≤ 30000) (hf : (L.flatMap fltT).length ≤ 1000) (hX : X (andT L)) (hl : LimT ν u0 X) :
    wp (runT d 38 [(a : Int)] u0) (RvA ν c DX3_and_2 u0 a (andT L) X) := by
  obtain ⟨d, rfl⟩ : ∃ d', d = d' + 1 := ⟨d - 1, by omega⟩
  rw [runT_eq (by omega)]
  show wp (bX3_and_2 (runT d) a u0) _
  unfold bX3_and_2
  have hb := hl.n hs0
  have h0 := hs0.r
  have hlr := hR.1
  have hKF : 65536 < KF := by decide
  rw [wp_un, wp_un, h0.1]
  refine andT_L16 (by omega) hs0 hR (by omega) hpos hnot hr L.length 0 KF 0 u0 (by omega) (by omega) (PshT.nil hs0 hw) (fun q => by simp at q) (fun _ => rfl) _ (fun s nv hp hn1 hn0 => ?_)
  obtain ⟨ys, hh, e1, e2⟩ := id hp
  have hs := hh.1
  have he := hh.2.1
  have hlen := hp.len
  have hsr := hs.r
  have hEx : Ext (stT ν u0) (stT ν s) := by rw [he.st]; exact Ext.rf
  have hNd : ∀ t, ndT ν s t → ndT ν u0 t ∨ X t := fun t ⟨y, y0, hy, et⟩ => Or.inl ⟨y, y0, by rw [← he.n]; exact hy, by rw [← he.tr]; exact et⟩
  have hal : a ≤ gL s 12 := by omega
  have hro : ∀ i, i < a → gN s 12 i = gN u0 12 i := fun i hi => hh.2.2.2.2.1 i (by omega)
  rw [wp_jn]
  by_cases hno : noT ∈ L
  · obtain ⟨z, z1, z2, z3, z4⟩ := hn1 hno
    have et : andT L = noT := by unfold andT; rw [if_pos hno]
    rw [if_neg (by omega), wp_jn, if_neg (by omega), wp_un, wp_some, z1, et]
    exact RvA.set z2 (by rw [he.n]; exact z3) (by rw [he.tr]; exact z4) hs hEx hNd hal hro hh.2.2.2.2.2.1 hh.2.2.2.2.2.2 (by decide) (by decide)
  · have hz := hn0 hno
    have hfe := flat_eq hno hyes
    rw [hz, if_pos (Int.le_refl 0), wp_un, wp_ar, hsr.1]
    refine ⟨⟨by omega, by omega⟩, ?_⟩
    rw [hlen]
    refine wp_ite (fun h2 => ?_) (fun h2 => ?_)
    · rw [wp_jn, if_pos (Int.le_refl 0), wp_un, wp_ar, hsr.1, hlen]
      refine ⟨⟨by omega, by omega⟩, ?_⟩
      refine wp_ite (fun h1 => ?_) (fun h1 => ?_)
      · -- one is left
        have hl1 : (L.flatMap fltT).length = 1 := by omega
        obtain ⟨t, ht⟩ := List.length_eq_one_iff.mp hl1
        have et : andT L = t := by unfold andT; rw [if_neg hno, ← hfe, ht]
        have hyl : ys.length = 1 := by rw [← List.length_map (f := trT ν u0), e1, hl1]
        obtain ⟨y, hy⟩ := List.length_eq_one_iff.mp hyl
        subst hy
        have hrow : gN s 12 (hT u0) = (y : Int) := by
          have q := hh.2.2.2.1
          have q2 := rowH_at s (a := hT u0) (i := 0) (by omega)
          rw [q] at q2
          simp at q2
          exact q2.symm
        have ey : trT ν u0 y = t := by rw [ht] at e1; simpa using e1
        obtain ⟨y0, yn⟩ := e2 y (by simp)
        rw [ld_nat (by omega), hrow, wp_un, wp_some, et]
        exact RvA.set y0 (by rw [he.n]; exact yn) (by rw [he.tr]; exact ey) hs hEx hNd hal hro hh.2.2.2.2.2.1 hh.2.2.2.2.2.2 (by decide) (by decide)
      · have hl0 : L.flatMap fltT = [] := List.length_eq_zero_iff.mp (by omega)
        have et : andT L = yesT := by unfold andT; rw [if_neg hno, ← hfe, hl0]
        rw [et] at hX ⊢
        have hlS : LimT ν s X := fun l q1 q2 => hl l q1 (fun t ht => (q2 t ht).elim (fun q => hNd t q) Or.inr)
        refine wp_call (tX3_truth (by omega) hh.2.2.2.2.2.1 hs hX hlS) (fun r u' ⟨x, q1, q2, q3, q4, q5, q6, q7⟩ => ?_)
        rw [wp_un, wp_some, q1]
        have hr' := q5.1.r
        refine RvA.set q2 q3 q4 q5.1 (hEx.tr q5.2.1) (fun t ht => (q5.2.2.1 t ht).elim (fun q => hNd t q) Or.inr) (by have := q5.2.2.2.1; omega) (fun i hi => by rw [q5.2.2.2.2 i (by omega), hro i hi]) q6 (Gr.tr (Gr.sub (D' := DX3_and_2) (by decide) hh.2.2.2.2.2.2) (Gr.sub (by decide) q7)) (by decide) (by decide)
    · have hge : 2 ≤ (L.flatMap fltT).length := by omega
      have et : andT L = mk 17 0 (L.flatMap fltT) := by
        unfold andT
        rw [if_neg hno, ← hfe]
        cases hq : L.flatMap fltT with
        | nil => rw [hq] at hge; simp at hge
        | cons p r =>
          cases r with
          | nil => rw [hq] at hge; simp at hge
          | cons p2 r => rfl
      have htr := tree_and ν u0 ys
      rw [e1, ← et] at htr
      have hyl : ys.length = (L.flatMap fltT).length := by rw [← e1, List.length_map]
      have hnode := tX3_node (d := d) (by omega) (k := 16) (X := X) (D := DX3_and_2) hh (by simp [okR]; omega) (fun v hv => by obtain ⟨q, _, rfl⟩ := List.mem_map.mp hv; omega) (fun p hp => by
        obtain ⟨q, hq, rfl⟩ := List.mem_map.mp (fptT_sub hp)
        have := (e2 q hq).2
        omega) (fun q => by cases q) (fun q => by cases q) (by rw [List.length_map]; omega) (by rw [htr]; exact hX) hl hs0 (by decide) (Gr.sub (by decide) hh.2.2.2.2.2.2)
      rw [htr] at hnode
      refine wp_call hnode (fun r u' ⟨x, q1, q2, q3, q4, q5, q6, q7⟩ => ?_)
      rw [wp_un, wp_some, q1]
      have hr' := q5.1.r
      exact RvA.set q2 q3 q4 q5.1 q5.2.1 q5.2.2.1 (by have := q5.2.2.2.1; omega) (fun i hi => q5.2.2.2.2 i (by omega)) q6 q7 (by decide) (by decide)
