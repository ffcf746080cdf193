/-! face, model: what a step of the store keeps; tables that change alone -/
theorem FoT.up {c : Nat} {u u' : Sg} {X : Nat → Prop} {Fo : List Nat} (h : FoT nt2 u Fo) (hs : ST nt2 c u) (hx : UxT nt2 c u u' X) (h65 : u'.2.1 78 = u.2.1 78) (h66 : gI u' 79 = gI u 79) : FoT nt2 u' Fo := by
  obtain ⟨o1, o2, o3, o4⟩ := h
  refine ⟨by rw [h66]; exact o1, (congrArg Prod.fst h65).trans o2, o3, fun i f hf => ?_⟩
  obtain ⟨x, z1, z2, z3, z4⟩ := o4 i f hf
  exact ⟨x, (congrFun (congrArg Prod.snd h65) i).trans z1, z2, Nat.le_trans z3 hx.n, (hx.tr hs z3).trans z4⟩
theorem PrT.up {c : Nat} {u u' : Sg} {X : Nat → Prop} {Fo : List Nat} (h : PrT nt2 u Fo) (hs : ST nt2 c u) (hx : UxT nt2 c u u' X) (h65 : u'.2.1 80 = u.2.1 80) (h66 : gI u' 81 = gI u 81) : PrT nt2 u' Fo := by
  obtain ⟨o1, o2, o3, o4⟩ := h
  refine ⟨by rw [h66]; exact o1, by rw [show gL u' 80 = gL u 80 from congrArg Prod.fst h65]; exact o2, o3, fun i f hf => ?_⟩
  obtain ⟨x, z1, z2, z3, z4⟩ := o4 i f hf
  exact ⟨x, (congrFun (congrArg Prod.snd h65) i).trans z1, z2, Nat.le_trans z3 hx.n, (hx.tr hs z3).trans z4⟩
theorem TW.up3 {ν : Nat → Nat} {c D : Nat} {W : Wd} {u u' : Sg} {X : Nat → Prop} (h : TW ν c W u) (hx : UxT ν c u u' X) (hg : Gr FT D u u') (hb : ∀ k, 17 ≤ k ∧ k ≤ 82 → D.testBit k = false) : TW ν c W u' := by
  refine h.up hx hg ?_
  refine Nat.eq_of_testBit_eq (fun k => ?_)
  rw [Nat.testBit_and, Nat.zero_testBit]
  by_cases hk : 17 ≤ k ∧ k ≤ 82
  · rw [hb k hk]; rfl
  · have : Nat.testBit mkT k = false := by
      by_cases h87 : k ≤ 82
      · exact (by decide +kernel : ∀ k, k ≤ 82 → ¬ (17 ≤ k ∧ k ≤ 82) → Nat.testBit mkT k = false) k h87 hk
      · exact Nat.testBit_lt_two_pow (Nat.lt_of_lt_of_le (by decide +kernel : mkT < 2 ^ 83) (Nat.pow_le_pow_right (by decide) (by omega)))
    rw [this, Bool.and_false]
theorem ReT.up {D : Nat} {W : Wd} {c : Nat} {Fo Pr : List Nat} {lc : Nat} {K : Int} {u u' : Sg} {X : Nat → Prop} (h : ReT W c Fo Pr lc K u) (hU : UpT nt2 (c + 2) u u' X) (hw : WF FT u') (hg : Gr FT D u u') (hb : ∀ k, 17 ≤ k ∧ k ≤ 82 → D.testBit k = false) : ReT W c Fo Pr lc K u' := by
  obtain ⟨hC, -, ⟨x1, x2, x3, ⟨x4, x5, x6⟩, x7, x8⟩, ⟨m1, ⟨m2, m3, m4⟩, m5, m6, m7⟩, hh, h54, h76, h43, hFo, hPr, h82⟩ := h
  have A : ∀ k, 17 ≤ k ∧ k ≤ 82 → u'.2.1 k = u.2.1 k := fun k hk => (hg.2.1 k (hb k hk)).2
  have I : ∀ k, 17 ≤ k ∧ k ≤ 82 → gI u' k = gI u k := fun k hk => (hg.2.1 k (hb k hk)).1
  have L : ∀ k, 17 ≤ k ∧ k ≤ 82 → gL u' k = gL u k := fun k hk => congrArg Prod.fst (A k hk)
  have N : ∀ k i, 17 ≤ k ∧ k ≤ 82 → gN u' k i = gN u k i := fun k i hk => congrFun (congrArg Prod.snd (A k hk)) i
  refine ⟨hC.up3 hU.ux hg hb, hw, ⟨fun k hk => ?_, fun k hk => ?_, fun k hk i hi => ?_, ⟨?_, ?_, fun i hi => ?_⟩, ?_, fun i hi => ?_⟩, ⟨m1.up hC.1 hU.ux hg (hb _ (by omega)) (hb _ (by omega)) (hb _ (by omega)), ⟨?_, ?_, ?_⟩, ?_, ?_, ?_⟩, hU.2.2.2.1.trans hh, ?_, ?_, fun k h1 h2 => ?_, hFo.up hC.1 hU.ux (A 78 (by omega)) (I 79 (by omega)), hPr.up hC.1 hU.ux (A 80 (by omega)) (I 81 (by omega)), ?_⟩
  · rw [L k (by omega)]; exact x1 k hk
  · rw [L k (by omega)]; exact x2 k hk
  · rw [N k i (by omega), I 54 (by omega)]
    rw [L k (by omega)] at hi
    exact x3 k hk i hi
  · rw [I 76 (by omega)]; exact x4
  · rw [I 76 (by omega)]; exact x5
  · rw [L 74 (by omega)] at hi
    rw [N 74 i (by omega), I 76 (by omega)]
    exact x6 i hi
  · rw [I 40 (by omega)]; exact x7
  · rw [L 39 (by omega)] at hi
    rw [N 39 i (by omega), I 40 (by omega)]
    exact x8 i hi
  · rw [I 40 (by omega)]; exact m2
  · rw [L 38 (by omega)]; exact m3
  · rw [L 39 (by omega)]; exact m4
  · rw [I 42 (by omega)]; exact m5
  · rw [L 41 (by omega)]; exact m6
  · rw [L 41 (by omega)]; exact m7
  · rw [I 54 (by omega)]; exact h54
  · rw [I 76 (by omega)]; exact h76
  · rw [L k (by omega)]; exact h43 k h1 h2
  · rw [I 82 (by omega), L 80 (by omega)]; exact h82
def isTb (k : Nat) : Prop := (17 ≤ k ∧ k ≤ 37) ∨ (78 ≤ k ∧ k ≤ 82)
/-- only tables change (constants do not) -/
theorem ReT.tb {W W' : Wd} {c : Nat} {Fo Fo' Pr Pr' : List Nat} {lc lc' : Nat} {K : Int} {u u' : Sg} (h : ReT W c Fo Pr lc K u) (hA : ∀ k, k < 83 → k = 17 ∨ k = 18 ∨ ¬ isTb k → u'.2.1 k = u.2.1 k) (hI : ∀ k, k < 83 → ¬ isTb k → gI u' k = gI u k) (hw : WF FT u') (hW : WOK W (NT nt2 (c + 2))) (hx : WEx (NT nt2 (c + 2)) W W') (t1 : TWc nt2 (c + 2) W' u') (t2 : TWm nt2 W' u') (t3 : TWf nt2 W' u') (t4 : TWp W' u') (t5 : TWg nt2 W' u') (t6 : FoT nt2 u' Fo') (t7 : PrT nt2 u' Pr') (t8 : gI u' 82 = (lc' : Int) ∧ gL u' 80 = 20) : ReT W' c Fo' Pr' lc' K u' := by
  have he : EqH u u' := ⟨⟨fun k hk => hA k (by omega) (Or.inr (Or.inr (by unfold isTb; omega))), fun k hk => hI k (by omega) (by unfold isTb; omega)⟩, hI 13 (by decide) (by unfold isTb; omega), hA 12 (by decide) (Or.inr (Or.inr (by unfold isTb; omega)))⟩
  have L : ∀ k, k < 83 → k = 17 ∨ k = 18 ∨ ¬ isTb k → gL u' k = gL u k := fun k hk hk2 => congrArg Prod.fst (hA k hk hk2)
  have N : ∀ k i, k < 83 → k = 17 ∨ k = 18 ∨ ¬ isTb k → gN u' k i = gN u k i := fun k i hk hk2 => congrFun (congrArg Prod.snd (hA k hk hk2)) i
  have et : ∀ x, trT nt2 u' x = trT nt2 u x := fun x => he.1.tr
  have en : nT u' = nT u := he.1.n
  obtain ⟨⟨h1, h2, -, -, -, -, -⟩, hw0, ⟨x1, x2, x3, ⟨x4, x5, x6⟩, x7, x8⟩, ⟨m1, ⟨m2, m3, m4⟩, m5, m6, m7⟩, hh, h54, h76, h43, -, -, -⟩ := h
  unfold isTb at hA hI L N
  refine ⟨⟨he.st h1, by rw [L 14 (by decide) (by decide), L 15 (by decide) (by decide)]; exact h2, t1, t2, t3, t4, t5⟩, hw, ⟨fun k hk => ?_, fun k hk => ?_, fun k hk i hi => ?_, ⟨?_, ?_, fun i hi => ?_⟩, ?_, fun i hi => ?_⟩, ⟨fun t ht => ?_, ⟨?_, ?_, ?_⟩, ?_, ?_, ?_⟩, he.hh.trans hh, ?_, ?_, fun k h1 h2 => ?_, t6, t7, t8⟩
  · rw [L k (by omega) (by omega)]; exact x1 k hk
  · rw [L k (by omega) (by omega)]; exact x2 k hk
  · rw [N k i (by omega) (by omega), hI 54 (by decide) (by decide)]
    rw [L k (by omega) (by omega)] at hi
    exact x3 k hk i hi
  · rw [hI 76 (by decide) (by decide)]; exact x4
  · rw [hI 76 (by decide) (by decide)]; exact x5
  · rw [L 74 (by decide) (by decide)] at hi
    rw [N 74 i (by decide) (by decide), hI 76 (by decide) (by decide)]
    exact x6 i hi
  · rw [hI 40 (by decide) (by decide)]; exact x7
  · rw [L 39 (by decide) (by decide)] at hi
    rw [N 39 i (by decide) (by decide), hI 40 (by decide) (by decide)]
    exact x8 i hi
  · have ht' : RemT u t := ⟨by rw [← L 39 (by decide) (by decide)]; exact ht.1, by rw [← N 39 t (by decide) (by decide), ← hI 40 (by decide) (by decide)]; exact ht.2⟩
    obtain ⟨z1, z2, z3, z4, z5⟩ := m1 t ht'
    exact ⟨z1, by rw [en]; exact z2, by rw [L 38 (by decide) (by decide)]; exact z3, by rw [N 38 t (by decide) (by decide), et, adT_ex hW hx _ z5]; exact z4, by rw [et]; exact cltm_ex hx (fun _ q => q) z5⟩
  · rw [hI 40 (by decide) (by decide)]; exact m2
  · rw [L 38 (by decide) (by decide)]; exact m3
  · rw [L 39 (by decide) (by decide)]; exact m4
  · rw [hI 42 (by decide) (by decide)]; exact m5
  · rw [L 41 (by decide) (by decide)]; exact m6
  · rw [L 41 (by decide) (by decide)]; exact m7
  · rw [hI 54 (by decide) (by decide)]; exact h54
  · rw [hI 76 (by decide) (by decide)]; exact h76
  · rw [L k (by omega) (by omega)]; exact h43 k h1 h2
theorem wp_fails {d : Nat} (hd : 3 ≤ d) {u : Sg} {k : Int} {Q : Int → Sg → Prop} (h : Q 0 (sI u 0 k)) : wp (cl (runT d 17 [k] u) fun v s => some (v, s)) Q := by
  rw [fails_eq hd]
  exact wp_some.mpr h
theorem TWg.ag {W W' : Wd} {u u' : Sg} (h : TWg nt2 W u) (he : EqH u u') (hA : ∀ k, 29 ≤ k → k ≤ 36 → u'.2.1 k = u.2.1 k) (hI : gI u' 37 = gI u 37) (e0 : wnG W' = wnG W := by rfl) (e1 : wgS W' = wgS W := by rfl) (e2 : wgO W' = wgO W := by rfl) (e3 : wgA W' = wgA W := by rfl) (e4 : wgB W' = wgB W := by rfl) (e5 : wgV W' = wgV W := by rfl) : TWg nt2 W' u' := by
  obtain ⟨g1, g2, g3, g8⟩ := h
  have N : ∀ k i, 29 ≤ k → k ≤ 36 → gN u' k i = gN u k i := fun k i h1 h2 => congrFun (congrArg Prod.snd (hA k h1 h2)) i
  have I : ∀ {v : Int} {t : Nat}, inT nt2 u v t → inT nt2 u' v t := fun q => q.ee he
  refine ⟨by rw [hI, e0]; exact g1, by rw [e0]; exact g2, fun k h1 h2 => (congrArg Prod.fst (hA k h1 h2)).trans (g3 k h1 h2), fun i hi => ?_⟩
  rw [e0] at hi
  rw [N 29 i (by decide) (by decide), N 30 i (by decide) (by decide), N 31 i (by decide) (by decide), N 32 i (by decide) (by decide), N 33 i (by decide) (by decide), N 34 i (by decide) (by decide), N 35 i (by decide) (by decide), N 36 i (by decide) (by decide), e1, e2, e3, e4, e5]
  obtain ⟨z1, z2, z3, z4, z5⟩ := g8 i hi
  exact ⟨z1, fun q => ⟨I (z2 q).1, I (z2 q).2⟩, fun q => ⟨(z3 q).1, I (z3 q).2.1, I (z3 q).2.2⟩, z4, fun q => I (z5 q)⟩
theorem wex_pr {N : Nat → Prop} {W : Wd} {m : Nat} : WEx N W (wPr W m) := ⟨fun _ _ => rfl, ⟨Nat.le_refl _, fun _ _ => ⟨rfl, rfl⟩⟩, ⟨Nat.le_refl _, fun _ _ => ⟨rfl, rfl⟩⟩, ⟨Nat.le_succ _, fun p hp => by rw [wpM_pr, if_neg (by omega)]⟩, Nat.le_refl _, rfl, rfl, rfl, rfl, rfl, rfl⟩
/-! face: predicate in the model -/
theorem tPred {d : Nat} (hd : 10 ≤ d) {W : Wd} {c : Nat} {Fo Pr : List Nat} {lc : Nat} {K : Int} {u : Sg} (h : ReT W c Fo Pr lc K u) (hW : WOK W (NT nt2 (c + 2))) (a : Int) (ha : inR a) : wp (runT d 20 [a] u) (FcT (0 ≤ a ∧ a ≤ 2) (wnP W = 10) (wnP W : Int) (ReT (wPr W a.toNat) c Fo Pr lc K) (ReT W c Fo Pr lc K)) := by
  obtain ⟨d, rfl⟩ : ∃ e, d = e + 1 := ⟨d - 1, by omega⟩
  rw [runT_eq (by omega)]
  show wp (bX3_predicate (runT d) a u) _
  unfold bX3_predicate jn
  dsimp only
  have hs := h.s0 (v := 0) (by decide)
  rw [wp_un]
  obtain ⟨h24, h10, h23, hpm⟩ := hs.1.2.2.2.2.2.1.1
  by_cases h0 : a < 0
  · rw [if_pos h0]; exact wp_fails (by omega) (Or.inr (Or.inr ⟨by omega, rfl, by rw [gI_sI, if_pos rfl], hs.s0 (by decide)⟩))
  rw [if_neg h0]
  by_cases h2 : a ≤ 2
  · rw [if_pos h2, wp_un, h24]
    by_cases hlt : wnP W = 10
    · rw [if_pos (by omega)]
      exact wp_fails (by omega) (Or.inr (Or.inl ⟨⟨by omega, h2⟩, hlt, rfl, by rw [gI_sI, if_pos rfl], hs.s0 (by decide)⟩))
    · rw [if_neg (by omega), wp_un, wp_stA]
      refine ⟨⟨by omega, by rw [h23]; omega⟩, ?_⟩
      rw [wp_un, gI_sA, h24, wp_ar]
      refine ⟨⟨by omega, by omega⟩, ?_⟩
      rw [wp_un, wp_some]
      refine Or.inl ⟨⟨by omega, h2⟩, hlt, rfl, rfl, ?_⟩
      have hw : WF FT (sI (sA (sI u 0 0) 23 (wnP W : Int) a) 24 ((wnP W : Int) + 1)) := wfIT (wfAT hs.2.1 rfl ⟨by omega, by omega⟩) rfl ⟨by omega, by omega⟩
      refine hs.tb (fun k hk h2 => aA (by unfold isTb at h2; omega)) (fun k hk h2 => by rw [gI_sI, if_neg (by unfold isTb at h2; omega)]; rfl) hw hW wex_pr hs.1.2.2.1 hs.1.2.2.2.1 hs.1.2.2.2.2.1 ⟨⟨?_, ?_, ?_, fun i hi => ?_⟩, hs.1.2.2.2.2.2.1.2⟩ (TWg.ag hs.1.2.2.2.2.2.2 ((EqH.sA (by decide)).trn (EqH.sI (by decide))) (fun k h1 h2 => aA (by omega)) rfl) hs.2.2.2.2.2.2.2.2.1 hs.2.2.2.2.2.2.2.2.2.1 hs.2.2.2.2.2.2.2.2.2.2
      · rw [gI_sI, if_pos rfl]; show _ = ((wnP W + 1 : Nat) : Int); omega
      · show wnP W + 1 ≤ 10; omega
      · exact h23
      · rw [gN_sI, gN_sAn, wpM_pr]
        by_cases q : i = wnP W
        · rw [if_pos ⟨rfl, q⟩, if_pos q]; omega
        · rw [if_neg (fun z => q z.2), if_neg q]
          have : i < wnP W + 1 := hi
          exact hpm i (by omega)
  · rw [if_neg h2]; exact wp_fails (by omega) (Or.inr (Or.inr ⟨by omega, rfl, by rw [gI_sI, if_pos rfl], hs.s0 (by decide)⟩))
