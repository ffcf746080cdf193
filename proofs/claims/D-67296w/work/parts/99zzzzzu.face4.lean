/-! face: what a step of the store keeps; tables that change alone -/
theorem aA {σ : Sg} {id k : Nat} {i v : Int} (h : k ≠ id) : (sA σ id i v).2.1 k = σ.2.1 k := by
  show va_up σ.2.1 id _ k = _
  unfold va_up
  rw [if_neg h]
theorem FoC.up {c : Nat} {u u' : Sg} {X : Nat → Prop} {Fo : List Nat} (h : FoC nu2 u Fo) (hs : SC nu2 c u) (hx : Ux nu2 c u u' X) (h65 : u'.2.1 65 = u.2.1 65) (h66 : gI u' 66 = gI u 66) : FoC nu2 u' Fo := by
  obtain ⟨o1, o2, o3, o4⟩ := h
  refine ⟨by rw [h66]; exact o1, (congrArg Prod.fst h65).trans o2, o3, fun i f hf => ?_⟩
  obtain ⟨x, z1, z2, z3, z4⟩ := o4 i f hf
  exact ⟨x, (congrFun (congrArg Prod.snd h65) i).trans z1, z2, Nat.lt_of_lt_of_le z3 (hx.n hs), (hx.tr hs z3).trans z4⟩
theorem PrC.up {c : Nat} {u u' : Sg} {X : Nat → Prop} {Fo : List Nat} (h : PrC nu2 u Fo) (hs : SC nu2 c u) (hx : Ux nu2 c u u' X) (h65 : u'.2.1 82 = u.2.1 82) (h66 : gI u' 83 = gI u 83) : PrC nu2 u' Fo := by
  obtain ⟨o1, o2, o3, o4⟩ := h
  refine ⟨by rw [h66]; exact o1, by rw [show gL u' 82 = gL u 82 from congrArg Prod.fst h65]; exact o2, o3, fun i f hf => ?_⟩
  obtain ⟨x, z1, z2, z3, z4⟩ := o4 i f hf
  exact ⟨x, (congrFun (congrArg Prod.snd h65) i).trans z1, z2, Nat.lt_of_lt_of_le z3 (hx.n hs), (hx.tr hs z3).trans z4⟩
theorem ReC.up {D : Nat} {W : Wd} {c : Nat} {Fo Pr : List Nat} {lc : Nat} {K : Int} {u u' : Sg} {X : Nat → Prop} (h : ReC W c Fo Pr lc K u) (hU : Up nu2 c u u' X) (hw : WF FC u') (hg : Gr FC D u u') (hb : ∀ k, k = 13 ∨ k = 14 ∨ (21 ≤ k ∧ k ≤ 98) → D.testBit k = false) : ReC W c Fo Pr lc K u' := by
  obtain ⟨hC, -, hArr, ⟨m1, m2, m3⟩, hr, h36, h33, h61, h60, hFo, hPr, h84⟩ := h
  have A : ∀ k, 21 ≤ k ∧ k ≤ 98 → u'.2.1 k = u.2.1 k := fun k hk => (hg.2.1 k (hb k (Or.inr (Or.inr hk)))).2
  have I : ∀ k, 21 ≤ k ∧ k ≤ 98 → gI u' k = gI u k := fun k hk => (hg.2.1 k (hb k (Or.inr (Or.inr hk)))).1
  have L : ∀ k, 21 ≤ k ∧ k ≤ 98 → gL u' k = gL u k := fun k hk => congrArg Prod.fst (A k hk)
  have N : ∀ k i, 21 ≤ k ∧ k ≤ 98 → gN u' k i = gN u k i := fun k i hk => congrFun (congrArg Prod.snd (A k hk)) i
  refine ⟨hC.up2 hU.ux hg (fun k hk => hb k (by omega)), hw, hArr.fr hg (fun k hk => hb k (by omega)), ⟨?_, ?_, fun t ht => ?_⟩, hU.2.2.2.2.2.1.trans hr, ?_, ?_, ?_, ?_, hFo.up hC.1 hU.ux (A 65 (by omega)) (I 66 (by omega)), hPr.up hC.1 hU.ux (A 82 (by omega)) (I 83 (by omega)), ?_⟩
  · rw [L 32 (by omega), L 31 (by omega)]; exact m1
  · rw [L 31 (by omega)]; exact m2
  · rw [L 32 (by omega)] at ht
    rw [N 32 t (by omega), I 33 (by omega)]
    exact m3 t ht
  · rw [I 36 (by omega)]; exact h36
  · rw [I 33 (by omega)]; exact h33
  · rw [L 61 (by omega), L 62 (by omega)]; exact h61
  · rw [L 60 (by omega)]; exact h60
  · rw [I 84 (by omega), L 82 (by omega)]; exact h84
/-- only tables change -/
theorem ReC.tb {W W' : Wd} {c : Nat} {Fo Fo' Pr Pr' : List Nat} {lc lc' : Nat} {K : Int} {u u' : Sg} (h : ReC W c Fo Pr lc K u) (hA : ∀ k, k < 65 ∨ k = 85 → u'.2.1 k = u.2.1 k) (hI : ∀ k, k < 65 → gI u' k = gI u k) (hw : WF FC u') (t1 : CWc nu2 c W' u') (t2 : CWm nu2 W' u') (t3 : CWf nu2 W' u') (t4 : CWp W' u') (t5 : CWg nu2 W' u') (t6 : FoC nu2 u' Fo') (t7 : PrC nu2 u' Pr') (t8 : gI u' 84 = (lc' : Int) ∧ gL u' 82 = 20) : ReC W' c Fo' Pr' lc' K u' := by
  have he : EqS u u' := ⟨fun k hk => hA k (by omega), fun k hk => hI k (by omega)⟩
  have L : ∀ k, k < 65 ∨ k = 85 → gL u' k = gL u k := fun k hk => congrArg Prod.fst (hA k hk)
  have N : ∀ k i, k < 65 ∨ k = 85 → gN u' k i = gN u k i := fun k i hk => congrFun (congrArg Prod.snd (hA k hk)) i
  have er : rC u' = rC u := by unfold rC; rw [hI 12 (by decide)]
  have en : nC u' = nC u := he.n
  have et : ∀ x, trC nu2 u' x = trC nu2 u x := fun x => by unfold trC; rw [he.st]
  obtain ⟨⟨h1, h2, -, -, -, -, -⟩, hw0, hArr, ⟨m1, m2, m3⟩, hr, h36, h33, h61, h60, -, -, -⟩ := h
  have hs : SC nu2 c u' := he.sc h1 ⟨by rw [hI 12 (by decide), er]; exact h1.r.1, by rw [er, L 11 (by decide)]; exact h1.r.2.1⟩ (by rw [L 11 (by decide)]; exact h1.r.2.2)
  refine ⟨⟨hs, h2.eqs he (hI 13 (by decide)) (hI 14 (by decide)), t1, t2, t3, t4, t5⟩, hw, ?_, ⟨by rw [L 32 (by decide), L 31 (by decide)]; exact m1, by rw [L 31 (by decide)]; exact m2, fun t ht => by rw [N 32 t (by decide), hI 33 (by decide)]; exact m3 t (by rw [← L 32 (by decide)]; exact ht)⟩, by rw [er]; exact hr, by rw [hI 36 (by decide)]; exact h36, by rw [hI 33 (by decide)]; exact h33, by rw [L 61 (by decide), L 62 (by decide)]; exact h61, by rw [L 60 (by decide)]; exact h60, t6, t7, t8⟩
  · obtain ⟨x1, x2, x3, x4, x5, x6, x7, x8, x9⟩ := hArr
    refine ⟨by rw [L 40 (by decide), L 41 (by decide)]; exact x1, by rw [L 39 (by decide), L 42 (by decide), L 37 (by decide), L 38 (by decide)]; exact x2, fun k hk i hi => ?_, by rw [L 47 (by decide), L 46 (by decide), L 48 (by decide)]; exact x4, by rw [L 50 (by decide), L 49 (by decide)]; exact x5, by unfold KnL; rw [L 34 (by decide)]; exact x6, by unfold CtL; rw [L 85 (by decide)]; exact x7, by rw [L 53 (by decide)]; exact x8, by rw [L 55 (by decide)]; exact x9⟩
    have hk9 : k < 65 := by omega
    rw [N k i (Or.inl hk9), hI 36 (by decide)]
    rw [L k (Or.inl hk9)] at hi
    exact x3 k hk i hi
/-- what a call of the face comes to: class and model -/
def FcC (ok full : Prop) (v : Int) (P P' : Sg → Prop) : Int → Sg → Prop := fun r u' => (ok ∧ ¬ full ∧ r = v ∧ P u') ∨ (ok ∧ full ∧ r = exB + 2 ∧ P' u') ∨ (¬ ok ∧ r = exB + 1 ∧ P' u')
def FcT (ok full : Prop) (v : Int) (P P' : Sg → Prop) : Int → Sg → Prop := fun b u' => (ok ∧ ¬ full ∧ b = v ∧ gI u' 0 = 0 ∧ P u') ∨ (ok ∧ full ∧ b = 0 ∧ gI u' 0 = 2 ∧ P' u') ∨ (¬ ok ∧ b = 0 ∧ gI u' 0 = 1 ∧ P' u')
/-! face: predicate -/
def wPr (W : Wd) (m : Nat) : Wd := setN (setF W 5 (wnP W) m) 2 (wnP W + 1)
theorem adT_pr {W : Wd} {m : Nat} : adT (wPr W m) = adT W := adT_w rfl rfl rfl rfl rfl rfl rfl rfl rfl
theorem wpM_pr {W : Wd} {m i : Nat} : wpM (wPr W m) i = if i = wnP W then m else wpM W i := rfl
theorem cPred {d : Nat} (hd : 10 ≤ d) {W : Wd} {c : Nat} {Fo Pr : List Nat} {lc : Nat} {K : Int} {u : Sg} (h : ReC W c Fo Pr lc K u) (h9 : 0 ≤ gI u 99 ∧ gI u 99 < 1000000) (a : Int) : wp (runC d 9 [a] u) (FcC (0 ≤ a ∧ a ≤ 2) (wnP W = 10) (wnP W : Int) (ReC (wPr W a.toNat) c Fo Pr lc K) (ReC W c Fo Pr lc K)) := by
  obtain ⟨d, rfl⟩ : ∃ e, d = e + 1 := ⟨d - 1, by omega⟩
  rw [runC_eq (by omega)]
  show wp (bX1_predicate (runC d) a u) _
  unfold bX1_predicate jn
  dsimp only
  obtain ⟨h75, h10, h73, hpm⟩ := h.1.2.2.2.2.2.1.1
  have bad : ¬ (0 ≤ a ∧ a ≤ 2) → ∀ Kc : Int → Sg → Option (Int × Sg), wp (cl (runC d 4 [0] u) fun v s => pr v s (Kc v s)) (FcC (0 ≤ a ∧ a ≤ 2) (wnP W = 10) (wnP W : Int) (ReC (wPr W a.toNat) c Fo Pr lc K) (ReC W c Fo Pr lc K)) := fun hb Kc => by
    rw [need_no (by omega) h9]
    show wp (pr (exB + 1) (tS u) _) _
    rw [pr_x (by decide), wp_some]
    exact Or.inr (Or.inr ⟨hb, rfl, h.tS h9⟩)
  by_cases h0 : a < 0
  · rw [if_pos h0]; exact bad (by omega) _
  rw [if_neg h0]
  by_cases h2 : a ≤ 2
  · rw [if_pos h2, need_ok (by omega)]
    show wp (pr 0 u _) _
    rw [pr_0, wp_un, h75]
    by_cases hlt : wnP W < 10
    · rw [if_pos (by omega)]
      show wp (cl (runC d 6 [1] u) _) _
      rw [room_ok (by omega)]
      show wp (pr 0 u _) _
      rw [pr_0, wp_un, h75, wp_stA]
      refine ⟨⟨by omega, by rw [h73]; omega⟩, ?_⟩
      rw [wp_un, gI_sA, h75, wp_ar]
      refine ⟨⟨by omega, by omega⟩, ?_⟩
      rw [wp_un, wp_un, gI_sI, if_pos rfl, wp_ar]
      refine ⟨⟨by omega, by omega⟩, ?_⟩
      rw [wp_some]
      refine Or.inl ⟨⟨by omega, h2⟩, by omega, by omega, ?_⟩
      have hw : WF FC (sI (sA u 73 (wnP W : Int) a) 75 ((wnP W : Int) + 1)) := wfI (wfA h.2.1 rfl ⟨by omega, by omega⟩) rfl ⟨by omega, by omega⟩
      refine h.tb (fun k hk => aA (by omega)) (fun k hk => by rw [gI_sI, if_neg (by omega)]; rfl) hw h.1.2.2.1 h.1.2.2.2.1 h.1.2.2.2.2.1 ⟨⟨?_, ?_, ?_, fun i hi => ?_⟩, h.1.2.2.2.2.2.1.2⟩ h.1.2.2.2.2.2.2 h.2.2.2.2.2.2.2.2.2.1 h.2.2.2.2.2.2.2.2.2.2.1 h.2.2.2.2.2.2.2.2.2.2.2
      · rw [gI_sI, if_pos rfl]; show _ = ((wnP W + 1 : Nat) : Int); omega
      · show wnP W + 1 ≤ 10; omega
      · exact h73
      · rw [gN_sI, gN_sAn, wpM_pr]
        by_cases q : i = wnP W
        · rw [if_pos ⟨rfl, q⟩, if_pos q]; omega
        · rw [if_neg (fun z => q z.2), if_neg q]
          have : i < wnP W + 1 := hi
          exact hpm i (by omega)
    · rw [if_neg (by omega)]
      show wp (cl (runC d 6 [0] u) _) _
      rw [room_no (by omega) h9]
      show wp (pr (exB + 2) (tS u) _) _
      rw [pr_x (by decide), wp_some]
      exact Or.inr (Or.inl ⟨⟨by omega, h2⟩, by omega, rfl, h.tS h9⟩)
  · rw [if_neg h2]; exact bad (by omega) _
