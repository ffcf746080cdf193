/-- what a known formula brings -/
def cmF (F : Fs) (K T O : Nat → Prop) (f g : Nat) : Prop := (kd f = 17 ∧ g ∈ ps f) ∨ (kd f = 18 ∧ ∃ t, T t ∧ fitS F t (pa f 0) ∧ instOK F t (pa f 1) ∧ g = sbT (putg t) 0 (pa f 1)) ∨ (kd f = 16 ∧ kd (pa f 0) = 17 ∧ ∃ p, oL F K (pa f 0) p ∧ g = notT p) ∨ (kd f = 16 ∧ kd (pa f 0) = 18 ∧ ¬ O f ∧ g = notT (sbT (putg (mk 1 (2 * f + 1) [])) 0 (pa (pa f 0) 1)))
def cmeS (F : Fs) (K T O : Nat → Prop) (g : Nat) : Prop := ∃ f, K f ∧ cmF F K T O f g
theorem okT_const (n : Nat) : okT (mk 1 n []) ∧ isTm (mk 1 n []) := by
  have k : kd (mk 1 n []) = 1 := kd_mk _ _ _
  have w : wh (mk 1 n []) = n := wh_mk _ _ _
  have p : ps (mk 1 n []) = [] := ps_mk _ _ _
  refine ⟨?_, Or.inl k⟩
  rw [okT_eq]
  refine ⟨⟨by rw [k, w, p], Or.inl ⟨k, p⟩⟩, fun c hc => ?_⟩
  have := (fms_ps hc).1
  rw [p] at this
  cases this
theorem sub_const {s n : Nat} (h : subT s (mk 1 n [])) : s = mk 1 n [] := by
  rw [subT_eq] at h
  rcases h with q | ⟨c, q, _⟩
  · exact q
  · have := (fms_ps q).1
    rw [ps_mk] at this
    cases this
/-- the arrays of the marks have room -/
theorem RdI.rm {ν : Nat → Nat} {c : Nat} {W : Wd} {S : Fs} {X : Nat → Prop} {Kl : List Nat} {l : Ls} {Fu : Nat → Prop} {Cl Bl Ol : List Nat} {c0 fi d x : Nat} {ν0 : Nat → Nat} {u0 u : Sg} (hd : 2 ≤ d) (h : RdI ν c W S X Kl l Fu Cl Bl Ol c0 fi ν0 u0 u) (hx : x < 90000) : wp (runC (d + 1) 43 [(x : Int)] u) (fun _ u' => RdI ν c W S X Kl l Fu Cl Bl Ol c0 fi ν0 u0 u' ∧ gI u' 45 = gI u 45 ∧ EqS u u' ∧ x < gL u' 38 ∧ gI u' 36 = gI u 36) := by
  obtain ⟨h1, ⟨h2, h3⟩, h4, ⟨h5, h6⟩, h7, ⟨h8, h9⟩, h10, h11⟩ := h
  have hC := h1.1
  have hs := hC.1.1
  refine wp_mono (tX1_room (d := d) (X := X) hd hC.2.1 hs hC.2.2.1.1 hC.2.2.1.2 hx) (fun _ u' ⟨r1, r2, r3, r4, r5, r6, r7, r8⟩ => ?_)
  have hrun := hC.2.2.1.2
  have kp : Kp u u' := fun k hk => ⟨r6.2.2.1 k, fun i hi => r7 k i hk hi, fun i a b => r8 k i hk a b⟩
  have gh : GrH u u' := ⟨r6.sub (by decide +kernel), kp⟩
  have e45 : gI u' 45 = gI u 45 := r6.I 45 (by decide +kernel)
  have e36 : gI u' 36 = gI u 36 := r6.I 36 (by decide +kernel)
  refine ⟨⟨⟨CaP.room hC r4.ux r5 r6 r1, h1.2.up hs r4.ux gh hrun⟩, ⟨h2.fr hs r4.ux r6 (by decide +kernel) (by decide +kernel), by rw [e45]; exact h3⟩, h4.fr hs r4.ux r6 (by decide +kernel) (by decide +kernel), ⟨⟨fun y q1 => ⟨?_, fun q2 => ?_⟩, fun f hf => ?_⟩, h6⟩, h7.tr (r4.un hs e36) e45, ⟨by rw [r6.I 44 (by decide +kernel)]; exact h8, by rw [r6.I 57 (by decide +kernel)]; exact h9⟩, by unfold KnL; rw [r6.Ln 34 (by decide +kernel)]; exact h10, by unfold CtL; rw [r6.Ln 85 (by decide +kernel)]; exact h11⟩, e45, r3, by rw [r1.2.1.2.2.1]; exact r2, e36⟩
  · rw [e36]
    by_cases hl : y < gL u 38
    · rw [r7 38 y (Or.inr rfl) hl]; exact (h5.1 y hl).1
    · rw [r8 38 y (Or.inr rfl) (by omega) q1]; omega
  · rw [e36] at q2
    by_cases hl : y < gL u 38
    · rw [r7 38 y (Or.inr rfl) hl] at q2
      obtain ⟨a, b, c'⟩ := (h5.1 y hl).2 q2
      exact ⟨a, by rw [r3.n]; exact b, by rw [r3.tr]; exact c'⟩
    · rw [r8 38 y (Or.inr rfl) (by omega) q1] at q2
      omega
  · obtain ⟨y, a, b, c1, d1, e⟩ := h5.2 f hf
    exact ⟨y, a, Nat.lt_of_lt_of_le b (r6.2.2.1 38), by rw [r7 38 y (Or.inr rfl) b, e36]; exact c1, by rw [r3.n]; exact d1, by rw [r3.tr]; exact e⟩
theorem CaP.m38 {ν : Nat → Nat} {c : Nat} {W : Wd} {S : Fs} {Kl : List Nat} {u s : Sg} {H : List Nat} {p : Nat → Nat} {M : List (Nat × Nat × Nat)} {J : List (Nat × Nat)} (h : CaP ν c W S Kl u H p M J) (hw : WF FC s) (hg : Gr FC (2 ^ 38) u s) (l38 : gL s 38 = gL u 38) : CaP ν c W S Kl s H p M J := by
  obtain ⟨h1, h2, ⟨h3, h3b⟩, h4, h5, h6⟩ := h
  have hs := h1.1
  obtain ⟨e, hU⟩ := hg.ux (X := fun _ => False) hs (by decide +kernel)
  have b : ∀ k, (36 ≤ k ∧ k ≤ 43 ∧ k ≠ 38) → Nat.testBit (2 ^ 38) k = false := fun k hk => (by decide +kernel : ∀ k, k ≤ 43 → 36 ≤ k → k ≠ 38 → Nat.testBit (2 ^ 38) k = false) k hk.2.1 hk.1 hk.2.2
  obtain ⟨⟨a1, a2, a3, a4⟩, ⟨b1, b2, b3, b4, b5⟩, c3, c4, c5, c6, c7⟩ := h3
  have L : ∀ k, (36 ≤ k ∧ k ≤ 43 ∧ k ≠ 38) → gL s k = gL u k := fun k hk => hg.Ln k (b k hk)
  have N : ∀ k, (36 ≤ k ∧ k ≤ 43 ∧ k ≠ 38) → ∀ i, gN s k i = gN u k i := fun k hk => hg.N k (b k hk)
  have I : ∀ k, (36 ≤ k ∧ k ≤ 43 ∧ k ≠ 38) → gI s k = gI u k := fun k hk => hg.I k (b k hk)
  refine ⟨h1.up hU.ux hg (by decide +kernel), hw, ⟨⟨⟨by rw [I 43 (by omega)]; exact a1, a2, by rw [L 40 (by omega)]; exact a3, by rw [L 41 (by omega)]; exact a4⟩, ⟨by rw [L 39 (by omega), L 42 (by omega)]; exact b1, by rw [L 37 (by omega), L 42 (by omega)]; exact b2, by rw [l38, L 42 (by omega)]; exact b3, by rw [L 42 (by omega)]; exact b4, by rw [L 42 (by omega)]; exact b5⟩, c3, fun i t hi => ?_, fun x hx => ⟨?_, fun he => ?_⟩, fun i hi => by rw [N 41 (by omega)]; exact c6 i hi, c7⟩, by rw [I 36 (by omega)]; exact h3b⟩, h4.up hs hU.ux hg (by decide +kernel) (by decide +kernel) (by decide +kernel) (by decide +kernel), h5.up hs hU.ux hg (by decide +kernel) (by decide +kernel) (by decide +kernel), h6⟩
  · obtain ⟨y, y1, y2, y3, y4, y5, y6, y7⟩ := c4 i t hi
    exact ⟨y, by rw [N 40 (by omega)]; exact y1, y2, by rw [e.n]; exact y3, by rw [e.tr]; exact y4, by rw [L 42 (by omega)]; exact y5, by rw [N 42 (by omega), I 36 (by omega)]; exact y6, by rw [N 39 (by omega)]; exact y7⟩
  · rw [L 42 (by omega)] at hx
    rw [N 42 (by omega), I 36 (by omega)]
    exact (c5 x hx).1
  · rw [L 42 (by omega)] at hx
    rw [N 42 (by omega), I 36 (by omega)] at he
    obtain ⟨i, i1, i2⟩ := (c5 x hx).2 he
    exact ⟨i, i1, by rw [N 40 (by omega)]; exact i2⟩
/-- a mark: it is opened -/
theorem RdI.op {ν : Nat → Nat} {c : Nat} {W : Wd} {S : Fs} {X : Nat → Prop} {Kl : List Nat} {l : Ls} {Fu : Nat → Prop} {Cl Bl Ol : List Nat} {c0 fi x : Nat} {ν0 : Nat → Nat} {u0 u : Sg} (h : RdI ν c W S X Kl l Fu Cl Bl Ol c0 fi ν0 u0 u) (x0 : 0 < x) (hx : x < nC u) (hx38 : x < gL u 38) : RdI ν c W S X Kl l Fu Cl Bl (Ol ++ [trC ν u x]) c0 fi ν0 u0 (sA u 38 (x : Int) (gI u 36)) ∧ EqS u (sA u 38 (x : Int) (gI u 36)) := by
  obtain ⟨h1, ⟨h2, h3⟩, h4, ⟨h5, h6⟩, h7, ⟨h8, h9⟩, h10, h11⟩ := h
  have hC := h1.1
  have hs := hC.1.1
  have w : WF FC (sA u 38 (x : Int) (gI u 36)) := wfA hC.2.1 rfl (hC.2.1.1 36)
  have g : Gr FC (2 ^ 38) u (sA u 38 (x : Int) (gI u 36)) := Gr_sA (by decide +kernel)
  obtain ⟨e, hU⟩ := g.ux (X := X) hs (by decide +kernel)
  have n38 : ∀ y, gN (sA u 38 (x : Int) (gI u 36)) 38 y = if y = x then gI u 36 else gN u 38 y := fun y => by
    rw [gN_sAn]
    by_cases q : y = x
    · rw [if_pos ⟨rfl, q⟩, if_pos q]
    · rw [if_neg (fun z => q z.2), if_neg q]
  refine ⟨⟨⟨CaP.m38 hC w g (gL_sA _ _ _ _ _), h1.2.fr hs hU.ux g (by decide +kernel) (by decide +kernel) (by decide +kernel) (by decide +kernel)⟩, ⟨h2.fr hs hU.ux g (by decide +kernel) (by decide +kernel), h3⟩, h4.fr hs hU.ux g (by decide +kernel) (by decide +kernel), ⟨⟨fun y q1 => ⟨?_, fun q2 => ?_⟩, fun f hf => ?_⟩, fun i hi => ⟨(h6 i hi).1, fun q => ?_⟩⟩, h7.tr (hU.un hs rfl) (gI_sA _ _ _ _ _), ⟨h8, h9⟩, by unfold KnL; rw [gL_sA]; exact h10, by unfold CtL; rw [gL_sA]; exact h11⟩, e⟩
  · rw [gL_sA] at q1
    rw [n38, gI_sA]
    by_cases q : y = x
    · rw [if_pos q]; exact Int.le_refl _
    · rw [if_neg q]; exact (h5.1 y q1).1
  · rw [gL_sA] at q1
    rw [n38, gI_sA] at q2
    by_cases q : y = x
    · exact ⟨by omega, by rw [e.n]; omega, by rw [e.tr, q]; exact List.mem_append_right _ List.mem_cons_self⟩
    · rw [if_neg q] at q2
      obtain ⟨a, b, c'⟩ := (h5.1 y q1).2 q2
      exact ⟨a, by rw [e.n]; exact b, by rw [e.tr]; exact List.mem_append_left _ c'⟩
  · rcases List.mem_append.mp hf with z | z
    · obtain ⟨y, a, b, c1, d1, e1⟩ := h5.2 f z
      refine ⟨y, a, by rw [gL_sA]; exact b, ?_, by rw [e.n]; exact d1, by rw [e.tr]; exact e1⟩
      rw [n38, gI_sA]
      by_cases q : y = x
      · rw [if_pos q]
      · rw [if_neg q]; exact c1
    · exact ⟨x, x0, by rw [gL_sA]; exact hx38, by rw [n38, if_pos rfl, gI_sA], by rw [e.n]; exact hx, by rw [e.tr, List.mem_singleton.mp z]⟩
  · obtain ⟨f, f1, f2⟩ := (h6 i hi).2 q
    exact ⟨f, List.mem_append_left _ f1, f2⟩
theorem nu_OpC {ν ν' : Nat → Nat} {c c' : Nat} {u : Sg} {Ol : List Nat} (hs : SC ν c u) (h : NuX ν c ν' c') (hk : OpC ν u Ol) : OpC ν' u Ol := by
  refine ⟨fun x q1 => ⟨(hk.1 x q1).1, fun q2 => ?_⟩, fun f hf => ?_⟩
  · obtain ⟨a, b, e⟩ := (hk.1 x q1).2 q2
    exact ⟨a, b, by rw [nu_tr hs h b]; exact e⟩
  · obtain ⟨x, a, b, c1, d, e⟩ := hk.2 f hf
    exact ⟨x, a, b, c1, d, by rw [nu_tr hs h d]; exact e⟩
/-- a new constant in a round -/
theorem rd_new {d : Nat} (hd : 7 ≤ d) {ν : Nat → Nat} {c : Nat} {W : Wd} {S : Fs} {X : Nat → Prop} {Kl : List Nat} {l : Ls} {Fu : Nat → Prop} {Cl Bl Ol : List Nat} {c0 fi y f : Nat} {ν0 : Nat → Nat} {u0 u : Sg} (h : RdI ν c W S X Kl l Fu Cl Bl Ol c0 fi ν0 u0 u) (hl : LimR ν0 u0 X Kl Fu) (hc : c ≤ 8000) (hc0 : c0 ≤ c) (hn : ¬ Nm ν c (2 * f + 1)) (hf : f ∈ Ol) (hy : y < nC u) (ey : trC ν u y = wcT W (2 * f + 1)) (hX : X (mk 1 (2 * f + 1) [])) : wp (runC d 19 [(y : Int)] u) (fun r u' => ∃ x : Nat, r = (x : Int) ∧ 0 < x ∧ x < nC u' ∧ trC (nuU ν c (2 * f + 1)) u' x = mk 1 (2 * f + 1) [] ∧ RdI (nuU ν c (2 * f + 1)) (c + 1) W S X Kl l Fu Cl Bl Ol c0 fi ν0 u0 u' ∧ UN ν u (nuU ν c (2 * f + 1)) u' X ∧ gI u' 45 = gI u 45) := by
  have hlu := h.lim hl
  obtain ⟨h1, ⟨h2, h3⟩, h4, ⟨h5, h6⟩, h7, ⟨h8, h9⟩, h10, h11⟩ := h
  have hC := h1.1
  have hs := hC.1.1
  have hbd := hlu.n hs
  refine wp_mono (tX1_newOne (X := X) hd hC h11 hc hn hy ey (by omega) hX hlu) (fun r u' ⟨x, a1, a2, a3, a4, a5, a6, a7, a8⟩ => ?_)
  have hx := nuU_x ν c (2 * f + 1)
  have hsu : SC (nuU ν c (2 * f + 1)) (c + 1) u := nu_sc hs hx (nuU_inj hs.2.2.2 hn)
  have hU := a6.ux
  have un : UN ν u (nuU ν c (2 * f + 1)) u' X := ⟨hU.n hsu, fun z hz => by rw [hU.tr hsu hz, nu_tr hs hx hz], fun t ht => (hU.2.2 t ht).imp (nu_nd hs hx t).mp id, a6.2.2.2.2.2.1, a6.2.2.2.2.2.2, a7.I 36 (by decide +kernel)⟩
  have e45 : gI u' 45 = gI u 45 := a7.I 45 (by decide +kernel)
  refine ⟨x, a1, a2, a3, a4, ⟨⟨a5, (nu_KnS hs hx h1.2).fr hsu hU a7 (by decide +kernel) (by decide +kernel) (by decide +kernel) (by decide +kernel)⟩, ⟨(nu_ArC hs hx h2).fr hsu hU a7 (by decide +kernel) (by decide +kernel), by rw [e45]; exact h3⟩, (nu_ArC hs hx h4).fr hsu hU a7 (by decide +kernel) (by decide +kernel), ⟨(nu_OpC hs hx h5).fr hsu hU a7 (by decide +kernel) (by decide +kernel), fun i hi => ⟨fun q => ?_, fun q => ?_⟩⟩, h7.tr un e45, ⟨by rw [a7.I 44 (by decide +kernel)]; exact h8, by rw [a7.I 57 (by decide +kernel)]; exact h9⟩, by unfold KnL; rw [a7.Ln 34 (by decide +kernel)]; exact h10, a8⟩, un, e45⟩
  · unfold nuU
    rw [if_neg (by omega)]
    exact (h6 i (by omega)).1 q
  · by_cases z : i = c
    · refine ⟨f, hf, ?_⟩
      unfold nuU
      rw [if_pos z]
    · obtain ⟨g, g1, g2⟩ := (h6 i (by omega)).2 q
      refine ⟨g, g1, ?_⟩
      unfold nuU
      rw [if_neg z]
      exact g2
theorem rd_brought {d : Nat} (hd : 3 ≤ d) {ν : Nat → Nat} {c : Nat} {W : Wd} {S : Fs} {X : Nat → Prop} {Kl : List Nat} {l : Ls} {Fu : Nat → Prop} {Cl Bl Ol : List Nat} {c0 fi x : Nat} {ν0 : Nat → Nat} {u0 u : Sg} (h : RdI ν c W S X Kl l Fu Cl Bl Ol c0 fi ν0 u0 u) (hB : Bl.length ≤ 8000) (x0 : 0 < x) (hx : x < nC u) (hxl : x < 1000000) : wp (runC d 78 [(x : Int)] u) (fun _ u' => RdI ν c W S X Kl l Fu Cl (Bl ++ [trC ν u x]) Ol c0 fi ν0 u0 u' ∧ EqS u u' ∧ gI u' 45 = gI u 45) := by
  obtain ⟨h1, ⟨h2, h3⟩, h4, ⟨h5, h6⟩, h7, ⟨h8, h9⟩, h10, h11⟩ := h
  have hs := h1.1.1.1
  obtain ⟨d, rfl⟩ : ∃ d', d = d' + 1 := ⟨d - 1, by omega⟩
  refine wp_mono (tX1_newConstant (d := d) (by omega) h1.1.2.1 hs h4 hB x0 hx hxl) (fun r u' ⟨w, g, a⟩ => ?_)
  obtain ⟨e, hU⟩ := g.ux (X := X) hs (by decide +kernel)
  have e45 : gI u' 45 = gI u 45 := g.I 45 (by decide +kernel)
  exact ⟨⟨h1.fr hU.ux w g (by decide +kernel), ⟨h2.fr hs hU.ux g (by decide +kernel) (by decide +kernel), by rw [e45]; exact h3⟩, a, ⟨h5.fr hs hU.ux g (by decide +kernel) (by decide +kernel), h6⟩, h7.tr (hU.un hs (g.I 36 (by decide +kernel))) e45, ⟨by rw [g.I 44 (by decide +kernel)]; exact h8, by rw [g.I 57 (by decide +kernel)]; exact h9⟩, by unfold KnL; rw [g.Ln 34 (by decide +kernel)]; exact h10, by unfold CtL; rw [g.Ln 85 (by decide +kernel)]; exact h11⟩, e, e45⟩
