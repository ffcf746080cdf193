/-! a new constant in the model: one more name -/
section MQ
variable {Mq : MqT}
theorem nuT_ext {ν ν' : Nat → Nat} {c c' : Nat} {u : Sg} (hs : ST ν c u) (h : NuX ν c ν' c') : Ext (stT ν u) (stT ν' u) := by
  refine ⟨Nat.le_refl _, fun x x0 hx => ?_⟩
  have hx : x ≤ nT u := hx
  show labT ν' (rawT u x) = labT ν (rawT u x)
  unfold labT
  by_cases k1 : (rawT u x).1 = 1
  · simp only [k1, if_true]
  · by_cases k2 : (rawT u x).1 = 2
    · have hlt := hs.2.2.1 x x0 hx k2
      rw [if_neg k1, if_neg k1, if_pos k2, if_pos k2, h.2 _ hlt]
    · rw [if_neg k1, if_neg k1, if_neg k2, if_neg k2]
theorem nuT_tr {ν ν' : Nat → Nat} {c c' : Nat} {u : Sg} (hs : ST ν c u) (h : NuX ν c ν' c') {x : Nat} (hx : x ≤ nT u) : trT ν' u x = trT ν u x :=
  tr_ext (okp_T hs.1) (okp_T hs.1) (nuT_ext hs h) x (by show x ≤ nT u; exact hx)
theorem nuT_nd {ν ν' : Nat → Nat} {c c' : Nat} {u : Sg} (hs : ST ν c u) (h : NuX ν c ν' c') (t : Nat) : ndT ν' u t ↔ ndT ν u t := by
  constructor
  · rintro ⟨x, x0, hx, e⟩
    exact ⟨x, x0, hx, by rw [← e, nuT_tr hs h hx]⟩
  · rintro ⟨x, x0, hx, e⟩
    exact ⟨x, x0, hx, by rw [← e, nuT_tr hs h hx]⟩
theorem nuT_st {ν ν' : Nat → Nat} {c c' : Nat} {u : Sg} (hs : ST ν c u) (h : NuX ν c ν' c') (hi : ∀ i j, 2 ≤ i → i < c' → 2 ≤ j → j < c' → ν' i = ν' j → i = j) : ST ν' c' u :=
  ⟨hs.1, hs.2.1, fun x x0 hx k => by have := hs.2.2.1 x x0 hx k; have := h.1; omega, hi⟩
theorem nuT_lim {ν ν' : Nat → Nat} {c c' : Nat} {u : Sg} {X : Nat → Prop} (hs : ST ν c u) (h : NuX ν c ν' c') (hl : LimT ν u X) : LimT ν' u X := fun l hn hm => hl l hn (fun t ht => (hm t ht).imp (nuT_nd hs h t).mp id)
theorem nuT_in {ν ν' : Nat → Nat} {c c' : Nat} {u : Sg} {v : Int} {t : Nat} (hs : ST ν c u) (h : NuX ν c ν' c') (hi : inT ν u v t) : inT ν' u v t := by
  obtain ⟨y, y1, y2, y3⟩ := hi
  exact ⟨y, y1, y2, by rw [nuT_tr hs h y2]; exact y3⟩
theorem nuT_HaT {ν ν' : Nat → Nat} {c c' : Nat} {u : Sg} {H : List Nat} {p : Nat → Nat} (hs : ST ν c u) (h : NuX ν c ν' c') (hH : HaT ν u H p) : HaT ν' u H p := by
  obtain ⟨a, b, c1, d, e⟩ := hH
  refine ⟨a, b, c1, fun i t hi => ?_, e⟩
  obtain ⟨x, x1, x2, x3, x4, x5⟩ := d i t hi
  exact ⟨x, x1, x2, x3, by rw [nuT_tr hs h x3]; exact x4, x5⟩
theorem nuT_FcMT {ν ν' : Nat → Nat} {c c' : Nat} {u : Sg} {H : List Nat} {M : List (Nat × Nat × Nat)} (hs : ST ν c u) (h : NuX ν c ν' c') (hM : FcMT ν u H M) : FcMT ν' u H M :=
  ⟨hM.1, fun k t m a hk => ⟨(hM.2 k t m a hk).1, (hM.2 k t m a hk).2.1, nuT_in hs h (hM.2 k t m a hk).2.2⟩⟩
theorem nuT_MkL {ν ν' : Nat → Nat} {c c' : Nat} {u : Sg} {cn id mk st : Nat} {L : List Nat} (hs : ST ν c u) (h : NuX ν c ν' c') (hk : MkL ν u cn id mk st L) : MkL ν' u cn id mk st L := by
  obtain ⟨a, b, c1, d, e⟩ := hk
  refine ⟨a, b, c1, fun i f hi => ?_, e⟩
  obtain ⟨x, x1, x2, x3, x4, x5⟩ := d i f hi
  exact ⟨x, x1, x2, x3, by rw [nuT_tr hs h x3]; exact x4, x5⟩
theorem NuX.nt {ν ν' : Nat → Nat} {c c' n : Nat} (h : NuX ν c ν' c') (hn : NT ν c n) : NT ν' c' n := by
  obtain ⟨i, i0, i1, i2⟩ := hn
  exact ⟨i, i0, Nat.lt_of_lt_of_le i1 h.1, by rw [h.2 i i1]; exact i2⟩
theorem nuT_inj {ν : Nat → Nat} {c n : Nat} (h : ∀ i j, 2 ≤ i → i < c → 2 ≤ j → j < c → ν i = ν j → i = j) (hn : ¬ NT ν c n) : ∀ i j, 2 ≤ i → i < c + 1 → 2 ≤ j → j < c + 1 → nuU ν c n i = nuU ν c n j → i = j := fun i j h2 hi h2' hj e => by
  unfold nuU at e
  by_cases a : i = c
  · by_cases b : j = c
    · omega
    · rw [if_pos a, if_neg b] at e
      exact absurd ⟨j, h2', by omega, e.symm⟩ hn
  · by_cases b : j = c
    · rw [if_neg a, if_pos b] at e
      exact absurd ⟨i, h2, by omega, e⟩ hn
    · rw [if_neg a, if_neg b] at e
      exact h i j h2 (by omega) h2' (by omega) e
theorem nuT_nt {ν : Nat → Nat} {c n m : Nat} (hc : 2 ≤ c) : NT (nuU ν c n) (c + 1) m ↔ NT ν c m ∨ m = n := by
  constructor
  · rintro ⟨i, i0, i1, i2⟩
    unfold nuU at i2
    by_cases q : i = c
    · rw [if_pos q] at i2; exact Or.inr i2.symm
    · rw [if_neg q] at i2; exact Or.inl ⟨i, i0, by omega, i2⟩
  · rintro (⟨i, i0, i1, i2⟩ | e)
    · exact ⟨i, i0, by omega, by unfold nuU; rw [if_neg (by omega)]; exact i2⟩
    · exact ⟨c, hc, by omega, by unfold nuU; rw [if_pos rfl, e]⟩
theorem inT.ee {ν : Nat → Nat} {u s : Sg} {v : Int} {t : Nat} (e : EqH u s) (h : inT ν u v t) : inT ν s v t := by
  obtain ⟨y, y1, y2, y3⟩ := h
  exact ⟨y, y1, by rw [e.1.n]; exact y2, by rw [e.1.tr]; exact y3⟩
theorem TWp_eq {W : Wd} {u s : Sg} (h : TWp W u) (i2 : ∀ k, 23 ≤ k → k ≤ 28 → gI s k = gI u k) (a1 : ∀ k, 23 ≤ k → k ≤ 28 → gL s k = gL u k ∧ ∀ i, gN s k i = gN u k i) : TWp W s := by
  obtain ⟨⟨p1, p2, p3, p4⟩, p5, p6⟩ := h
  exact ⟨⟨by rw [i2 24 (by omega) (by omega)]; exact p1, p2, by rw [(a1 23 (by omega) (by omega)).1]; exact p3, fun i hi => by rw [(a1 23 (by omega) (by omega)).2]; exact p4 i hi⟩, by rw [i2 28 (by omega) (by omega)]; exact p5, p6⟩
/-- arrays of the constants -/
def CtT (u : Sg) : Prop := 16 ≤ gL u 17 ∧ 16 ≤ gL u 18
theorem TW_ne {ν : Nat → Nat} {c n y : Nat} {W : Wd} {u s : Sg} (h : TW ν c W u) (hn : ¬ NT ν c n) (hy : y ≤ nT u) (ey : trT ν u y = wcT W n) (e : EqH u s) (i1 : gI s 19 = ((c + 1 : Nat) : Int)) (i2 : ∀ j, j ≠ 19 → j ≠ 39 → j ≠ 40 → gI s j = gI u j) (a1 : ∀ j, j ≠ 17 → j ≠ 18 → j ≠ 39 → j ≠ 40 → gL s j = gL u j ∧ ∀ i, gN s j i = gN u j i) (a2 : c + 1 ≤ gL s 18) (n1 : gN s 18 c = (y : Int)) (n2 : ∀ i, i < c → gN s 18 i = gN u 18 i) : TW (nuU ν c n) (c + 1) W s := by
  obtain ⟨hs, ⟨q1, q2⟩, ⟨c1, c2, c3, c4⟩, ⟨m1, m2, m3, m4, m5, m6⟩, ⟨f1, f2, f3, f4, f5⟩, hp, ⟨g1, g2, g3, g4⟩⟩ := h
  have hx := nuU_x ν c n
  have hs' : ST ν c s := e.st hs
  have tr2 : ∀ {v : Int} {t : Nat}, inT ν u v t → inT (nuU ν c n) s v t := fun q => nuT_in hs' hx (q.ee e)
  have A : ∀ j, j ≠ 17 → j ≠ 18 → j ≠ 39 → j ≠ 40 → ∀ i, gN s j i = gN u j i := fun j h1 h2 h3 h4 => (a1 j h1 h2 h3 h4).2
  have L : ∀ j, j ≠ 17 → j ≠ 18 → j ≠ 39 → j ≠ 40 → gL s j = gL u j := fun j h1 h2 h3 h4 => (a1 j h1 h2 h3 h4).1
  refine ⟨nuT_st hs' hx (nuT_inj hs.2.2.2 hn), ⟨by rw [L 14 (by omega) (by omega) (by omega) (by omega)]; exact q1, by rw [L 15 (by omega) (by omega) (by omega) (by omega)]; exact q2⟩, ⟨i1, by omega, a2, fun i h2 hi => ?_⟩, ⟨by rw [i2 27 (by omega) (by omega) (by omega)]; exact m1, m2, by rw [L 25 (by omega) (by omega) (by omega) (by omega)]; exact m3, by rw [L 26 (by omega) (by omega) (by omega) (by omega)]; exact m4, by rw [A 26 (by omega) (by omega) (by omega) (by omega)]; exact m5, fun i h1 h2 => ?_⟩, ⟨by rw [i2 22 (by omega) (by omega) (by omega)]; exact f1, f2, by rw [L 20 (by omega) (by omega) (by omega) (by omega)]; exact f3, by rw [L 21 (by omega) (by omega) (by omega) (by omega)]; exact f4, fun i hi => ?_⟩, ?_, ⟨by rw [i2 37 (by omega) (by omega) (by omega)]; exact g1, g2, fun k h1 h2 => by rw [L k (by omega) (by omega) (by omega) (by omega)]; exact g3 k h1 h2, fun i hi => ?_⟩⟩
  · by_cases q : i = c
    · rw [q, n1]
      unfold nuU
      rw [if_pos rfl]
      exact tr2 ⟨y, rfl, hy, ey⟩
    · rw [n2 i (by omega)]
      unfold nuU
      rw [if_neg q]
      exact tr2 (c4 i h2 (by omega))
  · rw [A 25 (by omega) (by omega) (by omega) (by omega), A 26 (by omega) (by omega) (by omega) (by omega)]
    exact ⟨tr2 (m6 i h1 h2).1, (m6 i h1 h2).2⟩
  · rw [A 20 (by omega) (by omega) (by omega) (by omega), A 21 (by omega) (by omega) (by omega) (by omega)]
    exact ⟨(f5 i hi).1, tr2 (f5 i hi).2⟩
  · exact TWp_eq hp (fun k h1 h2 => i2 k (by omega) (by omega) (by omega)) (fun k h1 h2 => a1 k (by omega) (by omega) (by omega) (by omega))
  · rw [A 29 (by omega) (by omega) (by omega) (by omega), A 30 (by omega) (by omega) (by omega) (by omega), A 31 (by omega) (by omega) (by omega) (by omega), A 32 (by omega) (by omega) (by omega) (by omega), A 33 (by omega) (by omega) (by omega) (by omega), A 34 (by omega) (by omega) (by omega) (by omega), A 35 (by omega) (by omega) (by omega) (by omega), A 36 (by omega) (by omega) (by omega) (by omega)]
    obtain ⟨z1, z2, z3, z4, z5⟩ := g4 i hi
    exact ⟨z1, fun q => ⟨tr2 (z2 q).1, tr2 (z2 q).2⟩, fun q => ⟨(z3 q).1, tr2 (z3 q).2.1, tr2 (z3 q).2.2⟩, z4, fun q => tr2 (z5 q)⟩
theorem anew_eq {u s : Sg} (g : Gr FT DX3_anew u s) {k : Nat} (h1 : k ≠ 39) (h2 : k ≠ 40) : gI s k = gI u k ∧ gL s k = gL u k ∧ ∀ i, gN s k i = gN u k i := by
  have hb : Nat.testBit DX3_anew k = false := by
    by_cases hk : k ≤ 40
    · exact (by decide +kernel : ∀ k, k ≤ 40 → k ≠ 39 → k ≠ 40 → Nat.testBit DX3_anew k = false) k hk h1 h2
    · exact Nat.testBit_lt_two_pow (Nat.lt_of_lt_of_le (by decide +kernel : DX3_anew < 2 ^ 41) (Nat.pow_le_pow_right (by decide) (by omega)))
  exact ⟨g.I k hb, g.Ln k hb, g.N k hb⟩
theorem tX3_fresh {d : Nat} (hd : 4 ≤ d) {ν : Nat → Nat} {c n y : Nat} {W : Wd} {u : Sg} (hw : WF FT u) (hT : TW ν c W u) (hm : MaT Mq u) (hct : CtT u) (hc : c ≤ 20000) (hn : ¬ NT ν c n) (hy : y ≤ nT u) (ey : trT ν u y = wcT W n) : wp (runT d 9 [0, (y : Int)] u) (fun r u' => r = (c : Int) ∧ TW (nuU ν c n) (c + 1) W u' ∧ EqH u u' ∧ WF FT u' ∧ Gr FT DX3_fresh u u' ∧ MaT Mq u' ∧ CtT u' ∧ ∀ i, i < gL u' 39 → gN u' 39 i < gI u' 40) := by
  obtain ⟨d, rfl⟩ : ∃ d', d = d' + 2 := ⟨d - 2, by omega⟩
  rw [runT_eq (by omega)]
  show wp (bX3_fresh (runT (d + 1)) 0 y u) _
  unfold bX3_fresh
  have hs := hT.1
  obtain ⟨c1, c2, c3, c4⟩ := hT.2.2.1
  have hnb := hs.1.1.1.2
  have hb1 := hs.1.1.2.2.2.2.2.2.1
  refine wp_call (tX3_anew (d := d) (by omega) hw hm) (fun r s ⟨w, g, m1, m2, m3⟩ => ?_)
  have g0 : Gr FT DX3_fresh u s := Gr.sub (by decide +kernel) g
  have e0 : EqH u s := g.eqH (by decide +kernel)
  obtain ⟨i19, _, _⟩ := anew_eq g (k := 19) (by omega) (by omega)
  obtain ⟨_, l17, _⟩ := anew_eq g (k := 17) (by omega) (by omega)
  obtain ⟨_, l18, n18⟩ := anew_eq g (k := 18) (by omega) (by omega)
  rw [wp_un, i19, c1]
  refine wp_morT (D := DX3_fresh) w (by omega) rfl (by decide) (by decide +kernel) (by rw [l17]; exact hct.1) (by omega) (fun s4 ⟨e4, w4, g4, i4, o4, p1, p2, p3, p4, p5⟩ => ?_)
  rw [wp_un, i4, i19, c1]
  refine wp_morT (D := DX3_fresh) w4 (by omega) rfl (by decide) (by decide +kernel) (by rw [(o4 18 (by omega)).1, l18]; exact hct.2) (by omega) (fun s6 ⟨e6, w6, g6, i6, o6, q1, q2, q3, q4, q5⟩ => ?_)
  have l176 : gL s6 17 = gL s4 17 := (o6 17 (by omega)).1
  rw [wp_un, i6, i4, i19, c1, wp_stA]
  refine ⟨⟨by omega, by omega⟩, ?_⟩
  rw [wp_un, gI_sA, i6, i4, i19, c1, wp_stA]
  refine ⟨⟨by omega, by rw [gL_sA]; omega⟩, ?_⟩
  rw [wp_un, gI_sA, gI_sA, i6, i4, i19, c1, wp_ar]
  refine ⟨⟨by omega, by omega⟩, ?_⟩
  rw [wp_un, wp_some, show (c : Int) + 1 = ((c + 1 : Nat) : Int) by omega]
  generalize ez : sI (sA (sA s6 17 (c : Int) 0) 18 (c : Int) (y : Int)) 19 ((c + 1 : Nat) : Int) = z
  have wz : WF FT z := by rw [← ez]; exact wfIT (wfAT (wfAT w6 rfl ⟨by omega, by omega⟩) rfl ⟨by omega, by omega⟩) rfl ⟨by omega, by omega⟩
  have gz : Gr FT DX3_fresh u z := by rw [← ez]; exact ((g0.tr g4).tr g6).tr (((Gr_sA (by decide +kernel)).tr (Gr_sA (by decide +kernel))).tr (Gr_sI (by decide +kernel)))
  have qz : EqH u z := by rw [← ez]; exact (((e0.trn e4).trn e6).trn (EqH.sA (by omega))).trn ((EqH.sA (by omega)).trn (EqH.sI (by omega)))
  have Iz : ∀ j, j ≠ 19 → gI z j = gI s j := fun j hj => by rw [← ez, gI_sI, if_neg hj, gI_sA, gI_sA, i6, i4]
  have Az : ∀ j, j ≠ 17 → j ≠ 18 → gL z j = gL s j ∧ ∀ i, gN z j i = gN s j i := fun j h1 h2 => by
    refine ⟨by rw [← ez, gL_sI, gL_sA, gL_sA, (o6 j h2).1, (o4 j h1).1], fun i => ?_⟩
    rw [← ez, gN_sI, gN_sAn, if_neg (fun q => h2 q.1), gN_sAn, if_neg (fun q => h1 q.1), (o6 j h2).2, (o4 j h1).2]
  have L17 : gL z 17 = gL s4 17 := by rw [← ez, gL_sI, gL_sA, gL_sA, l176]
  have L18 : gL z 18 = gL s6 18 := by rw [← ez, gL_sI, gL_sA, gL_sA]
  have N18 : ∀ i, gN z 18 i = if i = c then (y : Int) else gN s6 18 i := fun i => by
    rw [← ez, gN_sI, gN_sAn]
    by_cases q : i = c
    · rw [if_pos ⟨rfl, q⟩, if_pos q]
    · rw [if_neg (fun z => q z.2), if_neg q, gN_sAn, if_neg (fun z => by omega)]
  have hct2 : CtT z := by
    have h1 := hct.1
    have h2 := hct.2
    have h3 := (o4 18 (by omega)).1
    refine ⟨?_, ?_⟩
    · rw [L17]; omega
    · rw [L18]; omega
  refine ⟨rfl, TW_ne hT hn hy ey qz (by rw [← ez, gI_sI, if_pos rfl]) (fun j h1 h2 h3 => by rw [Iz j h1, (anew_eq g h2 h3).1]) (fun j h1 h2 h3 h4 => ⟨by rw [(Az j h1 h2).1, (anew_eq g h3 h4).2.1], fun i => by rw [(Az j h1 h2).2, (anew_eq g h3 h4).2.2]⟩) (by rw [L18]; omega) (by rw [N18, if_pos rfl]) (fun i hi => ?_), qz, wz, gz, ⟨⟨by rw [Iz 40 (by omega)]; exact m1.1.1, by rw [gz.A 38 (by decide +kernel), gz.A 41 (by decide +kernel), gz.I 42 (by decide +kernel)]; exact hm.1.2⟩, fun i hi => ?_⟩, hct2, fun i hi => ?_⟩
  · have hl4 : gL s4 18 = gL u 18 := by rw [(o4 18 (by omega)).1, l18]
    rw [N18, if_neg (by omega), q4 i (by omega), (o4 18 (by omega)).2, n18]
  · rw [(Az 39 (by omega) (by omega)).1] at hi
    rw [(Az 39 (by omega) (by omega)).2, Iz 40 (by omega)]
    exact m1.2 i hi
  · rw [(Az 39 (by omega) (by omega)).1] at hi
    rw [(Az 39 (by omega) (by omega)).2, Iz 40 (by omega)]
    exact m2 i hi
end MQ
