/-! a new constant: one more name -/
def NuX (ν : Nat → Nat) (c : Nat) (ν' : Nat → Nat) (c' : Nat) : Prop := c ≤ c' ∧ ∀ i, i < c → ν' i = ν i
theorem NuX.rf (ν : Nat → Nat) (c : Nat) : NuX ν c ν c := ⟨Nat.le_refl _, fun _ _ => rfl⟩
theorem NuX.tr {ν ν1 ν2 : Nat → Nat} {c c1 c2 : Nat} (h : NuX ν c ν1 c1) (h' : NuX ν1 c1 ν2 c2) : NuX ν c ν2 c2 := ⟨Nat.le_trans h.1 h'.1, fun i hi => by rw [h'.2 i (Nat.lt_of_lt_of_le hi h.1), h.2 i hi]⟩
theorem NuX.nm {ν ν' : Nat → Nat} {c c' n : Nat} (h : NuX ν c ν' c') (hn : Nm ν c n) : Nm ν' c' n := by
  obtain ⟨i, i1, i2⟩ := hn
  exact ⟨i, Nat.lt_of_lt_of_le i1 h.1, by rw [h.2 i i1]; exact i2⟩
theorem nu_ext {ν ν' : Nat → Nat} {c c' : Nat} {u : Sg} (hs : SC ν c u) (h : NuX ν c ν' c') : Ext (stC ν u) (stC ν' u) := by
  refine ⟨Nat.le_refl _, fun x x0 hx => ?_⟩
  have hx : x ≤ nC u - 1 := hx
  have h1 := hs.1.1.1.2.1
  show labC ν' (rawC u x) = labC ν (rawC u x)
  unfold labC
  by_cases k : (rawC u x).1 = 1
  · simp only [k, if_true]
    have hlt := hs.2.2.1 x x0 (by omega) k
    have hnn := (hs.1.2.1.1 x x0 (by omega)).1.2.1
    rw [h.2 _ (show (rawC u x).2.1.toNat < c by show (gN u 1 x).toNat < c; omega)]
  · simp only [k, if_false]
theorem nu_tr {ν ν' : Nat → Nat} {c c' : Nat} {u : Sg} (hs : SC ν c u) (h : NuX ν c ν' c') {x : Nat} (hx : x < nC u) : trC ν' u x = trC ν u x :=
  tr_ext (okp_C hs.1) (okp_C hs.1) (nu_ext hs h) x (by show x ≤ nC u - 1; omega)
theorem nu_nd {ν ν' : Nat → Nat} {c c' : Nat} {u : Sg} (hs : SC ν c u) (h : NuX ν c ν' c') (t : Nat) : ndC ν' u t ↔ ndC ν u t := by
  constructor
  · rintro ⟨x, x0, hx, e⟩
    exact ⟨x, x0, hx, by rw [← e, nu_tr hs h hx]⟩
  · rintro ⟨x, x0, hx, e⟩
    exact ⟨x, x0, hx, by rw [← e, nu_tr hs h hx]⟩
theorem nu_sc {ν ν' : Nat → Nat} {c c' : Nat} {u : Sg} (hs : SC ν c u) (h : NuX ν c ν' c') (hi : ∀ i j, i < c' → j < c' → ν' i = ν' j → i = j) : SC ν' c' u :=
  ⟨hs.1, hs.2.1, fun x x0 hx k => by have := hs.2.2.1 x x0 hx k; have := h.1; omega, hi⟩
theorem nu_lim {ν ν' : Nat → Nat} {c c' : Nat} {u : Sg} {X : Nat → Prop} (hs : SC ν c u) (h : NuX ν c ν' c') (hl : Lim ν u X) : Lim ν' u X := fun l hn hm => hl l hn (fun t ht => (hm t ht).imp (nu_nd hs h t).mp id)
theorem nu_in {ν ν' : Nat → Nat} {c c' : Nat} {u : Sg} {v : Int} {t : Nat} (hs : SC ν c u) (h : NuX ν c ν' c') (hi : inC ν u v t) : inC ν' u v t := by
  obtain ⟨y, y1, y2, y3⟩ := hi
  exact ⟨y, y1, y2, by rw [nu_tr hs h y2]; exact y3⟩
theorem frW.mono {W : Wd} {N N' : Nat → Prop} {t : Nat} (h : frW W N t) (hN : ∀ n, N n → N' n) : frW W N' t := ⟨h.1, fun s hs => ⟨fun k => hN _ ((h.2 s hs).1 k), (h.2 s hs).2⟩⟩
theorem cltm.mono {W : Wd} {N N' : Nat → Prop} {t : Nat} (h : cltm W N t) (hN : ∀ n, N n → N' n) : cltm W N' t := ⟨h.1.mono hN, h.2⟩
theorem clty.mono {W : Wd} {N N' : Nat → Prop} {t : Nat} (h : clty W N t) (hN : ∀ n, N n → N' n) : clty W N' t := ⟨h.1.mono hN, h.2⟩
theorem gvn.mono {W : Wd} {N N' : Nat → Prop} {t m : Nat} (h : gvn W N t m) (hN : ∀ n, N n → N' n) : gvn W N' t m := ⟨h.1.mono hN, h.2⟩
theorem WOK.mono {W : Wd} {N N' : Nat → Prop} (h : WOK W N) (hN : ∀ n, N n → N' n) (hn : ∀ n, N' n → clty W N' (wcT W n)) : WOK W N' :=
  ⟨h.1, fun m a b => ⟨(h.2.1 m a b).1.mono hN, (h.2.1 m a b).2⟩, fun f a => ⟨(h.2.2.1 f a).1.mono hN, (h.2.2.1 f a).2⟩, hn⟩
theorem WGK.mono {W : Wd} {N N' : Nat → Prop} (h : WGK W N) (hN : ∀ n, N n → N' n) : WGK W N' := by
  refine ⟨h.1, fun g hg => ?_⟩
  obtain ⟨a, b, c, d, e⟩ := h.2 g hg
  refine ⟨a, fun q => ?_, fun q => ?_, d, fun q => ⟨(e q).1.mono hN, (e q).2⟩⟩
  · obtain ⟨b1, b2, b3, b4, b5⟩ := b q
    exact ⟨b1.mono hN, b2, b3, fun z => (b4 z).mono hN, b5⟩
  · obtain ⟨c1, c2, c3, c4, c5⟩ := c q
    exact ⟨c1, c2, fun z => ⟨(c3 z).1.mono hN, (c3 z).2⟩, c4, fun z => ⟨(c5 z).1.mono hN, (c5 z).2⟩⟩
theorem nu_HaC {ν ν' : Nat → Nat} {c c' : Nat} {u : Sg} {H : List Nat} {p : Nat → Nat} (hs : SC ν c u) (h : NuX ν c ν' c') (hH : HaC ν u H p) : HaC ν' u H p := by
  obtain ⟨a, b, c1, d, e⟩ := hH
  refine ⟨a, b, c1, fun i t hi => ?_, e⟩
  obtain ⟨x, x1, x2, x3, x4, x5⟩ := d i t hi
  exact ⟨x, x1, x2, x3, by rw [nu_tr hs h x3]; exact x4, x5⟩
theorem nu_FcM {ν ν' : Nat → Nat} {c c' : Nat} {u : Sg} {M : List (Nat × Nat × Nat)} (hs : SC ν c u) (h : NuX ν c ν' c') (hM : FcM ν u M) : FcM ν' u M :=
  ⟨hM.1, fun k t m a hk => ⟨nu_in hs h (hM.2 k t m a hk).1, (hM.2 k t m a hk).2.1, nu_in hs h (hM.2 k t m a hk).2.2⟩⟩
theorem nu_FcJ {ν ν' : Nat → Nat} {c c' : Nat} {u : Sg} {J : List (Nat × Nat)} (hs : SC ν c u) (h : NuX ν c ν' c') (hJ : FcJ ν u J) : FcJ ν' u J :=
  ⟨hJ.1, fun k t j hk => ⟨nu_in hs h (hJ.2 k t j hk).1, (hJ.2 k t j hk).2⟩⟩
theorem nu_KnS {ν ν' : Nat → Nat} {c c' : Nat} {u : Sg} {Kl : List Nat} (hs : SC ν c u) (h : NuX ν c ν' c') (hk : KnS ν u Kl) : KnS ν' u Kl := by
  obtain ⟨a, b, d, e⟩ := hk
  refine ⟨a, b, fun i f hi => ?_, e⟩
  obtain ⟨x, x1, x2, x3, x4, x5⟩ := d i f hi
  exact ⟨x, x1, x2, x3, by rw [nu_tr hs h x3]; exact x4, x5⟩
theorem nu_ArC {ν ν' : Nat → Nat} {c c' id cn : Nat} {u : Sg} {L : List Nat} (hs : SC ν c u) (h : NuX ν c ν' c') (hk : ArC ν u id cn L) : ArC ν' u id cn L := by
  obtain ⟨a, b, d⟩ := hk
  refine ⟨a, b, fun i f hi => ?_⟩
  obtain ⟨x, x1, x2, x3, x4⟩ := d i f hi
  exact ⟨x, x1, x2, x3, by rw [nu_tr hs h x3]; exact x4⟩
def nuU (ν : Nat → Nat) (c n : Nat) : Nat → Nat := fun i => if i = c then n else ν i
theorem nuU_x (ν : Nat → Nat) (c n : Nat) : NuX ν c (nuU ν c n) (c + 1) := ⟨by omega, fun i hi => by unfold nuU; rw [if_neg (by omega)]⟩
theorem nuU_inj {ν : Nat → Nat} {c n : Nat} (h : ∀ i j, i < c → j < c → ν i = ν j → i = j) (hn : ¬ Nm ν c n) : ∀ i j, i < c + 1 → j < c + 1 → nuU ν c n i = nuU ν c n j → i = j := fun i j hi hj e => by
  unfold nuU at e
  by_cases a : i = c
  · by_cases b : j = c
    · omega
    · rw [if_pos a, if_neg b] at e
      exact absurd ⟨j, by omega, e.symm⟩ hn
  · by_cases b : j = c
    · rw [if_neg a, if_pos b] at e
      exact absurd ⟨i, by omega, e⟩ hn
    · rw [if_neg a, if_neg b] at e
      exact h i j (by omega) (by omega) e
theorem nuU_nm {ν : Nat → Nat} {c n m : Nat} : Nm (nuU ν c n) (c + 1) m ↔ Nm ν c m ∨ m = n := by
  constructor
  · rintro ⟨i, i1, i2⟩
    unfold nuU at i2
    by_cases q : i = c
    · rw [if_pos q] at i2; exact Or.inr i2.symm
    · rw [if_neg q] at i2; exact Or.inl ⟨i, by omega, i2⟩
  · rintro (⟨i, i1, i2⟩ | e)
    · exact ⟨i, by omega, by unfold nuU; rw [if_neg (by omega)]; exact i2⟩
    · exact ⟨c, by omega, by unfold nuU; rw [if_pos rfl, e]⟩
theorem inC.ee {ν : Nat → Nat} {u s : Sg} {v : Int} {t : Nat} (e : EqS u s) (h : inC ν u v t) : inC ν s v t := by
  obtain ⟨y, y1, y2, y3⟩ := h
  exact ⟨y, y1, by rw [e.n]; exact y2, by rw [e.tr]; exact y3⟩
def Dct : Nat := 2 ^ 85 + 2 ^ 86
theorem CW_ne {ν : Nat → Nat} {c n y : Nat} {W : Wd} {u s : Sg} (h : CW ν c W u) (hn : ¬ Nm ν c n) (hy : y < nC u) (ey : trC ν u y = wcT W n) (e : EqS u s) (hs' : SC ν c s) (i1 : gI s 86 = ((c + 1 : Nat) : Int)) (i2 : ∀ j, j ≠ 86 → gI s j = gI u j) (a1 : ∀ j, j ≠ 85 → gL s j = gL u j ∧ ∀ i, gN s j i = gN u j i) (a2 : c + 1 ≤ gL s 85) (n1 : gN s 85 c = (y : Int)) (n2 : ∀ i, i < c → gN s 85 i = gN u 85 i) : CW (nuU ν c n) (c + 1) W s := by
  obtain ⟨hs, ⟨ye, no, q1, q2, ⟨q3, q4, q5⟩, q6, q7, q8⟩, ⟨c1, c2, c3⟩, ⟨m1, m2, m3, m4, m5, m6⟩, ⟨f1, f2, f3, f4, f5⟩, ⟨⟨p1, p2, p3, p4⟩, p5, p6⟩, ⟨g1, g2, ⟨g3, g4, g5, g6, g7⟩, g8⟩⟩ := h
  have hx := nuU_x ν c n
  have tr2 : ∀ {v : Int} {t : Nat}, inC ν u v t → inC (nuU ν c n) s v t := fun q => nu_in hs' hx (q.ee e)
  have A : ∀ j, j ≠ 85 → ∀ i, gN s j i = gN u j i := fun j hj => (a1 j hj).2
  have L : ∀ j, j ≠ 85 → gL s j = gL u j := fun j hj => (a1 j hj).1
  refine ⟨nu_sc hs' hx (nuU_inj hs.2.2.2 hn), ⟨ye, no, by rw [i2 13 (by omega)]; exact q1, by rw [i2 14 (by omega)]; exact q2, ⟨q3, by rw [e.n]; exact q4, by rw [nu_tr hs' hx (by rw [e.n]; exact q4), e.tr]; exact q5⟩, q6, by rw [e.n]; exact q7, by rw [nu_tr hs' hx (by rw [e.n]; exact q7), e.tr]; exact q8⟩, ⟨i1, a2, fun i hi => ?_⟩, ⟨by rw [i2 69 (by omega)]; exact m1, m2, by rw [L 67 (by omega)]; exact m3, by rw [L 68 (by omega)]; exact m4, by rw [A 68 (by omega)]; exact m5, fun i h1 h2 => ?_⟩, ⟨by rw [i2 74 (by omega)]; exact f1, f2, by rw [L 71 (by omega)]; exact f3, by rw [L 72 (by omega)]; exact f4, fun i hi => ?_⟩, ⟨⟨by rw [i2 75 (by omega)]; exact p1, p2, by rw [L 73 (by omega)]; exact p3, fun i hi => by rw [A 73 (by omega)]; exact p4 i hi⟩, by rw [i2 70 (by omega)]; exact p5, p6⟩, ⟨by rw [i2 81 (by omega)]; exact g1, g2, ⟨by rw [L 76 (by omega)]; exact g3, by rw [L 77 (by omega)]; exact g4, by rw [L 78 (by omega)]; exact g5, by rw [L 79 (by omega)]; exact g6, by rw [L 80 (by omega)]; exact g7⟩, fun i hi => ?_⟩⟩
  · by_cases q : i = c
    · rw [q, n1]
      unfold nuU
      rw [if_pos rfl]
      exact tr2 ⟨y, rfl, hy, ey⟩
    · rw [n2 i (by omega)]
      unfold nuU
      rw [if_neg q]
      exact tr2 (c3 i (by omega))
  · rw [A 67 (by omega), A 68 (by omega)]
    exact ⟨tr2 (m6 i h1 h2).1, (m6 i h1 h2).2⟩
  · rw [A 71 (by omega), A 72 (by omega)]
    exact ⟨(f5 i hi).1, tr2 (f5 i hi).2⟩
  · rw [A 76 (by omega), A 77 (by omega), A 78 (by omega), A 79 (by omega), A 80 (by omega)]
    obtain ⟨z1, z2, z3, z4, z5, z6⟩ := g8 i hi
    exact ⟨z1, fun q => tr2 (z2 q), z3, tr2 z4, tr2 z5, tr2 z6⟩
/-- what a new constant leaves as it was -/
def Dne : Nat := DX2_make ||| Dct
def CtL (u : Sg) : Prop := 16 ≤ gL u 85 ∧ gL u 85 ≤ 16384
theorem tX1_newOne {d : Nat} (hd : 7 ≤ d) {ν : Nat → Nat} {c : Nat} {W : Wd} {S : Fs} {Kl : List Nat} {u : Sg} {l : Ls} {X : Nat → Prop} {y n : Nat} (hC : CaL ν c W S Kl u l) (hL : CtL u) (hc : c ≤ 8000) (hn : ¬ Nm ν c n) (hy : y < nC u) (ey : trC ν u y = wcT W n) (hy9 : y < 1000000) (hX : X (mk 1 n [])) (hl : Lim ν u X) : wp (runC d 19 [(y : Int)] u) (fun r u' => ∃ x : Nat, r = (x : Int) ∧ 0 < x ∧ x < nC u' ∧ trC (nuU ν c n) u' x = mk 1 n [] ∧ CaL (nuU ν c n) (c + 1) W S Kl u' l ∧ Up (nuU ν c n) (c + 1) u u' X ∧ Gr FC Dne u u' ∧ CtL u') := by
  obtain ⟨d, rfl⟩ : ∃ d', d = d' + 1 := ⟨d - 1, by omega⟩
  rw [runC_eq (by omega)]
  show wp (bX1_newOne (runC d) y u) _
  unfold bX1_newOne
  obtain ⟨h1, h2, ⟨h3, h3b⟩, h4, h5, h6, h7, h8, h9⟩ := hC
  have hs := h1.1
  obtain ⟨c1, c2, c3⟩ := h1.2.2.1
  refine push_wp (id := 85) (cn := 86) (D := Dct) (n := c) (hi := 16384) (a := (y : Int)) h2 rfl (by decide) (by decide +kernel) (by decide +kernel) rfl ⟨by omega, by omega⟩ c1 c2 hL.1 hL.2 (by omega) (by omega) (fun s w g i1 i2 a1 a2 a3 a4 n1 n2 => ?_)
  obtain ⟨e, hU⟩ := g.ux (X := X) hs (by decide +kernel)
  have hs' := hU.sc
  have hx := nuU_x ν c n
  have hCW := CW_ne h1 hn hy ey e hs' i1 i2 a1 a2 n1 n2
  have hsN := hCW.1
  have hr := hs'.r
  rw [wp_un, i1, wp_ar]
  refine ⟨⟨by omega, by omega⟩, ?_⟩
  rw [wp_un, hr.1, show (((c + 1 : Nat) : Int) - 1) = (c : Int) by omega]
  have er : rowC s (rC s) = [] := List.eq_nil_of_length_eq_zero (by rw [row_len]; omega)
  have erT : rowT (nuU ν c n) s 1 (rC s) = [] := by
    unfold rowT
    rw [er]
    rfl
  have hl' : Lim (nuU ν c n) s X := nu_lim hs' hx (hU.ux.lim hl)
  have eN : nuU ν c n c = n := by unfold nuU; rw [if_pos rfl]
  refine wp_call (tX2_make (d := d) (k := 1) (w := c) (a := rC s) (X := X) (by omega) w hsN (by decide) (by omega) (fun q => by omega) (fun _ => by omega) (Nat.le_refl _) (by rw [er]; intro v hv; cases hv) (by rw [er]; intro p hp; cases hp) (by omega) (by rw [if_pos rfl, erT, eN]; exact hX) hl') (fun r u' ⟨x, b1, b2, b3, b4, b5, b6, b7, b8, b9, b10, b11, b12, b13⟩ => ?_)
  rw [if_pos rfl, erT, eN] at b5
  rw [wp_some]
  have hU2 : Up (nuU ν c n) (c + 1) s u' X := ⟨b4.1, b4.2.1, b4.2.2, b8, b9, b10, b11⟩
  have hU0 : Up (nuU ν c n) (c + 1) u s X := ⟨hsN.1, hsN.2.1, hsN.2.2, by rw [e.st]; exact Ext.rf, fun t ht => Or.inl ((e.nd t).mp ht), hU.2.2.2.2.2.1, hU.2.2.2.2.2.2⟩
  have hC1 : CaL (nuU ν c n) (c + 1) W S Kl s l := ⟨hCW, w, ⟨nu_HaC hs' hx (h3.up hs hU.ux g (fun k q1 q2 => (by decide +kernel : ∀ k, k ≤ 43 → Nat.testBit Dct k = false) k q2)), by rw [g.I 36 (by decide +kernel)]; exact h3b⟩, nu_FcM hs' hx (h4.up hs hU.ux g (by decide +kernel) (by decide +kernel) (by decide +kernel) (by decide +kernel)), nu_FcJ hs' hx (h5.up hs hU.ux g (by decide +kernel) (by decide +kernel) (by decide +kernel)), fun t ht => ⟨(h6 t ht).1.mono (fun m hm => hx.nm hm), (h6 t ht).2⟩, h7, h8, h9⟩
  exact ⟨x, b1, b2, b3, b5, CaP.up hC1 hU2.ux b12 b13 (by decide +kernel), hU0.join hU2, (g.sub (by decide +kernel)).tr (b13.sub (by decide +kernel)), ⟨by rw [b13.Ln 85 (by decide +kernel)]; have := hL.1; omega, by rw [b13.Ln 85 (by decide +kernel)]; exact a4⟩⟩
theorem tX1_newConstant {d : Nat} (hd : 2 ≤ d) {ν : Nat → Nat} {c : Nat} {u : Sg} {Bl : List Nat} (hw : WF FC u) (hs : SC ν c u) (hb : ArC ν u 55 56 Bl) (hB : Bl.length ≤ 8000) {x : Nat} (x0 : 0 < x) (hx : x < nC u) (hxl : x < 1000000) : wp (runC (d + 1) 78 [(x : Int)] u) (fun _ u' => WF FC u' ∧ Gr FC (2 ^ 55 + 2 ^ 56) u u' ∧ ArC ν u' 55 56 (Bl ++ [trC ν u x])) := by
  rw [runC_eq (by omega)]
  show wp (bX1_newConstant (runC d) x u) _
  unfold bX1_newConstant
  refine push_wp (id := 55) (cn := 56) (D := 2 ^ 55 + 2 ^ 56) (n := Bl.length) (hi := 16384) (a := (x : Int)) hw rfl (by decide) (by decide +kernel) (by decide +kernel) rfl ⟨by omega, by omega⟩ hb.1 hb.2.1.1 hb.2.1.2.1 hb.2.1.2.2 (by omega) (by omega) (fun s w g i1 i2 a1 a2 a3 a4 n1 n2 => ?_)
  rw [wp_some]
  obtain ⟨e, hU⟩ := g.ux (X := fun _ => False) hs (by decide +kernel)
  have := hb.2.1.2.1
  exact ⟨w, g, hb.push e x0 hx i1 a2 ⟨by omega, a4⟩ n1 n2⟩
