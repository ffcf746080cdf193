/-! the tree of cases in the model -/
def Dq : Nat := 2 ^ 43 + 2 ^ 44 + 2 ^ 45 + 2 ^ 46 + 2 ^ 47 + 2 ^ 48
/-- nodes of cases: q of them -/
def QS (u : Sg) (q : Nat) : Prop := gI u 48 = (q : Int) ∧ q ≤ 30000 ∧ ∀ k, 43 ≤ k → k ≤ 47 → q < gL u k ∧ 16 ≤ gL u k
/-- the row of counts grows only when it is full -/
def K47 (u u' : Sg) : Prop := gI u 48 ≤ gI u' 48 ∧ (gL u' 47 = gL u 47 ∨ (gL u 47 : Int) ≤ gI u' 48)
theorem K47.rf {u : Sg} : K47 u u := ⟨Int.le_refl _, Or.inl rfl⟩
theorem K47.tr {u u1 u2 : Sg} (h : K47 u u1) (h' : K47 u1 u2) : K47 u u2 := by
  obtain ⟨a, b⟩ := h
  obtain ⟨a', b'⟩ := h'
  refine ⟨by omega, ?_⟩
  rcases b with b | b
  · rcases b' with b' | b'
    · exact Or.inl (b'.trans b)
    · exact Or.inr (by omega)
  · exact Or.inr (by omega)
theorem K47.fr {D : Nat} {u u' : Sg} (g : Gr FT D u u') (h1 : D.testBit 47 = false) (h2 : D.testBit 48 = false) : K47 u u' := ⟨by rw [g.I 48 h2]; exact Int.le_refl _, Or.inl (g.Ln 47 h1)⟩
/-- but for the tree of cases all is as it was -/
def QF (u u' : Sg) : Prop := EqH u u' ∧ WF FT u' ∧ Gr FT Dq u u' ∧ (∀ j, ¬ (43 ≤ j ∧ j ≤ 48) → gI u' j = gI u j ∧ gL u' j = gL u j ∧ ∀ i, gN u' j i = gN u j i) ∧ K47 u u'
theorem QF.tr {u u1 u2 : Sg} (h : QF u u1) (h' : QF u1 u2) : QF u u2 := ⟨h.1.trn h'.1, h'.2.1, h.2.2.1.tr h'.2.2.1, fun j hj => ⟨by rw [(h'.2.2.2.1 j hj).1, (h.2.2.2.1 j hj).1], by rw [(h'.2.2.2.1 j hj).2.1, (h.2.2.2.1 j hj).2.1], fun i => by rw [(h'.2.2.2.1 j hj).2.2, (h.2.2.2.1 j hj).2.2]⟩, h.2.2.2.2.tr h'.2.2.2.2⟩
theorem wfLT {u : Sg} {id : Nat} {i v : Int} (hw : WF FT u) (hk : FT.2.1 id = 2) (hv : inL v) : WF FT (sA u id i v) := hw.sA (fun h => absurd hk h) (fun _ => hv) (fun h => by rw [hk] at h; cases h)
theorem gF_sN' (σ : Sg) (id n j : Nat) (f : Nat → Int) : gF (sN σ id n f) j = if j = id then f else gF σ j := by
  by_cases e : j = id
  · rw [if_pos e]
    show (va_up σ.2.1 id (n, f) j).2 = f
    unfold va_up
    rw [if_pos e]
  · rw [if_neg e]
    show (va_up σ.2.1 id (n, f) j).2 = _
    unfold va_up
    rw [if_neg e]
    rfl
theorem wf_sNL {F : Fm} {σ : Sg} {id n : Nat} {f : Nat → Int} (h : WF F σ) (hk : F.2.1 id = 2) (hn : n < 2147483648) (hf : ∀ j, inL (f j)) : WF F (sN σ id n f) := by
  refine ⟨h.1, fun j => ?_, fun j q hj => ?_, fun j q hj => ?_, fun j q hj => ?_, h.2.2.2.2.2⟩
  · rw [gL_sN]
    split
    · exact hn
    · exact h.2.1 j
  · rw [gF_sN']
    split
    · exact hf q
    · exact h.2.2.1 j q hj
  · rw [gF_sN']
    split
    · rename_i e; rw [e] at hj; exact absurd hk hj
    · exact h.2.2.2.1 j q hj
  · rw [gF_sN']
    split
    · rename_i e; rw [e, hk] at hj; cases hj
    · exact h.2.2.2.2.1 j q hj
theorem MorT.qf {u u' : Sg} {id n : Nat} (h : MorT u u' id n Dq) (hid : 43 ≤ id ∧ id ≤ 46) : QF u u' := by
  obtain ⟨e, w, g, i, o, _⟩ := h
  exact ⟨e, w, g, fun j hj => ⟨i j, (o j (fun q => hj (by omega))).1, (o j (fun q => hj (by omega))).2⟩, Int.le_of_eq (i 48).symm, Or.inl (o 47 (by omega)).1⟩
theorem qf_sA {u : Sg} {id : Nat} {i v : Int} (hid : 43 ≤ id ∧ id ≤ 48) (hw : WF FT (sA u id i v)) : QF u (sA u id i v) := by
  refine ⟨EqH.sA (by omega), hw, Gr_sA ?_, fun j hj => ⟨rfl, gL_sA _ _ _ _ _, fun k => ?_⟩, ?_⟩
  · exact (by decide +kernel : ∀ id, id ≤ 48 → 43 ≤ id → Nat.testBit Dq id = true) id hid.2 hid.1
  · rw [gN_sA, if_neg (fun q => hj (by omega))]
  · exact ⟨Int.le_refl _, Or.inl (gL_sA _ _ _ _ _)⟩
theorem rX3_q {d : Nat} (hd : 2 ≤ d) {u : Sg} {q k : Nat} (hw : WF FT u) (hQ : QS u q) (hq : q + 1 ≤ 30000) (hk : k ≤ 3) : wp (runT (d + 1) 54 [(k : Int)] u) (fun r u' => r = ((q + 1 : Nat) : Int) ∧ QS u' (q + 1) ∧ (gN u' 43 (q + 1) = (k : Int) ∧ gN u' 44 (q + 1) = 0 ∧ gN u' 45 (q + 1) = 0 ∧ gN u' 46 (q + 1) = 0) ∧ (∀ j, 43 ≤ j → j ≤ 47 → ∀ i, i ≤ q → gN u' j i = gN u j i) ∧ QF u u') := by
  rw [runT_eq (by omega)]
  show wp (bX3_q (runT d) k u) _
  unfold bX3_q
  obtain ⟨h48, _, hL⟩ := hQ
  have L43 := hL 43 (by omega) (by omega)
  have L44 := hL 44 (by omega) (by omega)
  have L45 := hL 45 (by omega) (by omega)
  have L46 := hL 46 (by omega) (by omega)
  have L47 := hL 47 (by omega) (by omega)
  rw [wp_jn, wp_un, h48, wp_ar]
  refine ⟨⟨by omega, by omega⟩, ?_⟩
  rw [wp_un, show (q : Int) + 1 = ((q + 1 : Nat) : Int) by omega]
  have w0 : WF FT (sI u 48 ((q + 1 : Nat) : Int)) := wfIT hw rfl ⟨by omega, by omega⟩
  have f0 : QF u (sI u 48 ((q + 1 : Nat) : Int)) := ⟨EqH.sI (by omega), w0, Gr_sI (by decide +kernel), fun j hj => ⟨by rw [gI_sI, if_neg (fun e => hj (by omega))], rfl, fun _ => rfl⟩, by rw [gI_sI, if_pos rfl]; omega, Or.inl rfl⟩
  have i0 : gI (sI u 48 ((q + 1 : Nat) : Int)) 48 = ((q + 1 : Nat) : Int) := by rw [gI_sI, if_pos rfl]
  have n0 : ∀ j i, gN (sI u 48 ((q + 1 : Nat) : Int)) j i = gN u j i := fun _ _ => rfl
  have l0 : ∀ j, gL (sI u 48 ((q + 1 : Nat) : Int)) j = gL u j := fun _ => rfl
  generalize sI u 48 ((q + 1 : Nat) : Int) = s0 at *
  rw [wp_un, i0]
  refine wp_morT (D := Dq) w0 (by omega) rfl (by decide) (by decide +kernel) (by rw [l0]; exact L43.2) (by omega) (fun s1 m1 => ?_)
  have f1 := m1.qf ⟨by omega, by omega⟩
  obtain ⟨_, w1, _, i1, o1, p11, p12, p13, p14, p15⟩ := m1
  rw [wp_un, i1, i0]
  refine wp_morT (D := Dq) w1 (by omega) rfl (by decide) (by decide +kernel) (by rw [(o1 44 (by omega)).1, l0]; exact L44.2) (by omega) (fun s2 m2 => ?_)
  have f2 := m2.qf ⟨by omega, by omega⟩
  obtain ⟨_, w2, _, i2, o2, p21, p22, p23, p24, p25⟩ := m2
  rw [wp_un, i2, i1, i0]
  refine wp_morT (D := Dq) w2 (by omega) rfl (by decide) (by decide +kernel) (by rw [(o2 45 (by omega)).1, (o1 45 (by omega)).1, l0]; exact L45.2) (by omega) (fun s3 m3 => ?_)
  have f3 := m3.qf ⟨by omega, by omega⟩
  obtain ⟨_, w3, _, i3, o3, p31, p32, p33, p34, p35⟩ := m3
  rw [wp_un, i3, i2, i1, i0]
  refine wp_morT (D := Dq) w3 (by omega) rfl (by decide) (by decide +kernel) (by rw [(o3 46 (by omega)).1, (o2 46 (by omega)).1, (o1 46 (by omega)).1, l0]; exact L46.2) (by omega) (fun s4 m4 => ?_)
  have f4 := m4.qf ⟨by omega, by omega⟩
  obtain ⟨_, w4, _, i4, o4, p41, p42, p43, p44, p45⟩ := m4
  have I4 : gI s4 48 = ((q + 1 : Nat) : Int) := by rw [i4, i3, i2, i1, i0]
  have A43 : gL s4 43 = gL s1 43 ∧ ∀ i, gN s4 43 i = gN s1 43 i := ⟨by rw [(o4 43 (by omega)).1, (o3 43 (by omega)).1, (o2 43 (by omega)).1], fun i => by rw [(o4 43 (by omega)).2, (o3 43 (by omega)).2, (o2 43 (by omega)).2]⟩
  have A44 : gL s4 44 = gL s2 44 ∧ ∀ i, gN s4 44 i = gN s2 44 i := ⟨by rw [(o4 44 (by omega)).1, (o3 44 (by omega)).1], fun i => by rw [(o4 44 (by omega)).2, (o3 44 (by omega)).2]⟩
  have A45 : gL s4 45 = gL s3 45 ∧ ∀ i, gN s4 45 i = gN s3 45 i := ⟨by rw [(o4 45 (by omega)).1], fun i => by rw [(o4 45 (by omega)).2]⟩
  have A47 : gL s4 47 = gL u 47 ∧ ∀ i, gN s4 47 i = gN u 47 i := ⟨by rw [(o4 47 (by omega)).1, (o3 47 (by omega)).1, (o2 47 (by omega)).1, (o1 47 (by omega)).1, l0], fun i => by rw [(o4 47 (by omega)).2, (o3 47 (by omega)).2, (o2 47 (by omega)).2, (o1 47 (by omega)).2, n0]⟩
  have B44 : gL s1 44 = gL u 44 ∧ ∀ i, gN s1 44 i = gN u 44 i := ⟨by rw [(o1 44 (by omega)).1, l0], fun i => by rw [(o1 44 (by omega)).2, n0]⟩
  have B45 : gL s2 45 = gL u 45 ∧ ∀ i, gN s2 45 i = gN u 45 i := ⟨by rw [(o2 45 (by omega)).1, (o1 45 (by omega)).1, l0], fun i => by rw [(o2 45 (by omega)).2, (o1 45 (by omega)).2, n0]⟩
  have B46 : gL s3 46 = gL u 46 ∧ ∀ i, gN s3 46 i = gN u 46 i := ⟨by rw [(o3 46 (by omega)).1, (o2 46 (by omega)).1, (o1 46 (by omega)).1, l0], fun i => by rw [(o3 46 (by omega)).2, (o2 46 (by omega)).2, (o1 46 (by omega)).2, n0]⟩
  have F4 : QF u s4 := (((f0.tr f1).tr f2).tr f3).tr f4
  have l043 := l0 43
  -- the end, with room in all arrays
  have fin : ∀ s : Sg, QF u s → gI s 48 = ((q + 1 : Nat) : Int) → (∀ j, 43 ≤ j → j ≤ 47 → q + 1 < gL s j ∧ 16 ≤ gL s j) → (∀ j, 43 ≤ j → j ≤ 47 → ∀ i, i ≤ q → gN s j i = gN u j i) → wp (un (gI s 48) fun v3 => stA s 43 v3 (k : Int) fun s4 => un (gI s4 48) fun v5 => stA s4 44 v5 0 fun s6 => un (gI s6 48) fun v7 => stA s6 45 v7 0 fun s8 => un (gI s8 48) fun v9 => stA s8 46 v9 0 fun s10 => un (gI s10 48) fun v11 => some (v11, s10)) (fun r u' => r = ((q + 1 : Nat) : Int) ∧ QS u' (q + 1) ∧ (gN u' 43 (q + 1) = (k : Int) ∧ gN u' 44 (q + 1) = 0 ∧ gN u' 45 (q + 1) = 0 ∧ gN u' 46 (q + 1) = 0) ∧ (∀ j, 43 ≤ j → j ≤ 47 → ∀ i, i ≤ q → gN u' j i = gN u j i) ∧ QF u u') := fun s hF hI hLs hNs => by
    have c43 := hLs 43 (by omega) (by omega)
    have c44 := hLs 44 (by omega) (by omega)
    have c45 := hLs 45 (by omega) (by omega)
    have c46 := hLs 46 (by omega) (by omega)
    rw [wp_un, hI, wp_stA]
    refine ⟨⟨by omega, by omega⟩, ?_⟩
    rw [wp_un, gI_sA, hI, wp_stA]
    refine ⟨⟨by omega, by rw [gL_sA]; omega⟩, ?_⟩
    rw [wp_un, gI_sA, gI_sA, hI, wp_stA]
    refine ⟨⟨by omega, by rw [gL_sA, gL_sA]; omega⟩, ?_⟩
    rw [wp_un, gI_sA, gI_sA, gI_sA, hI, wp_stA]
    refine ⟨⟨by omega, by rw [gL_sA, gL_sA, gL_sA]; omega⟩, ?_⟩
    rw [wp_un, gI_sA, gI_sA, gI_sA, gI_sA, hI, wp_some]
    have wa : WF FT (sA s 43 ((q + 1 : Nat) : Int) (k : Int)) := wfAT hF.2.1 rfl ⟨by omega, by omega⟩
    have wb : WF FT (sA (sA s 43 ((q + 1 : Nat) : Int) (k : Int)) 44 ((q + 1 : Nat) : Int) 0) := wfAT wa rfl ⟨by omega, by omega⟩
    have wc : WF FT (sA (sA (sA s 43 ((q + 1 : Nat) : Int) (k : Int)) 44 ((q + 1 : Nat) : Int) 0) 45 ((q + 1 : Nat) : Int) 0) := wfAT wb rfl ⟨by omega, by omega⟩
    have wd : WF FT (sA (sA (sA (sA s 43 ((q + 1 : Nat) : Int) (k : Int)) 44 ((q + 1 : Nat) : Int) 0) 45 ((q + 1 : Nat) : Int) 0) 46 ((q + 1 : Nat) : Int) 0) := wfAT wc rfl ⟨by omega, by omega⟩
    have FF : QF u (sA (sA (sA (sA s 43 ((q + 1 : Nat) : Int) (k : Int)) 44 ((q + 1 : Nat) : Int) 0) 45 ((q + 1 : Nat) : Int) 0) 46 ((q + 1 : Nat) : Int) 0) := (((hF.tr (qf_sA ⟨by omega, by omega⟩ wa)).tr (qf_sA ⟨by omega, by omega⟩ wb)).tr (qf_sA ⟨by omega, by omega⟩ wc)).tr (qf_sA ⟨by omega, by omega⟩ wd)
    refine ⟨rfl, ⟨by rw [gI_sA, gI_sA, gI_sA, gI_sA]; exact hI, hq, fun j a b => by rw [gL_sA, gL_sA, gL_sA, gL_sA]; exact hLs j a b⟩, ⟨?_, ?_, ?_, ?_⟩, fun j a b i hi => ?_, FF⟩
    · rw [gN_sAn, if_neg (fun z => by omega), gN_sAn, if_neg (fun z => by omega), gN_sAn, if_neg (fun z => by omega), gN_sAn, if_pos ⟨rfl, rfl⟩]
    · rw [gN_sAn, if_neg (fun z => by omega), gN_sAn, if_neg (fun z => by omega), gN_sAn, if_pos ⟨rfl, rfl⟩]
    · rw [gN_sAn, if_neg (fun z => by omega), gN_sAn, if_pos ⟨rfl, rfl⟩]
    · rw [gN_sAn, if_pos ⟨rfl, rfl⟩]
    · rw [gN_sAn, if_neg (fun z => by omega), gN_sAn, if_neg (fun z => by omega), gN_sAn, if_neg (fun z => by omega), gN_sAn, if_neg (fun z => by omega)]
      exact hNs j a b i hi
  have hLs4 : ∀ j, 43 ≤ j → j ≤ 46 → q + 1 < gL s4 j ∧ 16 ≤ gL s4 j := fun j a b => by
    have : j = 43 ∨ j = 44 ∨ j = 45 ∨ j = 46 := by omega
    rcases this with e | e | e | e
    · rw [e, A43.1]; omega
    · rw [e, A44.1]; omega
    · rw [e, A45.1]; omega
    · rw [e]; omega
  have hNs4 : ∀ j, 43 ≤ j → j ≤ 47 → ∀ i, i ≤ q → gN s4 j i = gN u j i := fun j a b i hi => by
    have : j = 43 ∨ j = 44 ∨ j = 45 ∨ j = 46 ∨ j = 47 := by omega
    rcases this with e | e | e | e | e
    · rw [e, A43.2, p14 i (by omega), n0]
    · rw [e, A44.2, p24 i (by omega), B44.2]
    · rw [e, A45.2, p34 i (by omega), B45.2]
    · rw [e, p44 i (by omega), B46.2]
    · rw [e, A47.2]
  rw [wp_un, I4, wp_un, A47.1]
  refine wp_ite (fun hlt => ?_) (fun hge => ?_)
  · refine fin s4 F4 I4 (fun j a b => ?_) hNs4
    by_cases e : j = 47
    · rw [e, A47.1]; omega
    · exact hLs4 j a (by omega)
  · rw [wp_un, wp_ar]
    refine ⟨⟨by omega, by omega⟩, ?_⟩
    have hcnd : (gL s4 47 : Int) = gI s4 48 ∧ 2 * ((q + 1 : Nat) : Int) = 2 * gI s4 48 ∧ gL s4 47 + 16 ≤ (2 * ((q + 1 : Nat) : Int)).toNat ∧ 2 * ((q + 1 : Nat) : Int) ≤ 67108864 := by
      rw [A47.1, I4]
      omega
    unfold grL
    rw [if_pos hcnd]
    have hn2 : (2 * ((q + 1 : Nat) : Int)).toNat = 2 * (q + 1) := by omega
    rw [hn2]
    generalize ez : sN s4 47 (2 * (q + 1)) (fun j => if j < gL s4 47 then gF s4 47 j else 0) = z
    have wz : WF FT z := by
      rw [← ez]
      refine wf_sNL F4.2.1 rfl (by omega) (fun j => ?_)
      by_cases hj : j < gL s4 47
      · rw [if_pos hj]; exact F4.2.1.2.2.1 47 j rfl
      · rw [if_neg hj]; decide
    have gz : Gr FT Dq s4 z := by
      rw [← ez]
      obtain ⟨j, hj⟩ := List.getElem?_of_mem (show 47 ∈ FT.2.2 by decide)
      refine Gr_sN FT_ok hj (by decide +kernel) ?_ (by rw [A47.1]; omega)
      show (1 + 1) * gL s4 47 ≤ 1 * (2 * (q + 1))
      rw [A47.1]; omega
    have Lz : ∀ j, gL z j = if j = 47 then 2 * (q + 1) else gL s4 j := fun j => by rw [← ez, gL_sN']
    have Nz : ∀ j, j ≠ 47 → ∀ i, gN z j i = gN s4 j i := fun j hj i => by rw [← ez, gN_sN', if_neg hj]
    have Fz : QF s4 z := ⟨by rw [← ez]; exact EqH.sN (by omega), wz, gz, fun j hj => ⟨by rw [← ez]; rfl, by rw [Lz, if_neg (fun e => hj (by omega))], fun i => Nz j (fun e => hj (by omega)) i⟩, by rw [← ez]; exact Int.le_refl _, Or.inr (by rw [← ez]; show (gL s4 47 : Int) ≤ gI s4 48; omega)⟩
    refine fin z (F4.tr Fz) (by rw [← ez]; exact I4) (fun j a b => ?_) (fun j a b i hi => ?_)
    · rw [Lz]
      by_cases e : j = 47
      · rw [if_pos e]; omega
      · rw [if_neg e]; exact hLs4 j a (by omega)
    · by_cases e : j = 47
      · rw [e, ← ez, gN_sN', if_pos rfl, if_pos (by rw [A47.1]; omega)]
        exact hNs4 47 (by omega) (by omega) i hi
      · rw [Nz j e]; exact hNs4 j a b i hi
