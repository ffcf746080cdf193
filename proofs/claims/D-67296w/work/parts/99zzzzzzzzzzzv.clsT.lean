/-! the model's check: the count of trees in a case, all numbers left open -/
section CASET
variable {W : Wd} {N : Nat → Prop} {X : Nat → Prop} {Fo : List Nat} {M B U ε Bq n c0 : Nat} {Sh NL LX Ps y : List Nat}
/-- few trees in a case -/
theorem lim_caseT {κ1 κ2 g0 : Nat} (hκ : 401 ≤ κ1 ∧ 400 + κ2 ≤ κ1) {r : Nat} {H C : List Nat} (hM : 8 ≤ M) (hB : 7 ≤ B) (hF : ∀ f ∈ Fo, okT f) (hKp : ∀ f ∈ Fo, kd f ≤ 8 → KpT Fo f) (hW : WOK W N) (hG : WGK W N) (hc : ∀ f, wcT W (2 * f + 1) = pa (pa f 0) 0) (h10 : wnP W ≤ 10) (hKO : KOK W N Bq (fun f => f ∈ y) (fun _ => False)) (hPs : ∀ p ∈ Ps, PrU M U (AtV M ε Sh) B n p) (hy : y ∈ prodL (tqL (tqF n) Ps c0).1) (hKf : ∀ f ∈ y, LfK f) (hNF : ∀ f ∈ Fo, ∀ z, subT z f → z ∈ NL) (hX : ∀ z, X z → z ∈ NL ∨ z ∈ LX) (hKs : ∀ f ∈ y, ∀ z, subT z f → z ∈ NL ∨ z ∈ LX) (hr : rch W (aS (fun f => f ∈ y)) (fun f => f ∈ y) r) (H1 : H.length ≤ 101) (H2 : ∀ t ∈ H, fH (facS W (stg W (aS (fun f => f ∈ y)) (fun f => f ∈ y) r).1 (stg W (aS (fun f => f ∈ y)) (fun f => f ∈ y) r).2) t) (C1 : C.Nodup) (C2 : ∀ g ∈ C, (comS W (aS (fun f => f ∈ y)) (stg W (aS (fun f => f ∈ y)) (fun f => f ∈ y) r).1 (stg W (aS (fun f => f ∈ y)) (fun f => f ∈ y) r).2 g ∨ g = g0) ∧ (∃ f, (stg W (aS (fun f => f ∈ y)) (fun f => f ∈ y) r).1 f ∧ cmG (Tof (aS (fun f => f ∈ y)) (stg W (aS (fun f => f ∈ y)) (fun f => f ∈ y) r).2) f g) ∧ ¬ (stg W (aS (fun f => f ∈ y)) (fun f => f ∈ y) r).1 g) (C3 : (∀ L : List Nat, L.Nodup → (∀ f ∈ L, (stg W (aS (fun f => f ∈ y)) (fun f => f ∈ y) r).1 f) → L.length + C.length ≤ κ1) ∨ C.length ≤ κ2) (C4 : C = [] ∨ (¬ manyS (facS W (stg W (aS (fun f => f ∈ y)) (fun f => f ∈ y) r).1 (stg W (aS (fun f => f ∈ y)) (fun f => f ∈ y) r).2) ∧ ¬ conS (facS W (stg W (aS (fun f => f ∈ y)) (fun f => f ∈ y) r).1 (stg W (aS (fun f => f ∈ y)) (fun f => f ∈ y) r).2) (stg W (aS (fun f => f ∈ y)) (fun f => f ∈ y) r).1)) : ∃ (LL : List Nat) (g c : Nat), (∀ z, z ∈ NL ∨ Xc (xf (X2F W Fo (aS (fun f => f ∈ y)) (fun f => f ∈ y) X) H) C z → z ∈ LL) ∧ ((ddL y).length + g + c ≤ κ1 ∨ (g = 0 ∧ c ≤ κ2)) ∧ (1 ≤ g + c → ¬ manyS (facS W (fun f => f ∈ y) (fun _ => False))) ∧ (M + 2) * LL.length ≤ (M + 2) * (NL.length + LX.length + 516 + (ddL y).length + g + 203 * (lcF Fo).length) + (g + c) * CpU M (B - 2) ε U Sh + 100 * (Ps.filter (fun p => decide (kd p = 18))).length * (2 * M) + 2 * M := by
  have hU := prem_U (fun s => AtV_up (s := s)) hPs hy
  have lv18 : ∀ f ∈ y, Liv f → kd f = 18 := fun f hf q => by
    obtain ⟨l1, l2⟩ := hKf f hf
    rcases q with w | w | w
    · exact absurd w l1
    · exact w
    · exact absurd w l2
  have hOK := stg_ok hKO hW hG hc
  have hA : ∀ t, aS (fun f => f ∈ y) t → clT1 t ∧ ∃ f, f ∈ y ∧ subT t f := fun t ⟨f, f1, f2, f3, f4⟩ => ⟨⟨sub_ok f (hKO f f1).1.1 f2, f3, f4⟩, f, f1, f2⟩
  obtain ⟨LL, g, c, l1, l2, l3, l4⟩ := lim_covT hκ (W := W) (A := aS (fun f => f ∈ y)) (K0 := fun f => f ∈ y) (X := X) (Fo := Fo) (M := M) (B := B) (N := U) (ε := ε) (Sh := Sh) (NL := NL) (LX := LX) (K0l := ddL y) (Z1 := (List.range 10).map (fun i => notT (mk 12 i []))) (Lg := Ps.filter (fun p => decide (kd p = 18))) hM hB hF hKp (fun f hf => ⟨⟨(hKO f hf).1.1, (hKO f hf).2.2.1⟩, fun q => (hU f hf (lv18 f hf q)).1⟩) hKf hA (fun r f _ hf => (((hOK r).1 f hf).2.1).1) (fun r t _ ht => by
    have := stg_hand hKO hW hG hc r t ht
    exact ⟨this.1.1, this.2.1⟩) hNF hX hKs ⟨dd_nd y, fun f => dd_mem.symm⟩ (fun r f s p _ hf hs k hp h1 => leafless ((hOK r).1 f hf).1 (subN_T f hs) k hp h1 h10) (fun f hf hq hn => List.mem_filter.mpr ⟨(hU f hf (lv18 f hf (isQ_liv hq))).2.resolve_left hn, by
    have := lv18 f hf (isQ_liv hq)
    simpa using this⟩) hr H1 H2 C1 C2 C3 C4
  refine ⟨LL, g, c, l1, l2, l3, ?_⟩
  rw [List.length_map, List.length_range] at l4
  have e : NL.length + LX.length + 506 + (ddL y).length + g + 10 + 203 * (lcF Fo).length = NL.length + LX.length + 516 + (ddL y).length + g + 203 * (lcF Fo).length := by omega
  rw [e] at l4
  exact l4
end CASET
section CLST
variable {W : Wd} {c n : Nat} {Fo Pr Tb : List Nat} {g Kb M ε U : Nat}
theorem cls_cntT {κ1 κ2 g0 : Nat} (hκ : 401 ≤ κ1 ∧ 400 + κ2 ≤ κ1) {X : Nat → Prop} {NL LX y : List Nat} (h : KvN W c Fo Pr Kb) (hg : g ∈ Fo ∧ isFo g) (hTo : ∀ f ∈ Tb, okT f) (hKp : ∀ f ∈ Tb, kd f ≤ 8 → KpT Tb f) (h10 : wnP W ≤ 10) (hn : 210 ≤ n) (hM8 : 8 ≤ M) (hM : ∀ L, 3 ≤ L → 2 * uFq Fo L + 2 * L + 10 ≤ M * L) (hε : 2 * uFq Fo 2 + 14 ≤ 2 * M + ε) (hU : 2 * 2 ^ rho (M - 4) 2 Fo ≤ U) (hNF : ∀ f ∈ Tb, ∀ z, subT z f → z ∈ NL) (hX : ∀ z, X z → z ∈ NL ∨ z ∈ LX) (hXG : ∀ s, subT s (chG Pr g) → X s) (hXo : opR (wTy W (ckT W c (opY (n + 1) (chG Pr g) c))) X (n + 1) (chG Pr g) c) (hnoP : noT ∉ Pr ++ [notT g]) (hy : y ∈ tqP n (Pr ++ [notT g]) c) {r : Nat} {H C : List Nat} (hr : rch (wTy W (ckT W c (opY (n + 1) (chG Pr g) c))) (aS (fun f => f ∈ y)) (fun f => f ∈ y) r) (H1 : H.length ≤ 101) (H2 : ∀ t ∈ H, fH (facS (wTy W (ckT W c (opY (n + 1) (chG Pr g) c))) (stg (wTy W (ckT W c (opY (n + 1) (chG Pr g) c))) (aS (fun f => f ∈ y)) (fun f => f ∈ y) r).1 (stg (wTy W (ckT W c (opY (n + 1) (chG Pr g) c))) (aS (fun f => f ∈ y)) (fun f => f ∈ y) r).2) t) (C1 : C.Nodup) (C2 : ∀ g' ∈ C, (comS (wTy W (ckT W c (opY (n + 1) (chG Pr g) c))) (aS (fun f => f ∈ y)) (stg (wTy W (ckT W c (opY (n + 1) (chG Pr g) c))) (aS (fun f => f ∈ y)) (fun f => f ∈ y) r).1 (stg (wTy W (ckT W c (opY (n + 1) (chG Pr g) c))) (aS (fun f => f ∈ y)) (fun f => f ∈ y) r).2 g' ∨ g' = g0) ∧ (∃ f, (stg (wTy W (ckT W c (opY (n + 1) (chG Pr g) c))) (aS (fun f => f ∈ y)) (fun f => f ∈ y) r).1 f ∧ cmG (Tof (aS (fun f => f ∈ y)) (stg (wTy W (ckT W c (opY (n + 1) (chG Pr g) c))) (aS (fun f => f ∈ y)) (fun f => f ∈ y) r).2) f g') ∧ ¬ (stg (wTy W (ckT W c (opY (n + 1) (chG Pr g) c))) (aS (fun f => f ∈ y)) (fun f => f ∈ y) r).1 g') (C3 : (∀ L : List Nat, L.Nodup → (∀ f ∈ L, (stg (wTy W (ckT W c (opY (n + 1) (chG Pr g) c))) (aS (fun f => f ∈ y)) (fun f => f ∈ y) r).1 f) → L.length + C.length ≤ κ1) ∨ C.length ≤ κ2) (C4 : C = [] ∨ (¬ manyS (facS (wTy W (ckT W c (opY (n + 1) (chG Pr g) c))) (stg (wTy W (ckT W c (opY (n + 1) (chG Pr g) c))) (aS (fun f => f ∈ y)) (fun f => f ∈ y) r).1 (stg (wTy W (ckT W c (opY (n + 1) (chG Pr g) c))) (aS (fun f => f ∈ y)) (fun f => f ∈ y) r).2) ∧ ¬ conS (facS (wTy W (ckT W c (opY (n + 1) (chG Pr g) c))) (stg (wTy W (ckT W c (opY (n + 1) (chG Pr g) c))) (aS (fun f => f ∈ y)) (fun f => f ∈ y) r).1 (stg (wTy W (ckT W c (opY (n + 1) (chG Pr g) c))) (aS (fun f => f ∈ y)) (fun f => f ∈ y) r).2) (stg (wTy W (ckT W c (opY (n + 1) (chG Pr g) c))) (aS (fun f => f ∈ y)) (fun f => f ∈ y) r).1)) : ∃ (LL : List Nat) (k cc : Nat), (∀ z, z ∈ NL ∨ Xc (xf (X2F (wTy W (ckT W c (opY (n + 1) (chG Pr g) c))) Tb (aS (fun f => f ∈ y)) (fun f => f ∈ y) X) H) C z → z ∈ LL) ∧ ((ddL y).length + k + cc ≤ κ1 ∨ (k = 0 ∧ cc ≤ κ2)) ∧ (1 ≤ k + cc → ((Pr ++ [notT g]).map kz).sum ≤ 100 ∧ ((Pr ++ [notT g]).map nz).sum ≤ (ddL y).length) ∧ (M + 2) * LL.length ≤ (M + 2) * (NL.length + LX.length + 516 + (ddL y).length + k + 203 * (lcF Tb).length) + (k + cc) * CpU M 198 ε U (ShF Fo) + 100 * ((Pr ++ [notT g]).filter (fun p => decide (kd p = 18))).length * (2 * M) + 2 * M := by
  have hA : AbI W c Fo Pr := h.1.1.1.1.1.1
  have hP := ck_prem hA hg
  obtain ⟨fG, _⟩ := fF_and (W := W) (N := Nm nu2 c) (L := Pr ++ [notT g]) (fun f hf => (hP f hf).1)
  have fG : fF W (Nm nu2 c) (chG Pr g) := fG
  have oG := fG.1.1.1
  have hGh : htT (chG Pr g) ≤ 202 := ht_and (B := 201) (fun p hp => ⟨(hP p hp).1.1.1.1, (hP p hp).1.2, (hP p hp).2.2.2⟩) (by omega) rfl
  have hN : ∀ p ∈ Pr ++ [notT g], okT p ∧ isFo p ∧ htT p < n := fun p hp => ⟨(hP p hp).1.1.1.1, (hP p hp).1.2, by have := (hP p hp).2.2.2; omega⟩
  obtain ⟨ce1, ce2, ce3⟩ := cases_eq (c := c) hN (by omega) (rfl : chG Pr g = andT (Pr ++ [notT g])) ⟨oG, fG.2⟩
  have hno : chG Pr g ≠ noT := fun e => by
    have hk := okT_and (L := Pr ++ [notT g]) (fun f hf => ⟨(hP f hf).1.1.1.1, (hP f hf).1.2⟩)
    obtain ⟨te, _⟩ := tq_and (c := c) hN (by omega) (rfl : chG Pr g = andT (Pr ++ [notT g]))
    rw [← te] at hy
    have : (tqF (n + 1) (chG Pr g) c).1 = [] := by
      rw [e]; rw [tq_no rfl c]
    rw [this] at hy
    cases hy
  have hcl : closT (chG Pr g) := ⟨fG.1.2.1, fG.1.2.2 fG.2⟩
  obtain ⟨⟨w1, w2⟩, w3, w4⟩ := ckT_ok (n := n + 1) hA fG.1.1 hcl fG.2 hno (by omega)
  obtain ⟨te, _⟩ := tq_and (c := c) hN (by omega) (rfl : chG Pr g = andT (Pr ++ [notT g]))
  have hx := ckT_x (W := W) (c := c) (Y := opY (n + 1) (chG Pr g) c)
  have hle := opF_le (n + 1) (chG Pr g) c
  have hNm : ∀ k, Nm nu2 c k → Nm nu2 (opF (n + 1) (chG Pr g) c).2 k := fun k ⟨i, hi, e⟩ => ⟨i, by omega, e⟩
  have hc2 : (opL (opF n) (Pr ++ [notT g]) c).2 = (opF (n + 1) (chG Pr g) c).2 := by
    rw [ce3 hnoP]
    exact ((SmC.L (F := tqF n) (G := opF n) (l := Pr ++ [notT g]) (fun p hp => op_tq n p (hN p hp).2.2 (hN p hp).1 (hN p hp).2.1) c).1).symm
  obtain ⟨_, _, q3⟩ := opK_L (W := wTy W (ckT W c (opY (n + 1) (chG Pr g) c))) (N := Nm nu2 (opF (n + 1) (chG Pr g) c).2) (n := n) (S := 201) (H := 201) (l := Pr ++ [notT g]) (c := c) (fun p hp => ⟨⟨fr_ex hx hNm (hP p hp).1.1.1, ⟨(hP p hp).1.1.2.1, (hP p hp).1.1.2.2 (hP p hp).1.2⟩, fun q => hnoP (by rw [← q]; exact hp), (hP p hp).2.1, (hP p hp).2.2.2⟩, fun c' => op_K n p c' (hN p hp).2.2 (hN p hp).1 (hN p hp).2.1⟩) (fun p hp c' => (op_tq n p (hN p hp).2.2 (hN p hp).1 (hN p hp).2.1 c').1) (fun i i1 i2 => ⟨i, by rw [hc2] at i2; exact i2, rfl⟩)
  obtain ⟨q4, q5⟩ := q3 y hy
  have hKO : KOK (wTy W (ckT W c (opY (n + 1) (chG Pr g) c))) (Nm nu2 (opF (n + 1) (chG Pr g) c).2) 300 (fun f => f ∈ y) (fun _ => False) := fun f hf => by
    obtain ⟨a, b, c', d, _⟩ := q4 f hf
    exact ⟨a.mono (fun n q => Or.inl q), b, c', Nat.le_trans (szQ_le f) (by omega)⟩
  have hleaf := op_leaf (W := wTy W (ckT W c (opY (n + 1) (chG Pr g) c))) (X := X) (n + 1) (chG Pr g) oG fG.2 (by omega) c hXo
  have hlf : ∀ f ∈ y, LfK f ∧ ∀ s, subT s f → X s := fun f hf => by
    obtain ⟨a1, a2⟩ := hleaf y (by rw [te]; exact hy) f hf
    exact ⟨a1, fun s hs => (a2 s hs).elim id (hXG s)⟩
  obtain ⟨LL, k, cc, l1, l2, l3, l4⟩ := lim_caseT hκ (W := wTy W (ckT W c (opY (n + 1) (chG Pr g) c))) (N := Nm nu2 (opF (n + 1) (chG Pr g) c).2) (X := X) (Fo := Tb) (M := M) (B := 200) (U := U) (ε := ε) (Bq := 300) (n := n) (c0 := c) (Sh := ShF Fo) (NL := NL) (LX := LX) (Ps := Pr ++ [notT g]) (y := y) hM8 (by omega) hTo hKp w1 w2 (fun f => ckT_f f) h10 hKO (cls_U h hg hn hM hε hU) hy (fun f hf => (hlf f hf).1) hNF hX (fun f hf z hz => hX z ((hlf f hf).2 z hz)) hr H1 H2 C1 C2 C3 C4
  refine ⟨LL, k, cc, l1, l2, fun q => ?_, l4⟩
  obtain ⟨n1, Z, z1, z2, z3⟩ := prem_N (W := wTy W (ckT W c (opY (n + 1) (chG Pr g) c))) (O := fun _ => False) (Nat.le_refl c) (cls_K hA hg hn) hy (fun z hz => (q4 z hz).1.1) (l3 q)
  exact ⟨n1, by rw [← z2]; exact nd_lenL _ _ z1 (fun z hz => dd_mem.mpr (z3 z hz).1)⟩
end CLST
