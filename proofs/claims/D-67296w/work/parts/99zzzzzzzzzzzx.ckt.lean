/-! the model's check: what it asks for; the count of trees apart -/
section REQT
variable {W : Wd} {Fo : List Nat} {X : Nat → Prop} {c' B : Nat} {u : Sg} {y : List Nat}
theorem req_ofT (hF : ∀ f ∈ Fo, okT f) (hKW : KfW W Fo) (hKd : KdW W) (hW : WOK W (Nm nu2 c')) (hG : WGK W (Nm nu2 c')) (hc : ∀ f, wcT W (2 * f + 1) = pa (pa f 0) 0) (h10 : wnP W ≤ 10) (hy : ∀ z ∈ y, frW W (Nm nu2 c') z ∧ closT z ∧ isFo z ∧ szT z ≤ B ∧ htT z ≤ 300 ∧ z ≠ noT ∧ kd z ≠ 9) (hs : (y.map nz0).sum ≤ 4300) (hL : ∀ r, rch W (aS (fun f => f ∈ y)) (fun f => f ∈ y) r → LimBT nt2 u (facS W (stg W (aS (fun f => f ∈ y)) (fun f => f ∈ y) r).1 (stg W (aS (fun f => f ∈ y)) (fun f => f ∈ y) r).2) (X2R W Fo (aS (fun f => f ∈ y)) (fun f => f ∈ y) X) (stg W (aS (fun f => f ∈ y)) (fun f => f ∈ y) r).1 (comS W (aS (fun f => f ∈ y)) (stg W (aS (fun f => f ∈ y)) (fun f => f ∈ y) r).1 (stg W (aS (fun f => f ∈ y)) (fun f => f ∈ y) r).2) (mkF (facS W (stg W (aS (fun f => f ∈ y)) (fun f => f ∈ y) r).1 (stg W (aS (fun f => f ∈ y)) (fun f => f ∈ y) r).2) (stg W (aS (fun f => f ∈ y)) (fun f => f ∈ y) r).1 (Tof (aS (fun f => f ∈ y)) (stg W (aS (fun f => f ∈ y)) (fun f => f ∈ y) r).2) (stg W (aS (fun f => f ∈ y)) (fun f => f ∈ y) r).2)) : ReqT W c' u B X (fun f => f ∈ y) := by
  have hKO : KOK W (Nm nu2 c') B (fun f => f ∈ y) (fun _ => False) := fun f hf => by
    obtain ⟨a, b, c, d, _⟩ := hy f hf
    exact ⟨a.mono (fun n q => Or.inl q), b, c, Nat.le_trans (szQ_le f) d⟩
  have hOK := stg_ok hKO hW hG hc
  have hH := stg_hand hKO hW hG hc
  refine ⟨by rw [nm_nt]; exact hKO, fun f hf => (hy f hf).2.2.2.2.1, few_leaf h10 (fun z hz => ⟨(hy z hz).1, (hy z hz).2.2.1, (hy z hz).2.2.2.2.2⟩) hs, X2R W Fo (aS (fun f => f ∈ y)) (fun f => f ∈ y) X, fun t ht => Or.inl ht, ?_⟩
  refine RfTX_of (W := W) (A := aS (fun f => f ∈ y)) (K0 := fun f => f ∈ y) (fun r hr => ⟨XSt.rs (XSt.of hF hKW hKd hr (fun t ht => ?_) (fun f hf k z hz => ?_)) (fun t ht => ?_), hL r hr⟩) 16 0 (fun q hq => by omega)
  · have h1 := hH r t ht
    exact ⟨fun k => (h1.1.lc.2.1 k).1, fun z hz => by
      have h2 := (up_cl (hOK r).2.1 _ (tyT W t) (Nat.lt_succ_self _) (ty_ok (hOK r).2.1 h1) z hz).1
      exact (h2.1.lc.2.2.1 h2.2.1).1⟩
  · obtain ⟨a, b, _⟩ := (hOK r).1 f hf
    have h2 := (up_cl (hOK r).2.1 _ _ (Nat.lt_succ_self _) (clty14 a b k).1 z hz).1
    exact (h2.1.lc.2.2.1 h2.2.1).1
  · have h1 := hH r t ht
    exact ⟨h1.1.1, h1.2.1⟩
end REQT
/-- what is false brings nothing -/
theorem opYL_no {n : Nat} : ∀ {Ps : List Nat} {c : Nat}, opYL (opY (n + 1)) (opF (n + 1)) Ps c = opYL (opY (n + 1)) (opF (n + 1)) (Ps.filter (fun p => decide (p ≠ noT))) c
  | [], _ => rfl
  | p :: Ps, c => by
    by_cases h : p = noT
    · have hl : LfK p := by
        have k : kd p = 16 := by rw [h]; exact kd_no
        have k9 : kd (pa p 0) = 9 := by rw [h]; unfold noT; rw [pa_mk0]; exact kd_yes
        exact ⟨by omega, fun q => by omega⟩
      have e1 : opY (n + 1) p c = [] := opY_lf hl
      have e2 : (opF (n + 1) p c).2 = c := by rw [opY_len, e1]; rfl
      rw [List.filter_cons, if_neg (by simpa using h)]
      show opY (n + 1) p c ++ opYL (opY (n + 1)) (opF (n + 1)) Ps (opF (n + 1) p c).2 = _
      rw [e1, e2, List.nil_append]
      exact opYL_no
    · rw [List.filter_cons, if_pos (by simpa using h)]
      show opY (n + 1) p c ++ opYL (opY (n + 1)) (opF (n + 1)) Ps (opF (n + 1) p c).2 = opY (n + 1) p c ++ opYL (opY (n + 1)) (opF (n + 1)) (Ps.filter (fun p => decide (p ≠ noT))) (opF (n + 1) p c).2
      rw [opYL_no]
theorem tqL_opL {n : Nat} : ∀ {Ps : List Nat} {c : Nat}, (∀ p ∈ Ps, okT p ∧ isFo p ∧ htT p < n) → (tqL (tqF n) Ps c).2 = c + (opYL (opY n) (opF n) Ps c).length
  | [], _, _ => rfl
  | p :: Ps, c, h => by
    obtain ⟨o1, o2, o3⟩ := h p List.mem_cons_self
    have e : (tqF n p c).2 = (opF n p c).2 := (op_tq n p o3 o1 o2 c).1
    show (tqL (tqF n) Ps (tqF n p c).2).2 = c + (opY n p c ++ opYL (opY n) (opF n) Ps (opF n p c).2).length
    rw [e, tqL_opL (fun q hq => h q (List.mem_cons_of_mem _ hq)), List.length_append, opY_len]
    omega
theorem opYL_sz {n : Nat} : ∀ {Ps : List Nat} {c : Nat}, (∀ p ∈ Ps, okT p ∧ isFo p ∧ htT p < n) → 2 * (opYL (opY n) (opF n) Ps c).length ≤ (Ps.map nz0).sum
  | [], _, _ => Nat.le_refl _
  | p :: Ps, c, h => by
    obtain ⟨o1, o2, o3⟩ := h p List.mem_cons_self
    have h1 := opY_sz n p c o3 o1 o2
    have h2 := opYL_sz (c := (opF n p c).2) (fun q hq => h q (List.mem_cons_of_mem _ hq))
    show 2 * (opY n p c ++ opYL (opY n) (opF n) Ps (opF n p c).2).length ≤ _
    rw [List.length_append, List.map_cons, List.sum_cons]
    omega
section CKT
variable {W : Wd} {c n : Nat} {u : Sg} {Fo Pr Tb : List Nat} {g : Nat} {X : Nat → Prop}
theorem ckT_of (hA : AbI W c Fo Pr) (hg : g ∈ Fo ∧ isFo g) (hTo : ∀ f ∈ Tb, okT f) (hKW : KfW W Tb) (hKd : KdW W) (h10 : wnP W ≤ 10) (hPl : Pr.length ≤ 20) (hc : c ≤ 800) (hn : 210 ≤ n) {Yl : List Nat} (hYl : Yl = opYL (opY n) (opF n) (Pr ++ [notT g]) c) (hX1 : X (notT g)) (hR : tqRL (tqR (wTy W (ckT W c Yl)) X n) (tqF n) (Pr ++ [notT g]) c) (hLim : LimT nt2 u X) (hL : noT ∉ Pr ++ [notT g] → (tqP n (Pr ++ [notT g]) c).length ≤ 40 → ∀ y ∈ tqP n (Pr ++ [notT g]) c, ∀ r, rch (wTy W (ckT W c Yl)) (aS (fun f => f ∈ y)) (fun f => f ∈ y) r → LimBT nt2 u (facS (wTy W (ckT W c Yl)) (stg (wTy W (ckT W c Yl)) (aS (fun f => f ∈ y)) (fun f => f ∈ y) r).1 (stg (wTy W (ckT W c Yl)) (aS (fun f => f ∈ y)) (fun f => f ∈ y) r).2) (X2R (wTy W (ckT W c Yl)) Tb (aS (fun f => f ∈ y)) (fun f => f ∈ y) X) (stg (wTy W (ckT W c Yl)) (aS (fun f => f ∈ y)) (fun f => f ∈ y) r).1 (comS (wTy W (ckT W c Yl)) (aS (fun f => f ∈ y)) (stg (wTy W (ckT W c Yl)) (aS (fun f => f ∈ y)) (fun f => f ∈ y) r).1 (stg (wTy W (ckT W c Yl)) (aS (fun f => f ∈ y)) (fun f => f ∈ y) r).2) (mkF (facS (wTy W (ckT W c Yl)) (stg (wTy W (ckT W c Yl)) (aS (fun f => f ∈ y)) (fun f => f ∈ y) r).1 (stg (wTy W (ckT W c Yl)) (aS (fun f => f ∈ y)) (fun f => f ∈ y) r).2) (stg (wTy W (ckT W c Yl)) (aS (fun f => f ∈ y)) (fun f => f ∈ y) r).1 (Tof (aS (fun f => f ∈ y)) (stg (wTy W (ckT W c Yl)) (aS (fun f => f ∈ y)) (fun f => f ∈ y) r).2) (stg (wTy W (ckT W c Yl)) (aS (fun f => f ∈ y)) (fun f => f ∈ y) r).2)) : CkT (wTy W (ckT W c Yl)) X c n 300 u Pr g := by
  have hP := ck_prem hA hg
  have hN : ∀ p ∈ Pr ++ [notT g], okT p ∧ isFo p ∧ htT p < n := fun p hp => ⟨(hP p hp).1.1.1.1, (hP p hp).1.2, by have := (hP p hp).2.2.2; omega⟩
  have hsum : ∀ (l : List Nat) (h : Nat → Nat), (∀ p ∈ l, h p ≤ 201) → (l.map h).sum ≤ 201 * l.length := fun l h => by
    induction l with
    | nil => exact fun _ => Nat.le_refl _
    | cons a l ih =>
      intro hl
      have h1 := hl a List.mem_cons_self
      have h2 := ih (fun p hp => hl p (List.mem_cons_of_mem _ hp))
      rw [List.map_cons, List.sum_cons, List.length_cons]
      omega
  have hlen : (Pr ++ [notT g]).length ≤ 21 := by rw [List.length_append]; simp; omega
  have s2 := hsum (Pr ++ [notT g]) nz0 (fun p hp => by have := (hP p hp).2.2.1; omega)
  have hc2 := tqL_opL (c := c) hN
  have hYz := opYL_sz (c := c) hN
  have hx := ckT_x (W := W) (c := c) (Y := Yl)
  -- without what is false
  obtain ⟨Q, eQ⟩ : ∃ Q, Q = (Pr ++ [notT g]).filter (fun p => decide (p ≠ noT)) := ⟨_, rfl⟩
  have hQ : ∀ p ∈ Q, p ∈ Pr ++ [notT g] ∧ p ≠ noT := fun p hp => by
    rw [eQ] at hp
    obtain ⟨a, b⟩ := List.mem_filter.mp hp
    exact ⟨a, by simpa using b⟩
  have eY : Yl = opYL (opY n) (opF n) Q c := by
    obtain ⟨n', e'⟩ : ∃ n', n = n' + 1 := ⟨n - 1, by omega⟩
    rw [hYl, eQ, e', opYL_no]
  have nQ : noT ∉ Q := fun q => (hQ noT q).2 rfl
  have hNQ : ∀ p ∈ Q, okT p ∧ isFo p ∧ htT p < n := fun p hp => hN p (hQ p hp).1
  obtain ⟨fG, zG⟩ := fF_and (W := W) (N := Nm nu2 c) (L := Q) (fun f hf => (hP f (hQ f hf).1).1)
  have hGh : htT (andT Q) ≤ 202 := ht_and (B := 201) (fun p hp => ⟨(hP p (hQ p hp).1).1.1.1.1, (hP p (hQ p hp).1).1.2, (hP p (hQ p hp).1).2.2.2⟩) (by omega) rfl
  have hno : andT Q ≠ noT := fun e => by
    have hc1 := (cases_eq (c := c) hNQ (by omega) (rfl : andT Q = andT Q) ⟨fG.1.1.1, fG.2⟩).1
    obtain ⟨te, _⟩ := tq_and (c := c) hNQ (by omega) (rfl : andT Q = andT Q)
    have h0 : (tqF (n + 1) (andT Q) c).1 = [] := by rw [e, tq_no rfl c]
    rw [te] at h0
    have h1 := congrArg List.length h0
    unfold tqP at h1
    rw [prodL_le2] at h1
    have l3 := (tqL_cnt (n := n) (pol := true) (E := E0) (l := Q) (c := c) (fun p hp c' => tq_cnt n p true E0 c' (hNQ p hp).1 (hNQ p hp).2.1 clE0) (fun p hp => by
      rw [opn_t, gv_cl p (hNQ p hp).1 0 (by have := (hP p (hQ p hp).1).1.1.2.1; omega)]; exact (hNQ p hp).2.2)).2.2 (fun p hp => ⟨fun q => (by cases q.2), fun q => (hQ p hp).2 q.1⟩)
    have ee : Q.map (fun p => opn true (sbT (gv E0) 0 p)) = Q := by
      have : Q.map (fun p => opn true (sbT (gv E0) 0 p)) = Q.map id := List.map_congr_left (fun p hp => by rw [opn_t, gv_cl p (hNQ p hp).1 0 (by have := (hP p (hQ p hp).1).1.1.2.1; omega)]; rfl)
      rw [this, List.map_id]
    rw [ee] at l3
    rw [l3] at h1
    have h2 := prod_ge (Q.map (fun p => kaT p true)) (fun x hx => by
      obtain ⟨p, hp, e⟩ := List.mem_map.mp hx
      rw [← e]; exact ka_pos p (hNQ p hp).1 (hNQ p hp).2.1 true)
    simp at h1
    omega
  have eYG : opYL (opY n) (opF n) Q c = opY (n + 1) (andT Q) c := opY_and hNQ nQ
  obtain ⟨⟨w1, w2⟩, _, _⟩ := ckT_ok (n := n + 1) hA fG.1.1 ⟨fG.1.2.1, fG.1.2.2 fG.2⟩ fG.2 hno (by omega)
  have ec : (opF (n + 1) (andT Q) c).2 = (tqL (tqF n) (Pr ++ [notT g]) c).2 := by rw [opY_len, ← eYG, ← eY, hc2, hYl]
  rw [← eYG, ← eY, ec] at w1 w2
  have hle : c ≤ (tqL (tqF n) (Pr ++ [notT g]) c).2 := by omega
  have hNm : ∀ k, Nm nu2 c k → Nm nu2 (tqL (tqF n) (Pr ++ [notT g]) c).2 k := fun k ⟨i, hi, e⟩ => ⟨i, by omega, e⟩
  have ecQ : (opL (opF n) Q c).2 = (tqL (tqF n) (Pr ++ [notT g]) c).2 := by rw [opYL_len (opY_len n), ← eY, hc2, hYl]
  obtain ⟨t1, _, _⟩ := opK_L (W := wTy W (ckT W c Yl)) (N := Nm nu2 (tqL (tqF n) (Pr ++ [notT g]) c).2) (n := n) (S := 201) (H := 201) (l := Q) (c := c) (fun p hp => ⟨⟨fr_ex hx hNm (hP p (hQ p hp).1).1.1.1, ⟨(hP p (hQ p hp).1).1.1.2.1, (hP p (hQ p hp).1).1.1.2.2 (hP p (hQ p hp).1).1.2⟩, (hQ p hp).2, (hP p (hQ p hp).1).2.1, (hP p (hQ p hp).1).2.2.2⟩, fun c' => op_K n p c' (hNQ p hp).2.2 (hNQ p hp).1 (hNQ p hp).2.1⟩) (fun p hp c' => (op_tq n p (hNQ p hp).2.2 (hNQ p hp).1 (hNQ p hp).2.1 c').1) (fun i i1 i2 => ⟨i, by rw [ecQ] at i2; exact i2, rfl⟩)
  have noy : noT ∈ Pr ++ [notT g] → ∀ y, y ∉ tqP n (Pr ++ [notT g]) c := fun q y hy => by
    obtain ⟨te, _⟩ := tq_and (c := c) hN (by omega) (rfl : andT (Pr ++ [notT g]) = andT (Pr ++ [notT g]))
    rw [← te] at hy
    have e : andT (Pr ++ [notT g]) = noT := by unfold andT; rw [if_pos q]
    rw [e, tq_no rfl c] at hy
    cases hy
  have hyy : noT ∉ Pr ++ [notT g] → ∀ y ∈ tqP n (Pr ++ [notT g]) c, (∀ z ∈ y, frW (wTy W (ckT W c Yl)) (Nm nu2 (tqL (tqF n) (Pr ++ [notT g]) c).2) z ∧ closT z ∧ isFo z ∧ szT z ≤ 201 ∧ htT z ≤ 201 ∧ z ≠ noT ∧ kd z ≠ 9) ∧ (y.map nz0).sum ≤ ((Pr ++ [notT g]).map nz0).sum := fun hnoP y hy => by
    have eo : (opL (opF n) (Pr ++ [notT g]) c).2 = (tqL (tqF n) (Pr ++ [notT g]) c).2 := by rw [opYL_len (opY_len n), hc2]
    obtain ⟨_, _, q3⟩ := opK_L (W := wTy W (ckT W c Yl)) (N := Nm nu2 (tqL (tqF n) (Pr ++ [notT g]) c).2) (n := n) (S := 201) (H := 201) (l := Pr ++ [notT g]) (c := c) (fun p hp => ⟨⟨fr_ex hx hNm (hP p hp).1.1.1, ⟨(hP p hp).1.1.2.1, (hP p hp).1.1.2.2 (hP p hp).1.2⟩, fun q => hnoP (by rw [← q]; exact hp), (hP p hp).2.1, (hP p hp).2.2.2⟩, fun c' => op_K n p c' (hN p hp).2.2 (hN p hp).1 (hN p hp).2.1⟩) (fun p hp c' => (op_tq n p (hN p hp).2.2 (hN p hp).1 (hN p hp).2.1 c').1) (fun i i1 i2 => ⟨i, by rw [eo] at i2; exact i2, rfl⟩)
    exact q3 y hy
  refine ⟨⟨by omega, fun f => ckT_f f⟩, hX1, hLim, ⟨hR, by omega⟩, fun y hy => ?_, fun h40 => ⟨⟨by rw [nm_nt]; exact w1, by rw [nm_nt]; exact w2, fun m hm => ?_⟩, fun y hy => ?_⟩⟩
  · by_cases q : noT ∈ Pr ++ [notT g]
    · exact absurd hy (noy q y)
    · obtain ⟨a, b⟩ := hyy q y hy
      have h1 : y.length ≤ (y.map nz0).sum := by
        have := sum_pos2 (y.map nz0) (fun x hx => by
          obtain ⟨z, hz, e⟩ := List.mem_map.mp hx
          rw [← e]
          have oz := (a z hz).1.1
          unfold nz0
          split
          · rename_i k
            obtain ⟨f, hp, ff, kf, mf⟩ := ps_not1 oz k
            have e : pa z 0 = f := by unfold pa; rw [hp]; rfl
            rw [e]
            have := sz_fms (okT_0 (oz.c mf))
            omega
          · have := sz_fms (okT_0 oz)
            omega)
        rw [List.length_map] at this
        exact this
      omega
  · rw [nm_nt] at hm
    obtain ⟨i, hi, e⟩ := hm
    by_cases hic : i < c
    · have h1 := hA.2.2.2.1 (2 * i) ⟨i, hic, rfl⟩
      have e1 : wcT (wTy W (ckT W c Yl)) m = wcT W (2 * i) := by rw [← e]; exact ckT_o i hic
      have h2 := ht_sz (wcT W (2 * i)) (okT_0 (hA.1.1.2.2.2 (2 * i) ⟨i, hic, rfl⟩).1.1)
      rw [e1]
      omega
    · have e2 : m = 2 * (c + (i - c)) := by rw [← e]; unfold nu2; omega
      have hlt : i - c < Yl.length := by rw [hYl]; omega
      have h1 := ckT_n (W := W) (c := c) (Y := Yl) (i - c) hlt
      have h2 : Yl.getD (i - c) 0 = Yl[i - c] := by simp [List.getD_eq_getElem?_getD, List.getElem?_eq_getElem hlt]
      have h3 := t1 Yl[i - c] (by rw [← eY]; exact List.getElem_mem hlt)
      have h4 := ht_sz Yl[i - c] (okT_0 h3.1.1.1)
      rw [e2, h1, h2]
      have := h3.2
      omega
  · by_cases q : noT ∈ Pr ++ [notT g]
    · exact absurd hy (noy q y)
    · obtain ⟨a, b⟩ := hyy q y hy
      exact req_ofT (W := wTy W (ckT W c Yl)) hTo hKW hKd w1 w2 (fun f => ckT_f f) h10 (fun z hz => by
        obtain ⟨z1, z2, z3, z4, z5, z6⟩ := a z hz
        exact ⟨z1, z2, z3, by omega, by omega, z6⟩) (by omega) (hL q h40 y hy)
end CKT
