/-! the class's check: what it asks for, but for the count -/
theorem flt_and {L : List Nat} {x o : Nat} (hL : ∀ p ∈ L, okT p ∧ isFo p) (e : o = andT L) (h : x ∈ flt o) : x ∈ L.flatMap flt := by
  have hel : ∀ t ∈ L.flatMap flt, kd t ≠ 17 ∧ t ≠ yesT ∧ t ≠ noT := fun t ht => by
    obtain ⟨p, hp, ht⟩ := List.mem_flatMap.mp ht
    exact (flt_ok (hL p hp).1 (hL p hp).2 t ht).2.2
  unfold flt at h
  by_cases ho : o = noT
  · rw [if_pos ho] at h
    cases h
  rw [if_neg ho] at h
  unfold andT at e
  by_cases hno : noT ∈ L
  · rw [if_pos hno] at e
    exact absurd e ho
  · rw [if_neg hno] at e
    generalize L.flatMap flt = M at e hel ⊢
    match M, e, hel with
    | [], e, hel =>
      have k : kd o = 9 := by rw [e]; exact kd_yes
      rw [if_neg (by omega), if_pos e] at h
      cases h
    | [a], e, hel =>
      obtain ⟨a1, a2, a3⟩ := hel a List.mem_cons_self
      have e : o = a := e
      rw [e, if_neg a1, if_neg a2] at h
      exact h
    | a :: b :: M', e, hel =>
      have e : o = mk 17 0 (a :: b :: M') := e
      rw [e, if_pos (kd_mk _ _ _), ps_mk] at h
      exact h
theorem nz0_flt {p x : Nat} (ho : okT p) (hf : isFo p) (hp : nz0 p ≤ 200) (h : x ∈ flt p) : nz0 x ≤ 200 := by
  rcases flt_in h with q | ⟨k, q⟩
  · rw [q]; exact hp
  · have ox := (flt_ok ho hf x h).1
    have fx := (flt_ok ho hf x h).2.1
    have mx : x ∈ fms p := fms_mem q (by omega) (isFo_pos fx)
    have h1 := nz0_le ox
    have h2 := sz_c mx
    have e : nz0 p = szT p := by unfold nz0; rw [if_neg (by omega)]
    omega
theorem opY_sz : ∀ n f c, htT f < n → okT f → isFo f → 2 * (opY n f c).length ≤ nz0 f := by
  have L : ∀ (n : Nat) (l : List Nat) (c : Nat), (∀ p ∈ l, ∀ c', 2 * (opY n p c').length ≤ nz0 p) → 2 * (opYL (opY n) (opF n) l c).length ≤ (l.map nz0).sum := fun n l => by
    induction l with
    | nil => exact fun c _ => Nat.le_refl _
    | cons p l ih =>
      intro c h
      have h1 := h p List.mem_cons_self c
      have h2 := ih (opF n p c).2 (fun q hq => h q (List.mem_cons_of_mem _ hq))
      show 2 * (opY n p c ++ opYL (opY n) (opF n) l (opF n p c).2).length ≤ _
      rw [List.length_append, List.map_cons, List.sum_cons]
      omega
  refine op_ind ?_ ?_ ?_ ?_
  · intro n f c ho hf hL
    rw [opY, if_neg hL.1]
    by_cases h16 : kd f = 16
    · rw [if_pos h16, if_neg (fun q => hL.2 ⟨h16, Or.inl q⟩), if_neg (fun q => hL.2 ⟨h16, Or.inr q⟩)]; exact Nat.zero_le _
    · rw [if_neg h16]; exact Nat.zero_le _
  · intro n f c ho hf h17 h2 hI
    rw [opY, if_pos h17]
    have h1 := L n (ps f) c (fun p hp => (hI p hp).2.2.2.2.2)
    have h3 := sum_map_le (f := nz0) (g := szT) (l := ps f) (fun p hp => nz0_le (hI p hp).2.1)
    have e : nz0 f = 1 + ((ps f).map szT).sum := by unfold nz0; rw [if_neg (by omega), sz_pl (okT_0 ho) (by omega)]
    omega
  · intro n f c ho hf h16 g17 og mg h2 hI
    rw [opY, if_neg (by omega), if_pos h16, if_pos g17]
    have h1 := L n ((ps (pa f 0)).map notT) c (fun q hq c' => by
      obtain ⟨p, hp, e⟩ := List.mem_map.mp hq
      rw [← e]; exact (hI p hp).2.2.2.2.2 c')
    have h3 := sum_map_le (f := fun p => nz0 (notT p)) (g := szT) (l := ps (pa f 0)) (fun p hp => nz0_not (hI p hp).2.1)
    rw [List.map_map] at h1
    have h1 : 2 * (opYL (opY n) (opF n) ((ps (pa f 0)).map notT) c).length ≤ ((ps (pa f 0)).map (fun p => nz0 (notT p))).sum := h1
    have e : nz0 f = 1 + ((ps (pa f 0)).map szT).sum := by unfold nz0; rw [if_pos h16, sz_pl (okT_0 og) (by omega)]
    omega
  · intro n f c ho hf h16 g18 og mg ob fb mb hn hh hi hI
    rw [opY, if_neg (by omega), if_pos h16, if_neg (by omega), if_pos g18, List.length_cons]
    have h1 := nz0_not hi.1
    have h2 := szT_put (sz_cn (2 * c)) (pa (pa f 0) 1) ob 0
    have e : nz0 f = szT (pa f 0) := by unfold nz0; rw [if_pos h16]
    obtain ⟨ty, bd, e1, py, pb, k8, hbf, my, mb', _⟩ := all_parts og g18
    have e3 : szT (pa f 0) = 1 + (szT ty + szT bd) := by rw [sz_pl (okT_0 og) (by omega), e1]; simp
    have h4 := sz_fms (okT_0 (og.c my))
    rw [pb] at h2 h1 hI ⊢
    omega
section CKC
variable {W : Wd} {c n m d : Nat} {u : Sg} {Fo Pr : List Nat} {g : Nat} {X : Nat → Prop}
theorem ck_prem (hA : AbI W c Fo Pr) (hg : g ∈ Fo ∧ isFo g) : ∀ p ∈ Pr ++ [notT g], fF W (Nm nu2 c) p ∧ szT p ≤ 201 ∧ nz0 p ≤ 200 ∧ htT p ≤ 201 := fun p hp => by
  have kp : ∀ f ∈ Fo, isFo f → fF W (Nm nu2 c) f ∧ szT f ≤ 200 ∧ htT f ≤ 200 := fun f hf ff => by
    have h1 := hA.2.1 f hf
    have h2 := ht_sz f (okT_0 h1.1.1.1)
    exact ⟨⟨h1.1, ff⟩, h1.2, by have := h1.2; omega⟩
  rcases List.mem_append.mp hp with q | q
  · obtain ⟨a1, a2, a3⟩ := kp p (hA.2.2.2.2 p q).1 (hA.2.2.2.2 p q).2
    have := nz0_le a1.1.1.1
    exact ⟨a1, by omega, by omega, by omega⟩
  · rw [List.mem_singleton.mp q]
    obtain ⟨a1, a2, a3⟩ := kp g hg.1 hg.2
    obtain ⟨b1, b2⟩ := fF_not a1
    have h1 := ht_not a1.1.1.1
    have h2 := nz0_not a1.1.1.1
    exact ⟨b1, by omega, by omega, by omega⟩
/-- what the class's check asks for; the count of trees apart -/
theorem ckC_of (hA : AbI W c Fo Pr) (hg : g ∈ Fo ∧ isFo g) {Tb : List Nat} (hTo : ∀ f ∈ Tb, okT f) (hKW : KfW W Tb) (hKd : KdW W) (h10 : wnP W ≤ 10) (hPl : Pr.length ≤ 20) {Yl : List Nat} (hYl : noT ∉ Pr ++ [notT g] → Yl = opY (n + 1) (chG Pr g) c) (hc : c ≤ 800) (hn : 210 ≤ n) (hd : 1700 ≤ d) (hnd : 1001 + n ≤ d) (hm : 6000 ≤ m ∧ m ≤ 1000000) (hX1 : X (notT g)) (hX2 : X (chG Pr g)) (hXo : opR (wTy W (ckT W c Yl)) X (n + 1) (chG Pr g) c) (hLim : Lim nu2 u X) (hP5 : P5u u X) (h17 : ∀ t, ndC nu2 u t ∨ X t → (kd t = 17 ∨ kd t = 30) → ∀ q ∈ ps t, q ≠ 0) (hL : noT ∉ Pr ++ [notT g] → (tqP n (Pr ++ [notT g]) c).length ≤ 40 → ∀ y ∈ tqP n (Pr ++ [notT g]) c, ∀ r, rch (wTy W (ckT W c Yl)) (aS (fun f => f ∈ y)) (fun f => f ∈ y) r → LimB nu2 u (facS (wTy W (ckT W c Yl)) (stg (wTy W (ckT W c Yl)) (aS (fun f => f ∈ y)) (fun f => f ∈ y) r).1 (stg (wTy W (ckT W c Yl)) (aS (fun f => f ∈ y)) (fun f => f ∈ y) r).2) (X2R (wTy W (ckT W c Yl)) Tb (aS (fun f => f ∈ y)) (fun f => f ∈ y) X) (stg (wTy W (ckT W c Yl)) (aS (fun f => f ∈ y)) (fun f => f ∈ y) r).1 (comS (wTy W (ckT W c Yl)) (aS (fun f => f ∈ y)) (stg (wTy W (ckT W c Yl)) (aS (fun f => f ∈ y)) (fun f => f ∈ y) r).1 (stg (wTy W (ckT W c Yl)) (aS (fun f => f ∈ y)) (fun f => f ∈ y) r).2)) : CkC (wTy W (ckT W c Yl)) X c n m d 300 u Pr g := by
  have hP := ck_prem hA hg
  obtain ⟨fG, zG⟩ := fF_and (W := W) (N := Nm nu2 c) (L := Pr ++ [notT g]) (fun f hf => (hP f hf).1)
  have fG : fF W (Nm nu2 c) (chG Pr g) := fG
  have zG : szT (chG Pr g) ≤ 2 + ((Pr ++ [notT g]).map szT).sum := zG
  have hsum : ∀ (l : List Nat) (h : Nat → Nat), (∀ p ∈ l, h p ≤ 201) → (l.map h).sum ≤ 201 * l.length := fun l h => by
    induction l with
    | nil => exact fun _ => Nat.le_refl _
    | cons a l ih =>
      intro hl
      have h1 := hl a List.mem_cons_self
      have h2 := ih (fun p hp => hl p (List.mem_cons_of_mem _ hp))
      rw [List.map_cons, List.sum_cons, List.length_cons]
      omega
  have hlen : (Pr ++ [notT g]).length ≤ 21 := by rw [List.length_append]; simp; omega
  have s1 := hsum (Pr ++ [notT g]) szT (fun p hp => (hP p hp).2.1)
  have s2 := hsum (Pr ++ [notT g]) nz0 (fun p hp => by have := (hP p hp).2.2.1; omega)
  have s3 := hsum (Pr ++ [notT g]) (fun p => (flt p).length) (fun p hp => by have := flt_len (hP p hp).1.1.1.1; have := (hP p hp).2.1; omega)
  have hGh : htT (chG Pr g) ≤ 202 := ht_and (B := 201) (fun p hp => ⟨(hP p hp).1.1.1.1, (hP p hp).1.2, (hP p hp).2.2.2⟩) (by omega) rfl
  have hfl : ∀ t ∈ flt (chG Pr g), nz0 t ≤ 200 := fun t ht => by
    obtain ⟨p, hp, ht⟩ := List.mem_flatMap.mp (flt_and (L := Pr ++ [notT g]) (fun p hp => ⟨(hP p hp).1.1.1.1, (hP p hp).1.2⟩) rfl ht)
    exact nz0_flt (hP p hp).1.1.1.1 (hP p hp).1.2 (hP p hp).2.2.1 ht
  have hN : ∀ p ∈ Pr ++ [notT g], okT p ∧ isFo p ∧ htT p < n := fun p hp => ⟨(hP p hp).1.1.1.1, (hP p hp).1.2, by have := (hP p hp).2.2.2; omega⟩
  have oG := fG.1.1.1
  obtain ⟨ce1, ce2, ce3⟩ := cases_eq (c := c) hN (by omega) (rfl : chG Pr g = andT (Pr ++ [notT g])) ⟨oG, fG.2⟩
  have hszx : ∀ x, okT x → nz0 x ≤ 200 → szT x ≤ 201 := fun x hx hz => by
    unfold nz0 at hz
    by_cases k : kd x = 16
    · rw [if_pos k] at hz
      obtain ⟨f, hp, ff, kf, mf⟩ := ps_not1 hx k
      have e : pa x 0 = f := by unfold pa; rw [hp]; rfl
      have : szT x = 1 + szT f := by rw [sz_pl (okT_0 hx) (by omega), hp]; simp
      rw [e] at hz
      omega
    · rw [if_neg k] at hz; omega
  refine ⟨⟨by omega, fun f => ckT_f f⟩, ⟨hX1, hX2⟩, ⟨by rw [List.length_flatMap]; omega, ?_, by omega⟩, hLim, hP5, h17, fun h40 => ?_⟩
  · by_cases hno : chG Pr g = noT
    · left
      have := szQ_le (chG Pr g)
      have k16 : kd (chG Pr g) = 16 := by rw [hno]; exact kd_no
      obtain ⟨f, hp, ff, kf, mf⟩ := ps_not1 oG k16
      have e : pa (chG Pr g) 0 = f := by unfold pa; rw [hp]; rfl
      have k9 : kd (pa (chG Pr g) 0) = 9 := by rw [hno]; unfold noT; rw [pa_mk0]; exact kd_yes
      have ey : f = yesT := yes_of (oG.c mf) (by rw [← e]; exact k9)
      have h2 : szT yesT ≤ 1 := sz_c0
      have h3 : szT (chG Pr g) = 1 + szT f := by rw [sz_pl (okT_0 oG) (by omega), hp]; simp
      rw [← ey] at h2
      omega
    · by_cases k17 : kd (chG Pr g) = 17
      · right
        refine ⟨k17, fun p hp => ?_⟩
        have hp' : p ∈ flt (chG Pr g) := by unfold flt; rw [if_neg hno, if_pos k17]; exact hp
        have op := (flt_ok oG fG.2 p hp').1
        have := szQ_le p
        have := hszx p op (hfl p hp')
        omega
      · left
        have := szQ_le (chG Pr g)
        by_cases hy : chG Pr g = yesT
        · have h2 : szT yesT ≤ 1 := sz_c0
          rw [hy] at this ⊢
          omega
        · have := hszx _ oG (hfl (chG Pr g) (by unfold flt; rw [if_neg hno, if_neg k17, if_neg hy]; exact List.mem_singleton.mpr rfl))
          omega
  · by_cases hno : chG Pr g = noT
    · -- nothing is to be shown: no cases
      have k16 : kd (chG Pr g) = 16 := by rw [hno]; exact kd_no
      have k9 : kd (pa (chG Pr g) 0) = 9 := by rw [hno]; unfold noT; rw [pa_mk0]; exact kd_yes
      have eo : opF (n + 1) (chG Pr g) c = (chG Pr g, c) := by rw [opF, if_neg (by omega), if_pos k16, if_neg (by omega), if_neg (by omega)]
      have ew : wtO (chG Pr g) = 1 := by rw [wtO_eq]; unfold wtS; rw [if_neg (by omega)]
      have eP : wtP [chG Pr g] = 1 := by unfold wtP; simp [ew]
      have gP : ∀ t ∈ [chG Pr g], gO t := fun t ht => by rw [List.mem_singleton.mp ht]; exact gO_lf (by omega) (by omega)
      obtain ⟨p1, p2, p3⟩ := pn_le m [chG Pr g] (by omega) gP
      have en := nc_eq m [chG Pr g] (by omega)
      have ek : kO (chG Pr g) = 1 := by rw [kO_eq]; unfold kOS; rw [if_neg (by omega), if_neg (by omega)]
      have en : ncF m [chG Pr g] = kO (chG Pr g) * 1 := en
      have ev : vP [chG Pr g] = 0 := by unfold vP; simp [ew]
      rw [ev] at p3
      have hx := ckT_x (W := W) (c := c) (Y := Yl)
      refine ⟨hXo, by rw [eo]; omega, by omega, ?_, ?_, fun S hS => ?_⟩
      · rw [eo]
        exact ⟨hA.1.1.ex hx (fun _ q => q) hA.1.2.2 (fun k k1 k2 => by have k2 : k < wnM W := k2; omega) (fun k k1 k2 => by have k2 : k < wnF W := k2; omega) (fun k q1 q2 => absurd q1 q2), hA.1.2.1.ex hx (fun _ q => q) hA.1.2.1.1⟩
      · rw [eo]
        have p3 : pcF m [chG Pr g] ≤ 0 := by rw [Nat.zero_mul] at p3; exact p3
        show wtP [chG Pr g] < m ∧ m ≤ 1000000 ∧ pcF m [chG Pr g] ≤ 50000 ∧ lfF m [chG Pr g] ≤ 20000 ∧ 1661 + dpF m [chG Pr g] ≤ d ∧ ncF m [chG Pr g] ≤ 1000
        exact ⟨by omega, hm.2, by omega, by omega, by omega, by omega⟩
      · rw [eo] at hS
        exact absurd (csR_1t.mp hS) (csT_no hno)
    · have hnoP : noT ∉ Pr ++ [notT g] := fun q => hno (by unfold chG andT; rw [if_pos q])
      have eY := hYl hnoP
      subst eY
      have hcl : closT (chG Pr g) := ⟨fG.1.2.1, fG.1.2.2 fG.2⟩
      obtain ⟨⟨w1, w2⟩, w3, w4⟩ := ckT_ok (n := n + 1) hA fG.1.1 hcl fG.2 hno (by omega)
      obtain ⟨te, _⟩ := tq_and (c := c) hN (by omega) (rfl : chG Pr g = andT (Pr ++ [notT g]))
      have h40' : (tqF (n + 1) (chG Pr g) c).1.length ≤ 40 := by rw [te, ← ce1]; exact h40
      obtain ⟨k1, k2, k3, k4, k5⟩ := ck_side (m := m) oG fG.2 (by omega) (by omega) hno hfl h40' hm.1
      have hY := opY_sz (n + 1) (chG Pr g) c (by omega) oG fG.2
      have hz0 := nz0_le oG
      refine ⟨hXo, by rw [opY_len]; omega, by omega, ⟨w1, w2⟩, ⟨k1, hm.2, k2, k3, by omega, k5⟩, fun S hS => ?_⟩
      rw [ce2] at hS
      obtain ⟨y, hy, eS⟩ := hS
      rw [eS]
      have hx := ckT_x (W := W) (c := c) (Y := opY (n + 1) (chG Pr g) c)
      have hle := opF_le (n + 1) (chG Pr g) c
      have hNm : ∀ k, Nm nu2 c k → Nm nu2 (opF (n + 1) (chG Pr g) c).2 k := fun k ⟨i, hi, e⟩ => ⟨i, by omega, e⟩
      have hc2 : (opL (opF n) (Pr ++ [notT g]) c).2 = (opF (n + 1) (chG Pr g) c).2 := by
        rw [ce3 hnoP]
        exact ((SmC.L (F := tqF n) (G := opF n) (l := Pr ++ [notT g]) (fun p hp => op_tq n p (hN p hp).2.2 (hN p hp).1 (hN p hp).2.1) c).1).symm
      obtain ⟨_, _, q3⟩ := opK_L (W := wTy W (ckT W c (opY (n + 1) (chG Pr g) c))) (N := Nm nu2 (opF (n + 1) (chG Pr g) c).2) (n := n) (S := 201) (H := 201) (l := Pr ++ [notT g]) (c := c) (fun p hp => ⟨⟨fr_ex hx hNm (hP p hp).1.1.1, ⟨(hP p hp).1.1.2.1, (hP p hp).1.1.2.2 (hP p hp).1.2⟩, fun q => hnoP (by rw [← q]; exact hp), (hP p hp).2.1, (hP p hp).2.2.2⟩, fun c' => op_K n p c' (hN p hp).2.2 (hN p hp).1 (hN p hp).2.1⟩) (fun p hp c' => (op_tq n p (hN p hp).2.2 (hN p hp).1 (hN p hp).2.1 c').1) (fun i i1 i2 => ⟨i, by rw [hc2] at i2; exact i2, rfl⟩)
      obtain ⟨q4, q5⟩ := q3 y hy
      exact req_of (by omega) hTo hKW hKd w1 w2 (fun f => ckT_f f) h10 (fun z hz => by
        obtain ⟨z1, z2, z3, z4, z5, z6⟩ := q4 z hz
        exact ⟨z1, z2, z3, by omega, by omega, z6⟩) (by omega) (fun z hz => hP5 z (Or.inr hz)) (hL hnoP (by rw [← te]; exact h40') y hy)
end CKC
