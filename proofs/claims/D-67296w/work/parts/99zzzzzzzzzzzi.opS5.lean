/-! a check: what is pending is small; the world with the types of the new constants -/
theorem prN1_fl : ∀ (M : List Nat), (∀ y ∈ M, gO y ∧ kd y ≠ 17 ∧ wtO y ≤ 200) → vP M ≤ 199 * ((M.map kO).filter (fun x => decide (2 ≤ x))).length
  | [], _ => Nat.le_refl _
  | y :: M, h => by
    obtain ⟨h1, h2, h3⟩ := h y List.mem_cons_self
    have ih := prN1_fl M (fun z hz => h z (List.mem_cons_of_mem _ hz))
    have e : vP (y :: M) = (wtO y - 1) + vP M := by unfold vP; rw [List.map_cons, List.sum_cons]
    rw [e, List.map_cons]
    by_cases h30 : kd y = 30
    · have k2 : 2 ≤ kO y := by
        rw [kO_eq]; unfold kOS; rw [if_neg h2, if_pos h30]
        have h4 := h1
        rw [gO_eq] at h4
        have h5 := sum_pos2 ((ps y).map kO) (fun x hx => by
          obtain ⟨p, hp, e⟩ := List.mem_map.mp hx
          rw [← e]; exact kO_pos p (h1.c (Or.inr h30) hp))
        rw [List.length_map] at h5
        have := h4.1 h30
        omega
      rw [List.filter_cons_of_pos (by simpa using k2), List.length_cons]
      omega
    · have w : wtO y = 1 := by rw [wtO_eq]; unfold wtS; rw [if_neg (by omega)]
      have := List.length_filter_le (fun x => decide (2 ≤ x)) (kO y :: M.map kO)
      have h5 : ((M.map kO).filter (fun x => decide (2 ≤ x))).length ≤ ((kO y :: M.map kO).filter (fun x => decide (2 ≤ x))).length := by
        by_cases k2 : 2 ≤ kO y
        · rw [List.filter_cons_of_pos (by simpa using k2), List.length_cons]; omega
        · rw [List.filter_cons_of_neg (by simpa using k2)]; exact Nat.le_refl _
      omega
theorem vP_40 {M : List Nat} (h : ∀ y ∈ M, gO y ∧ kd y ≠ 17 ∧ wtO y ≤ 200) (h40 : prN1 (M.map kO) ≤ 40) : vP M ≤ 995 := by
  have h1 := prN1_fl M h
  have h2 := prN1_two (M.map kO) (fun x hx => by
    obtain ⟨p, hp, e⟩ := List.mem_map.mp hx
    rw [← e]; exact kO_pos p (h p hp).1)
  have h3 : ((M.map kO).filter (fun x => decide (2 ≤ x))).length < 6 := by
    rcases Nat.lt_or_ge ((M.map kO).filter (fun x => decide (2 ≤ x))).length 6 with q | q
    · exact q
    · have := Nat.pow_le_pow_right (n := 2) (by omega) q
      omega
  omega
theorem ck_side {n G c m : Nat} (ho : okT G) (hf : isFo G) (hh : htT G < n + 1) (hz : szT G ≤ 5000) (hno : G ≠ noT) (hq : ∀ t ∈ flt G, nz0 t ≤ 200) (h40 : (tqF (n + 1) G c).1.length ≤ 40) (hm : 6000 ≤ m) : wtP [(opF (n + 1) G c).1] < m ∧ pcF m [(opF (n + 1) G c).1] ≤ 50000 ∧ lfF m [(opF (n + 1) G c).1] ≤ 20000 ∧ dpF m [(opF (n + 1) G c).1] ≤ 39 ∧ ncF m [(opF (n + 1) G c).1] ≤ 1000 := by
  obtain ⟨⟨o1, o2, o3, o4⟩, hw, hk⟩ := op_S (n + 1) G c hh ho hf hno
  have hz0 := nz0_le ho
  have hv : vP (flt (opF (n + 1) G c).1) ≤ 995 := by
    by_cases h17 : kd G = 17
    · have eo : opF (n + 1) G c = (andT (opL (opF n) (ps G) c).1, (opL (opF n) (ps G) c).2) := by rw [opF, if_pos h17]
      have hps : ∀ p ∈ ps G, p ∈ fms G ∧ okT p ∧ isFo p ∧ p ≠ noT ∧ htT p < n ∧ nz0 p ≤ 200 := fun p hp => by
        have hq' : isFo p ∧ p ≠ noT := by
          rcases ho.n.2 with q | q | q | q | q | q | q | q | q | q | q | q | q | q <;> try omega
          exact ⟨(q.2.2.2 p hp).1, (q.2.2.2 p hp).2.2.2⟩
        have hfm : p ∈ fms G := fms_mem hp (by omega) (isFo_pos hq'.1)
        have := ht_c hfm
        refine ⟨hfm, ho.c hfm, hq'.1, hq'.2, by omega, hq p ?_⟩
        unfold flt
        rw [if_neg hno, if_pos h17]
        exact hp
      obtain ⟨a1, a2, a3⟩ := opS_L (n := n) (l := ps G) (c := c) (fun p hp => ⟨(hps p hp).2.2.2.1, fun c' => op_S n p c' (hps p hp).2.2.2.2.1 (hps p hp).2.1 (hps p hp).2.2.1⟩) (fun p hp c' => (op_tq n p (hps p hp).2.2.2.2.1 (hps p hp).2.1 (hps p hp).2.2.1 c').1)
      obtain ⟨b1, b2, b3, b4⟩ := and_g (o := (opF (n + 1) G c).1) a1 (by rw [eo])
      obtain ⟨c1, c2, c3⟩ := flts_g a1
      refine Nat.le_trans b4 (vP_40 (fun y hy => ⟨(c1 y hy).1, (c1 y hy).2.2.1, ?_⟩) (by rw [c3, ← b3, hk]; exact h40))
      obtain ⟨x, hx, hy'⟩ := List.mem_flatMap.mp hy
      have h1 := (flt_g (a1 x hx)).2.1
      have h2 := sum_mem (f := wtO) hy'
      -- each opened part is no larger than the part
      have : ∀ (l : List Nat) (c : Nat), (∀ p ∈ l, ∀ c', wtO (opF n p c').1 ≤ 200) → ∀ x ∈ (opL (opF n) l c).1, wtO x ≤ 200 := fun l => by
        induction l with
        | nil => exact fun c _ x hx => by cases hx
        | cons p l ih =>
          intro c h x hx
          have hx : x ∈ (opF n p c).1 :: (opL (opF n) l (opF n p c).2).1 := hx
          rcases List.mem_cons.mp hx with q | q
          · rw [q]; exact h p List.mem_cons_self c
          · exact ih _ (fun q hq => h q (List.mem_cons_of_mem _ hq)) x q
      have h3 := this (ps G) c (fun p hp c' => by
        have s := (op_S n p c' (hps p hp).2.2.2.2.1 (hps p hp).2.1 (hps p hp).2.2.1 (hps p hp).2.2.2.1).2.1
        have s3 := (hps p hp).2.2.2.2.2
        omega) x hx
      omega
    · obtain ⟨f1, f2, f3⟩ := flt_g ⟨o1, o2, o3, o4⟩
      by_cases hy : G = yesT
      · have k9 : kd G = 9 := by rw [hy]; exact kd_yes
        have eo : (opF (n + 1) G c).1 = G := by rw [opF, if_neg h17, if_neg (by omega)]
        rw [eo]
        have : flt G = [] := by unfold flt; rw [if_neg hno, if_neg h17, if_pos hy]
        rw [this]; exact Nat.zero_le _
      · have s1 := hq G (by unfold flt; rw [if_neg hno, if_neg h17, if_neg hy]; exact List.mem_singleton.mpr rfl)
        have : vP (flt (opF (n + 1) G c).1) ≤ ((flt (opF (n + 1) G c).1).map wtO).sum := by
          unfold vP
          exact sum_map_le (fun t _ => Nat.sub_le _ _)
        omega
  obtain ⟨o, ho'⟩ : ∃ o, o = (opF (n + 1) G c).1 := ⟨_, rfl⟩
  rw [← ho'] at o1 o2 o3 o4 hw hk hv ⊢
  have ew : wtP [o] = wtO o := by unfold wtP; simp
  have hwm : wtP [o] < m := by omega
  have hg : ∀ t ∈ [o], gO t := fun t ht => by rw [List.mem_singleton.mp ht]; exact o2
  have en := nc_eq m [o] hwm
  have en : ncF m [o] = kO o * 1 := en
  obtain ⟨p1, p2, p3⟩ := pn_le m [o] hwm hg
  refine ⟨hwm, ?_, by omega, by omega, by omega⟩
  by_cases h17 : kd o = 17
  · obtain ⟨m', rfl⟩ : ∃ m', m = m' + 1 := ⟨m - 1, by omega⟩
    have ef : flt o = ps o := by unfold flt; rw [if_neg o1, if_pos h17]
    rw [ef] at hv
    have hw2 := wtP_and (t := o) (P := []) h17
    have en2 : ncF (m' + 1) [o] = ncF m' ((ps o).reverse ++ []) := by rw [ncF, if_pos h17]
    obtain ⟨q1, q2, q3⟩ := pn_le m' ((ps o).reverse ++ []) (by omega) (fun t ht => o2.c (Or.inl h17) (by rw [List.append_nil] at ht; exact List.mem_reverse.mp ht))
    have ev : vP ((ps o).reverse ++ []) = vP (ps o) := by unfold vP; rw [List.append_nil, List.map_reverse, List.sum_reverse]
    rw [pcF, if_pos h17]
    have e2 : wtO o = 1 + ((ps o).map wtO).sum := by rw [wtO_eq]; unfold wtS; rw [if_pos (Or.inl h17)]
    have h3 := sum_pos2 ((ps o).map wtO) (fun x hx => by
      obtain ⟨t, _, e⟩ := List.mem_map.mp hx
      rw [← e]; exact wtO_pos t)
    rw [List.length_map] at h3
    have h4 : vP ((ps o).reverse ++ []) * ncF m' ((ps o).reverse ++ []) ≤ 995 * 40 := Nat.mul_le_mul (by omega) (by omega)
    omega
  · have hv2 : vP [o] ≤ 995 := by
      unfold flt at hv
      rw [if_neg o1, if_neg h17] at hv
      by_cases hy : o = yesT
      · have k9 : kd o = 9 := by rw [hy]; exact kd_yes
        have : wtO o = 1 := by rw [wtO_eq]; unfold wtS; rw [if_neg (by omega)]
        unfold vP
        simp [this]
      · rw [if_neg hy] at hv; exact hv
    have h4 : vP [o] * ncF m [o] ≤ 995 * 40 := Nat.mul_le_mul hv2 (by omega)
    omega
/-- the types of all constants in a check -/
def ckT (W : Wd) (c : Nat) (Y : List Nat) (m : Nat) : Nat := if m % 2 = 1 then pa (pa (m / 2) 0) 0 else if m / 2 < c then wcT W m else Y.getD (m / 2 - c) 0
theorem ckT_o {W : Wd} {c : Nat} {Y : List Nat} : ∀ i, i < c → ckT W c Y (2 * i) = wcT W (2 * i) := fun i hi => by
  unfold ckT
  rw [if_neg (by omega), if_pos (by omega)]
theorem ckT_f {W : Wd} {c : Nat} {Y : List Nat} (f : Nat) : wcT (wTy W (ckT W c Y)) (2 * f + 1) = pa (pa f 0) 0 := by
  show ckT W c Y (2 * f + 1) = _
  unfold ckT
  rw [if_pos (by omega), show (2 * f + 1) / 2 = f by omega]
theorem ckT_n {W : Wd} {c : Nat} {Y : List Nat} : TyA (wTy W (ckT W c Y)) c Y := fun i hi => by
  show ckT W c Y (2 * (c + i)) = _
  unfold ckT
  rw [if_neg (by omega), if_neg (by omega), show 2 * (c + i) / 2 - c = i by omega]
theorem ckT_x {W : Wd} {c : Nat} {Y : List Nat} : WEx (Nm nu2 c) W (wTy W (ckT W c Y)) := wex_ty (fun n ⟨i, hi, e⟩ => by rw [← e]; exact ckT_o i hi)
/-- the world in a check stands -/
theorem ckT_ok {W : Wd} {c n G : Nat} {Fo Pr : List Nat} (h : AbI W c Fo Pr) (hG : frW W (Nm nu2 c) G) (hcl : closT G) (hf : isFo G) (hno : G ≠ noT) (hh : htT G < n) : (WOK (wTy W (ckT W c (opY n G c))) (Nm nu2 (opF n G c).2) ∧ WGK (wTy W (ckT W c (opY n G c))) (Nm nu2 (opF n G c).2)) ∧ (∀ t ∈ opY n G c, szT t ≤ szT G) ∧ ∀ x ∈ (tqF n G c).1, (∀ z ∈ x, frW (wTy W (ckT W c (opY n G c))) (Nm nu2 (opF n G c).2) z ∧ closT z ∧ isFo z ∧ szT z ≤ szT G ∧ htT z ≤ htT G ∧ z ≠ noT ∧ kd z ≠ 9) ∧ (x.map nz0).sum ≤ nz0 G := by
  have hle := opF_le n G c
  have hN : ∀ m, Nm nu2 c m → Nm nu2 (opF n G c).2 m := fun m ⟨i, hi, e⟩ => ⟨i, by omega, e⟩
  have hx := ckT_x (W := W) (c := c) (Y := opY n G c)
  obtain ⟨k1, k2⟩ := op_K (W := wTy W (ckT W c (opY n G c))) (N := Nm nu2 (opF n G c).2) n G c hh hG.1 hf (fr_ex hx hN hG) hcl hno (fun i i1 i2 => ⟨i, i2, rfl⟩)
  refine ⟨⟨h.1.1.ex hx hN h.1.2.2 (fun m m1 m2 => ?_) (fun m m1 m2 => ?_) (fun m hm hn => ?_), h.1.2.1.ex hx hN h.1.2.1.1⟩, fun t ht => (k1 t ht).2, k2⟩
  · have m2 : m < wnM W := m2
    omega
  · have m2 : m < wnF W := m2
    omega
  · obtain ⟨i, hi, e⟩ := hm
    have hic : c ≤ i := by
      rcases Nat.lt_or_ge i c with q | q
      · exact absurd ⟨i, q, e⟩ hn
      · exact q
    rw [opY_len] at hi
    have e2 : m = 2 * (c + (i - c)) := by rw [← e]; unfold nu2; omega
    have := ckT_n (W := W) (c := c) (Y := opY n G c) (i - c) (by omega)
    rw [e2, this]
    have hlt : i - c < (opY n G c).length := by omega
    have : (opY n G c).getD (i - c) 0 = (opY n G c)[i - c] := by simp [List.getD_eq_getElem?_getD, List.getElem?_eq_getElem hlt]
    rw [this]
    exact (k1 _ (List.getElem_mem hlt)).1
