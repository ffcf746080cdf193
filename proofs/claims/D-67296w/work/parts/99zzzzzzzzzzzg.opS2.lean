/-! opened formulas: how large, how many cases -/
theorem nz0_not {f : Nat} (ho : okT f) : nz0 (notT f) ≤ szT f := by
  by_cases k : kd f = 16
  · obtain ⟨g, hp, fg, kg, mg⟩ := ps_not1 ho k
    have e : notT f = g := by unfold notT; rw [if_pos k, hp]; rfl
    rw [e]
    unfold nz0
    rw [if_neg kg]
    exact sz_subT f ho (sub_c mg (sub_rf g))
  · have e : notT f = mk 16 0 [f] := by unfold notT; rw [if_neg k]
    unfold nz0
    rw [e, kd_mk, if_pos rfl, pa_mk0]
    exact Nat.le_refl _
/-- what is true of an opened formula -/
def OpG (o : Nat) : Prop := o ≠ noT ∧ gO o ∧ 0 < o ∧ (kd o = 17 → ∀ t ∈ ps o, 0 < t ∧ kd t ≠ 17 ∧ t ≠ noT)
theorem flt_g {x : Nat} (h : OpG x) : (∀ t ∈ flt x, gO t ∧ 0 < t ∧ kd t ≠ 17 ∧ t ≠ noT) ∧ ((flt x).map wtO).sum ≤ wtO x ∧ prN1 ((flt x).map kO) = kO x := by
  obtain ⟨h1, h2, h3, h4⟩ := h
  unfold flt
  rw [if_neg h1]
  by_cases h17 : kd x = 17
  · rw [if_pos h17]
    refine ⟨fun t ht => ⟨h2.c (Or.inl h17) ht, h4 h17 t ht⟩, ?_, ?_⟩
    · rw [wtO_eq x]; unfold wtS; rw [if_pos (Or.inl h17)]; omega
    · rw [kO_eq x]; unfold kOS; rw [if_pos h17]
  · rw [if_neg h17]
    by_cases hy : x = yesT
    · rw [if_pos hy]
      refine ⟨fun t ht => (by cases ht), Nat.zero_le _, ?_⟩
      rw [kO_eq x]; unfold kOS
      have : kd x = 9 := by rw [hy]; exact kd_yes
      rw [if_neg h17, if_neg (by omega)]
      rfl
    · rw [if_neg hy]
      refine ⟨fun t ht => ?_, ?_, ?_⟩
      · rw [List.mem_singleton.mp ht]; exact ⟨h2, h3, h17, h1⟩
      · simp
      · show kO x * 1 = kO x
        omega
theorem flts_g : ∀ {L : List Nat}, (∀ x ∈ L, OpG x) → (∀ t ∈ L.flatMap flt, gO t ∧ 0 < t ∧ kd t ≠ 17 ∧ t ≠ noT) ∧ ((L.flatMap flt).map wtO).sum ≤ (L.map wtO).sum ∧ prN1 ((L.flatMap flt).map kO) = prN1 (L.map kO)
  | [], _ => ⟨fun t ht => (by cases ht), Nat.le_refl _, rfl⟩
  | x :: L, h => by
    obtain ⟨a1, a2, a3⟩ := flt_g (h x List.mem_cons_self)
    obtain ⟨b1, b2, b3⟩ := flts_g (fun y hy => h y (List.mem_cons_of_mem _ hy))
    rw [List.flatMap_cons]
    refine ⟨fun t ht => (List.mem_append.mp ht).elim (a1 t) (b1 t), ?_, ?_⟩
    · rw [List.map_append, List.sum_append, List.map_cons, List.sum_cons]; omega
    · rw [List.map_append, prN1_app, a3, b3]; rfl
theorem and_g {L : List Nat} {o : Nat} (h : ∀ x ∈ L, OpG x) (e : o = andT L) : OpG o ∧ wtO o ≤ 1 + (L.map wtO).sum ∧ kO o = prN1 (L.map kO) ∧ (vP (flt o) ≤ vP (L.flatMap flt)) := by
  obtain ⟨a1, a2, a3⟩ := flts_g h
  unfold andT at e
  rw [if_neg (fun q => (h noT q).1 rfl)] at e
  generalize L.flatMap flt = M at a1 a2 a3 e ⊢
  match M, a1, a2, a3, e with
  | [], a1, a2, a3, e =>
    have k : kd o = 9 := by rw [e]; exact kd_yes
    have w : wtO o = 1 := by rw [wtO_eq]; unfold wtS; rw [if_neg (by omega)]
    have hk : kO o = 1 := by rw [kO_eq]; unfold kOS; rw [if_neg (by omega), if_neg (by omega)]
    refine ⟨⟨fun q => ?_, gO_lf (by omega) (by omega), ?_, fun q => by omega⟩, by omega, by rw [hk, ← a3]; rfl, ?_⟩
    · rw [q, kd_no] at k; omega
    · exact Nat.pos_of_ne_zero (fun q => by rw [q, kd0] at k; omega)
    · have : flt o = [] := by
        unfold flt
        rw [if_neg (fun q => by rw [q, kd_no] at k; omega), if_neg (by omega), if_pos e]
      rw [this]; exact Nat.le_refl _
  | [a], a1, a2, a3, e =>
    have e : o = a := e
    obtain ⟨g1, g2, g3, g4⟩ := a1 a List.mem_cons_self
    rw [e]
    refine ⟨⟨g4, g1, g2, fun q => absurd q g3⟩, ?_, ?_, ?_⟩
    · simp at a2; omega
    · rw [← a3]; show kO a = kO a * 1; omega
    · unfold flt
      rw [if_neg g4, if_neg g3]
      split
      · exact Nat.zero_le _
      · exact Nat.le_refl _
  | a :: b :: M', a1, a2, a3, e =>
    have e : o = mk 17 0 (a :: b :: M') := e
    have k : kd o = 17 := by rw [e]; exact kd_mk _ _ _
    have p : ps o = a :: b :: M' := by rw [e]; exact ps_mk _ _ _
    refine ⟨⟨fun q => by rw [q, kd_no] at k; omega, ?_, Nat.pos_of_ne_zero (fun q => by rw [q, kd0] at k; omega), fun _ t ht => (a1 t (by rw [← p]; exact ht)).2⟩, ?_, ?_, ?_⟩
    · rw [gO_eq]
      exact ⟨fun q => by omega, fun _ t ht => (a1 t (by rw [← p]; exact ht)).1⟩
    · rw [wtO_eq]; unfold wtS; rw [if_pos (Or.inl k), p]; omega
    · rw [kO_eq]; unfold kOS; rw [if_pos k, p, a3]
    · unfold flt
      rw [if_neg (fun q => by rw [q, kd_no] at k; omega), if_pos k, p]
      exact Nat.le_refl _
def OpS (n f c : Nat) : Prop := f ≠ noT → OpG (opF n f c).1 ∧ wtO (opF n f c).1 ≤ nz0 f ∧ kO (opF n f c).1 = (tqF n f c).1.length
theorem sz_cn (m : Nat) : szT (mk 1 m []) = 1 := by
  rw [szT_ex (Nat.pos_iff_ne_zero.mp (mk_pos _ _ _))]
  unfold exp1
  rw [kd_mk, if_neg (by decide), ps_mk]
  rfl
theorem opS_L {n : Nat} : ∀ {l : List Nat} {c : Nat}, (∀ p ∈ l, p ≠ noT ∧ ∀ c', OpS n p c') → (∀ p ∈ l, ∀ c', (tqF n p c').2 = (opF n p c').2) → (∀ x ∈ (opL (opF n) l c).1, OpG x) ∧ ((opL (opF n) l c).1.map wtO).sum ≤ (l.map nz0).sum ∧ (opL (opF n) l c).1.map kO = (tqL (tqF n) l c).1.map List.length
  | [], _, _, _ => ⟨fun x hx => (by cases hx), Nat.le_refl _, rfl⟩
  | p :: l, c, h, hc => by
    obtain ⟨a1, a2, a3⟩ := (h p List.mem_cons_self).2 c (h p List.mem_cons_self).1
    obtain ⟨b1, b2, b3⟩ := opS_L (l := l) (c := (opF n p c).2) (fun q hq => h q (List.mem_cons_of_mem _ hq)) (fun q hq => hc q (List.mem_cons_of_mem _ hq))
    have ec := hc p List.mem_cons_self c
    refine ⟨fun x hx => ?_, ?_, ?_⟩
    · rcases List.mem_cons.mp hx with q | q
      · rw [q]; exact a1
      · exact b1 x q
    · show (((opF n p c).1 :: (opL (opF n) l (opF n p c).2).1).map wtO).sum ≤ _
      rw [List.map_cons, List.sum_cons, List.map_cons, List.sum_cons]
      omega
    · show ((opF n p c).1 :: (opL (opF n) l (opF n p c).2).1).map kO = ((tqF n p c).1 :: (tqL (tqF n) l (tqF n p c).2).1).map List.length
      rw [List.map_cons, List.map_cons, a3, b3, ec]
theorem flat_len : ∀ (A : List (List (List Nat))), A.flatten.length = (A.map List.length).sum
  | [] => rfl
  | a :: A => by rw [List.flatten_cons, List.length_append, List.map_cons, List.sum_cons, flat_len A]
theorem op_S : ∀ n f c, htT f < n → okT f → isFo f → OpS n f c := by
  refine op_ind ?_ ?_ ?_ ?_
  · intro n f c ho hf hL hno
    have h17 := hL.1
    have k30 : kd f ≠ 30 := by unfold isFo at hf; omega
    have e1 : (opF (n + 1) f c).1 = f := by
      rw [opF, if_neg h17]
      by_cases h16 : kd f = 16
      · rw [if_pos h16, if_neg (fun q => hL.2 ⟨h16, Or.inl q⟩), if_neg (fun q => hL.2 ⟨h16, Or.inr q⟩)]
      · rw [if_neg h16]
    have hk : kO f = 1 := by rw [kO_eq]; unfold kOS; rw [if_neg h17, if_neg k30]
    have hw : wtO f = 1 := by rw [wtO_eq]; unfold wtS; rw [if_neg (by omega)]
    have hz : 1 ≤ nz0 f := by
      unfold nz0
      split
      · rename_i k
        obtain ⟨g, hp, fg, kg, mg⟩ := ps_not1 ho k
        have e : pa f 0 = g := by unfold pa; rw [hp]; rfl
        have := sz_fms (okT_0 (ho.c mg))
        rw [e]; omega
      · have := sz_fms (okT_0 ho)
        omega
    have e2 : (tqF (n + 1) f c).1.length = 1 := by
      rw [tqF]
      by_cases h9 : kd f = 9
      · rw [if_pos h9]; rfl
      · rw [if_neg h9, if_neg h17]
        by_cases h16 : kd f = 16
        · rw [if_pos h16, if_neg (fun q => hno (no_of ho h16 q)), if_neg (fun q => hL.2 ⟨h16, Or.inl q⟩), if_neg (fun q => hL.2 ⟨h16, Or.inr q⟩)]; rfl
        · rw [if_neg h16]; rfl
    rw [e1, e2, hk, hw]
    exact ⟨⟨hno, gO_lf h17 k30, Nat.pos_of_ne_zero (isFo_pos hf), fun q => absurd q h17⟩, hz, rfl⟩
  · intro n f c ho hf h17 h2 hI hno
    have hc : ∀ p ∈ ps f, ∀ c', (tqF n p c').2 = (opF n p c').2 := fun p hp c' => (op_tq n p (hI p hp).2.2.2.2.1 (hI p hp).2.1 (hI p hp).2.2.1 c').1
    obtain ⟨a1, a2, a3⟩ := opS_L (n := n) (l := ps f) (c := c) (fun p hp => ⟨(hI p hp).2.2.2.1, (hI p hp).2.2.2.2.2⟩) hc
    rw [opF, if_pos h17, tqF, if_neg (by omega), if_pos h17]
    obtain ⟨b1, b2, b3, _⟩ := and_g a1 rfl
    refine ⟨b1, ?_, ?_⟩
    · have e : nz0 f = 1 + ((ps f).map szT).sum := by
        unfold nz0
        rw [if_neg (by omega), sz_pl (okT_0 ho) (by omega)]
      have := sum_map_le (f := nz0) (g := szT) (l := ps f) (fun p hp => nz0_le (hI p hp).2.1)
      show wtO (andT (opL (opF n) (ps f) c).1) ≤ _
      omega
    · show kO (andT (opL (opF n) (ps f) c).1) = (prodL (tqL (tqF n) (ps f) c).1).length
      rw [b3, a3, prodL_le2]
  · intro n f c ho hf h16 g17 og mg h2 hI hno
    have hm : ∀ q ∈ (ps (pa f 0)).map notT, ∃ p ∈ ps (pa f 0), notT p = q := fun q hq => List.mem_map.mp hq
    obtain ⟨a1, a2, a3⟩ := opS_L (n := n) (l := (ps (pa f 0)).map notT) (c := c) (fun q hq => by
      obtain ⟨p, hp, e⟩ := hm q hq
      rw [← e]
      exact ⟨(hI p hp).2.2.2.1, (hI p hp).2.2.2.2.2⟩) (fun q hq c' => by
      obtain ⟨p, hp, e⟩ := hm q hq
      obtain ⟨_, i2, i3, _, i5, _⟩ := hI p hp
      rw [← e]
      exact (op_tq n _ i5 (okT_not i2 i3).1 (okT_not i2 i3).2 c').1)
    rw [opF, if_neg (by omega), if_pos h16, if_pos g17, tqF, if_neg (by omega), if_neg (by omega), if_pos h16, if_neg (by omega), if_pos g17]
    have k : kd (mk 30 0 (opL (opF n) ((ps (pa f 0)).map notT) c).1) = 30 := kd_mk _ _ _
    have p : ps (mk 30 0 (opL (opF n) ((ps (pa f 0)).map notT) c).1) = (opL (opF n) ((ps (pa f 0)).map notT) c).1 := ps_mk _ _ _
    refine ⟨⟨fun q => ?_, ?_, ?_, fun q => ?_⟩, ?_, ?_⟩
    · have k2 := kd_no
      rw [← q, k] at k2; omega
    · rw [gO_eq]
      refine ⟨fun _ => ?_, fun _ t ht => ?_⟩
      · rw [p, opL_len, List.length_map]; exact h2
      · rw [p] at ht; exact (a1 t ht).2.1
    · have := mk_pos 30 0 (opL (opF n) ((ps (pa f 0)).map notT) c).1
      exact this
    · rw [k] at q; omega
    · show wtO (mk 30 0 _) ≤ _
      rw [wtO_eq]; unfold wtS; rw [if_pos (Or.inr k), p]
      have e : nz0 f = 1 + ((ps (pa f 0)).map szT).sum := by
        unfold nz0
        rw [if_pos h16, sz_pl (okT_0 og) (by omega)]
      have := sum_map_le (f := fun p => nz0 (notT p)) (g := szT) (l := ps (pa f 0)) (fun p hp => nz0_not (hI p hp).2.1)
      rw [List.map_map] at a2
      have a2 : ((opL (opF n) ((ps (pa f 0)).map notT) c).1.map wtO).sum ≤ ((ps (pa f 0)).map (fun p => nz0 (notT p))).sum := a2
      omega
    · show kO (mk 30 0 _) = (tqL (tqF n) ((ps (pa f 0)).map notT) c).1.flatten.length
      rw [kO_eq]; unfold kOS; rw [if_neg (by omega), if_pos k, p, a3, flat_len]
  · intro n f c ho hf h16 g18 og mg ob fb mb hn hh hi hI hno
    obtain ⟨a1, a2, a3⟩ := hI hn
    rw [opF, if_neg (by omega), if_pos h16, if_neg (by omega), if_pos g18, tqF, if_neg (by omega), if_neg (by omega), if_pos h16, if_neg (by omega), if_neg (by omega), if_pos g18]
    refine ⟨a1, ?_, a3⟩
    have h1 := nz0_not hi.1
    have h2 := szT_put (sz_cn (2 * c)) (pa (pa f 0) 1) ob 0
    have h3 := sz_subT (pa f 0) og (sub_c mb (sub_rf _))
    have e : nz0 f = szT (pa f 0) := by unfold nz0; rw [if_pos h16]
    omega
