/-! openings: what is made has few parts, none of them missing -/
def GdT (z : Nat) : Prop := P5 z ∧ ((kd z = 17 ∨ kd z = 30) → ∀ q ∈ ps z, q ≠ 0)
theorem gd_ok {z : Nat} (ho : okT z) (hz : szT z ≤ 5000) : GdT z := by
  refine ⟨?_, fun k q hq => ?_⟩
  · have := ps_sz ho
    unfold P5
    omega
  · rcases ho.n.2 with w | w | w | w | w | w | w | w | w | w | w | w | w | w <;> first | omega | exact isFo_pos (w.2.2.2 q hq).1
theorem and_gd {L : List Nat} {o : Nat} (h : ∀ x ∈ L, OpG x) (hg : ∀ t ∈ L.flatMap flt, GdT t) (hl : (L.flatMap flt).length ≤ 5000) (e : o = andT L) : GdT o ∧ ∀ x ∈ flt o, GdT x := by
  obtain ⟨a1, _, _⟩ := flts_g h
  unfold andT at e
  rw [if_neg (fun q => (h noT q).1 rfl)] at e
  generalize L.flatMap flt = M at a1 hg hl e
  match M, a1, hg, hl, e with
  | [], a1, hg, hl, e =>
    have k : kd o = 9 := by rw [e]; exact kd_yes
    have p0 : ps o = [] := by rw [e]; unfold yesT; rw [ps_mk]
    have g0 : GdT o := ⟨by unfold P5; rw [p0]; exact Nat.zero_le _, fun q => by omega⟩
    refine ⟨g0, fun x hx => ?_⟩
    unfold flt at hx
    rw [if_neg (fun q => by rw [q, kd_no] at k; omega), if_neg (by omega), if_pos e] at hx
    cases hx
  | [a], a1, hg, hl, e =>
    have e : o = a := e
    obtain ⟨g1, g2, g3, g4⟩ := a1 a List.mem_cons_self
    have ga := hg a List.mem_cons_self
    rw [e]
    refine ⟨ga, fun x hx => ?_⟩
    unfold flt at hx
    rw [if_neg g4, if_neg g3] at hx
    split at hx
    · cases hx
    · rw [List.mem_singleton.mp hx]; exact ga
  | a :: b :: M', a1, hg, hl, e =>
    have e : o = mk 17 0 (a :: b :: M') := e
    have k : kd o = 17 := by rw [e]; exact kd_mk _ _ _
    have p : ps o = a :: b :: M' := by rw [e]; exact ps_mk _ _ _
    refine ⟨⟨by unfold P5; rw [p]; exact hl, fun _ q hq => ?_⟩, fun x hx => ?_⟩
    · rw [p] at hq
      have := (a1 q hq).2.1
      omega
    · unfold flt at hx
      rw [if_neg (fun q => by rw [q, kd_no] at k; omega), if_pos k, p] at hx
      exact hg x hx
def OpX (n f c : Nat) : Prop := f ≠ noT → szT f ≤ 5000 → GdT (opF n f c).1 ∧ ∀ x ∈ flt (opF n f c).1, GdT x
theorem opX_L {n : Nat} : ∀ {l : List Nat} {c : Nat}, (∀ p ∈ l, p ≠ noT ∧ szT p ≤ 5000 ∧ ∀ c', OpX n p c') → ∀ x ∈ (opL (opF n) l c).1, GdT x ∧ ∀ t ∈ flt x, GdT t
  | [], _, _, x, hx => by cases hx
  | p :: l, c, h, x, hx => by
    have hx : x ∈ (opF n p c).1 :: (opL (opF n) l (opF n p c).2).1 := hx
    rcases List.mem_cons.mp hx with q | q
    · rw [q]
      obtain ⟨q1, q2, q3⟩ := h p List.mem_cons_self
      exact q3 c q1 q2
    · exact opX_L (fun q hq => h q (List.mem_cons_of_mem _ hq)) x q
theorem op_X : ∀ n f c, htT f < n → okT f → isFo f → OpX n f c := by
  refine op_ind ?_ ?_ ?_ ?_
  · intro n f c ho hf hL hno hz
    have e1 : (opF (n + 1) f c).1 = f := by
      rw [opF, if_neg hL.1]
      by_cases h16 : kd f = 16
      · rw [if_pos h16, if_neg (fun q => hL.2 ⟨h16, Or.inl q⟩), if_neg (fun q => hL.2 ⟨h16, Or.inr q⟩)]
      · rw [if_neg h16]
    rw [e1]
    have g0 := gd_ok ho hz
    refine ⟨g0, fun x hx => ?_⟩
    unfold flt at hx
    rw [if_neg hno, if_neg hL.1] at hx
    split at hx
    · cases hx
    · rw [List.mem_singleton.mp hx]; exact g0
  · intro n f c ho hf h17 h2 hI hno hz
    have sz : ∀ p ∈ ps f, szT p ≤ szT f := fun p hp => sz_subT f ho (sub_c (hI p hp).1 (sub_rf p))
    have hc : ∀ p ∈ ps f, ∀ c', (tqF n p c').2 = (opF n p c').2 := fun p hp c' => (op_tq n p (hI p hp).2.2.2.2.1 (hI p hp).2.1 (hI p hp).2.2.1 c').1
    obtain ⟨a1, a2, a3⟩ := opS_L (n := n) (l := ps f) (c := c) (fun p hp => ⟨(hI p hp).2.2.2.1, fun c' => op_S n p c' (hI p hp).2.2.2.2.1 (hI p hp).2.1 (hI p hp).2.2.1⟩) hc
    obtain ⟨b1, b2, _⟩ := flts_g a1
    have h1 := sum_map_le (f := nz0) (g := szT) (l := ps f) (fun p hp => nz0_le (hI p hp).2.1)
    have e : szT f = 1 + ((ps f).map szT).sum := sz_pl (okT_0 ho) (by omega)
    have h3 := sum_pos2 (((opL (opF n) (ps f) c).1.flatMap flt).map wtO) (fun x hx => by
      obtain ⟨t, _, e⟩ := List.mem_map.mp hx
      rw [← e]; exact wtO_pos t)
    rw [List.length_map] at h3
    have hx := opX_L (n := n) (l := ps f) (c := c) (fun p hp => ⟨(hI p hp).2.2.2.1, by have := sz p hp; omega, (hI p hp).2.2.2.2.2⟩)
    rw [opF, if_pos h17]
    exact and_gd a1 (fun t ht => by
      obtain ⟨x, x1, x2⟩ := List.mem_flatMap.mp ht
      exact (hx x x1).2 t x2) (by omega) rfl
  · intro n f c ho hf h16 g17 og mg h2 hI hno hz
    have hg := sz_subT f ho (sub_c mg (sub_rf _))
    have e : szT (pa f 0) = 1 + ((ps (pa f 0)).map szT).sum := sz_pl (okT_0 og) (by omega)
    have hm : ∀ q ∈ (ps (pa f 0)).map notT, ∃ p ∈ ps (pa f 0), notT p = q := fun q hq => List.mem_map.mp hq
    obtain ⟨a1, a2, a3⟩ := opS_L (n := n) (l := (ps (pa f 0)).map notT) (c := c) (fun q hq => by
      obtain ⟨p, hp, e⟩ := hm q hq
      rw [← e]
      obtain ⟨_, i2, i3, i4, i5, _⟩ := hI p hp
      exact ⟨i4, fun c' => op_S n _ c' i5 (okT_not i2 i3).1 (okT_not i2 i3).2⟩) (fun q hq c' => by
      obtain ⟨p, hp, e⟩ := hm q hq
      obtain ⟨_, i2, i3, _, i5, _⟩ := hI p hp
      rw [← e]
      exact (op_tq n _ i5 (okT_not i2 i3).1 (okT_not i2 i3).2 c').1)
    have h5 := sum_pos2 ((ps (pa f 0)).map szT) (fun x hx => by
      obtain ⟨p, hp, e⟩ := List.mem_map.mp hx
      have := sz_fms (okT_0 (hI p hp).2.1)
      omega)
    rw [List.length_map] at h5
    rw [opF, if_neg (by omega), if_pos h16, if_pos g17]
    have k : kd (mk 30 0 (opL (opF n) ((ps (pa f 0)).map notT) c).1) = 30 := kd_mk _ _ _
    have g0 : GdT (mk 30 0 (opL (opF n) ((ps (pa f 0)).map notT) c).1) := by
      refine ⟨?_, fun _ q hq => ?_⟩
      · unfold P5
        rw [ps_mk, opL_len, List.length_map]
        omega
      · rw [ps_mk] at hq
        have := (a1 q hq).2.2.1
        omega
    refine ⟨g0, fun x hx => ?_⟩
    have k2 := kd_no
    have k3 := kd_yes
    unfold flt at hx
    rw [if_neg (fun q => by rw [← q] at k2; rw [k] at k2; omega), if_neg (fun q => by rw [k] at q; omega), if_neg (fun q => by rw [← q] at k3; rw [k] at k3; omega)] at hx
    rw [List.mem_singleton.mp hx]
    exact g0
  · intro n f c ho hf h16 g18 og mg ob fb mb hn hh hi hI hno hz
    have hg := sz_subT f ho (sub_c mg (sub_rf _))
    have h3 := sz_c mb
    have h1 := sz_not_le hi.1
    have h2 := szT_put (sz_cn (2 * c)) (pa (pa f 0) 1) ob 0
    rw [opF, if_neg (by omega), if_pos h16, if_neg (by omega), if_pos g18]
    exact hI hn (by omega)
def OpGd (W : Wd) (n f c : Nat) : Prop := f ≠ noT → TyA W c (opY n f c) → szT f ≤ 5000 → opR W GdT n f c
theorem opGd_L {W : Wd} {n : Nat} : ∀ {l : List Nat} {c : Nat}, (∀ p ∈ l, p ≠ noT ∧ szT p ≤ 5000 ∧ ∀ c', OpGd W n p c') → TyA W c (opYL (opY n) (opF n) l c) → opRL (opR W GdT n) (opF n) l c
  | [], _, _, _ => trivial
  | p :: l, c, h, ht => by
    obtain ⟨h1, h2⟩ := TyA.app (show TyA W c (opY n p c ++ opYL (opY n) (opF n) l (opF n p c).2) from ht)
    rw [← opY_len] at h2
    obtain ⟨q1, q2, q3⟩ := h p List.mem_cons_self
    exact ⟨q3 c q1 h1 q2, opGd_L (fun q hq => h q (List.mem_cons_of_mem _ hq)) h2⟩
theorem op_Gd {W : Wd} : ∀ n f c, htT f < n → okT f → isFo f → OpGd W n f c := by
  refine op_ind ?_ ?_ ?_ ?_
  · intro n f c ho hf hL _ _ _
    exact ⟨fun q => absurd q hL.1, fun q q2 => absurd ⟨q, Or.inl q2⟩ hL.2, fun q q2 => absurd ⟨q, Or.inr q2⟩ hL.2⟩
  · intro n f c ho hf h17 h2 hI hno ht hz
    rw [opY, if_pos h17] at ht
    have sz : ∀ p ∈ ps f, szT p ≤ szT f := fun p hp => sz_subT f ho (sub_c (hI p hp).1 (sub_rf p))
    have hR := opGd_L (W := W) (n := n) (l := ps f) (c := c) (fun p hp => ⟨(hI p hp).2.2.2.1, by have := sz p hp; omega, (hI p hp).2.2.2.2.2⟩) ht
    have hc : ∀ p ∈ ps f, ∀ c', (tqF n p c').2 = (opF n p c').2 := fun p hp c' => (op_tq n p (hI p hp).2.2.2.2.1 (hI p hp).2.1 (hI p hp).2.2.1 c').1
    obtain ⟨a1, a2, a3⟩ := opS_L (n := n) (l := ps f) (c := c) (fun p hp => ⟨(hI p hp).2.2.2.1, fun c' => op_S n p c' (hI p hp).2.2.2.2.1 (hI p hp).2.1 (hI p hp).2.2.1⟩) hc
    obtain ⟨b1, b2, _⟩ := flts_g a1
    have h1 := sum_map_le (f := nz0) (g := szT) (l := ps f) (fun p hp => nz0_le (hI p hp).2.1)
    have e : szT f = 1 + ((ps f).map szT).sum := sz_pl (okT_0 ho) (by omega)
    have h3 := sum_pos2 (((opL (opF n) (ps f) c).1.flatMap flt).map wtO) (fun x hx => by
      obtain ⟨t, _, e⟩ := List.mem_map.mp hx
      rw [← e]; exact wtO_pos t)
    rw [List.length_map] at h3
    have hx := opX_L (n := n) (l := ps f) (c := c) (fun p hp => ⟨(hI p hp).2.2.2.1, by have := sz p hp; omega, fun c' => op_X n p c' (hI p hp).2.2.2.2.1 (hI p hp).2.1 (hI p hp).2.2.1⟩)
    have hgd := (and_gd a1 (fun t ht => by
      obtain ⟨x, x1, x2⟩ := List.mem_flatMap.mp ht
      exact (hx x x1).2 t x2) (by omega) (rfl : andT (opL (opF n) (ps f) c).1 = _)).1
    exact ⟨fun _ => ⟨hR, hgd, by omega, fun h hh k t ht => ((a1 h hh).2.2.2 k t ht).1⟩, fun q => by omega, fun q => by omega⟩
  · intro n f c ho hf h16 g17 og mg h2 hI hno ht hz
    rw [opY, if_neg (by omega), if_pos h16, if_pos g17] at ht
    have hg := sz_subT f ho (sub_c mg (sub_rf _))
    have e : szT (pa f 0) = 1 + ((ps (pa f 0)).map szT).sum := sz_pl (okT_0 og) (by omega)
    have hR := opGd_L (W := W) (n := n) (l := (ps (pa f 0)).map notT) (c := c) (fun q hq => by
      obtain ⟨p, hp, eq⟩ := List.mem_map.mp hq
      rw [← eq]
      have h1 := sz_not_le (hI p hp).2.1
      have h2 := le_sum_mem (f := szT) hp
      exact ⟨(hI p hp).2.2.2.1, by omega, (hI p hp).2.2.2.2.2⟩) ht
    have hm : ∀ q ∈ (ps (pa f 0)).map notT, ∃ p ∈ ps (pa f 0), notT p = q := fun q hq => List.mem_map.mp hq
    obtain ⟨a1, a2, a3⟩ := opS_L (n := n) (l := (ps (pa f 0)).map notT) (c := c) (fun q hq => by
      obtain ⟨p, hp, e⟩ := hm q hq
      rw [← e]
      obtain ⟨_, i2, i3, i4, i5, _⟩ := hI p hp
      exact ⟨i4, fun c' => op_S n _ c' i5 (okT_not i2 i3).1 (okT_not i2 i3).2⟩) (fun q hq c' => by
      obtain ⟨p, hp, e⟩ := hm q hq
      obtain ⟨_, i2, i3, _, i5, _⟩ := hI p hp
      rw [← e]
      exact (op_tq n _ i5 (okT_not i2 i3).1 (okT_not i2 i3).2 c').1)
    refine ⟨fun q => by omega, fun _ _ => ⟨fun p hp => ?_, hR, ?_, fun _ q hq => ?_⟩, fun _ q => by omega⟩
    · have h1 := sz_not_le (hI p hp).2.1
      have h2 := le_sum_mem (f := szT) hp
      exact gd_ok (okT_not (hI p hp).2.1 (hI p hp).2.2.1).1 (by omega)
    · unfold P5
      rw [ps_mk, opL_len, List.length_map]
      have := sum_pos2 ((ps (pa f 0)).map szT) (fun x hx => by
        obtain ⟨p, hp, e⟩ := List.mem_map.mp hx
        have := sz_fms (okT_0 (hI p hp).2.1)
        omega)
      rw [List.length_map] at this
      omega
    · rw [ps_mk] at hq
      have := (a1 q hq).2.2.1
      omega
  · intro n f c ho hf h16 g18 og mg ob fb mb hn hh hi hI hno ht hz
    rw [opY, if_neg (by omega), if_pos h16, if_neg (by omega), if_pos g18] at ht
    obtain ⟨t1, t2⟩ := TyA.app (A := [pa (pa f 0) 0]) ht
    have h0 := t1 0 (by simp)
    have hg := sz_subT f ho (sub_c mg (sub_rf _))
    have h3 := sz_c mb
    have h1 := sz_not_le hi.1
    have h2 := szT_put (sz_cn (2 * c)) (pa (pa f 0) 1) ob 0
    refine ⟨fun q => by omega, fun _ q => by omega, fun _ _ => ⟨⟨h0, gd_ok (okT_const _).1 (by rw [sz_cn]; decide), ImT_sub (gN0_putg (okT_0 (okT_const _).1)) _ ob 0 (fun z hz => gd_ok (sub_ok _ hi.1 hz) (by have := sz_subT _ hi.1 hz; omega)), gd_ok (okT_not hi.1 hi.2).1 (by omega)⟩, hI hn t2 (by omega)⟩⟩
theorem opRL_2 {G1 G2 G3 : Nat → Nat → Prop} {F : Nat → Nat → Nat × Nat} (h : ∀ p c, G1 p c → G2 p c → G3 p c) : ∀ (l : List Nat) (c : Nat), opRL G1 F l c → opRL G2 F l c → opRL G3 F l c
  | [], _, _, _ => trivial
  | p :: l, c, h1, h2 => ⟨h p c h1.1 h2.1, opRL_2 h l _ h1.2 h2.2⟩
theorem ImT_2 {X Y : Nat → Prop} {g : Nat → Nat → Nat} : ∀ (t d : Nat), ImT X g t d → ImT Y g t d → ImT (fun z => X z ∧ Y z) g t d := by
  intro t
  induction t using Nat.strongRecOn with
  | ind t ih =>
    intro d h1 h2
    rw [ImT_eq] at h1 h2 ⊢
    exact ⟨⟨h1.1, h2.1⟩, fun i c hc hi h0 => ih c (ps_lt (List.mem_of_getElem? hc)) _ (h1.2 i c hc hi h0) (h2.2 i c hc hi h0)⟩
theorem opR_2 {W : Wd} {X Y : Nat → Prop} : ∀ (n f c : Nat), opR W X n f c → opR W Y n f c → opR W (fun z => X z ∧ Y z) n f c
  | 0, _, _, h, _ => h
  | n + 1, f, c, h1, h2 => by
    rw [opR] at h1 h2 ⊢
    refine ⟨fun k => ?_, fun k k2 => ?_, fun k k2 => ?_⟩
    · obtain ⟨a1, a2, a3⟩ := h1.1 k
      obtain ⟨b1, b2, _⟩ := h2.1 k
      exact ⟨opRL_2 (fun p c => opR_2 n p c) _ _ a1 b1, ⟨a2, b2⟩, a3⟩
    · obtain ⟨a1, a2, a3⟩ := h1.2.1 k k2
      obtain ⟨b1, b2, b3⟩ := h2.2.1 k k2
      exact ⟨fun p hp => ⟨a1 p hp, b1 p hp⟩, opRL_2 (fun p c => opR_2 n p c) _ _ a2 b2, a3, b3⟩
    · obtain ⟨⟨a1, a2, a3, a4⟩, a5⟩ := h1.2.2 k k2
      obtain ⟨⟨b1, b2, b3, b4⟩, b5⟩ := h2.2.2 k k2
      exact ⟨⟨a1, ⟨a2, b2⟩, ImT_2 _ _ a3 b3, a4, b4⟩, opR_2 n _ _ a5 b5⟩
