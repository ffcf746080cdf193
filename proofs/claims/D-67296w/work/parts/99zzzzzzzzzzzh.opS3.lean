/-! openings: the types of the new constants -/
def opYL (Y : Nat → Nat → List Nat) (F : Nat → Nat → Nat × Nat) : List Nat → Nat → List Nat
  | [], _ => []
  | p :: l, c => Y p c ++ opYL Y F l (F p c).2
def opY : Nat → Nat → Nat → List Nat
  | 0, _, _ => []
  | n + 1, f, c => if kd f = 17 then opYL (opY n) (opF n) (ps f) c else if kd f = 16 then (if kd (pa f 0) = 17 then opYL (opY n) (opF n) ((ps (pa f 0)).map notT) c else if kd (pa f 0) = 18 then pa (pa f 0) 0 :: opY n (notT (sbT (putg (mk 1 (2 * c) [])) 0 (pa (pa f 0) 1))) (c + 1) else []) else []
theorem opYL_len {Y : Nat → Nat → List Nat} {F : Nat → Nat → Nat × Nat} (h : ∀ p c, (F p c).2 = c + (Y p c).length) : ∀ (l : List Nat) (c : Nat), (opL F l c).2 = c + (opYL Y F l c).length
  | [], _ => rfl
  | p :: l, c => by
    show (opL F l (F p c).2).2 = c + (Y p c ++ opYL Y F l (F p c).2).length
    rw [opYL_len h l, List.length_append, h p c]
    omega
theorem opY_len : ∀ (n f c : Nat), (opF n f c).2 = c + (opY n f c).length
  | 0, _, _ => rfl
  | n + 1, f, c => by
    rw [opF, opY]
    split
    · exact opYL_len (opY_len n) _ _
    · split
      · split
        · exact opYL_len (opY_len n) _ _
        · split
          · rw [opY_len n, List.length_cons]; omega
          · rfl
      · rfl
/-- the constants from c on have these types -/
def TyA (W : Wd) (c : Nat) (L : List Nat) : Prop := ∀ i, i < L.length → wcT W (2 * (c + i)) = L.getD i 0
theorem TyA.app {W : Wd} {c : Nat} {A B : List Nat} (h : TyA W c (A ++ B)) : TyA W c A ∧ TyA W (c + A.length) B := by
  refine ⟨fun i hi => ?_, fun i hi => ?_⟩
  · have := h i (by rw [List.length_append]; omega)
    rw [this]
    simp [List.getD_eq_getElem?_getD, List.getElem?_append_left hi]
  · have := h (A.length + i) (by rw [List.length_append]; omega)
    rw [← Nat.add_assoc] at this
    rw [this]
    simp [List.getD_eq_getElem?_getD, List.getElem?_append_right]
def OpTy (W : Wd) (n f c : Nat) : Prop := f ≠ noT → TyA W c (opY n f c) → szT f ≤ 5000 → opR W (fun _ => True) n f c
theorem opTy_L {W : Wd} {n : Nat} : ∀ {l : List Nat} {c : Nat}, (∀ p ∈ l, p ≠ noT ∧ szT p ≤ 5000 ∧ ∀ c', OpTy W n p c') → TyA W c (opYL (opY n) (opF n) l c) → opRL (opR W (fun _ => True) n) (opF n) l c
  | [], _, _, _ => trivial
  | p :: l, c, h, ht => by
    obtain ⟨h1, h2⟩ := TyA.app (show TyA W c (opY n p c ++ opYL (opY n) (opF n) l (opF n p c).2) from ht)
    rw [← opY_len] at h2
    obtain ⟨q1, q2, q3⟩ := h p List.mem_cons_self
    exact ⟨q3 c q1 h1 q2, opTy_L (fun q hq => h q (List.mem_cons_of_mem _ hq)) h2⟩
theorem op_Ty {W : Wd} : ∀ n f c, htT f < n → okT f → isFo f → OpTy W n f c := by
  refine op_ind ?_ ?_ ?_ ?_
  · intro n f c ho hf hL _ _ _
    exact ⟨fun q => absurd q hL.1, fun q q2 => absurd ⟨q, Or.inl q2⟩ hL.2, fun q q2 => absurd ⟨q, Or.inr q2⟩ hL.2⟩
  · intro n f c ho hf h17 h2 hI hno ht hz
    rw [opY, if_pos h17] at ht
    have sz : ∀ p ∈ ps f, szT p ≤ szT f := fun p hp => sz_subT f ho (sub_c (hI p hp).1 (sub_rf p))
    have hR := opTy_L (W := W) (n := n) (l := ps f) (c := c) (fun p hp => ⟨(hI p hp).2.2.2.1, by have := sz p hp; omega, (hI p hp).2.2.2.2.2⟩) ht
    have hc : ∀ p ∈ ps f, ∀ c', (tqF n p c').2 = (opF n p c').2 := fun p hp c' => (op_tq n p (hI p hp).2.2.2.2.1 (hI p hp).2.1 (hI p hp).2.2.1 c').1
    obtain ⟨a1, a2, a3⟩ := opS_L (n := n) (l := ps f) (c := c) (fun p hp => ⟨(hI p hp).2.2.2.1, fun c' => op_S n p c' (hI p hp).2.2.2.2.1 (hI p hp).2.1 (hI p hp).2.2.1⟩) hc
    obtain ⟨b1, b2, _⟩ := flts_g a1
    have h1 := sum_map_le (f := nz0) (g := szT) (l := ps f) (fun p hp => nz0_le (hI p hp).2.1)
    have e : szT f = 1 + ((ps f).map szT).sum := sz_pl (okT_0 ho) (by omega)
    have h3 := sum_pos2 (((opL (opF n) (ps f) c).1.flatMap flt).map wtO) (fun x hx => by
      obtain ⟨t, _, e⟩ := List.mem_map.mp hx
      rw [← e]; exact wtO_pos t)
    rw [List.length_map] at h3
    exact ⟨fun _ => ⟨hR, trivial, by omega, fun h hh k t ht => ((a1 h hh).2.2.2 k t ht).1⟩, fun q => by omega, fun q => by omega⟩
  · intro n f c ho hf h16 g17 og mg h2 hI hno ht hz
    rw [opY, if_neg (by omega), if_pos h16, if_pos g17] at ht
    have hg := sz_subT f ho (sub_c mg (sub_rf _))
    have e : szT (pa f 0) = 1 + ((ps (pa f 0)).map szT).sum := sz_pl (okT_0 og) (by omega)
    have hR := opTy_L (W := W) (n := n) (l := (ps (pa f 0)).map notT) (c := c) (fun q hq => by
      obtain ⟨p, hp, eq⟩ := List.mem_map.mp hq
      rw [← eq]
      have h1 := sz_not_le (hI p hp).2.1
      have h2 := le_sum_mem (f := szT) hp
      exact ⟨(hI p hp).2.2.2.1, by omega, (hI p hp).2.2.2.2.2⟩) ht
    exact ⟨fun q => by omega, fun _ _ => ⟨fun _ _ => trivial, hR, trivial⟩, fun _ q => by omega⟩
  · intro n f c ho hf h16 g18 og mg ob fb mb hn hh hi hI hno ht hz
    rw [opY, if_neg (by omega), if_pos h16, if_neg (by omega), if_pos g18] at ht
    obtain ⟨t1, t2⟩ := TyA.app (A := [pa (pa f 0) 0]) ht
    have h0 := t1 0 (by simp)
    have hg := sz_subT f ho (sub_c mg (sub_rf _))
    have h3 := sz_c mb
    have h1 := sz_not_le hi.1
    have h2 := szT_put (sz_cn (2 * c)) (pa (pa f 0) 1) ob 0
    refine ⟨fun q => by omega, fun _ q => by omega, fun _ _ => ⟨⟨h0, trivial, ImT_sub (gN0_putg (okT_0 (okT_const _).1)) _ ob 0 (fun _ _ => trivial), trivial⟩, hI hn t2 (by omega)⟩⟩
/-! openings: what comes of it is closed, and no larger -/
def OpK (W : Wd) (N : Nat → Prop) (n f c : Nat) : Prop := frW W N f → closT f → f ≠ noT → (∀ i, c ≤ i → i < (opF n f c).2 → N (2 * i)) → (∀ t ∈ opY n f c, clty W N t ∧ szT t ≤ szT f) ∧ ∀ x ∈ (tqF n f c).1, (∀ z ∈ x, frW W N z ∧ closT z ∧ isFo z ∧ szT z ≤ szT f ∧ htT z ≤ htT f ∧ z ≠ noT ∧ kd z ≠ 9) ∧ (x.map nz0).sum ≤ nz0 f
theorem opK_L {W : Wd} {N : Nat → Prop} {n S H : Nat} : ∀ {l : List Nat} {c : Nat}, (∀ p ∈ l, (frW W N p ∧ closT p ∧ p ≠ noT ∧ szT p ≤ S ∧ htT p ≤ H) ∧ ∀ c', OpK W N n p c') → (∀ p ∈ l, ∀ c', (tqF n p c').2 = (opF n p c').2) → (∀ i, c ≤ i → i < (opL (opF n) l c).2 → N (2 * i)) → (∀ t ∈ opYL (opY n) (opF n) l c, clty W N t ∧ szT t ≤ S) ∧ (∀ A ∈ (tqL (tqF n) l c).1, ∃ p ∈ l, ∀ x ∈ A, (∀ z ∈ x, frW W N z ∧ closT z ∧ isFo z ∧ szT z ≤ S ∧ htT z ≤ H ∧ z ≠ noT ∧ kd z ≠ 9) ∧ (x.map nz0).sum ≤ nz0 p) ∧ ∀ x ∈ prodL (tqL (tqF n) l c).1, (∀ z ∈ x, frW W N z ∧ closT z ∧ isFo z ∧ szT z ≤ S ∧ htT z ≤ H ∧ z ≠ noT ∧ kd z ≠ 9) ∧ (x.map nz0).sum ≤ (l.map nz0).sum
  | [], _, _, _, _ => ⟨fun t ht => (by cases ht), fun A hA => (by cases hA), fun x hx => by
    have hx : x ∈ [[]] := hx
    rw [List.mem_singleton.mp hx]
    exact ⟨fun z hz => (by cases hz), Nat.le_refl _⟩⟩
  | p :: l, c, h, hc, hN => by
    obtain ⟨⟨p1, p2, p3, p4, p5⟩, p6⟩ := h p List.mem_cons_self
    have ec := hc p List.mem_cons_self c
    have hN1 : ∀ i, c ≤ i → i < (opL (opF n) l (opF n p c).2).2 → N (2 * i) := hN
    have m1 := opF_le n p c
    have m2 := opL_le (opF_le n) l (opF n p c).2
    obtain ⟨a1, a2⟩ := p6 c p1 p2 p3 (fun i i1 i2 => hN1 i i1 (by omega))
    obtain ⟨b1, b2, b3⟩ := opK_L (W := W) (N := N) (n := n) (S := S) (H := H) (l := l) (c := (opF n p c).2) (fun q hq => h q (List.mem_cons_of_mem _ hq)) (fun q hq => hc q (List.mem_cons_of_mem _ hq)) (fun i i1 i2 => hN1 i (by omega) i2)
    have a2' : ∀ x ∈ (tqF n p c).1, (∀ z ∈ x, frW W N z ∧ closT z ∧ isFo z ∧ szT z ≤ S ∧ htT z ≤ H ∧ z ≠ noT ∧ kd z ≠ 9) ∧ (x.map nz0).sum ≤ nz0 p := fun x hx => ⟨fun z hz => by
      obtain ⟨z1, z2, z3, z4, z5, z6⟩ := (a2 x hx).1 z hz
      exact ⟨z1, z2, z3, by omega, by omega, z6⟩, (a2 x hx).2⟩
    refine ⟨fun t ht => ?_, fun A hA => ?_, fun x hx => ?_⟩
    · have ht : t ∈ opY n p c ++ opYL (opY n) (opF n) l (opF n p c).2 := ht
      rcases List.mem_append.mp ht with q | q
      · exact ⟨(a1 t q).1, by have := (a1 t q).2; omega⟩
      · exact b1 t q
    · have hA : A ∈ (tqF n p c).1 :: (tqL (tqF n) l (tqF n p c).2).1 := hA
      rcases List.mem_cons.mp hA with q | q
      · rw [q]; exact ⟨p, List.mem_cons_self, a2'⟩
      · rw [ec] at q
        obtain ⟨p', h1, h2⟩ := b2 A q
        exact ⟨p', List.mem_cons_of_mem _ h1, h2⟩
    · have hx : x ∈ (prodL (tqL (tqF n) l (tqF n p c).2).1).flatMap (fun y => (tqF n p c).1.map (fun x => x ++ y)) := hx
      obtain ⟨y, hy, hx⟩ := List.mem_flatMap.mp hx
      obtain ⟨x', hx', e⟩ := List.mem_map.mp hx
      rw [ec] at hy
      obtain ⟨c1, c2⟩ := a2' x' hx'
      obtain ⟨d1, d2⟩ := b3 y hy
      rw [← e]
      refine ⟨fun z hz => (List.mem_append.mp hz).elim (c1 z) (d1 z), ?_⟩
      rw [List.map_append, List.sum_append, List.map_cons, List.sum_cons]
      omega
theorem op_K {W : Wd} {N : Nat → Prop} : ∀ n f c, htT f < n → okT f → isFo f → OpK W N n f c := by
  refine op_ind ?_ ?_ ?_ ?_
  · intro n f c ho hf hL hw hcl hno _
    have h17 := hL.1
    refine ⟨fun t ht => ?_, fun x hx => ?_⟩
    · rw [opY, if_neg h17] at ht
      by_cases h16 : kd f = 16
      · rw [if_pos h16, if_neg (fun q => hL.2 ⟨h16, Or.inl q⟩), if_neg (fun q => hL.2 ⟨h16, Or.inr q⟩)] at ht; cases ht
      · rw [if_neg h16] at ht; cases ht
    · rw [tqF] at hx
      by_cases h9 : kd f = 9
      · rw [if_pos h9] at hx
        have hx : x ∈ [[]] := hx
        rw [List.mem_singleton.mp hx]
        exact ⟨fun z hz => (by cases hz), Nat.zero_le _⟩
      · have hx : x ∈ [[f]] := by
          rw [if_neg h9, if_neg h17] at hx
          by_cases h16 : kd f = 16
          · rw [if_pos h16, if_neg (fun q => hno (no_of ho h16 q)), if_neg (fun q => hL.2 ⟨h16, Or.inl q⟩), if_neg (fun q => hL.2 ⟨h16, Or.inr q⟩)] at hx; exact hx
          · rw [if_neg h16] at hx; exact hx
        rw [List.mem_singleton.mp hx]
        refine ⟨fun z hz => ?_, by simp⟩
        rw [List.mem_singleton.mp hz]
        exact ⟨hw, hcl, hf, Nat.le_refl _, Nat.le_refl _, hno, h9⟩
  · intro n f c ho hf h17 h2 hI hw hcl hno hN
    rw [opF, if_pos h17] at hN
    have hc : ∀ p ∈ ps f, ∀ c', (tqF n p c').2 = (opF n p c').2 := fun p hp c' => (op_tq n p (hI p hp).2.2.2.2.1 (hI p hp).2.1 (hI p hp).2.2.1 c').1
    obtain ⟨a1, a2, a3⟩ := opK_L (W := W) (N := N) (n := n) (S := szT f) (H := htT f) (l := ps f) (c := c) (fun p hp => ⟨⟨hw.part (hI p hp).1, hcl.part ho.n (by omega) (hI p hp).1, (hI p hp).2.2.2.1, sz_subT f ho (sub_c (hI p hp).1 (sub_rf p)), by have := ht_c (hI p hp).1; omega⟩, (hI p hp).2.2.2.2.2⟩) hc hN
    rw [opY, if_pos h17, tqF, if_neg (by omega), if_pos h17]
    refine ⟨a1, fun x hx => ⟨(a3 x hx).1, ?_⟩⟩
    have h1 := (a3 x hx).2
    have h3 := sum_map_le (f := nz0) (g := szT) (l := ps f) (fun p hp => nz0_le (hI p hp).2.1)
    have e : nz0 f = 1 + ((ps f).map szT).sum := by unfold nz0; rw [if_neg (by omega), sz_pl (okT_0 ho) (by omega)]
    omega
  · intro n f c ho hf h16 g17 og mg h2 hI hw hcl hno hN
    rw [opF, if_neg (by omega), if_pos h16, if_pos g17] at hN
    have wg := hw.part mg
    have cg := hcl.part ho.n (by omega) mg
    have hg := sz_c mg
    have hhg := ht_c mg
    have hm : ∀ q ∈ (ps (pa f 0)).map notT, ∃ p ∈ ps (pa f 0), notT p = q := fun q hq => List.mem_map.mp hq
    have e : szT (pa f 0) = 1 + ((ps (pa f 0)).map szT).sum := sz_pl (okT_0 og) (by omega)
    obtain ⟨a1, a2, a3⟩ := opK_L (W := W) (N := N) (n := n) (S := szT f) (H := htT f) (l := (ps (pa f 0)).map notT) (c := c) (fun q hq => by
      obtain ⟨p, hp, eq⟩ := hm q hq
      obtain ⟨i1, i2, i3, i4, i5, i6⟩ := hI p hp
      have h1 := sz_not_le i2
      have h3 := le_sum_mem (f := szT) hp
      have h4 := ht_c i1
      have h5 := ht_not i2
      rw [← eq]
      exact ⟨⟨frW_not (wg.part i1) i3, closT_not i2 i3 (cg.part og.n (by omega) i1), i4, by omega, by omega⟩, i6⟩) (fun q hq c' => by
      obtain ⟨p, hp, eq⟩ := hm q hq
      obtain ⟨_, i2, i3, _, i5, _⟩ := hI p hp
      rw [← eq]
      exact (op_tq n _ i5 (okT_not i2 i3).1 (okT_not i2 i3).2 c').1) hN
    rw [opY, if_neg (by omega), if_pos h16, if_pos g17, tqF, if_neg (by omega), if_neg (by omega), if_pos h16, if_neg (by omega), if_pos g17]
    refine ⟨a1, fun x hx => ?_⟩
    obtain ⟨A, hA, hx⟩ := List.mem_flatten.mp hx
    obtain ⟨q, hq, h3⟩ := a2 A hA
    obtain ⟨p, hp, eq⟩ := hm q hq
    refine ⟨(h3 x hx).1, ?_⟩
    have h4 := (h3 x hx).2
    have h5 := nz0_not (hI p hp).2.1
    have h6 := le_sum_mem (f := szT) hp
    have e2 : nz0 f = szT (pa f 0) := by unfold nz0; rw [if_pos h16]
    rw [← eq] at h4
    omega
  · intro n f c ho hf h16 g18 og mg ob fb mb hn hh hi hI hw hcl hno hN
    rw [opF, if_neg (by omega), if_pos h16, if_neg (by omega), if_pos g18] at hN
    have wg := hw.part mg
    have cg := hcl.part ho.n (by omega) mg
    have hg := sz_c mg
    have hhg := ht_c mg
    have hb := sz_c mb
    have hhb := ht_c mb
    obtain ⟨c1, c2, c3, c4⟩ := all_clo wg cg g18
    have mle := opF_le n (notT (sbT (putg (mk 1 (2 * c) [])) 0 (pa (pa f 0) 1))) (c + 1)
    have hct : cltm W N (mk 1 (2 * c) []) := const_ok (hN c (Nat.le_refl _) (by omega))
    have fp := put_fr (e := 0) c3 hct
    have cp : closT (sbT (putg (mk 1 (2 * c) [])) 0 (pa (pa f 0) 1)) := ⟨Nat.le_zero.mp (lo_put hct.2.2.1 _ c3.1 0 c2), lv_put c3.1 c4 hct.2.2.2⟩
    obtain ⟨a1, a2⟩ := hI (frW_not fp hi.2) (closT_not hi.1 hi.2 cp) hn (fun i i1 i2 => hN i (by omega) i2)
    have h1 := sz_not_le hi.1
    have h2 := szT_put (sz_cn (2 * c)) (pa (pa f 0) 1) ob 0
    have h3 := ht_not hi.1
    have h4 := ht_put_le (ht_con (2 * c)) (pa (pa f 0) 1) ob 0
    have h5 := nz0_not hi.1
    have e2 : nz0 f = szT (pa f 0) := by unfold nz0; rw [if_pos h16]
    obtain ⟨ty, bd, e1, py, pb, k8, hbf, my, mb', _⟩ := all_parts og g18
    have ht := sz_c my
    rw [opY, if_neg (by omega), if_pos h16, if_neg (by omega), if_pos g18, tqF, if_neg (by omega), if_neg (by omega), if_pos h16, if_neg (by omega), if_neg (by omega), if_pos g18]
    refine ⟨fun t ht' => ?_, fun x hx => ⟨fun z hz => ?_, ?_⟩⟩
    · rcases List.mem_cons.mp ht' with q | q
      · rw [q]; exact ⟨c1, by rw [py]; omega⟩
      · exact ⟨(a1 t q).1, by have := (a1 t q).2; omega⟩
    · obtain ⟨z1, z2, z3, z4, z5, z6⟩ := (a2 x hx).1 z hz
      exact ⟨z1, z2, z3, by omega, by omega, z6⟩
    · have := (a2 x hx).2
      omega
