/-! terms that are alike, in the model -/
theorem cong_L104 {d : Nat} (hd : 3 ≤ d) {ν : Nat → Nat} {c : Nat} {u : Sg} (hs : ST ν c u) {y z ty tz : Nat} (y0 : 0 < y) (hy : y ≤ nT u) (ey : trT ν u y = ty) (z0 : 0 < z) (hz : z ≤ nT u) (ez : trT ν u z = tz) (h8 : kd ty = 8) (h8' : kd tz = 8) (hlen : (ps ty).length = (ps tz).length) (hl60 : (ps ty).length ≤ 60000) {xx : Int → Int → Sg → Option (Int × Sg)} {xy : Sg → Option (Int × Sg)} : ∀ (m i f : Nat), i + m = (ps ty).length → m < f → 1 ≤ i → ((∀ k, i ≤ k → k < (ps ty).length → pa ty k = pa tz k) → bX3_isCongruent_L104 (runT d) f (y : Int) (z : Int) ((i + 1 : Nat) : Int) u xx xy = xx (y : Int) (z : Int) u) ∧ (¬ (∀ k, i ≤ k → k < (ps ty).length → pa ty k = pa tz k) → bX3_isCongruent_L104 (runT d) f (y : Int) (z : Int) ((i + 1 : Nat) : Int) u xx xy = xy u) := by
  have hn := nodeT hs y0 hy
  rw [ey] at hn
  have nw1 : nw (kd ty) = 1 := by rw [h8]; decide
  have hl3 : y < gL u 3 := by rw [hs.1.1.2.2.2.1.2.1]; exact hs.k hy
  intro m
  induction m with
  | zero =>
    intro i f hi hf h1
    obtain ⟨f, rfl⟩ : ∃ f', f = f' + 1 := ⟨f - 1, by omega⟩
    rw [bX3_isCongruent_L104, ld_nat hl3, hn.2.1, if_neg (by omega)]
    exact ⟨fun _ => rfl, fun q => absurd (fun k a b => by omega) q⟩
  | succ m ih =>
    intro i f hi hf h1
    obtain ⟨f, rfl⟩ : ∃ f', f = f' + 1 := ⟨f - 1, by omega⟩
    have a1 := adjNT (d := d) (i := i) hd hs y0 hy (by rw [ey]; exact h8) (by rw [ey]; omega) h1
    have a2 := adjNT (d := d) (i := i) hd hs z0 hz (by rw [ez]; exact h8') (by rw [ez]; omega) h1
    rw [ey] at a1
    rw [ez] at a2
    obtain ⟨b1, b2⟩ := ih (i + 1) f (by omega) (by omega) (by omega)
    rw [bX3_isCongruent_L104, ld_nat hl3, hn.2.1, if_pos (by omega), cl_eq a1, cl_eq a2]
    by_cases he : pa ty i = pa tz i
    · rw [if_pos (by omega), ar_pos ⟨by omega, by omega⟩, show ((i + 1 : Nat) : Int) + 1 = ((i + 1 + 1 : Nat) : Int) by omega]
      refine ⟨fun q => b1 (fun k q1 q2 => q k (by omega) q2), fun q => b2 (fun w => q (fun k q1 q2 => ?_))⟩
      by_cases hk : k = i
      · rw [hk]; exact he
      · exact w k (by omega) q2
    · rw [if_neg (by omega)]
      exact ⟨fun q => absurd (q i (Nat.le_refl _) (by omega)) he, fun _ => rfl⟩
theorem cong_L182 {d : Nat} (hd : 4 ≤ d) {ν : Nat → Nat} {c : Nat} {u : Sg} {H : List Nat} {p : Nat → Nat} (h : HaT ν u H p) (hs : ST ν c u) {y z ty tz : Nat} (y0 : 0 < y) (hy : y ≤ nT u) (ey : trT ν u y = ty) (z0 : 0 < z) (hz : z ≤ nT u) (ez : trT ν u z = tz) (h4 : kd ty = 4) (h4' : kd tz = 4) (hlen : (ps ty).length = (ps tz).length) (hl60 : (ps ty).length ≤ 60000) : ∀ (m i f : Nat), i + m = (ps ty).length → m < f → Yq (bX3_isCongruent_L182 (runT d) f (y : Int) (z : Int) ((i + 1 : Nat) : Int) u (fun s31 => some (1, s31)) (fun s32 => some (0, s32))) u (∀ k, i ≤ k → k < (ps ty).length → eqX H p (pa ty k) (pa tz k)) := by
  have hn := nodeT hs y0 hy
  rw [ey] at hn
  have nw1 : nw (kd ty) = 1 := by rw [h4]; decide
  have nw1' : nw (kd tz) = 1 := by rw [h4']; decide
  have hl3 : y < gL u 3 := by rw [hs.1.1.2.2.2.1.2.1]; exact hs.k hy
  intro m
  induction m with
  | zero =>
    intro i f hi hf
    obtain ⟨f, rfl⟩ : ∃ f', f = f' + 1 := ⟨f - 1, by omega⟩
    rw [bX3_isCongruent_L182, ld_nat hl3, hn.2.1, if_neg (by omega)]
    exact ⟨fun _ => rfl, fun q => absurd (fun k a b => by omega) q⟩
  | succ m ih =>
    intro i f hi hf
    obtain ⟨f, rfl⟩ : ∃ f', f = f' + 1 := ⟨f - 1, by omega⟩
    obtain ⟨a, a1, a2, a3⟩ := partNT (d := d) (i := i) (by omega) hs y0 hy (by rw [ey]; omega) (Or.inl (by rw [ey]; omega))
    obtain ⟨b, b1, b2, b3⟩ := partNT (d := d) (i := i) (by omega) hs z0 hz (by rw [ez]; omega) (Or.inl (by rw [ez]; omega))
    rw [ey] at a1 a3
    rw [ez] at b1 b3
    rw [nw1] at a1
    rw [nw1'] at b1
    obtain ⟨c1, c2⟩ := rX3_equal (d := d) hd h hs (by omega : a ≤ nT u) (by omega : b ≤ nT u)
    rw [a3, b3] at c1 c2
    have nx := ih (i + 1) f (by omega) (by omega)
    rw [bX3_isCongruent_L182, ld_nat hl3, hn.2.1, if_pos (by omega), cl_eq a1, cl_eq b1]
    by_cases he : eqX H p (pa ty i) (pa tz i)
    · rw [cl_eq (c1 he), if_neg (by decide), ar_pos ⟨by omega, by omega⟩, show ((i + 1 : Nat) : Int) + 1 = ((i + 1 + 1 : Nat) : Int) by omega]
      refine nx.iff ⟨fun q k q1 q2 => ?_, fun q k q1 q2 => q k (by omega) q2⟩
      by_cases hk : k = i
      · rw [hk]; exact he
      · exact q k (by omega) q2
    · rw [cl_eq (c2 he), if_pos rfl]
      exact ⟨fun q => absurd (q i (Nat.le_refl _) (by omega)) he, fun _ => rfl⟩
theorem drop_eq1 {l l' : List Nat} (h1 : 1 ≤ l.length) (hl : l.length = l'.length) : (∀ k, 1 ≤ k → k < l.length → (l[k]?).getD 0 = (l'[k]?).getD 0) ↔ l.drop 1 = l'.drop 1 := by
  constructor
  · intro h
    refine List.ext_getElem? (fun k => ?_)
    rw [List.getElem?_drop, List.getElem?_drop]
    by_cases hk : 1 + k < l.length
    · have := h (1 + k) (by omega) hk
      rw [List.getElem?_eq_getElem hk, List.getElem?_eq_getElem (by omega)] at this ⊢
      simp only [Option.getD_some] at this
      rw [this]
    · rw [List.getElem?_eq_none (by omega), List.getElem?_eq_none (by omega)]
  · intro h k k1 k2
    have := congrArg (fun x => x[k - 1]?) h
    simp only [List.getElem?_drop] at this
    rw [show 1 + (k - 1) = k by omega] at this
    rw [this]
/-- whether two terms at hand are alike -/
theorem rX3_isCongruent {d : Nat} (hd : 5 ≤ d) {ν : Nat → Nat} {c : Nat} {W : Wd} {u : Sg} {l : Ls} (h : HaT ν u l.1 l.2.1) (hs : ST ν c u) {y z ty tz : Nat} (y0 : 0 < y) (hy : y ≤ nT u) (ey : trT ν u y = ty) (z0 : 0 < z) (hz : z ≤ nT u) (ez : trT ν u z = tz) (hy' : cltm W (NT ν c) ty) (hz' : cltm W (NT ν c) tz) : Yq (runT d 82 [(y : Int), (z : Int)] u) u (alkS (FsQ l) ty tz) := by
  obtain ⟨d, rfl⟩ : ∃ d', d = d' + 1 := ⟨d - 1, by omega⟩
  rw [runT_eq (by omega)]
  show Yq (bX3_isCongruent (runT d) y z u) u _
  unfold bX3_isCongruent
  have hn := nodeT hs y0 hy
  have hnz := nodeT hs z0 hz
  rw [ey] at hn
  rw [ez] at hnz
  have l3 : gL u 3 = gL u 1 := hs.1.1.2.2.2.1.2.1
  have hyk := hs.k hy
  have hzk := hs.k hz
  have no : ¬ (kd ty = 4 ∧ kd tz = 4) → ¬ (kd ty = 5 ∧ kd tz = 5) → Yq (some ((0 : Int), u)) u (alkS (FsQ l) ty tz) := fun n1 n2 => ⟨fun q => q.elim (fun w => absurd ⟨w.1, w.2.1⟩ n1) (fun w => absurd ⟨w.1, w.2.1⟩ n2), fun _ => rfl⟩
  have tk : ∀ {k : Nat}, k = 1 ∨ k = 4 ∨ k = 5 → tkT k = if k = 1 then 2 else (k : Int) := fun {k} hk => by
    rcases hk with q | q | q <;> subst q <;> decide
  have ky := hy'.k
  have kz := hz'.k
  rw [ld_nat hyk, hn.1, ld_nat hzk, hnz.1, tk ky, tk kz]
  by_cases hkk : kd ty = kd tz
  · rw [if_pos (by rw [hkk]), ld_nat (by omega), ld_nat (by omega), hn.2.1, hnz.2.1]
    by_cases hll : (ps ty).length = (ps tz).length
    · rw [if_pos (by rw [hkk, hll]), jn_eq]
      rcases ky with k | k | k
      · have ev : (if kd ty = 1 then (2 : Int) else (kd ty : Int)) = 2 := if_pos k
        rw [ev, if_neg (by decide), if_neg (by decide)]
        exact no (by omega) (by omega)
      · have k' : kd tz = 4 := by omega
        have ev : (if kd ty = 1 then (2 : Int) else (kd ty : Int)) = 4 := by rw [if_neg (by omega)]; omega
        rw [ev, if_pos rfl]
        show Yq (if (4 : Int) = 5 then _ else _) u _
        rw [if_neg (by decide)]
        have nw1 : nw (kd ty) = 1 := by rw [k]; decide
        have nw1' : nw (kd tz) = 1 := by rw [k']; decide
        have g1 := headNT (d := d) (by omega) hs y0 hy (by rw [ey]; exact nw1) (by rw [ey]; omega)
        have g2 := headNT (d := d) (by omega) hs z0 hz (by rw [ez]; exact nw1') (by rw [ez]; omega)
        rw [ey] at g1
        rw [ez] at g2
        rw [cl_eq g1, cl_eq g2]
        by_cases hw : wh ty = wh tz
        · rw [if_pos (by omega)]
          have hl2 : (ps ty).length ≤ 60000 := by
            rcases hy'.1.1.n.2 with q | q | q | q | q | q | q | q | q | q | q | q | q | q <;> first | omega | exact Nat.le_trans q.2.1 (by decide)
          refine (cong_L182 (d := d) (by omega) h hs y0 hy ey z0 hz ez k k' hll hl2 (ps ty).length 0 KF (by omega) (Nat.lt_of_le_of_lt (by omega : _ ≤ 300000) KF_300)).iff ⟨fun q => Or.inl ⟨k, k', hw, hll, fun i hi => q i (Nat.zero_le _) hi⟩, fun q => ?_⟩
          rcases q with q | q
          · exact fun i _ hi => q.2.2.2.2 i hi
          · omega
        · rw [if_neg (by omega)]
          exact ⟨fun q => q.elim (fun w => absurd w.2.2.1 hw) (fun w => by omega), fun _ => rfl⟩
      · have k' : kd tz = 5 := by omega
        have ev : (if kd ty = 1 then (2 : Int) else (kd ty : Int)) = 5 := by rw [if_neg (by omega)]; omega
        rw [ev, if_neg (by decide), if_pos rfl]
        show Yq (if (5 : Int) = 5 then _ else _) u _
        rw [if_pos rfl]
        obtain ⟨t1, t2, t3⟩ := the_part hy' k
        obtain ⟨s1, s2, s3⟩ := the_part hz' k'
        have nw0 : nw (kd ty) = 0 := by rw [k]; decide
        have nw0' : nw (kd tz) = 0 := by rw [k']; decide
        obtain ⟨a, a1, a2, a3⟩ := partNT (d := d) (i := 0) (by omega) hs y0 hy (by rw [ey, t3]; simp) (Or.inr rfl)
        obtain ⟨b, b1, b2, b3⟩ := partNT (d := d) (i := 0) (by omega) hs z0 hz (by rw [ez, s3]; simp) (Or.inr rfl)
        rw [ey] at a1 a3
        rw [ez] at b1 b3
        rw [nw0] at a1
        rw [nw0'] at b1
        have a1 : runT d 7 [(y : Int), 0] u = some ((a : Int), u) := a1
        have b1 : runT d 7 [(z : Int), 0] u = some ((b : Int), u) := b1
        have a0 : 0 < a := by
          refine Nat.pos_of_ne_zero (fun q => (fms_ps t2).2 ?_)
          rw [← a3, q]; rfl
        have b0 : 0 < b := by
          refine Nat.pos_of_ne_zero (fun q => (fms_ps s2).2 ?_)
          rw [← b3, q]; rfl
        have hna := nodeT hs a0 (by omega : a ≤ nT u)
        have hnb := nodeT hs b0 (by omega : b ≤ nT u)
        rw [a3] at hna
        rw [b3] at hnb
        have h8 := t1.2.1
        have h8' := s1.2.1
        have n8 : nw (kd (pa ty 0)) = 1 := by rw [h8]; decide
        have n8' : nw (kd (pa tz 0)) = 1 := by rw [h8']; decide
        have p1 := ps_type t1.1.1 h8
        have p2 := ps_type s1.1.1 h8'
        rw [cl_eq a1, cl_eq b1, ld_nat (by omega), ld_nat (by omega), hna.2.1, hnb.2.1]
        by_cases hla : (ps (pa ty 0)).length = (ps (pa tz 0)).length
        · rw [if_pos (by omega)]
          have g1 := headNT (d := d) (by omega) hs a0 (by omega) (by rw [a3]; exact n8) (by rw [a3]; omega)
          have g2 := headNT (d := d) (by omega) hs b0 (by omega) (by rw [b3]; exact n8') (by rw [b3]; omega)
          rw [a3] at g1
          rw [b3] at g2
          rw [cl_eq g1, cl_eq g2]
          by_cases hw : wh (pa ty 0) = wh (pa tz 0)
          · rw [if_pos (by omega)]
            have key : (∀ k, 1 ≤ k → k < (ps (pa ty 0)).length → pa (pa ty 0) k = pa (pa tz 0) k) ↔ adjT (pa ty 0) = adjT (pa tz 0) := by
              rw [← p1.2.2, ← p2.2.2]
              exact drop_eq1 p1.1 hla
            obtain ⟨c1, c2⟩ := cong_L104 (d := d) (by omega) hs a0 (by omega) a3 b0 (by omega) b3 h8 h8' hla (by omega) (xx := fun v18 v19 s17 => cl (runT d 7 [v18, 1] s17) fun v20 s21 => cl (runT d 7 [v19, 1] s21) fun v22 s23 => cl (runT d 76 [v20, v22] s23) fun v24 s25 => some (v24, s25)) (xy := fun s26 => some (0, s26)) ((ps (pa ty 0)).length - 1) 1 KF (by omega) (Nat.lt_of_le_of_lt (by omega : _ ≤ 300000) KF_300) (Nat.le_refl _)
            by_cases ha : adjT (pa ty 0) = adjT (pa tz 0)
            · rw [show bX3_isCongruent_L104 (runT d) KF (a : Int) (b : Int) 2 u _ _ = _ from c1 (key.mpr ha)]
              obtain ⟨e, e1, e2, e3⟩ := rX3_arg (d := d) (by omega) hs a0 (by omega) (by rw [a3]; exact h8) (by rw [a3]; omega)
              obtain ⟨g, f1, f2, f3⟩ := rX3_arg (d := d) (by omega) hs b0 (by omega) (by rw [b3]; exact h8') (by rw [b3]; omega)
              rw [a3] at e3
              rw [b3] at f3
              obtain ⟨m1, m2⟩ := rX3_equal (d := d) (by omega) h hs (by omega : e ≤ nT u) (by omega : g ≤ nT u)
              rw [e3, f3] at m1 m2
              rw [cl_eq e1, cl_eq f1]
              by_cases he : eqX l.1 l.2.1 (pa (pa ty 0) 0) (pa (pa tz 0) 0)
              · rw [cl_eq (m1 he)]
                exact ⟨fun _ => rfl, fun q => absurd (Or.inr ⟨k, k', hw, ha, he⟩) q⟩
              · rw [cl_eq (m2 he)]
                exact ⟨fun q => q.elim (fun w => by omega) (fun w => absurd w.2.2.2.2 he), fun _ => rfl⟩
            · rw [show bX3_isCongruent_L104 (runT d) KF (a : Int) (b : Int) 2 u _ _ = _ from c2 (fun q => ha (key.mp q))]
              exact ⟨fun q => q.elim (fun w => by omega) (fun w => absurd w.2.2.2.1 ha), fun _ => rfl⟩
          · rw [if_neg (by omega)]
            exact ⟨fun q => q.elim (fun w => by omega) (fun w => absurd w.2.2.1 hw), fun _ => rfl⟩
        · rw [if_neg (by omega)]
          refine ⟨fun q => q.elim (fun w => by omega) (fun w => absurd ?_ hla), fun _ => rfl⟩
          have := congrArg List.length w.2.2.2.1
          rw [← p1.2.2, ← p2.2.2, List.length_drop, List.length_drop] at this
          omega
    · rw [if_neg (by rw [hkk]; omega)]
      refine ⟨fun q => q.elim (fun w => absurd w.2.2.2.1 hll) (fun w => absurd ?_ hll), fun _ => rfl⟩
      rw [(the_part hy' w.1).2.2, (the_part hz' w.2.1).2.2]; rfl
  · have : ¬ (if kd ty = 1 then 2 else (kd ty : Int)) = (if kd tz = 1 then 2 else (kd tz : Int)) := by
      split <;> split <;> omega
    rw [if_neg this]
    exact no (by omega) (by omega)
