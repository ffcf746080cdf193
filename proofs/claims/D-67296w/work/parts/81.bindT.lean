theorem const_eq {t : Nat} (h : okN t) (k1 : kd t = 1) : t = mk 1 (wh t) [] := by
  have := h.1
  rw [k1, (lo_leaf h (Or.inl k1)).1] at this
  exact this
theorem tX3_bind2 {ν : Nat → Nat} {c nm : Nat} (hn2 : 2 ≤ nm) (hnc : nm < c) : ∀ (t : Nat), okT t → ∀ (d : Nat) (u : Sg) (x dep : Nat) (X : Nat → Prop), 13 + htT t ≤ d → szT t ≤ 900 → WF FT u → ST ν c u → 0 < x → x ≤ nT u → trT ν u x = t → loT t ≤ dep → dep + htT t ≤ 1000 → ImT (fun t => ndT ν u t ∨ X t) (bindg (mk 1 (ν nm) [])) t dep → LimT ν u X → hT u + 2 * szT t ≤ 27000 → wp (runT d 41 [(x : Int), (nm : Int), (dep : Int)] u) (RvT ν c DX3_bind_2 u (sbT (bindg (mk 1 (ν nm) [])) dep t) X) := by
  intro t
  induction t using Nat.strongRecOn with
  | ind t ih =>
    intro ho d u x dep X hd hz hw hs x0 hx ht hlo hdep him hl hr
    have hn := nodeT hs x0 hx
    rw [ht] at hn
    have hhp : 1 ≤ htT t := by rw [htT_eq]; omega
    obtain ⟨d, rfl⟩ : ∃ d', d = d' + 1 := ⟨d - 1, by omega⟩
    rw [runT_eq (by omega)]
    show wp (bX3_bind_2 (runT d) x nm dep u) _
    unfold bX3_bind_2
    have hb := hl.n hs
    have hin := okT_kin ho
    obtain ⟨t2, t1, t3, t8, t7, t15, t16, t17⟩ := tkT_in hin
    have old : ∀ y : Nat, 0 < y → y ≤ nT u → trT ν u y = sbT (bindg (mk 1 (ν nm) [])) dep t → RvT ν c DX3_bind_2 u (sbT (bindg (mk 1 (ν nm) [])) dep t) X (y : Int) u := fun y y0 hy ty => ⟨y, rfl, y0, hy, ty, UpT.rf hs, hw, Gr.rf⟩
    have esb : kd t ≤ 3 → sbT (bindg (mk 1 (ν nm) [])) dep t = if t = mk 1 (ν nm) [] then mk 2 dep [] else t := fun q => by rw [sbT_eq, if_pos q]; rfl
    have hg : kd t ≤ 3 → 0 < kd t → runT d 7 [(x : Int), 0] u = some (dt u x 0, u) := fun q q0 => getT (by omega) (i := 0) hs x0 hx (by
      rw [ht]
      have : nw (kd t) = 1 := by
        have : kd t = 1 ∨ kd t = 2 ∨ kd t = 3 := by omega
        rcases this with z | z | z <;> (rw [z]; decide)
      omega)
    rw [ld_nat (hs.k hx), hn.1]
    refine wp_ite (fun h2 => ?_) (fun h2 => ?_)
    · have k13 := t2.mp h2
      refine wp_eq (hg (by omega) (by omega)) ?_
      have hnn := hn.2.2.2.2.2 0 (by rcases k13 with q | q <;> (rw [q]; have : nw 1 = 1 := by decide
                                                                have : nw 3 = 1 := by decide
                                                                omega))
      refine wp_ite (fun he => ?_) (fun he => ?_)
      · have k1 : kd t = 1 := by
          rcases k13 with q | q
          · exact q
          · have a := hn.2.2.2.1 (by rw [q]; decide) (by omega)
            have : wh t < 2 := by
              rcases ho.n.2 with z | z | z | z | z | z | z | z | z | z | z | z | z | z <;> first | omega | exact z.2.2
            omega
        have a := (hn.2.2.1 k1).1
        rw [show (dt u x 0).toNat = nm by omega] at a
        have et : t = mk 1 (ν nm) [] := by rw [← a]; exact const_eq ho.n k1
        have hX := him.self
        rw [esb (by omega), if_pos et] at hX ⊢
        have := tX3_bound (d := d) (X := fun t => ndT ν u t ∨ X t) (by omega) hw hs (i := dep) (by omega) (by omega) hX (hl.mono (fun _ q => q))
        exact wp_mono (RvT.cl this) (fun r u' h => RvT.sub (by decide) h.x')
      · rw [wp_some]
        refine old x x0 hx ?_
        rw [ht, esb (by omega), if_neg (fun q => he ?_)]
        have k1 : kd t = 1 := by rw [q]; exact kd_mk _ _ _
        obtain ⟨a1, a2, a3⟩ := hn.2.2.1 k1
        have ew : wh t = ν nm := by rw [q]; exact wh_mk _ _ _
        have := hs.2.2.2 _ _ a2 a3 hn2 hnc (by rw [← a1, ew])
        omega
    rw [if_neg t3]
    refine wp_ite (fun h8 => ?_) (fun h8 => ?_)
    · have k9 := t8.mp h8
      have ey := yes_kd ho.n k9
      rw [wp_some]
      refine old x x0 hx ?_
      have p0 : ps t = [] := by rw [ey]; exact ps_mk _ _ _
      rw [ht, sbT_eq, if_neg (by omega), p0]
      have : chm (sbT (bindg (mk 1 (ν nm) []))) (kd t) dep [] = [] := by unfold chm; simp
      rw [this, ← p0]; exact ho.n.1
    refine wp_ite (fun h1 => ?_) (fun h1 => ?_)
    · have k2 := t1.mp h1
      have el : loT t = wh t + 1 := by rw [loT_eq]; unfold loS; rw [if_pos k2]
      have hd0 := hn.2.2.2.1 (by rw [k2]; decide) (by omega)
      refine wp_eq (hg (by omega) (by omega)) ?_
      rw [if_pos (by omega), wp_some]
      refine old x x0 hx ?_
      rw [ht, esb (by omega), if_neg (fun q => by have := kd_mk 1 (ν nm) []; rw [← q] at this; omega)]
    have hk : ¬ kd t ≤ 3 := fun q => by
      have a1 : kd t ≠ 2 := fun q => h1 (t1.mpr q)
      have a2 : ¬ (kd t = 1 ∨ kd t = 3) := fun q => h2 (t2.mpr q)
      omega
    have ht0 : t ≠ 0 := fun q => by rw [q, kd0] at hk; omega
    have hlz := len_sz ho ht0
    have hnw := nw_le (kd t)
    have hKF := KF_big
    rw [wp_un, hs.r.1]
    exact loopT (d := d) (g := bindg (mk 1 (ν nm) [])) (D := DX3_bind_2) (X := X) (by omega) (by decide) ho hk hs x0 hx ht hl (by omega) (by omega) (rk := fun v dv s1 => runT d 41 [v, (nm : Int), dv] s1) (lp := fun f j u1 => bX3_bind_2_L91 (runT d) f x nm dep (tkT (kd t)) (hT u) j u1 (fun v12 v13 s11 => cl (runT d 43 [v12, v13] s11) fun v14 s15 => some (v14, s15))) (K := fun u1 => cl (runT d 43 [(x : Int), (hT u : Int)] u1) fun v14 s15 => some (v14, s15)) rfl (fun f j u1 => rfl)
      (fun i c1 y u1 hc1 hcm h8 hU hW hG hh y0 hy hty => by
        have hzc := sz_at ho hc1 (fms_ps hcm).2 h8
        have hzc2 := sz_c hcm
        have hhc := ht_c hcm
        have hdp := dp_or t dep i
        exact ih c1 (fms_lt hcm) (ho.c hcm) d u1 y (dpT t dep i) X (by omega) (by omega) hW hU.1 y0 hy hty (lo_c (e := 0) hk hc1 hcm h8 hlo) (by omega) (him.ch hc1 h8 hcm (fun t q => q.imp (hU.nd hs) id)) (hU.lim hl) (by omega))
      (fun u1 hM => RvT.cl (endT (by omega) (by decide) (by decide) ho (gOn_bind ho) hk hs x0 hx ht hl (by omega) (by omega) him.self hM))
      ((ps t).length + nw (kd t)) 0 KF u (by omega) (by omega) (MidT.rf hs hw)
/-- what the loci become, by the model's own fields -/
def MvT (ν : Nat → Nat) (u : Sg) (n ta tb : Nat) : Prop := gI u 16 = (n : Int) ∧ n ≤ 2 ∧ 2 ≤ gL u 14 ∧ 2 ≤ gL u 15 ∧ ∃ a b : Nat, (0 < n → gN u 14 0 = 0 ∧ gN u 15 0 = (a : Int) ∧ 0 < a ∧ a ≤ nT u ∧ trT ν u a = ta ∧ okT ta ∧ isTm ta ∧ loT ta = 0) ∧ (1 < n → gN u 14 1 = 1 ∧ gN u 15 1 = (b : Int) ∧ 0 < b ∧ b ≤ nT u ∧ trT ν u b = tb ∧ okT tb ∧ isTm tb ∧ loT tb = 0)
theorem MvT.up {ν : Nat → Nat} {c D n ta tb : Nat} {u u' : Sg} {X : Nat → Prop} (h : MvT ν u n ta tb) (hs : ST ν c u) (hu : UxT ν c u u' X) (hg : Gr FT D u u') (h14 : D.testBit 14 = false) (h15 : D.testBit 15 = false) (h16 : D.testBit 16 = false) : MvT ν u' n ta tb := by
  have e14 := (hg.2.1 14 h14).2
  have e15 := (hg.2.1 15 h15).2
  have e16 := (hg.2.1 16 h16).1
  have n14 : ∀ i, gN u' 14 i = gN u 14 i := fun i => by show (u'.2.1 14).2 i = (u.2.1 14).2 i; rw [e14]
  have n15 : ∀ i, gN u' 15 i = gN u 15 i := fun i => by show (u'.2.1 15).2 i = (u.2.1 15).2 i; rw [e15]
  have l14 : gL u' 14 = gL u 14 := by show (u'.2.1 14).1 = (u.2.1 14).1; rw [e14]
  have l15 : gL u' 15 = gL u 15 := by show (u'.2.1 15).1 = (u.2.1 15).1; rw [e15]
  obtain ⟨m1, m2, m3, m4, a, b, m5, m6⟩ := h
  refine ⟨by rw [e16]; exact m1, m2, by rw [l14]; exact m3, by rw [l15]; exact m4, a, b, fun q => ?_, fun q => ?_⟩
  · obtain ⟨z1, z2, z3, z4, z5, z6⟩ := m5 q
    exact ⟨by rw [n14]; exact z1, by rw [n15]; exact z2, z3, Nat.le_trans z4 hu.n, by rw [hu.tr hs z4]; exact z5, z6⟩
  · obtain ⟨z1, z2, z3, z4, z5, z6⟩ := m6 q
    exact ⟨by rw [n14]; exact z1, by rw [n15]; exact z2, z3, Nat.le_trans z4 hu.n, by rw [hu.tr hs z4]; exact z5, z6⟩
theorem move_L15 {d : Nat} {u : Sg} {x n : Nat} {dep v : Int} {Q : Int → Sg → Prop} (h16 : gI u 16 = (n : Int)) (hn2 : n ≤ 2) (hl : 2 ≤ gL u 14) (h14 : ∀ i, i < n → gN u 14 i = (i : Int)) (hg : runT d 7 [(x : Int), 0] u = some (v, u)) {x59 : Int → Sg → Option (Int × Sg)} {x40 : Int → Int → Sg → Option (Int × Sg)} (k1 : (∀ i : Nat, i < n → (i : Int) ≠ v) → wp (x59 (x : Int) u) Q) (k2 : ∀ i : Nat, i < n → (i : Int) = v → wp (x40 dep (i : Int) u) Q) : ∀ (m i f : Nat), i + m = n → m < f → (∀ j : Nat, j < i → (j : Int) ≠ v) → wp (bX3_move_2_L15 (runT d) f (x : Int) dep (i : Int) u x59 x40) Q := by
  intro m
  induction m with
  | zero =>
    intro i f hi hf hj
    obtain ⟨f, rfl⟩ : ∃ f', f = f' + 1 := ⟨f - 1, by omega⟩
    rw [bX3_move_2_L15, wp_un, h16, if_neg (by omega)]
    exact k1 (fun j hj' => hj j (by omega))
  | succ m ih =>
    intro i f hi hf hj
    obtain ⟨f, rfl⟩ : ∃ f', f = f' + 1 := ⟨f - 1, by omega⟩
    rw [bX3_move_2_L15, wp_un, h16, if_pos (by omega), ld_nat (by omega), h14 i (by omega)]
    refine wp_eq hg ?_
    refine wp_ite (fun q => k2 i (by omega) q) (fun q => ?_)
    rw [wp_ar]
    refine ⟨⟨by omega, by omega⟩, ?_⟩
    rw [show (i : Int) + 1 = ((i + 1 : Nat) : Int) by omega]
    refine ih (i + 1) f (by omega) (by omega) (fun j hj' => ?_)
    by_cases e : j = i
    · rw [e]; exact q
    · exact hj j (by omega)
theorem tX3_move2 {ν : Nat → Nat} {c n ta tb : Nat} : ∀ (t : Nat), okT t → (∀ l ∈ lvT t, kd l = 3 → wh l < n) → gOn (locg ta tb) t → ∀ (d : Nat) (u : Sg) (x dep : Nat) (X : Nat → Prop), 13 + htT t ≤ d → szT t ≤ 900 → WF FT u → ST ν c u → 0 < x → x ≤ nT u → trT ν u x = t → MvT ν u n ta tb → dep + htT t ≤ 1000 → ImT (fun t => ndT ν u t ∨ X t) (locg ta tb) t dep → LimT ν u X → hT u + 2 * szT t ≤ 27000 → wp (runT d 79 [(x : Int), (dep : Int)] u) (RvT ν c DX3_move_2 u (sbT (locg ta tb) dep t) X) := by
  intro t
  induction t using Nat.strongRecOn with
  | ind t ih =>
    intro ho hlv hgo d u x dep X hd hz hw hs x0 hx ht hmv hdep him hl hr
    have hn := nodeT hs x0 hx
    rw [ht] at hn
    have hhp : 1 ≤ htT t := by rw [htT_eq]; omega
    obtain ⟨d, rfl⟩ : ∃ d', d = d' + 1 := ⟨d - 1, by omega⟩
    rw [runT_eq (by omega)]
    show wp (bX3_move_2 (runT d) x dep u) _
    unfold bX3_move_2
    have hb := hl.n hs
    have hin := okT_kin ho
    obtain ⟨t2, t1, t3, t8, t7, t15, t16, t17⟩ := tkT_in hin
    have old : ∀ y : Nat, 0 < y → y ≤ nT u → trT ν u y = sbT (locg ta tb) dep t → RvT ν c DX3_move_2 u (sbT (locg ta tb) dep t) X (y : Int) u := fun y y0 hy ty => ⟨y, rfl, y0, hy, ty, UpT.rf hs, hw, Gr.rf⟩
    have esb : kd t ≤ 3 → sbT (locg ta tb) dep t = if kd t = 3 then (if wh t = 0 then ta else tb) else t := fun q => by rw [sbT_eq, if_pos q]; rfl
    rw [ld_nat (hs.k hx), hn.1]
    refine wp_ite (fun h2 => ?_) (fun h2 => ?_)
    · have k13 := t2.mp h2
      have nw1 : nw (kd t) = 1 := by rcases k13 with q | q <;> (rw [q]; decide)
      have hg : runT d 7 [(x : Int), 0] u = some (dt u x 0, u) := getT (by omega) (i := 0) hs x0 hx (by rw [ht]; omega)
      obtain ⟨m1, m2, m3, m4, a, b, m5, m6⟩ := hmv
      have hKF := KF_big
      refine move_L15 m1 m2 m3 (fun i hi => ?_) hg (fun hne => ?_) (fun i hi he => ?_) n 0 KF (by omega) (by omega) (fun j hj => by omega)
      · have : i = 0 ∨ i = 1 := by omega
        rcases this with q | q
        · rw [q]; exact (m5 (by omega)).1
        · rw [q]; exact (m6 (by omega)).1
      · rw [wp_some]
        refine old x x0 hx ?_
        rw [ht, esb (by omega)]
        by_cases k3 : kd t = 3
        · have a1 := hn.2.2.2.1 nw1 (by omega)
          have a2 := hlv t (by rw [lvT_eq, if_pos (by omega)]; exact List.mem_cons_self) k3
          exact absurd a1.symm (hne _ a2)
        · rw [if_neg k3]
      · have k3 : kd t = 3 := by
          rcases k13 with q | q
          · have := (hn.2.2.1 q).2.1
            omega
          · exact q
        have a1 := hn.2.2.2.1 nw1 (by omega)
        have hi' : i = 0 ∨ i = 1 := by omega
        obtain ⟨d, rfl⟩ : ∃ d', d = d' + 1 := ⟨d - 1, by omega⟩
        rcases hi' with q | q
        · subst q
          obtain ⟨z1, z2, z3, z4, z5, z6, z7, z8⟩ := m5 (by omega)
          rw [ld_nat (by omega), z2]
          refine wp_eq (liftT (by omega) hw hs z3 z4 (by rw [z5]; exact z6) (by rw [z5]; exact z8)) ?_
          rw [wp_some]
          refine old a z3 z4 ?_
          rw [z5, esb (by omega), if_pos k3, if_pos (by omega)]
        · subst q
          obtain ⟨z1, z2, z3, z4, z5, z6, z7, z8⟩ := m6 (by omega)
          rw [ld_nat (by omega), z2]
          refine wp_eq (liftT (by omega) hw hs z3 z4 (by rw [z5]; exact z6) (by rw [z5]; exact z8)) ?_
          rw [wp_some]
          refine old b z3 z4 ?_
          rw [z5, esb (by omega), if_pos k3, if_neg (by omega)]
    rw [if_neg t3]
    refine wp_ite (fun h8 => ?_) (fun h8 => ?_)
    · have k9 := t8.mp h8
      have ey := yes_kd ho.n k9
      rw [wp_some]
      refine old x x0 hx ?_
      have p0 : ps t = [] := by rw [ey]; exact ps_mk _ _ _
      rw [ht, sbT_eq, if_neg (by omega), p0]
      have : chm (sbT (locg ta tb)) (kd t) dep [] = [] := by unfold chm; simp
      rw [this, ← p0]; exact ho.n.1
    refine wp_ite (fun h1 => ?_) (fun h1 => ?_)
    · have k2 := t1.mp h1
      rw [wp_some]
      refine old x x0 hx ?_
      rw [ht, esb (by omega), if_neg (by omega)]
    have hk : ¬ kd t ≤ 3 := fun q => by
      have a1 : kd t ≠ 2 := fun q => h1 (t1.mpr q)
      have a2 : ¬ (kd t = 1 ∨ kd t = 3) := fun q => h2 (t2.mpr q)
      omega
    have ht0 : t ≠ 0 := fun q => by rw [q, kd0] at hk; omega
    have hlz := len_sz ho ht0
    have hnw := nw_le (kd t)
    have hKF := KF_big
    rw [wp_un, hs.r.1]
    exact loopT (d := d) (g := locg ta tb) (D := DX3_move_2) (X := X) (by omega) (by decide) ho hk hs x0 hx ht hl (by omega) (by omega) (rk := fun v dv s1 => runT d 79 [v, dv] s1) (lp := fun f j u1 => bX3_move_2_L88 (runT d) f x dep (tkT (kd t)) (hT u) j u1 (fun v12 v13 s11 => cl (runT d 43 [v12, v13] s11) fun v14 s15 => some (v14, s15))) (K := fun u1 => cl (runT d 43 [(x : Int), (hT u : Int)] u1) fun v14 s15 => some (v14, s15)) rfl (fun f j u1 => rfl)
      (fun i c1 y u1 hc1 hcm h8 hU hW hG hh y0 hy hty => by
        have hzc := sz_at ho hc1 (fms_ps hcm).2 h8
        have hzc2 := sz_c hcm
        have hhc := ht_c hcm
        have hdp := dp_or t dep i
        exact ih c1 (fms_lt hcm) (ho.c hcm) (fun l q => hlv l (by rw [lvT_eq, if_neg hk]; exact List.mem_flatMap.mpr ⟨c1, hcm, q⟩)) (hgo.c hk hcm) d u1 y (dpT t dep i) X (by omega) (by omega) hW hU.1 y0 hy hty (hmv.up hs hU hG (by decide) (by decide) (by decide)) (by omega) (him.ch hc1 h8 hcm (fun t q => q.imp (hU.nd hs) id)) (hU.lim hl) (by omega))
      (fun u1 hM => RvT.cl (endT (by omega) (by decide) (by decide) ho hgo hk hs x0 hx ht hl (by omega) (by omega) him.self hM))
      ((ps t).length + nw (kd t)) 0 KF u (by omega) (by omega) (MidT.rf hs hw)
