theorem tX3_allOf {d : Nat} (hd : 291 ≤ d) {ν : Nat → Nat} {c : Nat} {W : Wd} {u : Sg} {x t w : Nat} {X : Nat → Prop} (hw : WF FT u) (hc : TW ν c W u) (hW : WOK W (NT ν c)) (hG : WGK W (NT ν c)) (hm : MemT ν c W u) (hmm : MmA u) (hS : StkT u w) (hw2 : w ≤ 1000) (x0 : 0 < x) (hx : x ≤ nT u) (et : trT ν u x = t) (ht : cltm W (NT ν c) t) (hsz : szT t ≤ 900) (hr : hT u ≤ 26000) (hX : adXX W X t) (hl : LimT ν u X) :
    wp (runT d 91 [(x : Int)] u) (fun r u' => RiT ν c DX3_allOf u X (adT W t) r u' ∧ MemT ν c W u' ∧ MmA u' ∧ StkT u' w) := by
  have hb := hl.n hc.1
  by_cases hrem : RemT u x
  · obtain ⟨m1, m2, m3, m4⟩ := hm x hrem
    rw [et] at m4
    exact ⟨_, _, rX3_allOfR (d := d) (by omega) x0 hrem m3, ⟨m4.1, UpT.rf hc.1, hw, Gr.rf⟩, hm, hmm, hS⟩
  · obtain ⟨d, rfl⟩ : ∃ d', d = d' + 1 := ⟨d - 1, by omega⟩
    rw [runT_eq (by omega)]
    show wp (bX3_allOf (runT d) x u) _
    unfold bX3_allOf
    have hKF := KF_big
    have hA : AlP ν c W u X u := ⟨UpT.rf hc.1, hw, Gr.rf, hm, hmm⟩
    rw [wp_un, hS.1]
    refine wp_call (rX3_wants (d := d) (by omega) hA x0 (by omega) hrem hS (by omega)) (fun _ u1 ⟨b1, b2, b3, b4, b5, b6⟩ => ?_)
    refine allOf_proc (by omega) hc hW hG hr hl t ht hX KF u1 x w (by omega) (by omega) b2 b3 (Nat.le_refl _) b4 x0 (by rw [b1.1.n]; exact hx) (by rw [b1.1.tr]; exact et) (fun f' u2 q1 q2 q3 q4 q5 q6 q7 => ?_)
    obtain ⟨f', rfl⟩ : ∃ g, f' = g + 1 := ⟨f' - 1, by omega⟩
    obtain ⟨m1, m2, m3, m4⟩ := q2.2.2.2.1 x q6
    have etx : trT ν u2 x = t := by rw [q3.tr b2.1.1 (by rw [b1.1.n]; exact hx), b1.1.tr]; exact et
    rw [etx] at m4
    rw [bX3_allOf_L10, wp_un, q4.1, if_pos (Int.le_refl _), ld_nat m3, wp_some]
    exact ⟨⟨m4.1, q2.1, q2.2.1, q2.2.2.1⟩, q2.2.2.2.1, q2.2.2.2.2, q4⟩
theorem StkT.up {D w : Nat} {u u' : Sg} (h : StkT u w) (hg : Gr FT D u u') (h1 : D.testBit 41 = false) (h2 : D.testBit 42 = false) : StkT u' w := ⟨by rw [hg.I 42 h2]; exact h.1, by rw [hg.Ln 41 h1]; exact h.2.1, by rw [hg.Ln 41 h1]; exact h.2.2⟩
theorem MmT.up {D : Nat} {u u' : Sg} (h : MmT u) (hg : Gr FT D u u') (h1 : D.testBit 38 = false) (h2 : D.testBit 39 = false) (h3 : D.testBit 40 = false) : MmT u' := ⟨by rw [hg.I 40 h3]; exact h.1, by rw [hg.Ln 38 h1]; exact h.2.1, by rw [hg.Ln 39 h2]; exact h.2.2⟩
theorem MmA.up {D : Nat} {u u' : Sg} (h : MmA u) (hg : Gr FT D u u') (h1 : D.testBit 38 = false) (h2 : D.testBit 39 = false) (h3 : D.testBit 40 = false) : MmA u' := ⟨h.1.up hg h1 h2 h3, fun i hi => by
  rw [hg.Ln 39 h2] at hi
  rw [hg.N 39 h2, hg.I 40 h3]; exact h.2 i hi⟩
theorem tX3_suits {d : Nat} (hd : 292 ≤ d) {ν : Nat → Nat} {c : Nat} {W : Wd} {u : Sg} {x y w : Nat} {X : Nat → Prop} (hw : WF FT u) (hc : TW ν c W u) (hW : WOK W (NT ν c)) (hG : WGK W (NT ν c)) (hm : MemT ν c W u) (hmm : MmA u) (hS : StkT u w) (hw2 : w ≤ 1000) (x0 : 0 < x) (hx : x ≤ nT u) (ht : cltm W (NT ν c) (trT ν u x)) (hsz : szT (trT ν u x) ≤ 900) (y0 : 0 < y) (hy : y ≤ nT u) (hty : clty W (NT ν c) (trT ν u y)) (hr : hT u ≤ 26000) (hX : adXX W X (trT ν u x)) (hl : LimT ν u X) :
    wp (runT d 88 [(x : Int), (y : Int)] u) (fun r u' => RbT ν c DX3_suits u X (fitT W (trT ν u x) (trT ν u y)) r u' ∧ MemT ν c W u' ∧ MmA u' ∧ StkT u' w) := by
  obtain ⟨d, rfl⟩ : ∃ d', d = d' + 1 := ⟨d - 1, by omega⟩
  rw [runT_eq (by omega)]
  show wp (bX3_suits (runT d) x y u) _
  unfold bX3_suits
  have hs := hc.1
  have hyt := ty_ok hW ht
  have hXt := hX _ (sub_rf _) ht.2.1
  refine wp_call (tX3_typeOf (d := d) (x := x) (X := X) (by omega) hw hc hW x0 hx ht hr hXt.1 hl) (fun r u1 ⟨z, z1, z2, z3, z4, z5, z6, z7⟩ => ?_)
  subst z1
  have hs1 := z5.1
  have hc1 := hc.up z5.ux z7 (by decide +kernel)
  have hy1 : y ≤ nT u1 := Nat.le_trans hy z5.n
  have ety : trT ν u1 y = trT ν u y := z5.tr hs hy
  have hr1 : hT u1 = hT u := z5.2.2.2.1
  refine wp_eq (headNT (d := d) (by omega) hs1 y0 hy1 (by rw [ety, hty.2.1]; decide) (by rw [ety, hty.2.1]; decide)) ?_
  rw [ety]
  obtain ⟨a, a1, a2, a3⟩ := rX3_arg (d := d) (by omega) hs1 y0 hy1 (by rw [ety]; exact hty.2.1) (by rw [ety]; exact (type_part hty).1)
  rw [ety] at a3
  refine wp_eq a1 ?_
  refine wp_call (tX3_has (d := d) (y := z) (m := wh (trT ν u y)) (a := a) (X := X) (by omega) z6 hc1 hW z2 z3 (by rw [z4]; exact hyt) (by omega) (fun q => ?_) (by omega) (by rw [z4]; exact fun s hs' => (hXt.2.1 s hs').1) (z5.lim hl)) (fun r u2 ⟨v1, v2, v3, v4⟩ => ?_)
  · rw [a3]
    exact (hty.1.lc.2.2.1 hty.2.1).2.1.mpr (by rw [q]; exact hW.1)
  rw [z4, a3] at v1
  have hU2 := z5.join v2
  have hs2 := hU2.1
  have hg2 : Gr FT DX3_has u u2 := (z7.sub (by decide +kernel)).tr v4
  have hm2 := hm.up hs hU2.ux hg2 (by decide +kernel) (by decide +kernel) (by decide +kernel)
  have hmm2 := hmm.up hg2 (by decide +kernel) (by decide +kernel) (by decide +kernel)
  have hS2 := hS.up hg2 (by decide +kernel) (by decide +kernel)
  have hgS : Gr FT DX3_suits u u2 := hg2.sub (by decide +kernel)
  refine wp_ite (fun h0 => ?_) (fun h0 => ?_)
  · rw [wp_some]
    refine ⟨⟨Or.inr ⟨rfl, fun q => ?_⟩, hU2, v3, hgS⟩, hm2, hmm2, hS2⟩
    rcases v1 with w | w
    · omega
    · exact w.2 q.1
  have hhas : hasT W (tyT W (trT ν u x)) (wh (trT ν u y)) (pa (trT ν u y) 0) := by
    rcases v1 with w | w
    · exact w.2
    · exact absurd w.1 h0
  have ety2 : trT ν u2 y = trT ν u y := hU2.tr hs hy
  have etx2 : trT ν u2 x = trT ν u x := hU2.tr hs hx
  have hadj := clty_adj hG hty
  obtain ⟨s, e, hbs⟩ := rX3_setOf (d := d) (by omega) hs2 y0 (Nat.le_trans hy hU2.n) (by rw [ety2]; exact hty.1.1) (by rw [ety2]; exact hty.2.1) (by rw [ety2]; exact hadj)
  rw [ety2] at hbs
  rw [wp_jn]
  refine wp_eq e ?_
  refine wp_ite (fun hz => ?_) (fun hz => ?_)
  · rw [wp_some]
    exact ⟨⟨Or.inl ⟨rfl, hhas, fun j hj => absurd hj (hbs.zero.mp hz j (by have := hadj j hj; omega))⟩, hU2, v3, hgS⟩, hm2, hmm2, hS2⟩
  · have hc2 := hc.up hU2.ux hg2 (by decide +kernel)
    have hr2 : hT u2 = hT u := hU2.2.2.2.1
    refine wp_call (tX3_allOf (d := d) (by omega) v3 hc2 hW hG hm2 hmm2 hS2 hw2 x0 (Nat.le_trans hx hU2.n) etx2 ht hsz (by omega) hX (hU2.lim hl)) (fun r u3 ⟨⟨m4, q2, q3, q4⟩, q5, q6, q7⟩ => ?_)
    have hU3 := hU2.join q2
    have hg3 : Gr FT DX3_suits u u3 := hgS.tr (q4.sub (by decide +kernel))
    rw [wp_un, wp_un]
    have hsub := hbs.sub m4
    refine wp_ite (fun hq => ?_) (fun hq => ?_)
    · rw [wp_some]
      exact ⟨⟨Or.inl ⟨rfl, hhas, fun j hj => hsub.mp hq j (by have := hadj j hj; omega) hj⟩, hU3, q3, hg3⟩, q5, q6, q7⟩
    · rw [wp_some]
      exact ⟨⟨Or.inr ⟨rfl, fun q => hq (hsub.mpr (fun j _ hj => q.2 j hj))⟩, hU3, q3, hg3⟩, q5, q6, q7⟩
/-! the loci of a form -/
def locAt (t k : Nat) : Prop := ∃ l ∈ lvT t, kd l = 3 ∧ wh l = k
theorem lvL_iff {t n : Nat} : lvL t n ↔ ∀ k, locAt t k → k < n := ⟨fun h k ⟨l, hl, h3, e⟩ => by rw [← e]; exact h l hl h3, fun h l hl h3 => h _ ⟨l, hl, h3, rfl⟩⟩
theorem locAt_part {t k : Nat} (ho : okT t) (hk : ¬ kd t ≤ 3) : locAt t k ↔ ∃ c ∈ fms t, locAt c k := by
  unfold locAt
  rw [lvT_eq, if_neg hk]
  constructor
  · rintro ⟨l, hl, h⟩
    obtain ⟨c, hc, q⟩ := List.mem_flatMap.mp hl
    exact ⟨c, hc, l, q, h⟩
  · rintro ⟨c, hc, l, q, h⟩
    exact ⟨l, List.mem_flatMap.mpr ⟨c, hc, q⟩, h⟩
theorem locAt_leaf {t k : Nat} (hk : kd t ≤ 3) : locAt t k ↔ kd t = 3 ∧ wh t = k := by
  unfold locAt
  rw [lvT_eq, if_pos hk]
  constructor
  · rintro ⟨l, hl, h⟩
    rw [List.mem_singleton.mp hl] at h; exact h
  · intro h
    exact ⟨t, List.mem_singleton.mpr rfl, h⟩
theorem locAt_2 {t k : Nat} (ho : okT t) (h : locAt t k) : k < 2 := by
  obtain ⟨l, hl, h3, e⟩ := h
  have := lv_ok t ho l hl
  rcases this.1.n.2 with q | q | q | q | q | q | q | q | q | q | q | q | q | q <;> first | omega | (have := q.2.2; omega)
theorem rX3_mentions {ν : Nat → Nat} {c : Nat} {u : Sg} (hs : ST ν c u) (hb : nT u < 131072) {k : Nat} (hk2 : k < 2) : ∀ (t : Nat), okT t → szT t ≤ 60000 → ∀ (d x : Nat), 6 + htT t ≤ d → 0 < x → x ≤ nT u → trT ν u x = t → (locAt t k → runT d 15 [(x : Int), (k : Int)] u = some (1, u)) ∧ (¬ locAt t k → runT d 15 [(x : Int), (k : Int)] u = some (0, u)) := by
  intro t
  induction t using Nat.strongRecOn with
  | ind t ih =>
    intro ho hz d x hd x0 hx et
    have hhp : 1 ≤ htT t := by rw [htT_eq]; omega
    obtain ⟨d, rfl⟩ : ∃ d', d = d' + 1 := ⟨d - 1, by omega⟩
    have hn := nodeT hs x0 hx
    rw [et] at hn
    have hin := okT_kin ho
    obtain ⟨t2, t1, t3, t8, t7, t15, t16, t17⟩ := tkT_in hin
    have hl3 : x < gL u 3 := by rw [hs.1.1.2.2.2.1.2.1]; exact hs.k hx
    rw [runT_eq (by omega)]
    show (locAt t k → bX3_mentions (runT d) x k u = some (1, u)) ∧ (¬ locAt t k → bX3_mentions (runT d) x k u = some (0, u))
    unfold bX3_mentions
    rw [ld_nat (hs.k hx), hn.1]
    by_cases h2 : tkT (kd t) = 2
    · have k13 := t2.mp h2
      have nw1 : nw (kd t) = 1 := by rcases k13 with q | q <;> (rw [q]; decide)
      have hg : runT d 7 [(x : Int), 0] u = some (dt u x 0, u) := getT (by omega) (i := 0) hs x0 hx (by rw [et]; omega)
      have hnn := hn.2.2.2.2.2 0 (by omega)
      rw [if_pos h2, cl_eq hg, locAt_leaf (by omega)]
      rcases k13 with q | q
      · have := (hn.2.2.1 q).2.1
        rw [if_neg (by omega)]
        exact ⟨fun z => by omega, fun _ => rfl⟩
      · have := hn.2.2.2.1 nw1 (by omega)
        by_cases hq : wh t = k
        · rw [if_pos (by omega)]
          exact ⟨fun _ => rfl, fun z => absurd ⟨q, hq⟩ z⟩
        · rw [if_neg (by omega)]
          exact ⟨fun z => absurd z.2 hq, fun _ => rfl⟩
    · rw [if_neg h2]
      have hk3 : ¬ kd t ≤ 3 ∨ kd t = 2 := by
        have : ¬ (kd t = 1 ∨ kd t = 3) := fun q => h2 (t2.mpr q)
        omega
      have hnw := nw_le (kd t)
      have hlz := len_sz ho (fun q => by rw [q, kd0] at hin; omega)
      have hKF := KF_big
      -- the loop over the numbers of the node
      have loop : ∀ (m i f : Nat), i + m = (ps t).length + nw (kd t) → m < f → ((∃ j, i ≤ j ∧ j < (ps t).length + nw (kd t) ∧ isPt (kd t) j (dt u x j) ∧ locAt (trT ν u (dt u x j).toNat) k) → bX3_mentions_L28 (runT d) f (x : Int) (k : Int) (i : Int) u (fun s4 => some (0, s4)) (fun s5 => some (1, s5)) = some (1, u)) ∧ (¬ (∃ j, i ≤ j ∧ j < (ps t).length + nw (kd t) ∧ isPt (kd t) j (dt u x j) ∧ locAt (trT ν u (dt u x j).toNat) k) → bX3_mentions_L28 (runT d) f (x : Int) (k : Int) (i : Int) u (fun s4 => some (0, s4)) (fun s5 => some (1, s5)) = some (0, u)) := by
        intro m
        induction m with
        | zero =>
          intro i f hi hf
          obtain ⟨f, rfl⟩ : ∃ f', f = f' + 1 := ⟨f - 1, by omega⟩
          rw [bX3_mentions_L28, ld_nat hl3, hn.2.1, if_neg (by omega)]
          exact ⟨fun ⟨j, z1, z2, _⟩ => by omega, fun _ => rfl⟩
        | succ m ihm =>
          intro i f hi hf
          obtain ⟨f, rfl⟩ : ∃ f', f = f' + 1 := ⟨f - 1, by omega⟩
          have hil : i < (ps (trT ν u x)).length + nw (kd (trT ν u x)) := by rw [et]; omega
          have hpart := isPartT (d := d) (by omega) hs x0 hx (by rw [et]; exact ho) hil
          rw [et] at hpart
          have nxt := ihm (i + 1) f (by omega) (by omega)
          rw [bX3_mentions_L28, ld_nat hl3, hn.2.1, if_pos (by omega), cl_eq hpart]
          have cont : (¬ (isPt (kd t) i (dt u x i) ∧ locAt (trT ν u (dt u x i).toNat) k)) → ((∃ j, i ≤ j ∧ j < (ps t).length + nw (kd t) ∧ isPt (kd t) j (dt u x j) ∧ locAt (trT ν u (dt u x j).toNat) k) → (ar ((i : Int) + 1) fun v4 => bX3_mentions_L28 (runT d) f (x : Int) (k : Int) v4 u (fun s4 => some (0, s4)) (fun s5 => some (1, s5))) = some (1, u)) ∧ (¬ (∃ j, i ≤ j ∧ j < (ps t).length + nw (kd t) ∧ isPt (kd t) j (dt u x j) ∧ locAt (trT ν u (dt u x j).toNat) k) → (ar ((i : Int) + 1) fun v4 => bX3_mentions_L28 (runT d) f (x : Int) (k : Int) v4 u (fun s4 => some (0, s4)) (fun s5 => some (1, s5))) = some (0, u)) := fun hno => by
            rw [ar_pos ⟨by omega, by omega⟩, show (i : Int) + 1 = ((i + 1 : Nat) : Int) by omega]
            refine ⟨fun ⟨j, z1, z2, z3⟩ => nxt.1 ⟨j, ?_, z2, z3⟩, fun q => nxt.2 (fun ⟨j, z1, z2, z3⟩ => q ⟨j, by omega, z2, z3⟩)⟩
            by_cases hji : j = i
            · rw [hji] at z3; exact absurd z3 hno
            · omega
          by_cases hp : isPt (kd t) i (dt u x i)
          · have hgt := getT (d := d) (by omega) hs x0 hx hil
            rw [if_pos hp, if_neg (by decide), cl_eq hgt]
            obtain ⟨p1, p2, p3, p4⟩ := id hp
            obtain ⟨i', hi'⟩ : ∃ i', i = i' + nw (kd t) := ⟨i - nw (kd t), by omega⟩
            have hil' : i' < (ps t).length := by omega
            have h8 : kd t ≠ 8 ∨ i' = 0 := by
              by_cases q : kd t = 8
              · have := p3 q
                rw [q] at hi'
                have : nw 8 = 1 := by decide
                exact Or.inr (by omega)
              · exact Or.inl q
            have hpc := partT hs x0 hx (i := i') (t := pa t i') (by rw [et]; exact pa_get hil')
            rw [et, ← hi'] at hpc
            obtain ⟨b1, b2⟩ := hpc.2.1 h8
            have hy0 : 0 < (dt u x i).toNat := by omega
            have hc0 : pa t i' ≠ 0 := by
              have : 0 < trT ν u (dt u x i).toNat := tr_pos (okp_T (ν := ν) hs.1) hy0 (by show (dt u x i).toNat ≤ nT u; omega)
              omega
            have hcm : pa t i' ∈ fms t := fms_at.mpr ⟨i', h8, pa_get hil', hc0⟩
            have hhc := ht_c hcm
            have hzc := sz_c hcm
            obtain ⟨r1, r2⟩ := ih (pa t i') (fms_lt hcm) (ho.c hcm) (by omega) d (dt u x i).toNat (by omega) hy0 (by omega) b2
            rw [show dt u x i = (((dt u x i).toNat : Nat) : Int) from (Int.toNat_of_nonneg hpc.1).symm]
            by_cases hloc : locAt (pa t i') k
            · rw [cl_eq (r1 hloc), if_neg (by decide)]
              exact ⟨fun _ => rfl, fun q => absurd ⟨i, Nat.le_refl _, by omega, hp, by rw [b2]; exact hloc⟩ q⟩
            · rw [cl_eq (r2 hloc), if_pos rfl]
              exact cont (fun q => hloc (by rw [← b2]; exact q.2))
          · rw [if_neg hp, if_pos rfl]
            exact cont (fun q => hp q.1)
      have key := loop ((ps t).length + nw (kd t)) 0 KF (by omega) (by omega)
      have hiff : (∃ j, 0 ≤ j ∧ j < (ps t).length + nw (kd t) ∧ isPt (kd t) j (dt u x j) ∧ locAt (trT ν u (dt u x j).toNat) k) ↔ locAt t k := by
        rcases hk3 with hk3 | hk3
        · rw [locAt_part ho hk3]
          constructor
          · rintro ⟨j, _, z2, ⟨p1, p2, p3, p4⟩, z4⟩
            obtain ⟨i', hi'⟩ : ∃ i', j = i' + nw (kd t) := ⟨j - nw (kd t), by omega⟩
            have hil' : i' < (ps t).length := by omega
            have h8 : kd t ≠ 8 ∨ i' = 0 := by
              by_cases q : kd t = 8
              · have := p3 q
                rw [q] at hi'
                have : nw 8 = 1 := by decide
                exact Or.inr (by omega)
              · exact Or.inl q
            have hpc := partT hs x0 hx (i := i') (t := pa t i') (by rw [et]; exact pa_get hil')
            rw [et, ← hi'] at hpc
            obtain ⟨b1, b2⟩ := hpc.2.1 h8
            have hc0 : pa t i' ≠ 0 := by
              have : 0 < trT ν u (dt u x j).toNat := tr_pos (okp_T (ν := ν) hs.1) (by omega) (by show (dt u x j).toNat ≤ nT u; omega)
              omega
            exact ⟨pa t i', fms_at.mpr ⟨i', h8, pa_get hil', hc0⟩, by rw [← b2]; exact z4⟩
          · rintro ⟨c1, hc1, z⟩
            obtain ⟨i', h8, hi', hc0⟩ := fms_at.mp hc1
            have hil' : i' < (ps t).length := (List.getElem?_eq_some_iff.mp hi').1
            have hpc := partT hs x0 hx (i := i') (t := c1) (by rw [et]; exact hi')
            rw [et] at hpc
            obtain ⟨b1, b2⟩ := hpc.2.1 h8
            have hpos : 0 < dt u x (i' + nw (kd t)) := by
              rcases Int.lt_or_le 0 (dt u x (i' + nw (kd t))) with q | q
              · exact q
              · have : (dt u x (i' + nw (kd t))).toNat = 0 := by omega
                rw [this] at b2
                exact absurd b2.symm hc0
            refine ⟨i' + nw (kd t), Nat.zero_le _, by omega, ⟨by omega, by omega, fun q => ?_, hpos⟩, by rw [b2]; exact z⟩
            rw [q]
            have : nw 8 = 1 := by decide
            rcases h8 with w | w
            · exact absurd q w
            · omega
        · constructor
          · rintro ⟨j, _, _, ⟨p1, _⟩, _⟩
            omega
          · intro z
            rw [locAt_leaf (by omega)] at z
            omega
      rw [hiff] at key
      exact key
theorem rX3_isBelow {ν : Nat → Nat} {c : Nat} {u : Sg} (hs : ST ν c u) (hb : nT u < 131072) {t : Nat} (ho : okT t) (hz : szT t ≤ 60000) {d x n : Nat} (hd : 7 + htT t ≤ d) (x0 : 0 < x) (hx : x ≤ nT u) (et : trT ν u x = t) : (lvL t n → runT d 14 [(x : Int), (n : Int)] u = some (1, u)) ∧ (¬ lvL t n → runT d 14 [(x : Int), (n : Int)] u = some (0, u)) := by
  obtain ⟨d, rfl⟩ : ∃ d', d = d' + 1 := ⟨d - 1, by omega⟩
  obtain ⟨a1, a2⟩ := rX3_mentions hs hb (k := 0) (by omega) t ho hz d x (by omega) x0 hx et
  obtain ⟨b1, b2⟩ := rX3_mentions hs hb (k := 1) (by omega) t ho hz d x (by omega) x0 hx et
  rw [runT_eq (by omega)]
  show (lvL t n → bX3_isBelow (runT d) x n u = some (1, u)) ∧ (¬ lvL t n → bX3_isBelow (runT d) x n u = some (0, u))
  have hlv : lvL t n ↔ (n = 0 → ¬ locAt t 0) ∧ (n ≤ 1 → ¬ locAt t 1) := by
    rw [lvL_iff]
    constructor
    · intro h
      exact ⟨fun q z => by have := h 0 z; omega, fun q z => by have := h 1 z; omega⟩
    · rintro ⟨h1, h2⟩ k hk
      have := locAt_2 ho hk
      rcases Nat.lt_or_ge k n with q | q
      · exact q
      · have : k = 0 ∨ k = 1 := by omega
        rcases this with z | z
        · rw [z] at hk; exact absurd hk (h1 (by omega))
        · rw [z] at hk; exact absurd hk (h2 (by omega))
  rw [hlv]
  unfold bX3_isBelow
  rw [jn_eq, jn_eq]
  have second : (¬ (n = 0 ∧ locAt t 0)) → ((n = 0 → ¬ locAt t 0) ∧ (n ≤ 1 → ¬ locAt t 1) → (jn (fun (s6 : Sg) => some ((1 : Int), s6)) fun j5 => if (n : Int) ≤ 1 then (cl (runT d 15 [(x : Int), 1] u) fun v7 s8 => if v7 = 0 then (j5 s8) else (some (0, s8))) else (j5 u)) = some (1, u)) ∧ (¬ ((n = 0 → ¬ locAt t 0) ∧ (n ≤ 1 → ¬ locAt t 1)) → (jn (fun (s6 : Sg) => some ((1 : Int), s6)) fun j5 => if (n : Int) ≤ 1 then (cl (runT d 15 [(x : Int), 1] u) fun v7 s8 => if v7 = 0 then (j5 s8) else (some (0, s8))) else (j5 u)) = some (0, u)) := fun h0 => by
    rw [jn_eq]
    by_cases hn1 : n ≤ 1
    · rw [if_pos (by omega)]
      by_cases hl : locAt t 1
      · have e : runT d 15 [(x : Int), 1] u = some (1, u) := b1 hl
        rw [cl_eq e, if_neg (by decide)]
        exact ⟨fun q => absurd hl (q.2 hn1), fun _ => rfl⟩
      · have e : runT d 15 [(x : Int), 1] u = some (0, u) := b2 hl
        rw [cl_eq e, if_pos rfl]
        exact ⟨fun _ => rfl, fun q => absurd ⟨fun z w => h0 ⟨z, w⟩, fun _ => hl⟩ q⟩
    · rw [if_neg (by omega)]
      exact ⟨fun _ => rfl, fun q => absurd ⟨fun z w => h0 ⟨z, w⟩, fun z => absurd z hn1⟩ q⟩
  by_cases hn0 : n = 0
  · rw [if_pos (by omega)]
    by_cases hl : locAt t 0
    · have e : runT d 15 [(x : Int), 0] u = some (1, u) := a1 hl
      rw [cl_eq e, if_neg (by decide)]
      exact ⟨fun q => absurd hl (q.1 hn0), fun _ => rfl⟩
    · have e : runT d 15 [(x : Int), 0] u = some (0, u) := a2 hl
      rw [cl_eq e, if_pos rfl]
      exact second (fun q => hl q.2)
  · rw [if_neg (by omega)]
    exact second (fun q => hn0 q.1)
