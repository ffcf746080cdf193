def RemT (u : Sg) (t : Nat) : Prop := t < gL u 39 ∧ gN u 39 t = gI u 40
def MemT (ν : Nat → Nat) (c : Nat) (W : Wd) (u : Sg) : Prop := ∀ t, RemT u t → 0 < t ∧ t ≤ nT u ∧ t < gL u 38 ∧ bitP (gN u 38 t) (adT W (trT ν u t)) ∧ cltm W (NT ν c) (trT ν u t)
theorem RemT.up {D t : Nat} {u u' : Sg} (h : RemT u t) (hg : Gr FT D u u') (h2 : D.testBit 39 = false) (h3 : D.testBit 40 = false) : RemT u' t := ⟨by rw [hg.Ln 39 h2]; exact h.1, by rw [hg.N 39 h2, hg.I 40 h3]; exact h.2⟩
theorem MemT.up {ν : Nat → Nat} {c D : Nat} {W : Wd} {u u' : Sg} {X : Nat → Prop} (h : MemT ν c W u) (hs : ST ν c u) (hx : UxT ν c u u' X) (hg : Gr FT D u u') (h1 : D.testBit 38 = false) (h2 : D.testBit 39 = false) (h3 : D.testBit 40 = false) : MemT ν c W u' := fun t ht => by
  have ht' : RemT u t := ⟨by rw [← hg.Ln 39 h2]; exact ht.1, by rw [← hg.N 39 h2, ← hg.I 40 h3]; exact ht.2⟩
  obtain ⟨a1, a2, a3, a4⟩ := h t ht'
  exact ⟨a1, Nat.le_trans a2 hx.n, by rw [hg.Ln 38 h1]; exact a3, by rw [hg.N 38 h1, hx.tr hs a2]; exact a4⟩
theorem rX3_isRem {d : Nat} (hd : 2 ≤ d) {u : Sg} (t : Nat) : (RemT u t → runT (d + 1) 93 [(t : Int)] u = some (1, u)) ∧ (¬ RemT u t → runT (d + 1) 93 [(t : Int)] u = some (0, u)) := by
  rw [runT_eq (by omega)]
  have key : bX3_isRemembered (runT d) t u = if RemT' : t < gL u 39 then (if gN u 39 t = gI u 40 then some (1, u) else some (0, u)) else some (0, u) := by
    unfold bX3_isRemembered
    rw [jn_eq, un_eq]
    by_cases h1 : t < gL u 39
    · rw [if_pos (by omega), ld_nat h1, un_eq, dif_pos h1]
    · rw [if_neg (by omega), dif_neg h1]
  show (RemT u t → bX3_isRemembered (runT d) t u = some (1, u)) ∧ (¬ RemT u t → bX3_isRemembered (runT d) t u = some (0, u))
  rw [key]
  refine ⟨fun h => by rw [dif_pos h.1, if_pos h.2], fun h => ?_⟩
  by_cases h1 : t < gL u 39
  · rw [dif_pos h1, if_neg (fun q => h ⟨h1, q⟩)]
  · rw [dif_neg h1]
theorem rX3_wantsR {d : Nat} (hd : 4 ≤ d) {u : Sg} {t : Nat} (t0 : 0 < t) (h : RemT u t) : runT d 92 [(t : Int)] u = some (0, u) := by
  obtain ⟨d, rfl⟩ : ∃ d', d = d' + 1 := ⟨d - 1, by omega⟩
  rw [runT_eq (by omega)]
  show bX3_wants (runT d) t u = _
  unfold bX3_wants
  obtain ⟨d, rfl⟩ : ∃ d', d = d' + 1 := ⟨d - 1, by omega⟩
  rw [if_neg (by omega), cl_eq ((rX3_isRem (by omega) t).1 h), if_neg (by decide)]
theorem rX3_allOfR {d : Nat} (hd : 5 ≤ d) {u : Sg} {t : Nat} (t0 : 0 < t) (h : RemT u t) (h38 : t < gL u 38) : runT d 91 [(t : Int)] u = some (gN u 38 t, u) := by
  obtain ⟨d, rfl⟩ : ∃ d', d = d' + 1 := ⟨d - 1, by omega⟩
  rw [runT_eq (by omega)]
  show bX3_allOf (runT d) t u = _
  unfold bX3_allOf
  obtain ⟨kf, hkf⟩ : ∃ kf, KF = kf + 1 := ⟨KF - 1, by decide⟩
  rw [un_eq, cl_eq (rX3_wantsR (by omega) t0 h), hkf, bX3_allOf_L10, un_eq, if_pos (Int.le_refl _), ld_nat h38]
theorem tX3_suitsR {d : Nat} (hd : 260 ≤ d) {ν : Nat → Nat} {c : Nat} {W : Wd} {u : Sg} {x y : Nat} {X : Nat → Prop} (hw : WF FT u) (hc : TW ν c W u) (hW : WOK W (NT ν c)) (hG : WGK W (NT ν c)) (hm : MemT ν c W u) (x0 : 0 < x) (hx : x ≤ nT u) (ht : cltm W (NT ν c) (trT ν u x)) (hrem : RemT u x) (y0 : 0 < y) (hy : y ≤ nT u) (hty : clty W (NT ν c) (trT ν u y)) (hr : hT u ≤ 26000) (hX1 : tyX W X (trT ν u x)) (hX2 : ∀ z ∈ upT W (tyT W (trT ν u x)), paX W X z) (hl : LimT ν u X) :
    wp (runT d 88 [(x : Int), (y : Int)] u) (RbT ν c DX3_has u X (fitT W (trT ν u x) (trT ν u y))) := by
  obtain ⟨d, rfl⟩ : ∃ d', d = d' + 1 := ⟨d - 1, by omega⟩
  rw [runT_eq (by omega)]
  show wp (bX3_suits (runT d) x y u) _
  unfold bX3_suits
  have hs := hc.1
  have hyt := ty_ok hW ht
  refine wp_call (tX3_typeOf (d := d) (x := x) (X := X) (by omega) hw hc hW x0 hx ht hr hX1 hl) (fun r u1 ⟨z, z1, z2, z3, z4, z5, z6, z7⟩ => ?_)
  subst z1
  have hs1 := z5.1
  have hc1 := hc.up z5.ux z7 (by decide +kernel)
  have hy1 : y ≤ nT u1 := Nat.le_trans hy z5.n
  have ety : trT ν u1 y = trT ν u y := z5.tr hs hy
  have hr1 : hT u1 = hT u := z5.2.2.2.1
  refine wp_eq (headNT (d := d) (by omega) hs1 y0 hy1 (by rw [ety, hty.2.1]; decide) (by rw [ety, hty.2.1]; decide)) ?_
  rw [ety]
  obtain ⟨a, a1, a2, a3⟩ := rX3_arg (d := d) (by omega) hs1 y0 hy1 (by rw [ety]; exact hty.2.1) (by rw [ety]; exact (type_part hty).1)
  rw [ety] at a3
  refine wp_eq a1 ?_
  refine wp_call (tX3_has (d := d) (y := z) (m := wh (trT ν u y)) (a := a) (X := X) (by omega) z6 hc1 hW z2 z3 (by rw [z4]; exact hyt) (by omega) (fun q => ?_) (by omega) (by rw [z4]; exact hX2) (z5.lim hl)) (fun r u2 ⟨v1, v2, v3, v4⟩ => ?_)
  · rw [a3]
    exact (hty.1.lc.2.2.1 hty.2.1).2.1.mpr (by rw [q]; exact hW.1)
  rw [z4, a3] at v1
  have hU2 := z5.join v2
  have hs2 := hU2.1
  have hg2 : Gr FT DX3_has u u2 := (z7.sub (by decide +kernel)).tr v4
  have hm2 := hm.up hs hU2.ux hg2 (by decide +kernel) (by decide +kernel) (by decide +kernel)
  have hrem2 := hrem.up hg2 (by decide +kernel) (by decide +kernel)
  refine wp_ite (fun h0 => ?_) (fun h0 => ?_)
  · rw [wp_some]
    refine ⟨Or.inr ⟨rfl, fun q => ?_⟩, hU2, v3, hg2⟩
    rcases v1 with w | w
    · omega
    · exact w.2 q.1
  have hhas : hasT W (tyT W (trT ν u x)) (wh (trT ν u y)) (pa (trT ν u y) 0) := by
    rcases v1 with w | w
    · exact w.2
    · exact absurd w.1 h0
  have ety2 : trT ν u2 y = trT ν u y := hU2.tr hs hy
  have etx2 : trT ν u2 x = trT ν u x := hU2.tr hs hx
  have hadj := clty_adj hG hty
  obtain ⟨s, e, hbs⟩ := rX3_setOf (d := d) (by omega) hs2 y0 (Nat.le_trans hy hU2.n) (by rw [ety2]; exact hty.1.1) (by rw [ety2]; exact hty.2.1) (by rw [ety2]; exact hadj)
  rw [ety2] at hbs
  rw [wp_jn]
  refine wp_eq e ?_
  refine wp_ite (fun hz => ?_) (fun hz => ?_)
  · rw [wp_some]
    refine ⟨Or.inl ⟨rfl, hhas, fun j hj => absurd hj (hbs.zero.mp hz j (by have := hadj j hj; omega))⟩, hU2, v3, hg2⟩
  · obtain ⟨m1, m2, m3, m4⟩ := hm2 x hrem2
    rw [etx2] at m4
    refine wp_eq (rX3_allOfR (d := d) (by omega) x0 hrem2 m3) ?_
    rw [wp_un, wp_un]
    have hsub := hbs.sub m4.1
    refine wp_ite (fun hq => ?_) (fun hq => ?_)
    · rw [wp_some]
      exact ⟨Or.inl ⟨rfl, hhas, fun j hj => hsub.mp hq j (by have := hadj j hj; omega) hj⟩, hU2, v3, hg2⟩
    · rw [wp_some]
      exact ⟨Or.inr ⟨rfl, fun q => hq (hsub.mpr (fun j _ hj => q.2 j hj))⟩, hU2, v3, hg2⟩
def wgK (W : Wd) (g i : Nat) : Nat := if i = 0 then wgA W g else wgB W g
theorem argF_all {W : Wd} {N : Nat → Prop} (hG : WGK W N) {t g : Nat} (hg : g < wnG W) (h1 : wgS W g ≠ 0) (hO : wgO W g = wh t) (hn : (ps t).length = wfM W (wh t)) (hn2 : (ps t).length ≤ 2) : argF W (adT W) t g ↔ ∀ k, k < (ps t).length → fitT W (pa t k) (sbT (locg (pa t 0) (pa t 1)) 0 (wgK W g k)) := by
  obtain ⟨k1, k2, k3, k4, k5⟩ := (hG.2 g hg).2.2.1 h1
  rw [hO] at k2 k4
  unfold argF wgK
  constructor
  · rintro ⟨a1, a2⟩ k hk
    have : k = 0 ∨ k = 1 := by omega
    rcases this with q | q
    · subst q
      rw [if_pos rfl]
      exact (a1 (fun z => by have := k2.mp z; omega)).2
    · subst q
      rw [if_neg (by decide)]
      exact (a2 (fun z => by have := k4.mp z; omega)).2
  · intro h
    refine ⟨fun z => ?_, fun z => ?_⟩
    · have hl : 0 < (ps t).length := by
        rcases Nat.eq_zero_or_pos (ps t).length with q | q
        · exact absurd (k2.mpr (by omega)) z
        · exact q
      have := h 0 hl
      rw [if_pos rfl] at this
      exact ⟨hl, this⟩
    · have hl : 1 < (ps t).length := by
        rcases Nat.lt_or_ge 1 (ps t).length with q | q
        · exact q
        · exact absurd (k4.mpr (by omega)) z
      have := h 1 hl
      rw [if_neg (by decide)] at this
      exact ⟨hl, this⟩
theorem termsSuit_L2 {d : Nat} (hd : 270 ≤ d) {ν : Nat → Nat} {c : Nat} {W : Wd} {u : Sg} {x g t : Nat} {X : Nat → Prop} (hc : TW ν c W u) (hW : WOK W (NT ν c)) (hG : WGK W (NT ν c)) (hm : MemT ν c W u) (x0 : 0 < x) (hx : x ≤ nT u) (et : trT ν u x = t) (ht : cltm W (NT ν c) t) (h4 : kd t = 4) (hg : g < wnG W) (hS : wgS W g ≠ 0) (hO : wgO W g = wh t) (hrem : ∀ y, 0 < y → y ≤ nT u → trT ν u y ∈ fms t → RemT u y) (hr : hT u ≤ 26000) (hXa : ∀ k, k < (ps t).length → tyX W X (pa t k) ∧ ∀ z ∈ upT W (tyT W (pa t k)), paX W X z) (hXg : ∀ k, k < (ps t).length → ImT X (locg (pa t 0) (pa t 1)) (wgK W g k) 0) (hl : LimT ν u X) : ∀ (m i f : Nat) (u1 : Sg), i + m = (ps t).length → m < f → UpT ν c u u1 X → WF FT u1 → Gr FT DX3_has u u1 → wp (bX3_termsSuit_L2 (runT d) f (g : Int) (x : Int) ((i + 1 : Nat) : Int) u1 (fun s1 => some (1, s1)) (fun s2 => some (0, s2))) (RbT ν c DX3_has u X (∀ k, i ≤ k → k < (ps t).length → fitT W (pa t k) (sbT (locg (pa t 0) (pa t 1)) 0 (wgK W g k)))) := by
  have hs := hc.1
  obtain ⟨f1, f2⟩ := ht.1.lc.2.1 h4
  obtain ⟨ff1, ff2, ff3⟩ := hW.2.2.1 _ f1
  obtain ⟨k1, k2, k3, k4, k5⟩ := (hG.2 g hg).2.2.1 hS
  rw [hO] at k2 k3 k4 k5
  have nw1 : nw (kd t) = 1 := by rw [h4]; decide
  intro m
  induction m with
  | zero =>
    intro i f u1 hi hf hU hw1 hgr
    obtain ⟨f, rfl⟩ : ∃ f', f = f' + 1 := ⟨f - 1, by omega⟩
    have hs1 := hU.1
    have etx : trT ν u1 x = t := by rw [hU.tr hs hx]; exact et
    have hx1 := Nat.le_trans hx hU.n
    have hn := nodeT hs1 x0 hx1
    rw [etx, nw1] at hn
    have hl3 : x < gL u1 3 := by rw [hs1.1.1.2.2.2.1.2.1]; exact hs1.k hx1
    rw [bX3_termsSuit_L2, ld_nat hl3, hn.2.1, if_neg (by omega), wp_some]
    exact ⟨Or.inl ⟨rfl, fun k q1 q2 => by omega⟩, hU, hw1, hgr⟩
  | succ m ih =>
    intro i f u1 hi hf hU hw1 hgr
    obtain ⟨f, rfl⟩ : ∃ f', f = f' + 1 := ⟨f - 1, by omega⟩
    have hs1 := hU.1
    have etx : trT ν u1 x = t := by rw [hU.tr hs hx]; exact et
    have hx1 := Nat.le_trans hx hU.n
    have hn := nodeT hs1 x0 hx1
    rw [etx, nw1] at hn
    have hl3 : x < gL u1 3 := by rw [hs1.1.1.2.2.2.1.2.1]; exact hs1.k hx1
    have hc1 := hc.up hU.ux hgr (by decide +kernel)
    have hl1 := hU.lim hl
    have hb1 := hl1.n hs1
    have hr1 : hT u1 = hT u := hU.2.2.2.1
    have hil : i < (ps t).length := by omega
    obtain ⟨fp1, fp2⟩ := fun_part ht h4 hil
    have hwne : wgK W g i ≠ 0 := by
      unfold wgK
      have : i = 0 ∨ i = 1 := by omega
      rcases this with q | q
      · rw [if_pos q]; intro z; have := k2.mp z; omega
      · rw [if_neg (by omega)]; intro z; have := k4.mp z; omega
    have hgv : gvn W (NT ν c) (wgK W g i) (wfM W (wh t)) ∧ kd (wgK W g i) = 8 := by
      unfold wgK at hwne ⊢
      by_cases q : i = 0
      · rw [if_pos q] at hwne ⊢; exact k3 hwne
      · rw [if_neg q] at hwne ⊢; exact k5 hwne
    rw [bX3_termsSuit_L2, ld_nat hl3, hn.2.1, if_pos (by omega), wp_jn]
    refine wp_call (tX3_moveLoci (d := d) (by omega) hw1 hs1 x0 hx1 (by rw [etx]; exact h4) (by rw [etx]; exact ht) (by rw [etx]; omega) hc1.2.1.1 hc1.2.1.2 (by omega)) (fun _ u2 ⟨e2, w2, G2, m2⟩ => ?_)
    rw [etx] at m2
    have hs2 := e2.st hs1
    have hx2 : x ≤ nT u2 := by rw [e2.1.n]; exact hx1
    have etx2 : trT ν u2 x = t := by rw [e2.1.tr]; exact etx
    obtain ⟨a, a1, a2, a3⟩ := partNT (d := d) (i := i) (by omega) hs2 x0 hx2 (by rw [etx2]; exact hil) (Or.inl (by rw [etx2]; omega))
    rw [etx2, nw1] at a1
    rw [etx2] at a3
    refine wp_eq a1 ?_
    -- the type of the place
    obtain ⟨gg1, gg2, gg3, gg8⟩ := hc1.2.2.2.2.2.2
    have n33 : ∀ j, gN u2 33 j = gN u1 33 j := fun j => G2.N 33 (by decide) j
    have n34 : ∀ j, gN u2 34 j = gN u1 34 j := fun j => G2.N 34 (by decide) j
    have l33 : gL u2 33 = 30 := by rw [G2.Ln 33 (by decide)]; exact gg3 33 (by omega) (by omega)
    have l34 : gL u2 34 = 30 := by rw [G2.Ln 34 (by decide)]; exact gg3 34 (by omega) (by omega)
    have hloc := loc_ok (d := 0) (a := pa t 0) (b := pa t 1) hgv.1 (by omega) (fun z => (fun_part ht h4 (i := 0) (by omega)).1) (fun z => (fun_part ht h4 (i := 1) (by omega)).1)
    have go : ∀ y : Nat, 0 < y → y ≤ nT u1 → trT ν u1 y = wgK W g i → wp (cl (runT d 78 [(y : Int)] u2) fun v4 s5 => cl (runT d 88 [(a : Int), v4] s5) fun v6 s7 => if v6 = 0 then (some (0, s7)) else (ar (((i + 1 : Nat) : Int) + 1) fun v8 => bX3_termsSuit_L2 (runT d) f (g : Int) (x : Int) v8 s7 (fun s1 => some (1, s1)) (fun s2 => some (0, s2)))) (RbT ν c DX3_has u X (∀ k, i ≤ k → k < (ps t).length → fitT W (pa t k) (sbT (locg (pa t 0) (pa t 1)) 0 (wgK W g k)))) := fun y y0 hy ey => by
      have ey2 : trT ν u2 y = wgK W g i := by rw [e2.1.tr]; exact ey
      have hmv := tX3_move (d := d) (x := y) (X := X) (W := W) (N := NT ν c) (by omega) w2 hs2 y0 (by rw [e2.1.n]; exact hy) (by rw [ey2, f2]; exact hgv.1) m2 (fun z => (fun_part ht h4 (i := 0) (by omega)).1) (fun z => (fun_part ht h4 (i := 1) (by omega)).1) (by rw [e2.hh]; omega) (by rw [ey2]; exact hXg i hil) (e2.lim hl1)
      rw [ey2] at hmv
      refine wp_call hmv (fun r u3 h3 => ?_)
      have h3' := RvT.ofEqH (D := DX3_has) e2 (Gr.sub (by decide +kernel) G2) (RvT.sub (by decide +kernel) h3)
      obtain ⟨z, z1, z2, z3, z4, z5, z6, z7⟩ := h3'
      subst z1
      have hU3 := hU.join z5
      have hg3 := hgr.tr z7
      have hs3 := hU3.1
      have hc3 := hc.up hU3.ux hg3 (by decide +kernel)
      have ha1 : a ≤ nT u1 := by have := e2.1.n; omega
      have ea1 : trT ν u1 a = pa t i := by rw [← e2.1.tr]; exact a3
      have a0 : 0 < a := by
        rcases Nat.eq_zero_or_pos a with q | q
        · rw [q] at ea1
          exact absurd ea1.symm (isTm_pos fp1.2.1)
        · exact q
      have ea3 : trT ν u3 a = pa t i := by rw [z5.tr hs1 ha1]; exact ea1
      -- the argument is a node of the start already
      have hau : a ≤ nT u := by
        obtain ⟨b, _, b2, b3⟩ := partNT (d := d) (i := i) (by omega) hs x0 hx (by rw [et]; exact hil) (Or.inl (by rw [et]; omega))
        rw [et] at b3
        have e := trT_inj hs1 (x := a) (y := b) ha1 (by have := hU.n; omega) (by rw [ea1, hU.tr hs (by omega), b3])
        omega
      have hremA : RemT u a := hrem a a0 hau (by rw [← hU.tr hs hau, ea1]; exact fp2)
      have hXi := hXa i hil
      have hr3 : hT u3 = hT u := hU3.2.2.2.1
      refine wp_call (tX3_suitsR (d := d) (x := a) (y := z) (X := X) (by omega) z6 hc3 hW hG (hm.up hs hU3.ux hg3 (by decide +kernel) (by decide +kernel) (by decide +kernel)) a0 (Nat.le_trans ha1 z5.n) (by rw [ea3]; exact fp1) (hremA.up hg3 (by decide +kernel) (by decide +kernel)) z2 z3 (by rw [z4]; exact ⟨hloc.1, by rw [(sb_kd (by have := hgv.2; omega)).1]; exact hgv.2, hloc.2.1⟩) (by omega) (by rw [ea3]; exact hXi.1) (by rw [ea3]; exact hXi.2) (hU3.lim hl)) (fun r u4 ⟨v1, v2, v3, v4⟩ => ?_)
      rw [ea3, z4] at v1
      have hU4 := hU3.join v2
      have hg4 := hg3.tr v4
      refine wp_ite (fun h0 => ?_) (fun h0 => ?_)
      · rw [wp_some]
        refine ⟨Or.inr ⟨rfl, fun q => ?_⟩, hU4, v3, hg4⟩
        rcases v1 with w | w
        · omega
        · exact w.2 (q i (Nat.le_refl _) hil)
      · have hfit : fitT W (pa t i) (sbT (locg (pa t 0) (pa t 1)) 0 (wgK W g i)) := by
          rcases v1 with w | w
          · exact w.2
          · exact absurd w.1 h0
        rw [wp_ar]
        refine ⟨⟨by omega, by omega⟩, ?_⟩
        rw [show ((i + 1 : Nat) : Int) + 1 = ((i + 1 + 1 : Nat) : Int) by omega]
        refine wp_mono (ih (i + 1) f u4 (by omega) (by omega) hU4 v3 hg4) (fun r u5 h => ⟨h.1.imp (fun q => ⟨q.1, fun k z1 z2 => ?_⟩) (fun q => ⟨q.1, fun w => q.2 (fun k z1 z2 => w k (by omega) z2)⟩), h.2⟩)
        by_cases hk : k = i
        · rw [hk]; exact hfit
        · exact q.2 k (by omega) z2
    obtain ⟨s1, s2, s3, s4, s5⟩ := gg8 g hg
    obtain ⟨_, sA, sB⟩ := s3 hS
    refine wp_ite (fun hi1 => ?_) (fun hi1 => ?_)
    · have e0 : i = 0 := by omega
      have ek : wgK W g i = wgA W g := by unfold wgK; rw [if_pos e0]
      obtain ⟨y, y1, y0, y2, y3⟩ := sA.pos (by rw [← ek]; exact hwne)
      rw [ld_nat (by omega), n33, y1]
      exact go y y0 y2 (by rw [ek]; exact y3)
    · have ek : wgK W g i = wgB W g := by unfold wgK; rw [if_neg (by omega)]
      obtain ⟨y, y1, y0, y2, y3⟩ := sB.pos (by rw [← ek]; exact hwne)
      rw [ld_nat (by omega), n34, y1]
      exact go y y0 y2 (by rw [ek]; exact y3)
