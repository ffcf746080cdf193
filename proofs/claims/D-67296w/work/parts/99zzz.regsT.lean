/-! registrations in a case of the model -/
theorem argS_all {W : Wd} {N : Nat → Prop} (hG : WGK W N) {F : Fs} {t g : Nat} (hg : g < wnG W) (h1 : wgS W g ≠ 0) (hO : wgO W g = wh t) (hn : (ps t).length = wfM W (wh t)) (hn2 : (ps t).length ≤ 2) : argS W F t g ↔ ∀ k, k < (ps t).length → fitS F (pa t k) (sbT (locg (pa t 0) (pa t 1)) 0 (wgK W g k)) := by
  obtain ⟨k1, k2, k3, k4, k5⟩ := (hG.2 g hg).2.2.1 h1
  rw [hO] at k2 k4
  constructor
  · intro h k hk
    have : k = 0 ∨ k = 1 := by omega
    rcases this with q | q
    · subst q
      exact h.1 (fun z => by have := k2.mp z; omega)
    · subst q
      exact h.2 (fun z => by have := k4.mp z; omega)
  · intro h
    refine ⟨fun z => ?_, fun z => ?_⟩
    · exact h 0 (Nat.pos_of_ne_zero (fun q => z (k2.mpr (by omega))))
    · have hl : 1 < (ps t).length := Nat.lt_of_not_le (fun q => z (k4.mpr (by omega)))
      exact h 1 hl
theorem termsFit_L2 {d : Nat} (hd : 260 ≤ d) {ν : Nat → Nat} {c : Nat} {W : Wd} {S : Fs} {X : XFm} {K B : Nat → Prop} {Kl : List Nat} {u : Sg} {l : Ls} {x g t : Nat} (hE : EnT ν c W S X Kl K B) (hC : CaT ν c W S Kl u l) (hle : l.1.length ≤ 100) (htH : t ∈ l.1) (x0 : 0 < x) (hx : x ≤ nT u) (et : trT ν u x = t) (h4 : kd t = 4) (hg : g < wnG W) (hSg : wgS W g ≠ 0) (hO : wgO W g = wh t) (hr : hT u ≤ 26000) (hl : LimTH ν u S X l.1) : ∀ (m i f : Nat) (u1 : Sg), i + m = (ps t).length → m < f → UpT ν c u u1 (xt X l.1) → WF FT u1 → Gr FT DX3_has u u1 → (∀ k, k < i → fitS (FsQ l) (pa t k) (sbT (locg (pa t 0) (pa t 1)) 0 (wgK W g k))) → wp (bX3_termsFit_L2 (runT d) f (g : Int) (x : Int) ((i + 1 : Nat) : Int) u1 (fun s1 => some (1, s1)) (fun s2 => some (0, s2))) (RbT ν c DX3_has u (xt X l.1) (∀ k, k < (ps t).length → fitS (FsQ l) (pa t k) (sbT (locg (pa t 0) (pa t 1)) 0 (wgK W g k)))) := by
  obtain ⟨hW, hG, hK, hS, hcn, hXS, hXT, hXK, hKK⟩ := hE
  have hs := hC.1.1
  obtain ⟨ht, htS⟩ := hC.2.2.2.2.2.1 t htH
  obtain ⟨f1, f2⟩ := ht.1.lc.2.1 h4
  obtain ⟨ff1, ff2, ff3⟩ := hW.2.2.1 _ f1
  obtain ⟨k1, k2, k3, k4, k5⟩ := (hG.2 g hg).2.2.1 hSg
  rw [hO] at k2 k3 k4 k5
  have nw1 : nw (kd t) = 1 := by rw [h4]; decide
  have hsub := hC.sub hW hS
  obtain ⟨xa, xb, _⟩ := hXT t htS h4 g hg hSg hO
  have hml := hC.ml hW (hK.wh hC.1.2.2.2.1.2.1.2) hK.1
  intro m
  induction m with
  | zero =>
    intro i f u1 hi hf hU hw1 hgr hfit
    obtain ⟨f, rfl⟩ : ∃ f', f = f' + 1 := ⟨f - 1, by omega⟩
    have hs1 := hU.1
    have etx : trT ν u1 x = t := by rw [hU.tr hs hx]; exact et
    have hx1 := Nat.le_trans hx hU.n
    have hn := nodeT hs1 x0 hx1
    rw [etx, nw1] at hn
    have hl3 : x < gL u1 3 := by rw [hs1.1.1.2.2.2.1.2.1]; exact hs1.k hx1
    rw [bX3_termsFit_L2, ld_nat hl3, hn.2.1, if_neg (by omega), wp_some]
    exact ⟨Or.inl ⟨rfl, fun k q => hfit k (by omega)⟩, hU, hw1, hgr⟩
  | succ m ih =>
    intro i f u1 hi hf hU hw1 hgr hfit
    obtain ⟨f, rfl⟩ : ∃ f', f = f' + 1 := ⟨f - 1, by omega⟩
    have hC1 := hC.upD hU.ux hw1 hgr (by decide +kernel)
    have hs1 := hU.1
    have etx : trT ν u1 x = t := by rw [hU.tr hs hx]; exact et
    have hx1 := Nat.le_trans hx hU.n
    have hn := nodeT hs1 x0 hx1
    rw [etx, nw1] at hn
    have hl3 : x < gL u1 3 := by rw [hs1.1.1.2.2.2.1.2.1]; exact hs1.k hx1
    have hc1 := hC1.1
    have hl1 := hU.lim (hl.l hC)
    have hb1 := hl1.n hs1
    have hr1 : hT u1 = hT u := hU.2.2.2.1
    have hil : i < (ps t).length := by omega
    obtain ⟨fp1, fp2⟩ := fun_part ht h4 hil
    have hwne : wgK W g i ≠ 0 := by
      unfold wgK
      have : i = 0 ∨ i = 1 := by omega
      rcases this with q | q
      · rw [if_pos q]; intro z; have := k2.mp z; omega
      · rw [if_neg (by omega)]; intro z; have := k4.mp z; omega
    have hgv : gvn W (NT ν c) (wgK W g i) (wfM W (wh t)) ∧ kd (wgK W g i) = 8 := by
      unfold wgK at hwne ⊢
      by_cases q : i = 0
      · rw [if_pos q] at hwne ⊢; exact k3 hwne
      · rw [if_neg q] at hwne ⊢; exact k5 hwne
    have hXi : ImT (xt X l.1) (locg (pa t 0) (pa t 1)) (wgK W g i) 0 := by
      refine ImT.mono (xt_at hle htH) _ _ ?_
      by_cases q : i = 0
      · have e : wgK W g i = wgA W g := by unfold wgK; rw [if_pos q]
        rw [e] at hwne ⊢
        exact xa hwne
      · have e : wgK W g i = wgB W g := by unfold wgK; rw [if_neg q]
        rw [e] at hwne ⊢
        refine xb (fun _ => ?_) hwne
        have := hfit 0 (by omega)
        exact hsub.fit this
    rw [bX3_termsFit_L2, ld_nat hl3, hn.2.1, if_pos (by omega), wp_jn]
    refine wp_call (tX3_moveLoci (d := d) (by omega) hw1 hs1 x0 hx1 (by rw [etx]; exact h4) (by rw [etx]; exact ht) (by rw [etx]; omega) hc1.2.1.1 hc1.2.1.2 (by omega)) (fun _ u2 ⟨e2, w2, G2, m2⟩ => ?_)
    rw [etx] at m2
    have hs2 := e2.st hs1
    have hx2 : x ≤ nT u2 := by rw [e2.1.n]; exact hx1
    have etx2 : trT ν u2 x = t := by rw [e2.1.tr]; exact etx
    obtain ⟨a, a1, a2, a3⟩ := partNT (d := d) (i := i) (by omega) hs2 x0 hx2 (by rw [etx2]; exact hil) (Or.inl (by rw [etx2]; omega))
    rw [etx2, nw1] at a1
    rw [etx2] at a3
    refine wp_eq a1 ?_
    obtain ⟨gg1, gg2, gg3, gg8⟩ := hc1.2.2.2.2.2.2
    have n33 : ∀ j, gN u2 33 j = gN u1 33 j := fun j => G2.N 33 (by decide) j
    have n34 : ∀ j, gN u2 34 j = gN u1 34 j := fun j => G2.N 34 (by decide) j
    have l33 : gL u2 33 = 30 := by rw [G2.Ln 33 (by decide)]; exact gg3 33 (by omega) (by omega)
    have l34 : gL u2 34 = 30 := by rw [G2.Ln 34 (by decide)]; exact gg3 34 (by omega) (by omega)
    have hloc := loc_ok (d := 0) (a := pa t 0) (b := pa t 1) hgv.1 (by omega) (fun z => (fun_part ht h4 (i := 0) (by omega)).1) (fun z => (fun_part ht h4 (i := 1) (by omega)).1)
    have go : ∀ y : Nat, 0 < y → y ≤ nT u1 → trT ν u1 y = wgK W g i → wp (cl (runT d 78 [(y : Int)] u2) fun v4 s5 => cl (runT d 87 [(a : Int), v4] s5) fun v6 s7 => if v6 = 0 then (some (0, s7)) else (ar (((i + 1 : Nat) : Int) + 1) fun v8 => bX3_termsFit_L2 (runT d) f (g : Int) (x : Int) v8 s7 (fun s1 => some (1, s1)) (fun s2 => some (0, s2)))) (RbT ν c DX3_has u (xt X l.1) (∀ k, k < (ps t).length → fitS (FsQ l) (pa t k) (sbT (locg (pa t 0) (pa t 1)) 0 (wgK W g k)))) := fun y y0 hy ey => by
      have ey2 : trT ν u2 y = wgK W g i := by rw [e2.1.tr]; exact ey
      have hmv := tX3_move (d := d) (x := y) (X := xt X l.1) (W := W) (N := NT ν c) (by omega) w2 hs2 y0 (by rw [e2.1.n]; exact hy) (by rw [ey2, f2]; exact hgv.1) m2 (fun z => (fun_part ht h4 (i := 0) (by omega)).1) (fun z => (fun_part ht h4 (i := 1) (by omega)).1) (by rw [e2.hh]; omega) (by rw [ey2]; exact hXi) (e2.lim hl1)
      rw [ey2] at hmv
      refine wp_call hmv (fun r u3 h3 => ?_)
      have h3' := RvT.ofEqH (D := DX3_has) e2 (Gr.sub (by decide +kernel) G2) (RvT.sub (by decide +kernel) h3)
      obtain ⟨z, z1, z2, z3, z4, z5, z6, z7⟩ := h3'
      subst z1
      have hU3 := hU.join z5
      have hg3 := hgr.tr z7
      have hs3 := hU3.1
      have hC3 := hC.upD hU3.ux z6 hg3 (by decide +kernel)
      have ha1 : a ≤ nT u1 := by have := e2.1.n; omega
      have ea1 : trT ν u1 a = pa t i := by rw [← e2.1.tr]; exact a3
      have ea3 : trT ν u3 a = pa t i := by rw [z5.tr hs1 ha1]; exact ea1
      have haH : pa t i ∈ l.1 := hC.2.2.2.2.2.2.2.2.2 hle t htH _ (sub_c fp2 (sub_rf _)) fp1.2.1 fp1.2.2.1
      have hty : clty W (NT ν c) (sbT (locg (pa t 0) (pa t 1)) 0 (wgK W g i)) := ⟨hloc.1, by rw [(sb_kd (by have := hgv.2; omega)).1]; exact hgv.2, hloc.2.1⟩
      obtain ⟨m1, m3⟩ := rX3_fitsHere (d := d) (l := l) (x := a) (y := z) (by omega) hC3.2.2.1.1 hs3 hC3.2.2.2.1 (by omega) (fun q hq => (hC3.2.2.2.2.2.2.2.1.2 q hq).2.2.2.1) hC3.2.2.2.2.1 (by omega) (Nat.le_trans ha1 z5.n) (by rw [ea3]; exact haH) z2 z3 (by rw [z4]; exact hty.2.1) (by rw [z4]; exact hty.1.1) (by rw [z4]; exact fun q => (hty.1.lc.2.2.1 hty.2.1).2.1.mpr (by rw [q]; exact hW.1))
      rw [ea3, z4] at m1 m3
      by_cases hf : fitS (FsQ l) (pa t i) (sbT (locg (pa t 0) (pa t 1)) 0 (wgK W g i))
      · refine wp_eq (m1 hf) ?_
        rw [if_neg (by decide), wp_ar]
        refine ⟨⟨by omega, by omega⟩, ?_⟩
        rw [show ((i + 1 : Nat) : Int) + 1 = ((i + 1 + 1 : Nat) : Int) by omega]
        refine ih (i + 1) f u3 (by omega) (by omega) hU3 z6 hg3 (fun k hk => ?_)
        by_cases hki : k = i
        · rw [hki]; exact hf
        · exact hfit k (by omega)
      · refine wp_eq (m3 hf) ?_
        rw [if_pos rfl, wp_some]
        exact ⟨Or.inr ⟨rfl, fun q => hf (q i hil)⟩, hU3, z6, hg3⟩
    obtain ⟨q1, q2, q3, q4, q5⟩ := gg8 g hg
    obtain ⟨q31, q32, q33⟩ := q3 hSg
    refine wp_ite (fun h0 => ?_) (fun h0 => ?_)
    · have hi0 : i = 0 := by omega
      have e : wgK W g i = wgA W g := by unfold wgK; rw [if_pos hi0]
      rw [e] at hwne
      obtain ⟨y, y1, y2, y3, y4⟩ := q32.pos hwne
      rw [ld_nat (by omega), n33, y1]
      exact go y y2 y3 (by rw [e]; exact y4)
    · have hi0 : i ≠ 0 := by omega
      have e : wgK W g i = wgB W g := by unfold wgK; rw [if_neg hi0]
      rw [e] at hwne
      obtain ⟨y, y1, y2, y3, y4⟩ := q33.pos hwne
      rw [ld_nat (by omega), n34, y1]
      exact go y y2 y3 (by rw [e]; exact y4)
/-- whether the arguments of a term at hand fit a registration -/
theorem tX3_termsFit {d : Nat} (hd : 261 ≤ d) {ν : Nat → Nat} {c : Nat} {W : Wd} {S : Fs} {X : XFm} {K B : Nat → Prop} {Kl : List Nat} {u : Sg} {l : Ls} {x g t : Nat} (hE : EnT ν c W S X Kl K B) (hC : CaT ν c W S Kl u l) (hle : l.1.length ≤ 100) (htH : t ∈ l.1) (x0 : 0 < x) (hx : x ≤ nT u) (et : trT ν u x = t) (h4 : kd t = 4) (hg : g < wnG W) (hSg : wgS W g ≠ 0) (hO : wgO W g = wh t) (hr : hT u ≤ 26000) (hl : LimTH ν u S X l.1) : wp (runT d 86 [(g : Int), (x : Int)] u) (RbT ν c DX3_has u (xt X l.1) (argS W (FsQ l) t g)) := by
  obtain ⟨d, rfl⟩ : ∃ d', d = d' + 1 := ⟨d - 1, by omega⟩
  rw [runT_eq (by omega)]
  show wp (bX3_termsFit (runT d) g x u) _
  unfold bX3_termsFit
  have ht := (hC.2.2.2.2.2.1 t htH).1
  obtain ⟨f1, f2⟩ := ht.1.lc.2.1 h4
  obtain ⟨ff1, ff2, ff3⟩ := hE.1.2.2.1 _ f1
  have key := argS_all (F := FsQ l) hE.2.1 hg hSg hO f2 (by omega)
  refine wp_mono (termsFit_L2 (d := d) (by omega) hE hC hle htH x0 hx et h4 hg hSg hO hr hl (ps t).length 0 KF u (by omega) (Nat.lt_of_le_of_lt (by omega : _ ≤ 300000) KF_300) (UpT.rf hC.1.1) hC.2.1 Gr.rf (fun k hk => by omega)) (fun r u' h => ?_)
  exact ⟨h.1.imp (fun q => ⟨q.1, key.mpr q.2⟩) (fun q => ⟨q.1, fun z => q.2 (key.mp z)⟩), h.2⟩
theorem bt_shr {v : Int} {a : Nat} (ha : a < 31) : o_and (o_shr v (a : Int)) 1 = if bt v a then 1 else 0 := by
  have h1 : ∀ a : Nat, a < 31 → (Int32.ofInt (a : Int) &&& 31).toBitVec.toNat % 32 = a := by decide +kernel
  have key : o_and (o_shr v (a : Int)) 1 = (if bt v a then (1 : Int) else 0) := by
    refine bt_ext (o_rng _) (by split <;> exact ⟨by decide, by decide⟩) (fun j hj => ?_)
    rw [bt_and]
    have h2 : ∀ j, j < 32 → bt 1 j = decide (j = 0) := by decide +kernel
    rw [h2 j hj]
    by_cases hj0 : j = 0
    · subst hj0
      rw [decide_eq_true rfl, Bool.and_true]
      have h3 : bt (o_shr v (a : Int)) 0 = bt v a := by
        unfold bt o_shr
        rw [Int32.ofInt_toInt, Int32.toBitVec_shiftRight, BitVec.getLsbD_sshiftRight']
        have e : (BitVec.smod (Int32.ofInt (a : Int) &&& 31).toBitVec 32).toNat = a := (by decide +kernel : ∀ a : Nat, a < 31 → (BitVec.smod (Int32.ofInt (a : Int) &&& 31).toBitVec 32).toNat = a) a ha
        rw [e]
        simp
        omega
      rw [h3]
      cases bt v a <;> decide
    · rw [decide_eq_false hj0, Bool.and_false]
      split
      · rw [h2 j hj, decide_eq_false hj0]
      · exact (bt_zero hj).symm
  exact key
