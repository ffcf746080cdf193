/-! what is known is taken in, in the model -/
theorem tkT_hi {k : Nat} (h : 8 ≤ k) : tkT k = (k : Int) - 1 := by
  unfold tkT
  rw [if_neg (by omega), if_neg (by omega), if_neg (by omega)]
def KnT (ν : Nat → Nat) (u : Sg) (Kl : List Nat) : Prop := (gI u 50 = (Kl.length : Int) ∧ Kl.length ≤ gL u 49 ∧ 16 ≤ gL u 49) ∧ (16 ≤ gL u 51 ∧ gL u 51 ≤ 300000) ∧ Kl.Nodup ∧ (∀ (i f : Nat), Kl[i]? = some f → ∃ x : Nat, gN u 49 i = (x : Int) ∧ 0 < x ∧ x ≤ nT u ∧ trT ν u x = f ∧ x < gL u 51 ∧ gN u 51 x = gI u 54) ∧ ∀ x : Nat, x < gL u 51 → gN u 51 x ≤ gI u 54 ∧ (gN u 51 x = gI u 54 → ∃ i, i < Kl.length ∧ gN u 49 i = (x : Int))
theorem KnT.up {ν : Nat → Nat} {c D : Nat} {u u' : Sg} {X : Nat → Prop} {Kl : List Nat} (h : KnT ν u Kl) (hs : ST ν c u) (hx : UxT ν c u u' X) (hg : Gr FT D u u') (hb : ∀ k, 49 ≤ k → k ≤ 51 → D.testBit k = false) (h54 : D.testBit 54 = false) : KnT ν u' Kl := by
  obtain ⟨⟨a1, a2, a3⟩, ⟨b1, b2⟩, h3, h4, h5⟩ := h
  have hn := hx.n
  have L49 := hg.Ln 49 (hb 49 (by omega) (by omega))
  have L51 := hg.Ln 51 (hb 51 (by omega) (by omega))
  have I54 := hg.I 54 h54
  have N49 := fun i => hg.N 49 (hb 49 (by omega) (by omega)) i
  have N51 := fun i => hg.N 51 (hb 51 (by omega) (by omega)) i
  refine ⟨⟨by rw [hg.I 50 (hb 50 (by omega) (by omega))]; exact a1, by omega, by omega⟩, ⟨by omega, by omega⟩, h3, fun i f hi => ?_, fun x hx' => ⟨?_, fun he => ?_⟩⟩
  · obtain ⟨x, x1, x2, x3, x4, x5, x6⟩ := h4 i f hi
    exact ⟨x, by rw [N49]; exact x1, x2, by omega, by rw [hx.tr hs x3]; exact x4, by omega, by rw [N51, I54]; exact x6⟩
  · rw [L51] at hx'
    rw [N51, I54]; exact (h5 x hx').1
  · rw [L51] at hx'
    rw [N51, I54] at he
    obtain ⟨i, hi, e⟩ := (h5 x hx').2 he
    exact ⟨i, hi, by rw [N49]; exact e⟩
/-- what is known of a formula is taken in -/
def KPT (W : Wd) (l : Ls) (f : Nat) : Prop := inHd f l.1 ∧ (kd f = 10 → fE (FsQ l) (pa f 0) (pa f 1)) ∧ (kd f = 13 → fA (FsQ l) (pa f 0) (2 * wh f)) ∧ (kd f = 16 → kd (pa f 0) = 13 → fA (FsQ l) (pa (pa f 0) 0) (2 * wh (pa f 0) + 1)) ∧ (kd f = 14 → tyF W (FsQ l) (pa f 1) (mk 8 (wh f) [pa f 0]))
theorem KPT.mono {W : Wd} {l l' : Ls} {f : Nat} (h : KPT W l f) (he : exL l l') : KPT W l' f :=
  ⟨fun s a b c => he.H (h.1 s a b c), fun q => he.fs.2.1 _ _ (h.2.1 q), fun q => he.fs.2.2.2 _ _ (h.2.2.1 q), fun q q' => he.fs.2.2.2 _ _ (h.2.2.2.1 q q'), fun q => (h.2.2.2.2 q).mono he.fs⟩
theorem indT {d : Nat} (hd : 2 ≤ d) {ν : Nat → Nat} {c : Nat} {W : Wd} {S : Fs} {Kl : List Nat} {u : Sg} {l : Ls} (h : CaT ν c W S Kl u l) {x t : Nat} (hx : x ≤ nT u) (et : trT ν u x = t) (ht : t ∈ l.1) : ∃ i : Nat, l.1[i]? = some t ∧ runT (d + 1) 66 [(x : Int)] u = some ((i : Int), u) := by
  have := (rX3_indexOf hd h.2.2.1.1 h.1.1 hx).1 (by rw [et]; exact ht)
  rw [et] at this
  exact this
theorem xt_1 {X : XFm} {H : List Nat} {z : Nat} (h : X.1 z) : xt X H z := Or.inl h
theorem xt_at {X : XFm} {H : List Nat} {t : Nat} (hl : H.length ≤ 100) (ht : t ∈ H) (z : Nat) (hz : X.2 t z) : xt X H z := Or.inr ⟨t, by rw [List.take_of_length_le hl]; exact ht, hz⟩
theorem pa_mk0 {k w a : Nat} : pa (mk k w [a]) 0 = a := by unfold pa; rw [ps_mk]; rfl
theorem takeK {d : Nat} (hd : 901 ≤ d) {ν : Nat → Nat} {c : Nat} {W : Wd} {S : Fs} {X : XFm} {K B : Nat → Prop} {Kl : List Nat} {u : Sg} {l : Ls} {y f : Nat} {Kx : Sg → Option (Int × Sg)} {Q : Int → Sg → Prop} (hE : EnT ν c W S X Kl K B) (hC : CaT ν c W S Kl u l) (hle : l.1.length ≤ 100) (hf : f ∈ Kl) (y0 : 0 < y) (hy : y ≤ nT u) (ey : trT ν u y = f) (hin : inHd f l.1) (hr : hT u ≤ 26000) (hl : LimTH ν u S X l.1) (k : ∀ (u2 : Sg) (l2 : Ls), TwR ν c W S X Kl u l True u2 l2 → (l2.1.length ≤ 100 → KPT W l2 f) → wp (Kx u2) Q) :
    wp (jn (fun (a1 t0 : Int) (s15 : Sg) => jn (fun (a2 t0 : Int) (s17 : Sg) => jn (fun (a2 a3 : Int) (s19 : Sg) => jn (fun (a2 a3 : Int) (s21 : Sg) => ld s21 1 a3 fun v22 => if v22 = 13 then (if a2 = 0 then (cl (runT d 7 [a3, 2] s21) fun v23 s24 => cl (runT d 66 [v23] s24) fun v25 s26 => cl (runT d 7 [a3, 0] s26) fun v27 s28 => cl (runT d 7 [a3, 1] s28) fun v29 s30 => cl (runT d 1 [v27, v29] s30) fun v31 s32 => cl (runT d 73 [v25, v31] s32) fun v33 s34 => Kx s34) else (Kx s21)) else (Kx s21)) fun j20 => ld s19 1 a3 fun v35 => if v35 = 12 then (jn (fun (a2 a3 t1 t2 t3 : Int) (s37 : Sg) => ar (t2 + t3) fun v38 => cl (runT d 71 [t1, v38] s37) fun v39 s40 => j20 a2 a3 s40) fun j36 => cl (runT d 7 [a3, 1] s19) fun v41 s42 => cl (runT d 66 [v41] s42) fun v43 s44 => cl (runT d 7 [a3, 0] s44) fun v45 s46 => ar (2 * v45) fun v47 => if a2 = 0 then (j36 a2 a3 v43 v47 0 s46) else (j36 a2 a3 v43 v47 1 s46)) else (j20 a2 a3 s19)) fun j18 => ld s17 1 t0 fun v48 => if v48 = 9 then (if a2 = 0 then (cl (runT d 7 [t0, 0] s17) fun v49 s50 => cl (runT d 66 [v49] s50) fun v51 s52 => cl (runT d 7 [t0, 1] s52) fun v53 s54 => cl (runT d 66 [v53] s54) fun v55 s56 => cl (runT d 69 [v51, v55] s56) fun v57 s58 => j18 a2 t0 s58) else (j18 a2 t0 s17)) else (j18 a2 t0 s17)) fun j16 => if t0 = 0 then (j16 t0 a1 s15) else (cl (runT d 7 [a1, 0] s15) fun v59 s60 => j16 t0 v59 s60)) fun j14 => ld u 1 (y : Int) fun v61 => if v61 = 15 then (j14 (y : Int) 1 u) else (j14 (y : Int) 0 u)) Q := by
  have hE0 := hE
  obtain ⟨hW, hG, hK, hS, hcn, hXS, hXT, hXK, hKK⟩ := hE
  obtain ⟨d, rfl⟩ : ∃ d', d = d' + 1 := ⟨d - 1, by omega⟩
  have hs := hC.1.1
  obtain ⟨hfr, hfc⟩ := hK.2 f hf
  have hn := nodeT hs y0 hy
  rw [ey] at hn
  have hkk := okT_kin hfr.1
  have hy1 : y < gL u 1 := hs.k hy
  have hfoK : kd f = 16 → kd (pa f 0) ≠ 16 := fun q => ((eq_len hfr).2.2 q).2.2
  have hk15 : gN u 1 y = 15 ↔ kd f = 16 := by rw [hn.1]; exact (tkT_in hkk).2.2.2.2.2.1
  have A15 := hG.1
  -- nothing is taken in
  have skip : ((kd f = 10 → False) ∧ (kd f = 13 → False) ∧ (kd f = 16 → kd (pa f 0) = 13 → False) ∧ (kd f = 14 → False)) → wp (Kx u) Q := fun q => k u l (TwR.rf hC trivial) (fun _ => ⟨hin, fun z => (q.1 z).elim, fun z => (q.2.1 z).elim, fun z z' => (q.2.2.1 z z').elim, fun z => (q.2.2.2 z).elim⟩)
  rw [wp_jn, ld_nat hy1]
  refine wp_ite (fun h16 => ?_) (fun h16 => ?_)
  · have h16 : kd f = 16 := hk15.mp h16
    obtain ⟨r1, r2, r3⟩ := (eq_len hfr).2.2 h16
    have nw0 : nw (kd f) = 0 := by rw [h16]; decide
    obtain ⟨z, z1, z2, z3⟩ := partNT (d := d + 1) (i := 0) (by omega) hs y0 hy (by rw [ey, r1]; simp) (Or.inr rfl)
    rw [ey] at z1 z3
    rw [nw0] at z1
    have z1 : runT (d + 1) 7 [(y : Int), 0] u = some ((z : Int), u) := z1
    have z0 : 0 < z := by
      refine Nat.pos_of_ne_zero (fun q => (fms_ps r2).2 ?_)
      rw [← z3, q]; rfl
    have hgr := hfr.part r2
    have hz : z ≤ nT u := by omega
    have hnz := nodeT hs z0 hz
    rw [z3] at hnz
    have hkz := okT_kin hgr.1
    have hz1 : z < gL u 1 := hs.k hz
    rw [wp_jn, if_neg (by decide)]
    refine wp_eq z1 ?_
    rw [wp_jn, ld_nat hz1, hnz.1]
    by_cases h13 : kd (pa f 0) = 13
    · rw [if_neg (by rw [h13]; decide)]
      rw [wp_jn, ld_nat hz1, hnz.1, if_pos (by rw [h13]; decide), wp_jn]
      have hp1 := (eq_len hgr).2.1 h13
      have hgc : closT (pa f 0) := hfc.part hfr.1.n (by omega) r2
      obtain ⟨t1, t2⟩ := atm_part (i := 0) hgr hgc (by omega) (by omega)
      have nw1 : nw (kd (pa f 0)) = 1 := by rw [h13]; decide
      obtain ⟨a, a1, a2, a3⟩ := partNT (d := d + 1) (i := 0) (by omega) hs z0 hz (by rw [z3]; omega) (Or.inr rfl)
      rw [z3] at a1 a3
      rw [nw1] at a1
      have a1 : runT (d + 1) 7 [(z : Int), 1] u = some ((a : Int), u) := a1
      have haH := hin _ (sub_c r2 (sub_c t2 (sub_rf _))) t1.2.1 t1.2.2.1
      obtain ⟨i, i1, i2⟩ := indT (d := d) (by omega) hC (by omega) a3 haH
      have hwA := hgr.lc.2.2.2.2.1 h13
      refine wp_eq a1 (wp_eq i2 (wp_eq (by have := headNT (d := d + 1) (by omega) hs z0 hz (by rw [z3]; exact nw1) (by rw [z3]; omega); rw [z3] at this; exact this) ?_))
      rw [wp_ar]
      refine ⟨⟨by omega, by omega⟩, ?_⟩
      rw [if_neg (by decide), wp_ar]
      refine ⟨⟨by omega, by omega⟩, ?_⟩
      rw [show 2 * (wh (pa f 0) : Int) + 1 = ((2 * wh (pa f 0) + 1 : Nat) : Int) by omega]
      refine wp_call (tX3_adj (X := X) (by omega) hW hK hC i1 (by omega) (hS.2.1.2.2.2.2.2.1 f (hKK f hf) h16 h13)) (fun _ u2 ⟨l2, q1, q2, q3, q4, q5⟩ => ?_)
      have hs2 := q1.2.1.1.1
      have hz2 : z ≤ nT u2 := Nat.le_trans hz q1.2.2.1.n
      have ez2 : trT ν u2 z = pa f 0 := by rw [q1.2.2.1.tr hs hz]; exact z3
      have hnz2 := nodeT hs2 z0 hz2
      rw [ez2] at hnz2
      show wp (ld u2 1 (z : Int) _) Q
      rw [ld_nat (hs2.k hz2), hnz2.1, if_neg (by rw [h13]; decide)]
      refine k u2 l2 (q1.mono (fun _ _ => trivial)) (fun _ => ⟨fun s r1 r2 r3 => q1.1.H (hin s r1 r2 r3), fun q => by omega, fun q => by omega, fun _ _ => q5, fun q => by omega⟩)
    · have hsk := skip ⟨fun q => by omega, fun q => by omega, fun _ q => h13 q, fun q => by omega⟩
      have n13 : ¬ tkT (kd (pa f 0)) = 12 := fun q => by
        rcases hkz with w | w | w | w | w | w
        · rw [w] at q; exact absurd q (by decide)
        · rw [w] at q; exact absurd q (by decide)
        · rw [w] at q; exact absurd q (by decide)
        · rw [w] at q; exact absurd q (by decide)
        · rw [w] at q; exact absurd q (by decide)
        · rw [tkT_hi w.1] at q; omega
      have rest : wp (jn (fun (a2 a3 : Int) (s21 : Sg) => ld s21 1 a3 fun v22 => if v22 = 13 then (if a2 = 0 then (cl (runT (d + 1) 7 [a3, 2] s21) fun v23 s24 => cl (runT (d + 1) 66 [v23] s24) fun v25 s26 => cl (runT (d + 1) 7 [a3, 0] s26) fun v27 s28 => cl (runT (d + 1) 7 [a3, 1] s28) fun v29 s30 => cl (runT (d + 1) 1 [v27, v29] s30) fun v31 s32 => cl (runT (d + 1) 73 [v25, v31] s32) fun v33 s34 => Kx s34) else (Kx s21)) else (Kx s21)) fun j20 => ld u 1 (z : Int) fun v35 => if v35 = 12 then (jn (fun (a2 a3 t1 t2 t3 : Int) (s37 : Sg) => ar (t2 + t3) fun v38 => cl (runT (d + 1) 71 [t1, v38] s37) fun v39 s40 => j20 a2 a3 s40) fun j36 => cl (runT (d + 1) 7 [(z : Int), 1] u) fun v41 s42 => cl (runT (d + 1) 66 [v41] s42) fun v43 s44 => cl (runT (d + 1) 7 [(z : Int), 0] s44) fun v45 s46 => ar (2 * v45) fun v47 => if (1 : Int) = 0 then (j36 1 (z : Int) v43 v47 0 s46) else (j36 1 (z : Int) v43 v47 1 s46)) else (j20 1 (z : Int) u)) Q := by
        rw [wp_jn, ld_nat hz1, hnz.1, if_neg n13]
        show wp (ld u 1 (z : Int) _) Q
        rw [ld_nat hz1, hnz.1]
        refine wp_ite (fun _ => ?_) (fun _ => hsk)
        rw [if_neg (by decide)]
        exact hsk
      refine wp_ite (fun _ => ?_) (fun _ => rest)
      rw [if_neg (by decide)]
      exact rest
  · have h16 : kd f ≠ 16 := fun q => h16 (hk15.mpr q)
    rw [wp_jn, if_pos (by decide), wp_jn, ld_nat hy1, hn.1]
    by_cases h10 : kd f = 10
    · rw [if_pos (by rw [h10]; decide), if_pos (by decide)]
      have hp2 := (eq_len hfr).1 h10
      have nw0 : nw (kd f) = 0 := by rw [h10]; decide
      obtain ⟨t1, t2⟩ := atm_part (i := 0) hfr hfc (by omega) (by omega)
      obtain ⟨t3, t4⟩ := atm_part (i := 1) hfr hfc (by omega) (by omega)
      obtain ⟨a, a1, a2, a3⟩ := partNT (d := d + 1) (i := 0) (by omega) hs y0 hy (by rw [ey]; omega) (Or.inr rfl)
      obtain ⟨b, b1, b2, b3⟩ := partNT (d := d + 1) (i := 1) (by omega) hs y0 hy (by rw [ey]; omega) (Or.inl (by rw [ey]; omega))
      rw [ey] at a1 a3 b1 b3
      rw [nw0] at a1 b1
      have a1 : runT (d + 1) 7 [(y : Int), 0] u = some ((a : Int), u) := a1
      have b1 : runT (d + 1) 7 [(y : Int), 1] u = some ((b : Int), u) := b1
      obtain ⟨i, i1, i2⟩ := indT (d := d) (by omega) hC (by omega) a3 (hin _ (sub_c t2 (sub_rf _)) t1.2.1 t1.2.2.1)
      obtain ⟨j, j1, j2⟩ := indT (d := d) (by omega) hC (by omega) b3 (hin _ (sub_c t4 (sub_rf _)) t3.2.1 t3.2.2.1)
      refine wp_eq a1 (wp_eq i2 (wp_eq b1 (wp_eq j2 ?_)))
      refine wp_call (tX3_join (X := X) (by omega) hS hC i1 j1 (hS.2.1.2.2.2.1 f (hKK f hf) h10)) (fun _ u2 ⟨l2, q1, q2, q3, q4⟩ => ?_)
      have hs2 := q1.2.1.1.1
      have hz2 : y ≤ nT u2 := Nat.le_trans hy q1.2.2.1.n
      have ez2 : trT ν u2 y = f := by rw [q1.2.2.1.tr hs hy]; exact ey
      have hnz2 := nodeT hs2 y0 hz2
      rw [ez2] at hnz2
      rw [wp_jn, ld_nat (hs2.k hz2), hnz2.1, if_neg (by rw [h10]; decide)]
      show wp (ld u2 1 (y : Int) _) Q
      rw [ld_nat (hs2.k hz2), hnz2.1, if_neg (by rw [h10]; decide)]
      refine k u2 l2 (q1.mono (fun _ _ => trivial)) (fun _ => ⟨fun s r1 r2 r3 => q1.1.H (hin s r1 r2 r3), fun _ => q4, fun q => by omega, fun q => by omega, fun q => by omega⟩)
    · have n9 : ¬ tkT (kd f) = 9 := fun q => by
        rcases hkk with w | w | w | w | w | w
        · rw [w] at q; exact absurd q (by decide)
        · rw [w] at q; exact absurd q (by decide)
        · rw [w] at q; exact absurd q (by decide)
        · rw [w] at q; exact absurd q (by decide)
        · rw [w] at q; exact absurd q (by decide)
        · rw [tkT_hi w.1] at q; omega
      rw [if_neg n9, wp_jn, ld_nat hy1, hn.1]
      by_cases h13 : kd f = 13
      · rw [if_pos (by rw [h13]; decide), wp_jn]
        have hp1 := (eq_len hfr).2.1 h13
        obtain ⟨t1, t2⟩ := atm_part (i := 0) hfr hfc (by omega) (by omega)
        have nw1 : nw (kd f) = 1 := by rw [h13]; decide
        obtain ⟨a, a1, a2, a3⟩ := partNT (d := d + 1) (i := 0) (by omega) hs y0 hy (by rw [ey]; omega) (Or.inr rfl)
        rw [ey] at a1 a3
        rw [nw1] at a1
        have a1 : runT (d + 1) 7 [(y : Int), 1] u = some ((a : Int), u) := a1
        have haH := hin _ (sub_c t2 (sub_rf _)) t1.2.1 t1.2.2.1
        obtain ⟨i, i1, i2⟩ := indT (d := d) (by omega) hC (by omega) a3 haH
        have hwA := hfr.lc.2.2.2.2.1 h13
        refine wp_eq a1 (wp_eq i2 (wp_eq (by have := headNT (d := d + 1) (by omega) hs y0 hy (by rw [ey]; exact nw1) (by rw [ey]; omega); rw [ey] at this; exact this) ?_))
        rw [wp_ar]
        refine ⟨⟨by omega, by omega⟩, ?_⟩
        rw [if_pos (by decide), wp_ar]
        refine ⟨⟨by omega, by omega⟩, ?_⟩
        rw [show 2 * (wh f : Int) + 0 = ((2 * wh f : Nat) : Int) by omega]
        refine wp_call (tX3_adj (X := X) (by omega) hW hK hC i1 (by omega) (hS.2.1.2.2.2.2.1 f (hKK f hf) h13)) (fun _ u2 ⟨l2, q1, q2, q3, q4, q5⟩ => ?_)
        have hs2 := q1.2.1.1.1
        have hz2 : y ≤ nT u2 := Nat.le_trans hy q1.2.2.1.n
        have ez2 : trT ν u2 y = f := by rw [q1.2.2.1.tr hs hy]; exact ey
        have hnz2 := nodeT hs2 y0 hz2
        rw [ez2] at hnz2
        show wp (ld u2 1 (y : Int) _) Q
        rw [ld_nat (hs2.k hz2), hnz2.1, if_neg (by rw [h13]; decide)]
        refine k u2 l2 (q1.mono (fun _ _ => trivial)) (fun _ => ⟨fun s r1 r2 r3 => q1.1.H (hin s r1 r2 r3), fun q => by omega, fun _ => q5, fun q => by omega, fun q => by omega⟩)
      · have n12 : ¬ tkT (kd f) = 12 := fun q => by
          rcases hkk with w | w | w | w | w | w
          · rw [w] at q; exact absurd q (by decide)
          · rw [w] at q; exact absurd q (by decide)
          · rw [w] at q; exact absurd q (by decide)
          · rw [w] at q; exact absurd q (by decide)
          · rw [w] at q; exact absurd q (by decide)
          · rw [tkT_hi w.1] at q; omega
        rw [if_neg n12]
        show wp (ld u 1 (y : Int) _) Q
        rw [ld_nat hy1, hn.1]
        by_cases h14 : kd f = 14
        · rw [if_pos (by rw [h14]; decide), if_pos (by decide)]
          obtain ⟨c1, c2, c3, c4, c5⟩ := clty14 hfr hfc h14
          have nw1 : nw (kd f) = 1 := by rw [h14]; decide
          obtain ⟨a, a1, a2, a3⟩ := partNT (d := d + 1) (i := 0) (by omega) hs y0 hy (by rw [ey]; omega) (Or.inr rfl)
          obtain ⟨b, b1, b2, b3⟩ := partNT (d := d + 1) (i := 1) (by omega) hs y0 hy (by rw [ey]; omega) (Or.inl (by rw [ey]; omega))
          rw [ey] at a1 a3 b1 b3
          rw [nw1] at a1 b1
          have a1 : runT (d + 1) 7 [(y : Int), 1] u = some ((a : Int), u) := a1
          have b1 : runT (d + 1) 7 [(y : Int), 2] u = some ((b : Int), u) := b1
          have hfm : pa f 1 ∈ fms f := fms_at.mpr ⟨1, Or.inl (by omega), pa_get (by omega), isTm_pos c2.2.1⟩
          have hbH := hin _ (sub_c hfm (sub_rf _)) c2.2.1 c2.2.2.1
          obtain ⟨i, i1, i2⟩ := indT (d := d) (by omega) hC (by omega) b3 hbH
          refine wp_eq b1 (wp_eq i2 (wp_eq (by have := headNT (d := d + 1) (by omega) hs y0 hy (by rw [ey]; exact nw1) (by rw [ey]; omega); rw [ey] at this; exact this) (wp_eq a1 ?_)))
          obtain ⟨x1, x2⟩ := hXK f hf h14
          have h20 : wnM W ≤ 20 := hC.1.2.2.2.1.2.1.2
          refine wp_call (tX3_plain (X := xt X l.1) (by omega) hC.2.1 hs (by omega) (by omega : a ≤ nT u) (by omega : wh f < 2147483648) (by rw [a3]; exact xt_1 x1) (hl.l hC)) (fun v u2 ⟨y', v1, v2, v3, v4, v5, v6, v7⟩ => ?_)
          rw [a3] at v4
          rw [v1]
          have hw2 := (TwR.rf (X := X) hC trivial).st v5 v6 v7 (by decide +kernel) (by decide +kernel) (by decide +kernel)
          have hr2 : hT u2 = hT u := v5.2.2.2.1
          have hta : htT (pa f 0) ≤ 200 := by
            by_cases q : pa f 0 = 0
            · rw [q]; exact Nat.le_trans ht_0 (by omega)
            · have hfa : pa f 0 ∈ fms f := fms_at.mpr ⟨0, Or.inr rfl, pa_get (by omega), q⟩
              have hct : cltm W (NT ν c) (pa f 0) := by
                have := ((type_part c1).2 (by rw [pa_mk0]; exact q)).1
                rw [pa_mk0] at this
                exact this
              exact hC.ht hle (hin _ (sub_c hfa (sub_rf _)) hct.2.1 hct.2.2.1)
          have hht : htT (mk 8 (wh f) [pa f 0]) ≤ 700 := by
            rcases ht_max (t := mk 8 (wh f) [pa f 0]) with q | ⟨c', q1, q2⟩
            · omega
            · have := (fms_ps q1).1
              rw [ps_mk, List.mem_singleton] at this
              rw [this] at q2
              omega
          refine wp_call (tX3_hasType (X := X) (i0 := i) (y := y') (by omega) hE0 hw2.2.1 hle i1 v2 v3 (by rw [v4]; exact c1) (by rw [v4]; exact hht) (by rw [v4]; exact hS.1.2.2.2.2 f (hKK f hf) h14) (by rw [v4]; exact x2) (by rw [v4]; exact ALM_kn hf h14) (by omega) (hw2.lm hl)) (fun _ u3 ⟨l3, q1, q2⟩ => ?_)
          rw [v4] at q2
          refine k u3 l3 (hw2.seq q1 (fun _ _ _ => trivial)) (fun h100 => ⟨fun s r1 r2 r3 => q1.1.H (hin s r1 r2 r3), fun q => by omega, fun q => by omega, fun q => by omega, fun _ => q2 h100⟩)
        · have n13 : ¬ tkT (kd f) = 13 := fun q => by
            rcases hkk with w | w | w | w | w | w
            · rw [w] at q; exact absurd q (by decide)
            · rw [w] at q; exact absurd q (by decide)
            · rw [w] at q; exact absurd q (by decide)
            · rw [w] at q; exact absurd q (by decide)
            · rw [w] at q; exact absurd q (by decide)
            · rw [tkT_hi w.1] at q; omega
          rw [if_neg n13]
          exact skip ⟨h10, h13, fun q => absurd q h16, h14⟩
