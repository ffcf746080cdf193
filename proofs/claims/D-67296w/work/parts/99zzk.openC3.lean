theorem RsA.op {W : Wd} {X : Nat → Prop} {c D a t : Nat} {u u1 : Sg} {r : Int} (h1 : CW nu2 c W u) (h3 : CtL u) (h : RsA nu2 c D u a t X r u1) (ha : a ≤ rC u) (hD : D &&& mkW = 0) (h85 : D.testBit 85 = false) : ∃ x : Nat, r = (x : Int) ∧ 0 < x ∧ x < nC u1 ∧ trC nu2 u1 x = t ∧ rC u1 = a ∧ CW nu2 c W u1 ∧ WF FC u1 ∧ CtL u1 ∧ (nC u ≤ nC u1 ∧ (∀ x, x < nC u → trC nu2 u1 x = trC nu2 u x) ∧ ∀ t, ndC nu2 u1 t → ndC nu2 u t ∨ X t) ∧ ∀ i, i < a → gN u1 11 i = gN u 11 i := by
  obtain ⟨x, x1, x2, x3, x4, x5, x6, x7, x8, x9, x10, x11⟩ := h
  have hU : Ux nu2 c u u1 X := ⟨x5, x6, x7⟩
  exact ⟨x, x1, x2, x3, x4, x8, h1.up hU x11 hD, x10, by unfold CtL; rw [x11.Ln 85 h85]; exact h3, ⟨hU.n h1.1, fun y hy => hU.tr h1.1 hy, x7⟩, x9⟩
theorem tX1_open {W : Wd} {X : Nat → Prop} : ∀ n, OpSp W X n := by
  intro n
  induction n with
  | zero =>
    intro d u x f c hR hd h1 h2 h3 x0 hx ex ho hf hz hsz hrow hc hl
    obtain ⟨d, rfl⟩ : ∃ d', d = d' + 1 := ⟨d - 1, by omega⟩
    rw [runC_eq (by omega)]
    show wp (bX1_open (runC d) x u) _
    unfold bX1_open
    have hs := h1.1
    have hn := nodeC hs x0 hx
    rw [ex] at hn
    have fin : wp (some ((x : Int), u)) (fun r u' => ∃ z : Nat, r = (z : Int) ∧ 0 < z ∧ z < nC u' ∧ trC nu2 u' z = (opF 0 f c).1 ∧ OpI W X (opF 0 f c).2 u u' ∧ rC u' = rC u) := by
      rw [wp_some]
      exact ⟨x, rfl, x0, hx, ex, OpI.rf h1 h2 h3, rfl⟩
    rw [ld_nat (by omega), hn.1, if_neg (by have := hR.1; omega)]
    refine wp_ite (fun h16 => ?_) (fun h16 => fin)
    have h16 : kd f = 16 := by omega
    obtain ⟨g, e, hg⟩ := not_wf ho h16
    have pg : pa f 0 = g := pa_at (by rw [e]; rfl)
    obtain ⟨y, y1, y2, y3⟩ := partN (d := d) (i := 0) (by omega) hs x0 hx (by rw [ex, e]; simp) (Or.inr rfl)
    rw [ex] at y3
    have y0 : 0 < y := Nat.pos_of_ne_zero (fun q => by rw [q, pg] at y3; have : trC nu2 u 0 = 0 := rfl; omega)
    have hny := nodeC hs y0 (by omega : y < nC u)
    rw [y3] at hny
    have h2' := hR.2
    refine wp_eq y1 ?_
    rw [ld_nat (by omega), hny.1, if_neg (fun q => h2' ⟨h16, Or.inl (by omega)⟩), ld_nat (by omega), hny.1, if_neg (fun q => h2' ⟨h16, Or.inr (by omega)⟩)]
    exact fin
  | succ n ih =>
    intro d u x f c hR hd h1 h2 h3 x0 hx ex ho hf hz hsz hrow hc hl
    obtain ⟨d, rfl⟩ : ∃ d', d = d' + 1 := ⟨d - 1, by omega⟩
    rw [runC_eq (by omega)]
    show wp (bX1_open (runC d) x u) _
    unfold bX1_open
    have hs := h1.1
    have hn := nodeC hs x0 hx
    rw [ex] at hn
    have hrr := hs.r
    obtain ⟨hR1, hR2, hR3⟩ := hR
    have f0 : f ≠ 0 := isFo_pos hf
    rw [ld_nat (by omega), hn.1]
    refine wp_ite (fun h17 => ?_) (fun h17 => ?_)
    · have h17 : kd f = 17 := by omega
      obtain ⟨q1, q2, q3, q4⟩ := hR1 h17
      have eF : opF (n + 1) f c = (andT (opL (opF n) (ps f) c).1, (opL (opF n) (ps f) c).2) := by rw [opF, if_pos h17]
      rw [eF] at hc ⊢
      have hall : ∀ p ∈ ps f, isFo p ∧ p ∈ fms f := by
        have : ∀ p ∈ ps f, isFo p := by
          rcases ho.n.2 with q | q | q | q | q | q | q | q | q | q | q | q | q | q <;> try omega
          exact fun p hp => (q.2.2.2 p hp).1
        exact fun p hp => ⟨this p hp, fms_mem hp (by omega) (isFo_pos (this p hp))⟩
      have hzp : ∀ p ∈ ps f, szQ p ≤ 900 := by
        rcases hz with q | q
        · exact fun p hp => by have := g_c (szQ_ex f0 (by omega)) (hall p hp).2; omega
        · exact q.2
      have hlen := len_sz ho f0
      rw [wp_un, hrr.1]
      refine open_L27 ih (by omega) ⟨c, hs⟩ x0 hx ex h17 ho hzp hsz hrow hl (ps f) 0 KF u c [] (by simp) (Nat.lt_of_le_of_lt (by omega : _ ≤ 65536) KF_gt) q1 (OpI.rf h1 h2 h3) ⟨by simp, fun i t hi => by simp at hi⟩ rfl hc _ (fun u2 z1 z2 => ?_)
      rw [List.nil_append] at z2
      have hr2 := z2.1
      rw [opL_len] at hr2
      refine wp_call (and_fin (d := d) (X := X) (by omega) z1.2.1 z1.1.1 z2 z1.1.2.1 q4 (by omega) q3 q2 (z1.lim hl)) (fun r u3 h => ?_)
      obtain ⟨z, w1, w2, w3, w4, w5, w6, w7, w8, w9, w10⟩ := h.op z1.1 z1.2.2.1 (by omega) (by decide +kernel) (by decide +kernel)
      rw [wp_some]
      exact ⟨z, w1, w2, w3, w4, ⟨w6, w7, w8, ⟨Nat.le_trans z1.2.2.2.1.1 w9.1, fun y hy => by rw [w9.2.1 y (Nat.lt_of_lt_of_le hy z1.2.2.2.1.1), z1.2.2.2.1.2.1 y hy], fun t ht => (w9.2.2 t ht).elim (z1.2.2.2.1.2.2 t) Or.inr⟩, fun i hi => by rw [w10 i hi, z1.2.2.2.2 i hi]⟩, w5⟩
    · have k17 : kd f ≠ 17 := by omega
      have hz9 : szQ f ≤ 900 := hz.resolve_right (fun q => k17 q.1)
      refine wp_ite (fun h16 => ?_) (fun h16 => ?_)
      · have h16 : kd f = 16 := by omega
        obtain ⟨g, e, hg⟩ := not_wf ho h16
        have pg : pa f 0 = g := pa_at (by rw [e]; rfl)
        have hgm : g ∈ fms f := fms_at.mpr ⟨0, Or.inr rfl, by rw [e]; rfl, by omega⟩
        have hog := ho.c hgm
        have hq1 := g_c (szQ_ex f0 (by omega)) hgm
        have hs1 := sz_c hgm
        obtain ⟨y, y1, y2, y3⟩ := partN (d := d) (i := 0) (by omega) hs x0 hx (by rw [ex, e]; simp) (Or.inr rfl)
        rw [ex, pg] at y3
        rw [pg] at hR2 hR3
        have y0 : 0 < y := Nat.pos_of_ne_zero (fun q => by rw [q] at y3; have : trC nu2 u 0 = 0 := rfl; omega)
        have hny := nodeC hs y0 (by omega : y < nC u)
        rw [y3] at hny
        have g0 : g ≠ 0 := by omega
        refine wp_eq y1 ?_
        rw [ld_nat (by omega), hny.1]
        refine wp_ite (fun g17 => ?_) (fun g17 => ?_)
        · have g17 : kd g = 17 := by omega
          obtain ⟨q1, q2, q3⟩ := hR2 h16 g17
          have eF : opF (n + 1) f c = (mk 30 0 (opL (opF n) ((ps g).map notT) c).1, (opL (opF n) ((ps g).map notT) c).2) := by rw [opF, if_neg k17, if_pos h16, pg, if_pos g17]
          rw [eF] at hc ⊢
          have hlen := len_sz hog g0
          rw [wp_un, hrr.1]
          refine open_L125 ih (by omega) y0 (by omega) y3 g17 hog (by omega) (by omega) (by omega) q1 hl (ps g) 0 KF u c [] (by simp) (Nat.lt_of_le_of_lt (by omega : _ ≤ 65536) KF_gt) q2 (OpI.rf h1 h2 h3) ⟨by simp, fun i t hi => by simp at hi⟩ rfl hc _ (fun u2 z1 z2 => ?_)
          rw [List.nil_append] at z2
          have hr2 := z2.1
          rw [opL_len, List.length_map] at hr2
          have hE : RowE nu2 u2 (rC u) 30 (opL (opF n) ((ps g).map notT) c).1 := ⟨z2.1, fun i t hi => by
            obtain ⟨y', a1, a2, a3, a4⟩ := z2.2 i t hi
            exact ⟨y', a1, fun q => by omega, fun _ => ⟨a3, a4⟩⟩⟩
          obtain ⟨r1, r2, r3⟩ := hE.row
          refine wp_call (tX2_make (d := d) (k := 30) (w := 0) (a := rC u) (X := X) (by omega) z1.2.1 z1.1.1 (by decide) (by decide) (fun q => by omega) (fun q => by omega) (by omega) r1 (r3 z1.1.1.1.1.1.2.1 0) (by omega) (by rw [if_neg (by decide), r2]; exact q3) (z1.lim hl)) (fun r u3 ⟨z, b1, b2, b3, b4, b5, b6, b7, b8, b9, b10, b11, b12, b13⟩ => ?_)
          rw [if_neg (by decide), r2] at b5
          rw [wp_some]
          have hU : Ux nu2 (opL (opF n) ((ps g).map notT) c).2 u2 u3 X := ⟨b4, b8, b9⟩
          exact ⟨z, b1, b2, b3, b5, ⟨z1.1.up hU b13 (by decide +kernel), b12, by unfold CtL; rw [b13.Ln 85 (by decide +kernel)]; exact z1.2.2.1, ⟨Nat.le_trans z1.2.2.2.1.1 b7, fun y hy => by rw [b6 y (Nat.lt_of_lt_of_le hy z1.2.2.2.1.1), z1.2.2.2.1.2.1 y hy], fun t ht => (b9 t ht).elim (z1.2.2.2.1.2.2 t) Or.inr⟩, fun i hi => by rw [b11 i hi, z1.2.2.2.2 i hi]⟩, b10⟩
        · have k17g : kd g ≠ 17 := by omega
          rw [ld_nat (by omega), hny.1]
          refine wp_ite (fun g18 => ?_) (fun g18 => ?_)
          · have g18 : kd g = 18 := by omega
            obtain ⟨⟨q1, q2, q3, q4⟩, q5⟩ := hR3 h16 g18
            obtain ⟨ty, bd, e1, py, pb, k8, hbf, my, mb, _⟩ := all_parts hog g18
            rw [pb] at q3 q4 q5
            rw [py] at q1
            have eF : opF (n + 1) f c = opF n (notT (sbT (putg (mk 1 (2 * c) [])) 0 bd)) (c + 1) := by rw [opF, if_neg k17, if_pos h16, pg, if_neg k17g, if_pos g18, pb]
            rw [eF] at hc ⊢
            have hcl := opF_le n (notT (sbT (putg (mk 1 (2 * c) [])) 0 bd)) (c + 1)
            have hbd := hl.n hs
            have hob := hog.c mb
            have hq2 := g_c (szQ_ex g0 (by omega)) mb
            have hs2 := sz_c mb
            obtain ⟨oc, tc⟩ := okT_const (2 * c)
            have kc := kd_mk 1 (2 * c) []
            have hszc : szT (mk 1 (2 * c) []) = 1 := by
              rw [szT_ex (Nat.pos_iff_ne_zero.mp (mk_pos _ _ _))]
              unfold exp1
              rw [kc, if_neg (by decide), ps_mk]
              rfl
            have hlc : loT (mk 1 (2 * c) []) = 0 := (lo_leaf oc.n (Or.inl kc)).2
            have p1 := szT_put hszc bd hob 0
            have p2 := szQ_put hlc tc bd hob 0
            have ho2 := okT_sb bd hob (gOn_put hob oc tc) 0
            have hf2 := (sb_fo (g := putg (mk 1 (2 * c) [])) (d := 0) hbf).1
            have p3 := szT_not ho2
            have p4 := szQ_not ho2 hf2
            have hqb := htQ_sz bd (isFo_pos hbf)
            obtain ⟨tn, t1, t2, t3⟩ := partN (d := d) (i := 0) (by omega) hs y0 (by omega : y < nC u) (by rw [y3, e1]; simp) (Or.inr rfl)
            rw [y3, py] at t3
            refine wp_eq t1 ?_
            refine wp_call (tX1_newOneW (d := d) (by omega) h1 h2 h3 (by omega) (by omega : tn < nC u) (by rw [t3]; exact q1.symm) (by omega) q2 hl) (fun r1 u1 ⟨cn, a1, a2, a3, a4, a5, a6⟩ => ?_)
            rw [a1]
            have hy1 : y < nC u1 := Nat.lt_of_lt_of_le (by omega) a5.2.2.2.1.1
            have ey1 : trC nu2 u1 y = g := by rw [a5.2.2.2.1.2.1 y (by omega)]; exact y3
            obtain ⟨bn, b1, b2, b3⟩ := partN (d := d) (i := 1) (by omega) a5.1.1 y0 hy1 (by rw [ey1, e1]; simp) (Or.inl (by rw [ey1]; omega))
            rw [ey1, pb] at b3
            have bn0 : 0 < bn := Nat.pos_of_ne_zero (fun q => isFo_pos hbf (by rw [← b3, q]; rfl))
            refine wp_eq b1 ?_
            refine wp_call (tX2_put (d := d) (x := bn) (s := cn) (X := X) (by rw [b3]; omega) a5.2.1 a5.1.1 a5.1.2.1 bn0 (by omega) a2 a3 (by rw [b3]; exact hob) (by rw [a4]; exact oc) (by rw [a4]; exact tc) (by rw [b3]; omega) (by rw [b3, a4]; exact ImT.mono (fun _ q => Or.inr q) _ _ q3) (a5.lim hl) (by rw [b3]; omega)) (fun r2 u2 ⟨z, z1, z2, z3, z4, z5, z6, z7⟩ => ?_)
            rw [b3, a4] at z4
            rw [z1]
            have hO2 : OpI W X (c + 1) u1 u2 := OpI.st a5.1 a5.2.2.1 z5 z6 z7 (by decide +kernel) (by decide +kernel)
            have hr2 : rC u2 = rC u1 := z5.2.2.2.2.2.1
            have hO02 := a5.tr hO2 (by omega)
            refine wp_call (tX2_not (X := X) (by omega) z6 hO2.1.1 z2 z3 (by omega) (by rw [z4]; exact not_wf ho2) (by rw [z4]; exact q4) (hO02.lim hl)) (fun r3 u3 ⟨v, v1, v2, v3, v4, v5, v6, v7⟩ => ?_)
            rw [z4] at v4
            rw [v1]
            have hO3 : OpI W X (c + 1) u2 u3 := OpI.st hO2.1 hO2.2.2.1 v5 v6 v7 (by decide +kernel) (by decide +kernel)
            have hr3 : rC u3 = rC u2 := v5.2.2.2.2.2.1
            have hO03 := hO02.tr hO3 (by omega)
            refine wp_call (ih d u3 v _ (c + 1) q5 (by omega) hO03.1 hO03.2.1 hO03.2.2.1 v2 v3 v4 (okT_not ho2 hf2).1 (okT_not ho2 hf2).2 (Or.inl (by omega)) (by omega) (by omega) hc (hO03.lim hl)) (fun r4 u4 ⟨w, w1, w2, w3, w4, w5, w6⟩ => ?_)
            rw [wp_some]
            exact ⟨w, w1, w2, w3, w4, hO03.tr w5 (by omega), by omega⟩
          · have eF : opF (n + 1) f c = (f, c) := by rw [opF, if_neg k17, if_pos h16, pg, if_neg k17g, if_neg (by omega)]
            rw [eF, wp_some]
            exact ⟨x, rfl, x0, hx, ex, OpI.rf h1 h2 h3, rfl⟩
      · have eF : opF (n + 1) f c = (f, c) := by rw [opF, if_neg k17, if_neg (by omega)]
        rw [eF, wp_some]
        exact ⟨x, rfl, x0, hx, ex, OpI.rf h1 h2 h3, rfl⟩
