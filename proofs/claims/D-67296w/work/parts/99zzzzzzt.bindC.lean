/-! face: bind -/
def okBd (Fo : List Nat) (a f : Int) : Prop := (isS Fo 0 a ∧ kd (frm Fo a) = 1) ∧ isS Fo 2 f
/-- what bind may make -/
def bdX (W : Wd) (o : Int) (x y : Nat) (X : Nat → Prop) : Prop := X (bdF o y) ∧ ImT X (bindg x) (bdF o y) 0 ∧ X (bdA W o x y) ∧ X (bdT W o x y)
def Dbd : Nat := DX2_bind ||| DX2_all ||| DX2_not
theorem DbdC : ∀ k, k = 13 ∨ k = 14 ∨ (21 ≤ k ∧ k ≤ 99) → Dbd.testBit k = false := fun k hk => by
  rcases hk with q | q | q
  · rw [q]; decide +kernel
  · rw [q]; decide +kernel
  · exact (by decide +kernel : ∀ k, k ≤ 99 → 21 ≤ k → Dbd.testBit k = false) k q.2 q.1
theorem cBind {d : Nat} (hd : 310 ≤ d) {W : Wd} {c : Nat} {Fo Pr : List Nat} {lc : Nat} {K : Int} {u : Sg} {X : Nat → Prop} (h : ReC W c Fo Pr lc K u) (hW : WOK W (Nm nu2 c)) (hZ : ∀ n, Nm nu2 c n → szT (wcT W n) ≤ 200) (hF : FoW W (Nm nu2 c) Fo) (h9 : 0 ≤ gI u 99 ∧ gI u 99 < 1000000) (hFl : Fo.length < 400) (hK : K < 1000000) (o a f : Int) (ho : o = 0 ∨ o = 1) (hl : Lim nu2 u X) (h5 : P5u u X) (hX : bdX W o (frm Fo a) (frm Fo f) X) : wp (runC d 28 [o, a, f] u) (FkC (okBd Fo a f) (bdT W o (frm Fo a) (frm Fo f)) W c Fo Pr lc K u X) := by
  obtain ⟨d, rfl⟩ : ∃ e, d = e + 1 := ⟨d - 1, by omega⟩
  rw [runC_eq (by omega)]
  show wp (bX1_bind (runC d) o a f u) _
  have hs := h.1.1
  have hr0 := h.2.2.2.2.1
  have hn9 := nC_le hs
  obtain ⟨X1, X2, X3, X4⟩ := hX
  unfold bX1_bind
  rw [wp_gd]
  refine ⟨ho, ?_⟩
  rw [wp_jn]; dsimp only
  rcases cS (d := d) (by omega) h hF.p h9 (s := 0) (by decide) a with ⟨hS, x, x0, hx, et, e⟩ | ⟨hS, e⟩
  · have e : runC d 11 [a] u = some ((x : Int), u) := e
    have hn := nodeC hs x0 hx
    rw [et] at hn
    rw [cl_eq e, pr_n (by omega), wp_ld]
    refine ⟨⟨by omega, by have := hn.2.2.2.2.1; omega⟩, ?_⟩
    rw [gA_nat, hn.1]
    by_cases k1 : kd (frm Fo a) = 1
    · rw [if_pos (by omega), wp_jn]; dsimp only
      rw [cl_eq (need_ok (by omega)), pr_0]
      rcases cS (d := d) (by omega) h hF.p h9 (s := 2) (by decide) f with ⟨hS2, y, y0, hy, ey, e2⟩ | ⟨hS2, e2⟩
      · have e2 : runC d 26 [f] u = some ((y : Int), u) := e2
        have hok : okBd Fo a f := ⟨⟨hS, k1⟩, hS2⟩
        have ff : fF W (Nm nu2 c) (frm Fo f) := ⟨(hF _ hS2.mem).1, hS2.fo⟩
        have zf := (hF _ hS2.mem).2
        have hNm : Nm nu2 c (wh (frm Fo a)) := (hF _ hS.mem).1.1.lc.1 k1
        have hty := hW.2.2.2 _ hNm
        have hfb := fF_bdF (o := o) ff zf
        obtain ⟨bA, bT⟩ := fF_bd (o := o) (x := frm Fo a) ff zf hty (hZ _ hNm)
        -- what stands behind the formula that is bound
        have tail : ∀ (b : Nat) (s4 : Sg), 0 < b → b < nC s4 → trC nu2 s4 b = bdF o (frm Fo f) → Up nu2 c u s4 X → WF FC s4 → Gr FC Dbd u s4 → wp (jn (fun (a6 a7 t1 : Int) (s6 : Sg) => cl (runC d 16 [t1, a6, a7] s6) fun v7 s8 => pr v7 s8 (some (v7, s8))) fun j5 => cl (runC d 107 [(b : Int), (x : Int)] s4) fun v9 s10 => ld s10 1 (x : Int) fun v11 => ld s10 85 v11 fun v12 => cl (runC d 109 [v12, v9] s10) fun v13 s14 => if o = 0 then (j5 (nC u : Int) (pC u : Int) v13 s14) else (cl (runC d 102 [v13] s14) fun v15 s16 => j5 (nC u : Int) (pC u : Int) v15 s16)) (FkC (okBd Fo a f) (bdT W o (frm Fo a) (frm Fo f)) W c Fo Pr lc K u X) := fun b s4 b0 hb eb hU4 hw4 hg4 => by
          rw [wp_jn]; dsimp only
          have hs4 := hU4.sc
          have hx4 : x < nC s4 := Nat.lt_of_lt_of_le hx (hU4.n hs)
          have ex4 : trC nu2 s4 x = frm Fo a := by rw [hU4.tr hs hx, et]
          have hyn4 := h.1.2.1.up hs hU4.ux hg4 (by decide +kernel) (by decide +kernel)
          have fh := ht_sz (bdF o (frm Fo f)) (isFo_pos hfb.1.2)
          have hfb2 := hfb.2
          have hr4 : rC s4 = 0 := by rw [hU4.r]; exact hr0
          have hp := tX2_bind (d := d) (x := b) (s := x) (X := X) (by rw [eb]; omega) hw4 hs4 hyn4 b0 hb x0 hx4 (by rw [eb]; exact hfb.1.1.1.1) (by rw [ex4]; exact k1) (by rw [eb]; omega) (by rw [eb, ex4]; exact X2.mono (fun t q => Or.inr q) _ _) (hU4.lim hl) (by rw [eb]; omega)
          rw [eb, ex4] at hp
          refine wp_call hp (fun r5 u5 ⟨g, q1, q2, q3, q4, q5, q6, q7⟩ => ?_)
          have hU5 := hU4.join q5
          have hg5 : Gr FC Dbd u u5 := hg4.tr (q7.sub (by decide +kernel))
          have hx5 : x < nC u5 := Nat.lt_of_lt_of_le hx4 (q5.n hs4)
          have ex5 : trC nu2 u5 x = frm Fo a := by rw [q5.tr hs4 hx4, ex4]
          have hn5 := nodeC q5.sc x0 hx5
          obtain ⟨i, i1, i2, i3⟩ := nodeC1 q5.sc x0 hx5 (by rw [ex5]; exact k1)
          rw [ex5] at i3
          rw [wp_ld]
          refine ⟨⟨by omega, by have h1 := q5.sc.1.1.2.2.2.1.1; have h2 := hn5.2.2.2.2.1; omega⟩, ?_⟩
          rw [gA_nat, i1, wp_ld]
          obtain ⟨c1, c2, c3⟩ := h.1.2.2.1
          have L85 : gL u5 85 = gL u 85 := hg5.Ln 85 (by decide +kernel)
          have N85 : gA u5 85 (i : Int) = gN u 85 i := hg5.N 85 (by decide +kernel) i
          refine ⟨⟨by omega, by rw [L85]; omega⟩, ?_⟩
          obtain ⟨ty, t1, t2, t3⟩ := c3 i i2
          rw [N85, t1, q1]
          have ety : trC nu2 u5 ty = wcT W (wh (frm Fo a)) := by rw [hU5.tr hs t2, t3, i3]
          have hyn5 := h.1.2.1.up hs hU5.ux hg5 (by decide +kernel) (by decide +kernel)
          have hr5 : rC u5 = 0 := by rw [hU5.r]; exact hr0
          have hp2 := tX2_all (d := d) (x1 := ty) (x2 := g) (X := X) (by omega) q6 hU5.sc hyn5 (Nat.lt_of_lt_of_le t2 (hU5.n hs)) q2 q3 (by omega) (by rw [ety, q4]; exact X3) (hU5.lim hl)
          rw [ety, q4] at hp2
          refine wp_call hp2 (fun r6 u6 ⟨z, w1, w2, w3, w4, w5, w6, w7⟩ => ?_)
          have hU6 := hU5.join w5
          have hg6 : Gr FC Dbd u u6 := hg5.tr (w7.sub (by decide +kernel))
          rcases ho with o0 | o1
          · rw [if_pos o0, w1]
            have ebt : bdT W o (frm Fo a) (frm Fo f) = bdA W o (frm Fo a) (frm Fo f) := by unfold bdT; rw [if_pos o0]
            rw [ebt]
            exact FkC.kp (by omega) h hU6 w6 hg6 DbdC h9 w2 w3 w4 hFl hK (fun z q => h5 z (hU6.2.2.2.2.1 z q)) hok
          · rw [if_neg (by omega), w1]
            have ebt : bdT W o (frm Fo a) (frm Fo f) = notT (bdA W o (frm Fo a) (frm Fo f)) := by unfold bdT; rw [if_neg (by omega)]
            have w4' : trC nu2 u6 z = bdA W o (frm Fo a) (frm Fo f) := w4
            have hr6 : rC u6 = 0 := by rw [hU6.r]; exact hr0
            have hp3 := tX2_not (d := d) (X := X) (by omega) w6 hU6.sc w2 w3 (by omega) (by rw [w4']; exact not_ps bA.1.1.1.1) (by rw [w4', ← ebt]; exact X4) (hU6.lim hl)
            rw [w4', ← ebt] at hp3
            refine wp_call hp3 (fun r7 u7 ⟨z7, v1, v2, v3, v4, v5, v6, v7⟩ => ?_)
            rw [v1]
            have hU7 := hU6.join v5
            exact FkC.kp (by omega) h hU7 v6 (hg6.tr (v7.sub (by decide +kernel))) DbdC h9 v2 v3 v4 hFl hK (fun z q => h5 z (hU7.2.2.2.2.1 z q)) hok
        rw [cl_eq e2, pr_n (by omega), wp_un, wp_un, hs.1.1.1.1, hs.1.1.2.1.1]
        rcases ho with o0 | o1
        · rw [if_pos o0]
          have eb : bdF o (frm Fo f) = frm Fo f := by unfold bdF; rw [if_pos o0]
          exact tail y u y0 hy (by rw [eb]; exact ey) (Up.rf hs) h.2.1 Gr.rf
        · rw [if_neg (by omega)]
          have eb : bdF o (frm Fo f) = notT (frm Fo f) := by unfold bdF; rw [if_neg (by omega)]
          have hp := tX2_not (d := d) (X := X) (by omega) h.2.1 hs y0 hy (by omega) (by rw [ey]; exact not_ps ff.1.1.1) (by rw [ey, ← eb]; exact X1) hl
          rw [ey, ← eb] at hp
          refine wp_call hp (fun r4 s4 ⟨b, q1, q2, q3, q4, q5, q6, q7⟩ => ?_)
          rw [q1]
          exact tail b s4 q2 q3 q4 q5 q6 (q7.sub (by decide +kernel))
      · have e2 : runC d 26 [f] u = some (exB + 1, tS u) := e2
        exact FkC.th e2 h h9 (fun q => hS2 q.2) _
    · rw [if_neg (by omega), wp_jn]; dsimp only
      exact FkC.nb (by omega) h h9 (fun q => k1 q.1.2) _
  · have e : runC d 11 [a] u = some (exB + 1, tS u) := e
    exact FkC.th e h h9 (fun q => hS q.1.1) _
