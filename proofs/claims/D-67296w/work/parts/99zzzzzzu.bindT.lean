/-! face: bind in the model -/
def DbT : Nat := DX3_bind_2 ||| DX3_all ||| DX3_not
theorem DbdT : ∀ k, k = 0 ∨ (17 ≤ k ∧ k ≤ 82) → DbT.testBit k = false := fun k hk => by
  rcases hk with q | q
  · rw [q]; decide +kernel
  · exact (by decide +kernel : ∀ k, k ≤ 82 → 17 ≤ k → DbT.testBit k = false) k q.2 q.1
theorem tBind {d : Nat} (hd : 310 ≤ d) {W : Wd} {c : Nat} {Fo Pr : List Nat} {lc : Nat} {K : Int} {u : Sg} {X : Nat → Prop} (h : ReT W c Fo Pr lc K u) (hF : FoW W (Nm nu2 c) Fo) (hW : WOK W (Nm nu2 c)) (hZ : ∀ n, Nm nu2 c n → szT (wcT W n) ≤ 200) (hFl : Fo.length < 400) (o a f : Int) (ho : o = 0 ∨ o = 1) (hl : LimT nt2 u X) (hX : bdX W o (frm Fo a) (frm Fo f) X) : wp (runT d 40 [o, a, f] u) (FkM (okBd Fo a f) (bdT W o (frm Fo a) (frm Fo f)) W c Fo Pr lc K u X) := by
  obtain ⟨d, rfl⟩ : ∃ e, d = e + 1 := ⟨d - 1, by omega⟩
  rw [runT_eq (by omega)]
  show wp (bX3_bind (runT d) o a f u) _
  have hs := h.s0 (v := 0) (by decide)
  have hhT := hs.2.2.2.2.1
  have hn9 := nT_le hs.1.1
  have hWn : WOK W (NT nt2 (c + 2)) := by rw [nt_eq]; exact hW
  have bad : ¬ okBd Fo a f → wp (cl (runT d 17 [1] (sI u 0 0)) fun v s => some (v, s)) (FkM (okBd Fo a f) (bdT W o (frm Fo a) (frm Fo f)) W c Fo Pr lc K u X) := fun hb => FkM.nb (by omega) h hb
  obtain ⟨X1, X2, X3, X4⟩ := hX
  have vs : ∀ (b : Int), ∃ v : Int, runT d 12 [b, 2] (sI u 0 0) = some (v, sI u 0 0) ∧ ((v = 0 ∧ ¬ isS Fo 2 b) ∨ ∃ x : Nat, v = (x : Int) ∧ 0 < x ∧ x ≤ nT (sI u 0 0) ∧ trT nt2 (sI u 0 0) x = frm Fo b ∧ isS Fo 2 b) := fun b => by
    rcases tS' (d := d) (by omega) hs hF.p (s := 2) (by decide) b with ⟨hS, x, x0, hx, et, e⟩ | ⟨hS, e⟩
    · exact ⟨_, e, Or.inr ⟨x, rfl, x0, hx, et, hS⟩⟩
    · exact ⟨_, e, Or.inl ⟨rfl, hS⟩⟩
  obtain ⟨v2, e2, q2⟩ := vs f
  unfold bX3_bind
  rw [wp_gd]
  refine ⟨ho, ?_⟩
  rw [wp_jn]; dsimp only
  rw [wp_un]
  rcases tS' (d := d) (by omega) hs hF.p (s := 0) (by decide) a with ⟨hS, x, x0, hx, ex, e1⟩ | ⟨hS, e1⟩
  · have e1 : runT d 12 [a, 0] (sI u 0 0) = some ((x : Int), sI u 0 0) := e1
    rw [cl_eq e1, cl_eq e2, if_neg (by omega), wp_ld]
    have hn := nodeT hs.1.1 x0 hx
    rw [ex] at hn
    refine ⟨⟨by omega, by have := hs.1.1.k hx; omega⟩, ?_⟩
    rw [gA_nat, hn.1]
    have hin := okT_kin (hF _ hS.mem).1.1.1
    have htm := hS.tm
    unfold isTm at htm
    by_cases k1 : kd (frm Fo a) = 1
    · have nw1 : nw (kd (frm Fo a)) = 1 := by rw [k1]; decide
      have hg : runT d 7 [(x : Int), 0] (sI u 0 0) = some (dt (sI u 0 0) x 0, sI u 0 0) := getT (d := d) (i := 0) (by omega) hs.1.1 x0 hx (by rw [ex]; omega)
      obtain ⟨i, i1, i4, i2, i3⟩ : ∃ i : Nat, dt (sI u 0 0) x 0 = (i : Int) ∧ wh (frm Fo a) = nt2 i ∧ 2 ≤ i ∧ i < c + 2 := by
        obtain ⟨j1, j2, j3⟩ := hn.2.2.1 k1
        have hnn := hn.2.2.2.2.2 0 (by omega)
        exact ⟨_, (Int.toNat_of_nonneg hnn).symm, j1, j2, j3⟩
      rw [if_pos (by rw [k1]; decide), cl_eq hg, i1, if_neg (by omega)]
      rcases q2 with ⟨z2, n2⟩ | ⟨y, z2, y0, hy, ey, p2⟩
      · rw [if_pos z2]; exact bad (fun q => n2 q.2)
      have hok : okBd Fo a f := ⟨⟨hS, k1⟩, p2⟩
      have ff : fF W (Nm nu2 c) (frm Fo f) := ⟨(hF _ p2.mem).1, p2.fo⟩
      have zf := (hF _ p2.mem).2
      have hNm : Nm nu2 c (wh (frm Fo a)) := (hF _ hS.mem).1.1.lc.1 k1
      have hty := hW.2.2.2 _ hNm
      have hfb := fF_bdF (o := o) ff zf
      obtain ⟨bA, bT⟩ := fF_bd (o := o) (x := frm Fo a) ff zf hty (hZ _ hNm)
      have bG := bdG_ok (o := o) (x := frm Fo a) ff zf
      have exa : frm Fo a = mk 1 (nt2 i) [] := by
        have ok := (hF _ hS.mem).1.1.1.n
        have p0 : ps (frm Fo a) = [] := by
          rcases ok.2 with z | z | z | z | z | z | z | z | z | z | z | z | z | z <;> first | omega | exact z.2
        rw [ok.1, k1, p0, i4]
      obtain ⟨c1, c2, c3, c4⟩ := hs.1.2.2.1
      obtain ⟨ty, t1, t2, t3⟩ := c4 i i2 (by omega)
      have tail : ∀ (b : Nat) (s14 : Sg), 0 < b → b ≤ nT s14 → trT nt2 s14 b = bdF o (frm Fo f) → UpT nt2 (c + 2) (sI u 0 0) s14 X → WF FT s14 → Gr FT DbT (sI u 0 0) s14 → wp (jn (fun (t1 : Int) (s16 : Sg) => cl (runT d 23 [t1] s16) fun v17 s18 => some (v17, s18)) fun j15 => cl (runT d 41 [(b : Int), (i : Int), 0] s14) fun v19 s20 => cl (runT d 44 [(ty : Int), v19] s20) fun v21 s22 => if o = 0 then (j15 v21 s22) else (cl (runT d 36 [v21] s22) fun v23 s24 => j15 v23 s24)) (FkM (okBd Fo a f) (bdT W o (frm Fo a) (frm Fo f)) W c Fo Pr lc K u X) := fun b s14 b0 hb eb hU4 hw4 hg4 => by
        rw [wp_jn]; dsimp only
        have hh4 : hT s14 = hT (sI u 0 0) := hU4.2.2.2.1
        have fh := ht_sz (bdF o (frm Fo f)) (isFo_pos hfb.1.2)
        have hfb2 := hfb.2
        have hlo := hfb.1.1.2.1
        have hp := tX3_bind2 (ν := nt2) (c := c + 2) (nm := i) i2 i3 (bdF o (frm Fo f)) hfb.1.1.1.1 d s14 b 0 X (by omega) (by omega) hw4 hU4.1 b0 hb eb (by omega) (by omega) (by rw [← exa]; exact X2.mono (fun t q => Or.inr q) _ _) (hU4.lim hl.s0) (by omega)
        rw [← exa] at hp
        refine wp_call hp (fun r5 u5 ⟨g, q1, q2, q3, q4, q5, q6, q7⟩ => ?_)
        have hU5 := hU4.join q5
        have hg5 : Gr FT DbT (sI u 0 0) u5 := hg4.tr (q7.sub (by decide +kernel))
        have hh5 : hT u5 = hT (sI u 0 0) := hU5.2.2.2.1
        have ety : trT nt2 u5 ty = wcT W (wh (frm Fo a)) := by rw [hU5.tr hs.1.1 t2, t3, i4]
        rw [q1]
        have hp2 := tX3_all (d := d) (x1 := ty) (x2 := g) (X := X) (by omega) q6 hU5.1 (Nat.le_trans t2 hU5.n) q2 q3 (by rw [q4]; exact bG.1.1) (by omega) (by rw [ety, q4]; exact X3) (hU5.lim hl.s0)
        rw [ety, q4] at hp2
        refine wp_call hp2 (fun r6 u6 ⟨z, w1, w2, w3, w4, w5, w6, w7⟩ => ?_)
        have hU6 := hU5.join w5
        have hg6 : Gr FT DbT (sI u 0 0) u6 := hg5.tr (w7.sub (by decide +kernel))
        have hh6 : hT u6 = hT (sI u 0 0) := hU6.2.2.2.1
        rcases ho with o0 | o1
        · rw [if_pos o0, w1]
          have ebt : bdT W o (frm Fo a) (frm Fo f) = bdA W o (frm Fo a) (frm Fo f) := by unfold bdT; rw [if_pos o0]
          rw [ebt]
          exact FkM.kp (by omega) h hWn hU6 w6 hg6 DbdT w2 w3 w4 bA.1.1.1.1 (by omega) hFl hok
        · rw [if_neg (by omega), w1]
          have ebt : bdT W o (frm Fo a) (frm Fo f) = notT (bdA W o (frm Fo a) (frm Fo f)) := by unfold bdT; rw [if_neg (by omega)]
          have w4' : trT nt2 u6 z = bdA W o (frm Fo a) (frm Fo f) := w4
          have hp3 := tX3_not (d := d) (X := X) (by omega) w6 hU6.1 w2 w3 (by omega) (by rw [w4']; exact not_ps bA.1.1.1.1) (by rw [w4', ← ebt]; exact X4) (hU6.lim hl.s0)
          rw [w4', ← ebt] at hp3
          refine wp_call hp3 (fun r7 u7 ⟨z7, v1, v2, v3, v4, v5, v6, v7⟩ => ?_)
          rw [v1]
          exact FkM.kp (by omega) h hWn (hU6.join v5) v6 (hg6.tr (v7.sub (by decide +kernel))) DbdT v2 v3 v4 bT.1.1.1.1 (by omega) hFl hok
      rw [if_neg (by omega), wp_jn]; dsimp only
      rw [cl_eq hg, i1, wp_ld]
      refine ⟨⟨by omega, by omega⟩, ?_⟩
      rw [gA_nat, t1, z2]
      rcases ho with o0 | o1
      · rw [if_pos o0]
        have eb : bdF o (frm Fo f) = frm Fo f := by unfold bdF; rw [if_pos o0]
        exact tail y (sI u 0 0) y0 hy (by rw [eb]; exact ey) (UpT.rf hs.1.1) hs.2.1 Gr.rf
      · rw [if_neg (by omega)]
        have eb : bdF o (frm Fo f) = notT (frm Fo f) := by unfold bdF; rw [if_neg (by omega)]
        have hp := tX3_not (d := d) (X := X) (by omega) hs.2.1 hs.1.1 y0 hy (by omega) (by rw [ey]; exact not_ps ff.1.1.1) (by rw [ey, ← eb]; exact X1) hl.s0
        rw [ey, ← eb] at hp
        refine wp_call hp (fun r4 s4 ⟨b, q1, q2, q3, q4, q5, q6, q7⟩ => ?_)
        rw [q1]
        exact tail b s4 q2 q3 q4 q5 q6 (q7.sub (by decide +kernel))
    · have nok : ¬ okBd Fo a f := fun q => k1 q.1.2
      by_cases k3 : kd (frm Fo a) = 3
      · have hg := headNT (d := d) (by omega) hs.1.1 x0 hx (by rw [ex, k3]; decide) (by rw [ex]; exact k1)
        rw [ex] at hg
        have hw2 : wh (frm Fo a) < 2 := by
          rcases (hF _ hS.mem).1.1.1.n.2 with z | z | z | z | z | z | z | z | z | z | z | z | z | z <;> first | omega | (have := z.2.2; omega)
        rw [if_pos (by rw [k3]; decide), cl_eq hg, if_pos (by omega)]
        exact bad nok
      · rw [if_neg (by
          rcases htm with z | z | z | z | z
          · exact absurd z k1
          · rw [z]; decide
          · exact absurd z k3
          · rw [z]; decide
          · rw [z]; decide)]
        exact bad nok
  · have e1 : runT d 12 [a, 0] (sI u 0 0) = some (0, sI u 0 0) := e1
    rw [cl_eq e1, cl_eq e2, if_pos rfl]
    exact bad (fun q => hS q.1.1)
