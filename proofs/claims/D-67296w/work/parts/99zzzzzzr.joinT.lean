/-! face: join in the model -/
def DjT : Nat := DX3_implies ||| DX3_and ||| DX3_not
theorem DjnT : ∀ k, k = 0 ∨ (17 ≤ k ∧ k ≤ 82) → DjT.testBit k = false := fun k hk => by
  rcases hk with q | q
  · rw [q]; decide +kernel
  · exact (by decide +kernel : ∀ k, k ≤ 82 → 17 ≤ k → DjT.testBit k = false) k q.2 q.1
theorem tJoin {d : Nat} (hd : 310 ≤ d) {W : Wd} {c : Nat} {Fo Pr : List Nat} {lc : Nat} {K : Int} {u : Sg} {X : Nat → Prop} (h : ReT W c Fo Pr lc K u) (hF : FoW W (Nm nu2 c) Fo) (hW : WOK W (NT nt2 (c + 2))) (hFl : Fo.length < 400) (k f g : Int) (hl : LimT nt2 u X) (hX : ∀ t, jnX (frm Fo f) (frm Fo g) t → X t) : wp (runT d 35 [k, f, g] u) (FkM (okJn Fo k f g) (jnT k (frm Fo f) (frm Fo g)) W c Fo Pr lc K u X) := by
  obtain ⟨d, rfl⟩ : ∃ e, d = e + 1 := ⟨d - 1, by omega⟩
  rw [runT_eq (by omega)]
  show wp (bX3_join (runT d) k f g u) _
  have hs := h.s0 (v := 0) (by decide)
  have hhT := hs.2.2.2.2.1
  have hn9 := nT_le hs.1.1
  have bad : ¬ okJn Fo k f g → wp (cl (runT d 17 [1] (sI u 0 0)) fun v s => some (v, s)) (FkM (okJn Fo k f g) (jnT k (frm Fo f) (frm Fo g)) W c Fo Pr lc K u X) := fun hb => FkM.nb (by omega) h hb
  have fin : ∀ {D : Nat} (r : Int) (u' : Sg), okJn Fo k f g → RvT nt2 (c + 2) D (sI u 0 0) (jnT k (frm Fo f) (frm Fo g)) X r u' → D &&& DjT = D → wp (cl (runT d 23 [r] u') fun v s => some (v, s)) (FkM (okJn Fo k f g) (jnT k (frm Fo f) (frm Fo g)) W c Fo Pr lc K u X) := fun r u' hok ⟨y, e2, y0, hy, ey, hU, hw1, hg⟩ hD => by
    rw [e2]
    have hj := fF_jn (W := W) (N := Nm nu2 c) (k := k) (x := frm Fo f) (y := frm Fo g) ⟨(hF _ hok.2.1.mem).1, hok.2.1.fo⟩ (fun z => ⟨(hF _ (hok.2.2.2 z).mem).1, (hok.2.2.2 z).fo⟩) (hF _ hok.2.1.mem).2 (fun z => (hF _ (hok.2.2.2 z).mem).2)
    exact FkM.kp (by omega) h hW hU hw1 (hg.sub hD) DjnT y0 hy ey hj.1.1.1.1 (by omega) hFl hok
  have vs : ∀ b : Int, ∃ v : Int, runT d 12 [b, 2] (sI u 0 0) = some (v, sI u 0 0) ∧ ((v = 0 ∧ ¬ isS Fo 2 b) ∨ ∃ x : Nat, v = (x : Int) ∧ 0 < x ∧ x ≤ nT (sI u 0 0) ∧ trT nt2 (sI u 0 0) x = frm Fo b ∧ isS Fo 2 b) := fun b => by
    rcases tS' (d := d) (by omega) hs hF.p (s := 2) (by decide) b with ⟨hS, x, x0, hx, et, e⟩ | ⟨hS, e⟩
    · exact ⟨_, e, Or.inr ⟨x, rfl, x0, hx, et, hS⟩⟩
    · exact ⟨_, e, Or.inl ⟨rfl, hS⟩⟩
  obtain ⟨v1, e1, q1⟩ := vs f
  obtain ⟨v2, e2, q2⟩ := vs g
  unfold bX3_join
  rw [wp_jn]; dsimp only
  rw [wp_un, cl_eq e1, cl_eq e2]
  by_cases k0 : k < 0
  · rw [if_pos k0]; exact bad (fun q => by have := q.1; omega)
  rw [if_neg k0]
  by_cases k4 : k ≤ 4
  · rw [if_pos k4]
    rcases q1 with ⟨z1, n1⟩ | ⟨x, z1, x0, hx, ex, p1⟩
    · rw [if_pos z1]; exact bad (fun q => n1 q.2.1)
    have ff : fF W (Nm nu2 c) (frm Fo f) := ⟨(hF _ p1.mem).1, p1.fo⟩
    have zf := (hF _ p1.mem).2
    have nf := fF_not ff
    rw [if_neg (by omega), wp_jn]; dsimp only
    by_cases kz : k = 0
    · rw [if_pos kz]
      by_cases g1 : g = -1
      · rw [if_pos g1, if_pos kz, z1]
        have ej : jnT k (frm Fo f) (frm Fo g) = notT (frm Fo f) := by unfold jnT; rw [if_pos kz]
        have hp := tX3_not (d := d) (X := X) (by omega) hs.2.1 hs.1.1 x0 hx (by omega) (by rw [ex]; exact not_ps ff.1.1.1) (by rw [ex]; exact hX _ (Or.inl rfl)) hl.s0
        rw [ex, ← ej] at hp
        exact wp_call hp (fun r u' q => fin r u' ⟨⟨by omega, k4⟩, p1, fun _ => g1, fun z => absurd kz z⟩ q (by decide +kernel))
      · rw [if_neg g1]; exact bad (fun q => g1 (q.2.2.1 kz))
    · rw [if_neg kz]
      rcases q2 with ⟨z2, n2⟩ | ⟨y, z2, y0, hy, ey, p2⟩
      · rw [if_pos z2]; exact bad (fun q => n2 (q.2.2.2 kz))
      have hok : okJn Fo k f g := ⟨⟨by omega, k4⟩, p1, fun z => absurd z kz, fun _ => p2⟩
      have fg : fF W (Nm nu2 c) (frm Fo g) := ⟨(hF _ p2.mem).1, p2.fo⟩
      have zg := (hF _ p2.mem).2
      have ng := fF_not fg
      rw [if_neg (by omega), if_neg kz, z1, z2]
      by_cases k1 : k = 1
      · have ej : jnT k (frm Fo f) (frm Fo g) = andT [frm Fo f, frm Fo g] := by unfold jnT; rw [if_neg kz, if_pos k1]
        rw [if_pos k1]
        have hp := tX3_and (d := d) (X := X) (by omega) hs.2.1 hs.1.1 x0 hx y0 hy (by rw [ex]; exact ff.1.1.1) (by rw [ey]; exact fg.1.1.1) (by rw [ex]; omega) (by rw [ey]; omega) (by omega) (by rw [ex, ey]; exact hX _ (Or.inr (Or.inr (Or.inl rfl)))) hl.s0
        rw [ex, ey, ← ej] at hp
        exact wp_call hp (fun r u' q => fin r u' hok q (by decide +kernel))
      rw [if_neg k1]
      by_cases k2 : k = 2
      · have ej : jnT k (frm Fo f) (frm Fo g) = notT (andT [notT (frm Fo f), notT (frm Fo g)]) := by unfold jnT; rw [if_neg kz, if_neg k1, if_pos k2]
        rw [if_pos k2]
        refine wp_call (tX3_not (d := d) (X := X) (by omega) hs.2.1 hs.1.1 x0 hx (by omega) (by rw [ex]; exact not_ps ff.1.1.1) (by rw [ex]; exact hX _ (Or.inl rfl)) hl.s0) (fun r1 u1 ⟨w1, a1, a2, a3, a4, a5, a6, a7⟩ => ?_)
        rw [ex] at a4
        have t2 : trT nt2 u1 y = frm Fo g := by rw [a5.tr hs.1.1 hy, ey]
        have hh1 : hT u1 = hT (sI u 0 0) := a5.2.2.2.1
        refine wp_call (tX3_not (d := d) (X := X) (by omega) a6 a5.1 y0 (Nat.le_trans hy a5.n) (by omega) (by rw [t2]; exact not_ps fg.1.1.1) (by rw [t2]; exact hX _ (Or.inr (Or.inl rfl))) (a5.lim hl.s0)) (fun r2 u2 ⟨w2, b1, b2, b3, b4, b5, b6, b7⟩ => ?_)
        rw [t2] at b4
        have t1 : trT nt2 u2 w1 = notT (frm Fo f) := by rw [b5.tr a5.1 a3, a4]
        have hU2 := a5.join b5
        have hh2 : hT u2 = hT (sI u 0 0) := hU2.2.2.2.1
        have g2 : Gr FT DjT (sI u 0 0) u2 := (a7.sub (by decide +kernel)).tr (b7.sub (by decide +kernel))
        rw [a1, b1]
        refine wp_call (tX3_and (d := d) (X := X) (by omega) b6 b5.1 a2 (Nat.le_trans a3 b5.n) b2 b3 (by rw [t1]; exact nf.1.1.1.1) (by rw [b4]; exact ng.1.1.1.1) (by rw [t1]; omega) (by rw [b4]; omega) (by omega) (by rw [t1, b4]; exact hX _ (Or.inr (Or.inr (Or.inr (Or.inl rfl))))) (hU2.lim hl.s0)) (fun r3 u3 ⟨w3, c1, c2, c3, c4, c5, c6, c7⟩ => ?_)
        rw [t1, b4] at c4
        have hU3 := hU2.join c5
        have hh3 : hT u3 = hT (sI u 0 0) := hU3.2.2.2.1
        have ha := fF_and (W := W) (N := Nm nu2 c) (L := [notT (frm Fo f), notT (frm Fo g)]) (fun z hz => by
          simp at hz
          rcases hz with e | e
          · rw [e]; exact nf.1
          · rw [e]; exact ng.1)
        rw [c1]
        have hp := tX3_not (d := d) (X := X) (by omega) c6 c5.1 c2 c3 (by omega) (by rw [c4]; exact not_ps ha.1.1.1.1) (by rw [c4]; exact hX _ (Or.inr (Or.inr (Or.inr (Or.inr (Or.inl rfl)))))) (hU3.lim hl.s0)
        rw [c4, ← ej] at hp
        exact wp_call hp (fun r u' q => fin r u' hok (RvT.chain (D := DjT) hU3 (g2.tr (c7.sub (by decide +kernel))) (by decide +kernel) (by decide +kernel) q) (by decide +kernel))
      rw [if_neg k2]
      by_cases k3 : k = 3
      · have ej : jnT k (frm Fo f) (frm Fo g) = impT (frm Fo f) (frm Fo g) := by unfold jnT; rw [if_neg kz, if_neg k1, if_neg k2, if_pos k3]
        rw [if_pos k3]
        have hp := tX3_implies (d := d) (X := X) (by omega) hs.2.1 hs.1.1 x0 hx y0 hy (by rw [ex]; exact ff.1.1.1) (by rw [ey]; exact fg.1.1.1) (by rw [ex]; exact ff.2) (by rw [ey]; exact fg.2) (by rw [ex]; omega) (by rw [ey]; omega) (by omega) (by rw [ey]; exact hX _ (Or.inr (Or.inl rfl))) (by rw [ex, ey]; exact hX _ (Or.inr (Or.inr (Or.inr (Or.inr (Or.inr (Or.inl rfl))))))) (by rw [ex, ey]; exact hX _ (Or.inr (Or.inr (Or.inr (Or.inr (Or.inr (Or.inr (Or.inl rfl)))))))) hl.s0
        rw [ex, ey, ← ej] at hp
        exact wp_call hp (fun r u' q => fin r u' hok q (by decide +kernel))
      · have ej : jnT k (frm Fo f) (frm Fo g) = iffT (frm Fo f) (frm Fo g) := by unfold jnT; rw [if_neg kz, if_neg k1, if_neg k2, if_neg k3]
        rw [if_neg k3]
        have i1 := fF_imp ff fg
        have i2 := fF_imp fg ff
        refine wp_call (tX3_implies (d := d) (X := X) (by omega) hs.2.1 hs.1.1 x0 hx y0 hy (by rw [ex]; exact ff.1.1.1) (by rw [ey]; exact fg.1.1.1) (by rw [ex]; exact ff.2) (by rw [ey]; exact fg.2) (by rw [ex]; omega) (by rw [ey]; omega) (by omega) (by rw [ey]; exact hX _ (Or.inr (Or.inl rfl))) (by rw [ex, ey]; exact hX _ (Or.inr (Or.inr (Or.inr (Or.inr (Or.inr (Or.inl rfl))))))) (by rw [ex, ey]; exact hX _ (Or.inr (Or.inr (Or.inr (Or.inr (Or.inr (Or.inr (Or.inl rfl)))))))) hl.s0) (fun r1 u1 ⟨w1, a1, a2, a3, a4, a5, a6, a7⟩ => ?_)
        rw [ex, ey] at a4
        have t1 : trT nt2 u1 x = frm Fo f := by rw [a5.tr hs.1.1 hx, ex]
        have t2 : trT nt2 u1 y = frm Fo g := by rw [a5.tr hs.1.1 hy, ey]
        have hh1 : hT u1 = hT (sI u 0 0) := a5.2.2.2.1
        refine wp_call (tX3_implies (d := d) (X := X) (by omega) a6 a5.1 y0 (Nat.le_trans hy a5.n) x0 (Nat.le_trans hx a5.n) (by rw [t2]; exact fg.1.1.1) (by rw [t1]; exact ff.1.1.1) (by rw [t2]; exact fg.2) (by rw [t1]; exact ff.2) (by rw [t2]; omega) (by rw [t1]; omega) (by omega) (by rw [t1]; exact hX _ (Or.inl rfl)) (by rw [t1, t2]; exact hX _ (Or.inr (Or.inr (Or.inr (Or.inr (Or.inr (Or.inr (Or.inr (Or.inl rfl))))))))) (by rw [t1, t2]; exact hX _ (Or.inr (Or.inr (Or.inr (Or.inr (Or.inr (Or.inr (Or.inr (Or.inr (Or.inl rfl)))))))))) (a5.lim hl.s0)) (fun r2 u2 ⟨w2, b1, b2, b3, b4, b5, b6, b7⟩ => ?_)
        rw [t1, t2] at b4
        have t3 : trT nt2 u2 w1 = impT (frm Fo f) (frm Fo g) := by rw [b5.tr a5.1 a3, a4]
        have hU2 := a5.join b5
        have hh2 : hT u2 = hT (sI u 0 0) := hU2.2.2.2.1
        have g2 : Gr FT DjT (sI u 0 0) u2 := (a7.sub (by decide +kernel)).tr (b7.sub (by decide +kernel))
        rw [a1, b1]
        have hp := tX3_and (d := d) (X := X) (by omega) b6 b5.1 a2 (Nat.le_trans a3 b5.n) b2 b3 (by rw [t3]; exact i1.1.1.1.1) (by rw [b4]; exact i2.1.1.1.1) (by rw [t3]; omega) (by rw [b4]; omega) (by omega) (by rw [t3, b4]; exact hX _ (Or.inr (Or.inr (Or.inr (Or.inr (Or.inr (Or.inr (Or.inr (Or.inr (Or.inr rfl)))))))))) (hU2.lim hl.s0)
        rw [t3, b4, show andT [impT (frm Fo f) (frm Fo g), impT (frm Fo g) (frm Fo f)] = jnT k (frm Fo f) (frm Fo g) from ej.symm] at hp
        exact wp_call hp (fun r u' q => fin r u' hok (RvT.chain (D := DjT) hU2 g2 (by decide +kernel) (by decide +kernel) q) (by decide +kernel))
  · rw [if_neg k4]; exact bad (fun q => k4 q.1.2)
