theorem okA2 {Fo : List Nat} {cl : Prop} (hc : cl) {s t : Int} : okA Fo cl 2 s t ↔ (isS Fo 0 s ∧ lvL (frm Fo s) 0) ∧ (isS Fo 0 t ∧ lvL (frm Fo t) 0) := ⟨fun h => ⟨⟨(h.1.1 (by decide)).1, (h.1.1 (by decide)).2 hc⟩, ⟨(h.2.1 (by decide)).1, (h.2.1 (by decide)).2 hc⟩⟩, fun h => ⟨⟨fun _ => ⟨h.1.1, fun _ => h.1.2⟩, fun q => absurd (by decide : 0 < 2) q⟩, ⟨fun _ => ⟨h.2.1, fun _ => h.2.2⟩, fun q => absurd (by decide : 1 < 2) q⟩⟩⟩
theorem okA1' {Fo : List Nat} {cl : Prop} (hc : cl) {s t : Int} : okA Fo cl 1 s t ↔ (isS Fo 0 s ∧ lvL (frm Fo s) 0) ∧ t = -1 := ⟨fun h => ⟨⟨(h.1.1 (by decide)).1, (h.1.1 (by decide)).2 hc⟩, h.2.2 (by decide)⟩, fun h => ⟨⟨fun _ => ⟨h.1.1, fun _ => h.1.2⟩, fun q => absurd (by decide : 0 < 1) q⟩, ⟨fun q => absurd q (by decide), fun _ => h.2⟩⟩⟩
theorem okA0 {Fo : List Nat} {cl : Prop} {s t : Int} : okA Fo cl 0 s t ↔ s = -1 ∧ t = -1 := ⟨fun h => ⟨h.1.2 (by decide), h.2.2 (by decide)⟩, fun h => ⟨⟨fun q => absurd q (by decide), fun _ => h.1⟩, ⟨fun q => absurd q (by decide), fun _ => h.2⟩⟩⟩
set_option maxHeartbeats 1000000 in
theorem tAtom {d : Nat} (hd : 310 ≤ d) {W : Wd} {c : Nat} {Fo Pr : List Nat} {lc : Nat} {K : Int} {u : Sg} {X : Nat → Prop} (h : ReT W c Fo Pr lc K u) (hF : FoW W (Nm nu2 c) Fo) (hP : ∀ p, p < wnP W → wpM W p ≤ 2) (hW : WOK W (NT nt2 (c + 2))) (hFl : Fo.length < 400) (k a s t : Int) (hl : LimT nt2 u X) (hX : X (atT W Fo k a s t)) : wp (runT d 31 [k, a, s, t] u) (FkM (okAt W Fo k a s t) (atT W Fo k a s t) W c Fo Pr lc K u X) := by
  obtain ⟨d, rfl⟩ : ∃ e, d = e + 1 := ⟨d - 1, by omega⟩
  rw [runT_eq (by omega)]
  show wp (bX3_atom (runT d) k a s t u) _
  have hs := h.s0 (v := 0) (by decide)
  have hhT := hs.2.2.2.2.1
  have hn9 := nT_le hs.1.1
  have bad : ¬ okAt W Fo k a s t → wp (cl (runT d 17 [1] (sI u 0 0)) fun v s => some (v, s)) (FkM (okAt W Fo k a s t) (atT W Fo k a s t) W c Fo Pr lc K u X) := fun hb => FkM.nb (by omega) h hb
  have fin : ∀ {D : Nat} (r : Int) (u' : Sg), okAt W Fo k a s t → RvT nt2 (c + 2) D (sI u 0 0) (atT W Fo k a s t) X r u' → (∀ k, k = 0 ∨ (17 ≤ k ∧ k ≤ 82) → D.testBit k = false) → wp (cl (runT d 23 [r] u') fun v s => some (v, s)) (FkM (okAt W Fo k a s t) (atT W Fo k a s t) W c Fo Pr lc K u X) := fun r u' hok ⟨y, e2, y0, hy, ey, hU, hw1, hg⟩ hD => by
    rw [e2]
    exact FkM.kp (by omega) h hW hU hw1 hg hD y0 hy ey (fW_at hF hP hok).1.1.1 (Nat.le_trans (szT_at hF.p hP hok) (by decide)) hFl hok
  have vs : ∀ b : Int, ∃ v : Int, runT d 25 [b, 0] (sI u 0 0) = some (v, sI u 0 0) ∧ ((v = 0 ∧ ¬ (isS Fo 0 b ∧ lvL (frm Fo b) 0)) ∨ ∃ x : Nat, v = (x : Int) ∧ 0 < x ∧ x ≤ nT (sI u 0 0) ∧ trT nt2 (sI u 0 0) x = frm Fo b ∧ (isS Fo 0 b ∧ lvL (frm Fo b) 0)) := fun b => by
    rcases tCl (d := d) (by omega) hs hF.p (s := 0) (by decide) b with ⟨hS, x, x0, hx, et, e⟩ | ⟨hS, e⟩
    · exact ⟨_, e, Or.inr ⟨x, rfl, x0, hx, et, hS⟩⟩
    · exact ⟨_, e, Or.inl ⟨rfl, hS⟩⟩
  obtain ⟨v1, e1, q1⟩ := vs s
  obtain ⟨v2, e2, q2⟩ := vs t
  unfold bX3_atom
  rw [wp_un, cl_eq e1, cl_eq e2]
  by_cases k0 : k = 0
  · subst k0
    rw [if_pos rfl, wp_jn]; dsimp only
    rcases q1 with ⟨z1, n1⟩ | ⟨x, z1, x0, hx, ex, p1⟩
    · rw [if_pos z1]; exact bad (fun q => n1 ((okA2 (by decide)).mp (okAt_0.mpr q)).1)
    rcases q2 with ⟨z2, n2⟩ | ⟨y, z2, y0, hy, ey, p2⟩
    · rw [if_neg (by omega), if_pos z2]; exact bad (fun q => n2 ((okA2 (by decide)).mp (okAt_0.mpr q)).2)
    rw [if_neg (by omega), if_neg (by omega), wp_jn]; dsimp only
    rw [if_pos rfl, z1, z2]
    have et : treeT nt2 (sI u 0 0) (9, [(x : Int), (y : Int)]) = atT W Fo 0 a s t := by rw [tree_eq _ _ (Or.inl rfl), ex, ey, atT_0]; rfl
    have hp := tX3_two (d := d) (ν := nt2) (c := c + 2) (k := 9) (v := (x : Int)) (w := (y : Int)) (X := X) (by omega) hs.2.1 hs.1.1 (okR_g (by omega) (by simp) (by simp)) (by omega) (by omega) (by omega) (by omega) (fun p hp => by rw [fpt_eq (Or.inl rfl)] at hp; simp at hp; omega) (by omega) (by rw [et]; exact hX) hl.s0
    rw [et] at hp
    exact wp_call hp (fun r u' q => fin r u' (okAt_0.mp ((okA2 (by decide)).mpr ⟨p1, p2⟩)) q DtwoT)
  rw [if_neg k0]
  by_cases k1 : k = 1
  · subst k1
    rw [if_pos rfl, wp_jn]; dsimp only
    rcases q1 with ⟨z1, n1⟩ | ⟨x, z1, x0, hx, ex, p1⟩
    · rw [if_pos z1]; exact bad (fun q => n1 ((okA2 (by decide)).mp (okAt_1.mpr q)).1)
    rcases q2 with ⟨z2, n2⟩ | ⟨y, z2, y0, hy, ey, p2⟩
    · rw [if_neg (by omega), if_pos z2]; exact bad (fun q => n2 ((okA2 (by decide)).mp (okAt_1.mpr q)).2)
    rw [if_neg (by omega), if_neg (by omega), wp_jn]; dsimp only
    rw [if_neg (by decide), z1, z2]
    have et : treeT nt2 (sI u 0 0) (10, [(x : Int), (y : Int)]) = atT W Fo 1 a s t := by rw [tree_eq _ _ (Or.inr rfl), ex, ey, atT_1]; rfl
    have hp := tX3_two (d := d) (ν := nt2) (c := c + 2) (k := 10) (v := (x : Int)) (w := (y : Int)) (X := X) (by omega) hs.2.1 hs.1.1 (okR_g (by omega) (by simp) (by simp)) (by omega) (by omega) (by omega) (by omega) (fun p hp => by rw [fpt_eq (Or.inr rfl)] at hp; simp at hp; omega) (by omega) (by rw [et]; exact hX) hl.s0
    rw [et] at hp
    exact wp_call hp (fun r u' q => fin r u' (okAt_1.mp ((okA2 (by decide)).mpr ⟨p1, p2⟩)) q DtwoT)
  rw [if_neg k1]
  by_cases k2 : k = 2
  · subst k2
    rw [if_pos rfl, wp_jn]; dsimp only
    by_cases a0 : a < 0
    · rw [if_pos a0]; exact bad (fun q => by have := (okAt_2.mpr q).1; omega)
    obtain ⟨h24, h10, h23, hpm⟩ := hs.1.2.2.2.2.2.1.1
    rw [if_neg a0, wp_un, h24]
    by_cases a1 : a < (wnP W : Int)
    · rw [if_pos a1, wp_jn]; dsimp only
      rw [wp_jn]; dsimp only
      have han : a.toNat < wnP W := by omega
      have hm2 := hP _ han
      have ef : gA (sI u 0 0) 23 a = ((wpM W a.toNat : Nat) : Int) := hpm a.toNat han
      have ff : ((a.toNat : Nat) : Int) = a := by omega
      have fi2 : ∀ (l : List Nat) (u1 : Sg), okAt W Fo 2 a s t → Hand nt2 (c + 2) (sI u 0 0) u1 (a :: l.map (fun (x : Nat) => (x : Int))) → l.length ≤ 2 → (∀ x ∈ l, x ≤ nT (sI u 0 0)) → l.map (trT nt2 (sI u 0 0)) = argA Fo (wpM W a.toNat) s t → wp (cl (runT d 5 [11, (hT (sI u 0 0) : Int)] u1) fun v23 s24 => cl (runT d 23 [v23] s24) fun v25 s26 => some (v25, s26)) (FkM (okAt W Fo 2 a s t) (atT W Fo 2 a s t) W c Fo Pr lc K u X) := fun l u1 hok hH hl2 hfm el => by
        rw [← ff] at hH
        have et : mk (nk 11) a.toNat (l.map (trT nt2 (sI u 0 0))) = atT W Fo 2 a s t := by rw [atT_2, el]; rfl
        have hp := nodF (d := d) (X := X) (k := 11) (by omega) hH (Or.inr (Or.inl rfl)) hl2 hfm (by rw [et]; exact hX) hl.s0 hs.1.1
        rw [et] at hp
        exact wp_call hp (fun r u' q => fin r u' hok q DnodT)
      have gv : ∀ {u1 : Sg} {vs : List Int} {a : Int}, Hand nt2 (c + 2) (sI u 0 0) u1 vs → inR a → vs.length ≤ 5 → wp (runT d 3 [a] u1) (fun _ u' => Hand nt2 (c + 2) (sI u 0 0) u' (vs ++ [a])) := fun hH ha hv => tX3_give (by omega) hH ha (by rw [hH.2.2.1]; omega)
      have h0 : Hand nt2 (c + 2) (sI u 0 0) (sI u 0 0) [] := Hand.rf hs.1.1 hs.2.1
      have aR : inR a := ⟨by omega, by omega⟩
      rw [wp_ld]
      refine ⟨⟨by omega, by rw [h23]; omega⟩, ?_⟩
      have hm3 : wpM W a.toNat = 0 ∨ wpM W a.toNat = 1 ∨ wpM W a.toNat = 2 := by omega
      rcases hm3 with hm | hm | hm
      · have oi : okAt W Fo 2 a s t ↔ s = -1 ∧ t = -1 := by
          rw [← okAt_2, hm, okA0]; exact ⟨fun q => q.2, fun q => ⟨⟨by omega, a1⟩, q⟩⟩
        rw [show gA (sI u 0 0) 23 a = 0 by rw [ef, hm]; rfl, if_pos (by decide)]
        by_cases s1 : s = -1
        · rw [if_pos s1, wp_jn]; dsimp only
          rw [wp_jn]; dsimp only
          rw [if_pos (by decide)]
          by_cases t1 : t = -1
          · rw [if_pos t1, wp_jn]; dsimp only
            rw [wp_un, hs.1.1.r.1]
            refine wp_call (gv h0 aR (by simp)) (fun _ u1 q1 => ?_)
            rw [if_pos (by decide), wp_jn]; dsimp only
            rw [if_pos (by decide)]
            exact fi2 [] u1 (oi.mpr ⟨s1, t1⟩) q1 (by simp) (fun z hz => by cases hz) (by unfold argA; rw [hm]; rfl)
          · rw [if_neg t1]; exact bad (fun q => t1 (oi.mp q).2)
        · rw [if_neg s1]; exact bad (fun q => s1 (oi.mp q).1)
      · have oi : okAt W Fo 2 a s t ↔ (isS Fo 0 s ∧ lvL (frm Fo s) 0) ∧ t = -1 := by
          rw [← okAt_2, hm, okA1' (by decide)]; exact ⟨fun q => q.2, fun q => ⟨⟨by omega, a1⟩, q⟩⟩
        rw [show gA (sI u 0 0) 23 a = 1 by rw [ef, hm]; rfl, if_neg (by decide)]
        rcases q1 with ⟨z1, n1⟩ | ⟨x, z1, x0, hx, ex, p1⟩
        · rw [if_pos z1]; exact bad (fun q => n1 (oi.mp q).1)
        rw [if_neg (by omega), wp_jn]; dsimp only
        rw [wp_jn]; dsimp only
        rw [if_pos (by decide)]
        by_cases t1 : t = -1
        · rw [if_pos t1, wp_jn]; dsimp only
          rw [wp_un, hs.1.1.r.1]
          refine wp_call (gv h0 aR (by simp)) (fun _ u1 g1 => ?_)
          rw [if_neg (by decide)]
          refine wp_call (gv g1 (a := v1) ⟨by omega, by omega⟩ (by simp)) (fun _ u2 g2 => ?_)
          rw [wp_jn]; dsimp only
          rw [if_pos (by decide)]
          rw [z1] at g2
          exact fi2 [x] u2 (oi.mpr ⟨p1, t1⟩) g2 (by simp) (fun z hz => by simp at hz; omega) (by unfold argA; rw [hm]; show [trT nt2 (sI u 0 0) x] = [frm Fo s]; rw [ex])
        · rw [if_neg t1]; exact bad (fun q => t1 (oi.mp q).2)
      · have oi : okAt W Fo 2 a s t ↔ (isS Fo 0 s ∧ lvL (frm Fo s) 0) ∧ (isS Fo 0 t ∧ lvL (frm Fo t) 0) := by
          rw [← okAt_2, hm, okA2 (by decide)]; exact ⟨fun q => q.2, fun q => ⟨⟨by omega, a1⟩, q⟩⟩
        rw [show gA (sI u 0 0) 23 a = 2 by rw [ef, hm]; rfl, if_neg (by decide)]
        rcases q1 with ⟨z1, n1⟩ | ⟨x, z1, x0, hx, ex, p1⟩
        · rw [if_pos z1]; exact bad (fun q => n1 (oi.mp q).1)
        rw [if_neg (by omega), wp_jn]; dsimp only
        rw [wp_jn]; dsimp only
        rw [if_neg (by decide)]
        rcases q2 with ⟨z2, n2⟩ | ⟨y, z2, y0, hy, ey, p2⟩
        · rw [if_pos z2]; exact bad (fun q => n2 (oi.mp q).2)
        rw [if_neg (by omega), wp_jn]; dsimp only
        rw [wp_un, hs.1.1.r.1]
        refine wp_call (gv h0 aR (by simp)) (fun _ u1 g1 => ?_)
        rw [if_neg (by decide)]
        refine wp_call (gv g1 (a := v1) ⟨by omega, by omega⟩ (by simp)) (fun _ u2 g2 => ?_)
        rw [wp_jn]; dsimp only
        rw [if_neg (by decide)]
        refine wp_call (gv g2 (a := v2) ⟨by omega, by omega⟩ (by simp)) (fun _ u3 g3 => ?_)
        rw [z1, z2] at g3
        exact fi2 [x, y] u3 (oi.mpr ⟨p1, p2⟩) g3 (by simp) (fun z hz => by simp at hz; omega) (by unfold argA; rw [hm]; show [trT nt2 (sI u 0 0) x, trT nt2 (sI u 0 0) y] = [frm Fo s, frm Fo t]; rw [ex, ey])
    · rw [if_neg a1]; exact bad (fun q => a1 (okAt_2.mpr q).1.2)
  rw [if_neg k2]
  by_cases k3 : k = 3
  · subst k3
    rw [if_pos rfl, wp_jn]; dsimp only
    have h28 := hs.1.2.2.2.2.2.1.2.1
    have h15 := hs.1.2.2.2.2.2.1.2.2
    by_cases a0 : a < 0
    · rw [if_pos a0]; exact bad (fun q => by have := (okAt_3.mpr q).1; omega)
    rw [if_neg a0, wp_un, h28]
    by_cases a1 : a < (wnA W : Int)
    · have oi : okAt W Fo 3 a s t ↔ (isS Fo 0 s ∧ lvL (frm Fo s) 0) ∧ t = -1 := by
        rw [← okAt_3, okA1' (by decide)]; exact ⟨fun q => q.2, fun q => ⟨⟨by omega, a1⟩, q⟩⟩
      rw [if_pos a1]
      rcases q1 with ⟨z1, n1⟩ | ⟨x, z1, x0, hx, ex, p1⟩
      · rw [if_pos z1]; exact bad (fun q => n1 (oi.mp q).1)
      rw [if_neg (by omega)]
      by_cases t1 : t = -1
      · rw [if_pos t1, z1]
        have ff : ((a.toNat : Nat) : Int) = a := by omega
        have et : treeT nt2 (sI u 0 0) (12, [a, (x : Int)]) = atT W Fo 3 a s t := by
          have := tree_fs nt2 (sI u 0 0) (k := 12) (by decide) (by decide) (by decide) (by decide) a.toNat [x]
          rw [ff] at this
          rw [atT_3]
          refine this.trans ?_
          show mk 13 a.toNat [trT nt2 (sI u 0 0) x] = mk 13 a.toNat [frm Fo s]
          rw [ex]
        have hp := tX3_two (d := d) (ν := nt2) (c := c + 2) (k := 12) (v := a) (w := (x : Int)) (X := X) (by omega) hs.2.1 hs.1.1 (okR_g (by omega) (by simp) (by simp)) (by omega) (by omega) (by omega) (by omega) (fun p hp => by rw [fpt_fs (by decide) (by decide) (by decide) (by decide) (by decide) (by decide)] at hp; simp at hp; omega) (by omega) (by rw [et]; exact hX) hl.s0
        rw [et] at hp
        exact wp_call hp (fun r u' q => fin r u' (oi.mpr ⟨p1, t1⟩) q DtwoT)
      · rw [if_neg t1]; exact bad (fun q => t1 (oi.mp q).2)
    · rw [if_neg a1]; exact bad (fun q => a1 (okAt_3.mpr q).1.2)
  rw [if_neg k3]
  by_cases k4 : k = 4
  · subst k4
    rw [if_pos rfl, wp_jn]; dsimp only
    obtain ⟨h27, ⟨h1, h20⟩, h25, h26, hz, hen⟩ := hs.1.2.2.2.1
    by_cases a0 : a < 0
    · rw [if_pos a0]; exact bad (fun q => by have := (okAt_4.mpr q).1; omega)
    rw [if_neg a0, wp_un, h27]
    by_cases a1 : a < (wnM W : Int)
    · rw [if_pos a1]
      rcases q1 with ⟨z1, n1⟩ | ⟨x, z1, x0, hx, ex, p1⟩
      · rw [if_pos z1]; exact bad (fun q => n1 (okAt_4.mpr q).2.1)
      rw [if_neg (by omega), wp_jn]; dsimp only
      have hmH : gA (sI u 0 0) 26 a = ((wmH W a.toNat : Nat) : Int) ∧ wmH W a.toNat ≤ 1 := by
        by_cases hm0 : a.toNat = 0
        · have e : gA (sI u 0 0) 26 a = gN (sI u 0 0) 26 a.toNat := rfl
          rw [e, hm0, hz, hW.1]
          exact ⟨rfl, by decide⟩
        · exact ⟨(hen a.toNat (by omega) (by omega)).2, (hW.2.1 a.toNat (by omega) (by omega)).2.2.2⟩
      have hm2 : wmH W a.toNat = 0 ∨ wmH W a.toNat = 1 := by omega
      have ldb : 0 ≤ a ∧ a < (gL (sI u 0 0) 26 : Int) := ⟨by omega, by rw [h26]; omega⟩
      have fi4 : ∀ y : Nat, y ≤ nT (sI u 0 0) → trT nt2 (sI u 0 0) y = argTy W Fo a t → okMo W Fo a s t → wp (cl (runT d 33 [a, (y : Int), (x : Int)] (sI u 0 0)) fun v77 s78 => cl (runT d 23 [v77] s78) fun v79 s80 => some (v79, s80)) (FkM (okAt W Fo 4 a s t) (atT W Fo 4 a s t) W c Fo Pr lc K u X) := fun y hy ey hok => by
        have et : modT a.toNat (trT nt2 (sI u 0 0) y) (trT nt2 (sI u 0 0) x) = atT W Fo 4 a s t := by rw [ex, ey, atT_4]
        have hp := tX3_modeOf (d := d) (ν := nt2) (c := c + 2) (m := a.toNat) (x1 := y) (x2 := x) (X := X) (by omega) hs.2.1 hs.1.1 (by omega) hy hx (by omega) (by rw [et]; exact hX) hl.s0
        rw [et, show ((a.toNat : Nat) : Int) = a by omega] at hp
        exact wp_call hp (fun r u' q => fin r u' (okAt_4.mp hok) q DmoT)
      rw [wp_ld]
      refine ⟨ldb, ?_⟩
      rcases hm2 with q | q
      · have e0 : gA (sI u 0 0) 26 a = 0 := by rw [hmH.1, q]; rfl
        rw [e0, if_pos rfl]
        by_cases t1 : t = -1
        · rw [if_pos t1, wp_jn]; dsimp only
          rw [wp_ld]
          refine ⟨ldb, ?_⟩
          rw [e0, if_pos rfl, z1]
          exact fi4 0 (Nat.zero_le _) (by unfold argTy; rw [if_pos q]; rfl) ⟨⟨by omega, a1⟩, p1, fun _ => t1, fun z => absurd q z⟩
        · rw [if_neg t1]; exact bad (fun z => t1 ((okAt_4.mpr z).2.2.1 q))
      · have e1 : gA (sI u 0 0) 26 a = 1 := by rw [hmH.1, q]; rfl
        rw [e1, if_neg (by decide)]
        rcases q2 with ⟨z2, n2⟩ | ⟨y, z2, y0, hy, ey, p2⟩
        · rw [if_pos z2]; exact bad (fun z => n2 ((okAt_4.mpr z).2.2.2 (by omega)))
        rw [if_neg (by omega), wp_jn]; dsimp only
        rw [wp_ld]
        refine ⟨ldb, ?_⟩
        rw [e1, if_neg (by decide), z1, z2]
        exact fi4 y hy (by unfold argTy; rw [if_neg (by omega)]; exact ey) ⟨⟨by omega, a1⟩, p1, fun z => by omega, fun _ => p2⟩
    · rw [if_neg a1]; exact bad (fun q => a1 (okAt_4.mpr q).1.2)
  · rw [if_neg k4]
    exact bad (fun q => by rcases q with q | q | q | q | q <;> (have := q.1; omega))
