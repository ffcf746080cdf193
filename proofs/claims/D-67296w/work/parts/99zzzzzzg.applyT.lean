/-! face: apply in the model -/
set_option maxHeartbeats 1000000 in
theorem tApp {d : Nat} (hd : 310 ≤ d) {W : Wd} {c : Nat} {Fo Pr : List Nat} {lc : Nat} {K : Int} {u : Sg} {X : Nat → Prop} (h : ReT W c Fo Pr lc K u) (hF : FoW W (Nm nu2 c) Fo) (hW : WOK W (NT nt2 (c + 2))) (hFl : Fo.length < 400) (f s t : Int) (hl : LimT nt2 u X) (hX : X (mk 4 f.toNat (argA Fo (wfM W f.toNat) s t))) : wp (runT d 29 [f, s, t] u) (FkM (okAp W Fo f s t) (mk 4 f.toNat (argA Fo (wfM W f.toNat) s t)) W c Fo Pr lc K u X) := by
  obtain ⟨d, rfl⟩ : ∃ e, d = e + 1 := ⟨d - 1, by omega⟩
  rw [runT_eq (by omega)]
  show wp (bX3_apply (runT d) f s t u) _
  have hs := h.s0 (v := 0) (by decide)
  have hhT := hs.2.2.2.2.1
  have hn9 := nT_le hs.1.1
  obtain ⟨h22, h30, h20, h21, hen⟩ := hs.1.2.2.2.2.1
  have bad : ¬ okAp W Fo f s t → wp (cl (runT d 17 [1] (sI u 0 0)) fun v s => some (v, s)) (FkM (okAp W Fo f s t) (mk 4 f.toNat (argA Fo (wfM W f.toNat) s t)) W c Fo Pr lc K u X) := fun hb => FkM.nb (by omega) h hb
  unfold bX3_apply
  rw [wp_jn]; dsimp only
  rw [wp_un]
  by_cases f0 : f < 0
  · rw [if_pos f0]; exact bad (fun q => by have := q.1; omega)
  rw [if_neg f0, wp_un, h22]
  by_cases f1 : f < (wnF W : Int)
  · have hfn : f.toNat < wnF W := by omega
    have hm2 := (hW.2.2.1 _ hfn).2.2
    have ef : gA (sI u 0 0) 20 f = ((wfM W f.toNat : Nat) : Int) := (hen f.toNat hfn).1
    have ff : ((f.toNat : Nat) : Int) = f := by omega
    have fin : ∀ (l : List Nat) (u1 : Sg), okAp W Fo f s t → Hand nt2 (c + 2) (sI u 0 0) u1 (f :: l.map (fun (x : Nat) => (x : Int))) → l.length ≤ 2 → (∀ x ∈ l, x ≤ nT (sI u 0 0)) → l.map (trT nt2 (sI u 0 0)) = argA Fo (wfM W f.toNat) s t → wp (cl (runT d 5 [4, (hT (sI u 0 0) : Int)] u1) fun v23 s24 => cl (runT d 23 [v23] s24) fun v25 s26 => some (v25, s26)) (FkM (okAp W Fo f s t) (mk 4 f.toNat (argA Fo (wfM W f.toNat) s t)) W c Fo Pr lc K u X) := fun l u1 hok hH hl2 hfm el => by
      rw [← ff] at hH
      have hp := nodF (d := d) (X := X) (k := 4) (by omega) hH (Or.inl rfl) hl2 hfm (by rw [el]; exact hX) hl.s0 hs.1.1
      rw [el] at hp
      refine wp_call hp (fun r u' ⟨y, e2, y0, hy, ey, hU, hw1, hg⟩ => ?_)
      rw [e2]
      exact FkM.kp (by omega) h hW hU hw1 hg DnodT y0 hy ey (fW_fun hF hm2 hfn hok.2).1.1 (Nat.le_trans (argA_sz hF.p hm2 hok.2 (by decide)) (by decide)) hFl hok
    rw [if_pos f1, wp_jn]; dsimp only
    rw [wp_jn]; dsimp only
    have gv : ∀ {u1 : Sg} {vs : List Int} {a : Int}, Hand nt2 (c + 2) (sI u 0 0) u1 vs → inR a → vs.length ≤ 5 → wp (runT d 3 [a] u1) (fun _ u' => Hand nt2 (c + 2) (sI u 0 0) u' (vs ++ [a])) := fun hH ha hv => tX3_give (by omega) hH ha (by rw [hH.2.2.1]; omega)
    have h0 : Hand nt2 (c + 2) (sI u 0 0) (sI u 0 0) [] := Hand.rf hs.1.1 hs.2.1
    have fR : inR f := ⟨by omega, by omega⟩
    rcases tS' (d := d) (by omega) hs hF.p (s := 0) (by decide) s with ⟨hS, x, x0, hx, et, e⟩ | ⟨hS, e⟩
    · have e : runT d 12 [s, 0] (sI u 0 0) = some ((x : Int), sI u 0 0) := e
      have xR : inR (x : Int) := ⟨by omega, by omega⟩
      rw [cl_eq e]
      rcases tS' (d := d) (by omega) hs hF.p (s := 0) (by decide) t with ⟨hS2, y, y0, hy, ey, e2⟩ | ⟨hS2, e2⟩
      · have e2 : runT d 12 [t, 0] (sI u 0 0) = some ((y : Int), sI u 0 0) := e2
        have yR : inR (y : Int) := ⟨by omega, by omega⟩
        rw [cl_eq e2, wp_ld]
        refine ⟨⟨by omega, by rw [h20]; omega⟩, ?_⟩
        have hm3 : wfM W f.toNat = 0 ∨ wfM W f.toNat = 1 ∨ wfM W f.toNat = 2 := by omega
        rcases hm3 with hm | hm | hm
        · rw [show gA (sI u 0 0) 20 f = 0 by rw [ef, hm]; rfl, if_pos (by decide), if_neg hS.nn]
          exact bad (fun q => by have := q.2.1.2 (by omega); exact hS.nn this)
        · rw [show gA (sI u 0 0) 20 f = 1 by rw [ef, hm]; rfl, if_neg (by decide), if_neg (by omega), wp_jn]; dsimp only
          rw [wp_jn]; dsimp only
          rw [if_pos (by decide), if_neg hS2.nn]
          exact bad (fun q => by have := q.2.2.2 (by omega); exact hS2.nn this)
        · have hok : okAp W Fo f s t := ⟨⟨by omega, f1⟩, ⟨⟨fun _ => ⟨hS, fun q => absurd rfl q⟩, fun q => absurd (by omega : 0 < wfM W f.toNat) q⟩, ⟨fun _ => ⟨hS2, fun q => absurd rfl q⟩, fun q => absurd (by omega : 1 < wfM W f.toNat) q⟩⟩⟩
          rw [show gA (sI u 0 0) 20 f = 2 by rw [ef, hm]; rfl, if_neg (by decide), if_neg (by omega), wp_jn]; dsimp only
          rw [wp_jn]; dsimp only
          rw [if_neg (by decide), if_neg (by omega), wp_jn]; dsimp only
          rw [wp_un, hs.1.1.r.1]
          refine wp_call (gv h0 fR (by simp)) (fun _ u1 q1 => ?_)
          rw [if_neg (by decide)]
          refine wp_call (gv q1 xR (by simp)) (fun _ u2 q2 => ?_)
          rw [wp_jn]; dsimp only
          rw [if_neg (by decide)]
          refine wp_call (gv q2 yR (by simp)) (fun _ u3 q3 => ?_)
          have := fin [x, y] u3 hok q3 (by simp) (fun z hz => by simp at hz; omega) (by unfold argA; rw [hm]; show [trT nt2 (sI u 0 0) x, trT nt2 (sI u 0 0) y] = [frm Fo s, frm Fo t]; rw [et, ey])
          exact this
      · have e2 : runT d 12 [t, 0] (sI u 0 0) = some (0, sI u 0 0) := e2
        rw [cl_eq e2, wp_ld]
        refine ⟨⟨by omega, by rw [h20]; omega⟩, ?_⟩
        have hm3 : wfM W f.toNat = 0 ∨ wfM W f.toNat = 1 ∨ wfM W f.toNat = 2 := by omega
        rcases hm3 with hm | hm | hm
        · rw [show gA (sI u 0 0) 20 f = 0 by rw [ef, hm]; rfl, if_pos (by decide), if_neg hS.nn]
          exact bad (fun q => by have := q.2.1.2 (by omega); exact hS.nn this)
        · rw [show gA (sI u 0 0) 20 f = 1 by rw [ef, hm]; rfl, if_neg (by decide), if_neg (by omega), wp_jn]; dsimp only
          rw [wp_jn]; dsimp only
          rw [if_pos (by decide)]
          by_cases ht1 : t = -1
          · have hok : okAp W Fo f s t := ⟨⟨by omega, f1⟩, ⟨⟨fun _ => ⟨hS, fun q => absurd rfl q⟩, fun q => absurd (by omega : 0 < wfM W f.toNat) q⟩, ⟨fun q => by omega, fun _ => ht1⟩⟩⟩
            rw [if_pos ht1, wp_jn]; dsimp only
            rw [wp_un, hs.1.1.r.1]
            refine wp_call (gv h0 fR (by simp)) (fun _ u1 q1 => ?_)
            rw [if_neg (by decide)]
            refine wp_call (gv q1 xR (by simp)) (fun _ u2 q2 => ?_)
            rw [wp_jn]; dsimp only
            rw [if_pos (by decide)]
            have := fin [x] u2 hok q2 (by simp) (fun z hz => by simp at hz; omega) (by unfold argA; rw [hm]; show [trT nt2 (sI u 0 0) x] = [frm Fo s]; rw [et])
            exact this
          · rw [if_neg ht1]
            exact bad (fun q => ht1 (q.2.2.2 (by omega)))
        · rw [show gA (sI u 0 0) 20 f = 2 by rw [ef, hm]; rfl, if_neg (by decide), if_neg (by omega), wp_jn]; dsimp only
          rw [wp_jn]; dsimp only
          rw [if_neg (by decide), if_pos rfl]
          exact bad (fun q => hS2 (q.2.2.1 (by omega)).1)
    · have e : runT d 12 [s, 0] (sI u 0 0) = some (0, sI u 0 0) := e
      rw [cl_eq e]
      have e2 : ∃ v : Int, runT d 12 [t, 0] (sI u 0 0) = some (v, sI u 0 0) := by
        rcases tS' (d := d) (by omega) hs hF.p (s := 0) (by decide) t with ⟨_, y, _, _, _, e2⟩ | ⟨_, e2⟩
        · exact ⟨_, e2⟩
        · exact ⟨_, e2⟩
      obtain ⟨v, e2⟩ := e2
      rw [cl_eq e2, wp_ld]
      refine ⟨⟨by omega, by rw [h20]; omega⟩, ?_⟩
      by_cases hm : wfM W f.toNat = 0
      · rw [show gA (sI u 0 0) 20 f = 0 by rw [ef, hm]; rfl, if_pos (by decide)]
        by_cases hs1 : s = -1
        · rw [if_pos hs1, wp_jn]; dsimp only
          rw [wp_jn]; dsimp only
          rw [if_pos (by decide)]
          by_cases ht1 : t = -1
          · have hok : okAp W Fo f s t := ⟨⟨by omega, f1⟩, ⟨⟨fun q => by omega, fun _ => hs1⟩, ⟨fun q => by omega, fun _ => ht1⟩⟩⟩
            rw [if_pos ht1, wp_jn]; dsimp only
            rw [wp_un, hs.1.1.r.1]
            refine wp_call (gv h0 fR (by simp)) (fun _ u1 q1 => ?_)
            rw [if_pos (by decide), wp_jn]; dsimp only
            rw [if_pos (by decide)]
            have := fin [] u1 hok q1 (by simp) (fun z hz => by cases hz) (by unfold argA; rw [hm]; rfl)
            exact this
          · rw [if_neg ht1]
            exact bad (fun q => ht1 (q.2.2.2 (by omega)))
        · rw [if_neg hs1]
          exact bad (fun q => hs1 (q.2.1.2 (by omega)))
      · rw [ef, if_neg (by omega), if_pos rfl]
        exact bad (fun q => hS (q.2.1.1 (by omega)).1)
  · rw [if_neg f1]; exact bad (fun q => f1 q.1.2)
