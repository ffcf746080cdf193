/-! face: about in the model -/
theorem tAbout {d : Nat} (hd : 20 ≤ d) {W : Wd} {c : Nat} {Fo Pr : List Nat} {lc : Nat} {K : Int} {u : Sg} {X : Nat → Prop} {n : Nat} {T : Nat → Nat} (h : ReT W c Fo Pr lc K u) (hF : FoP Fo) (hTy : ∀ i, i < c → T (2 * i) = wcT W (2 * i)) (a k : Int) (hR : isF Fo a → k = 3 → ¬ soN (frm Fo a) < 2 → tqR (wTy W T) X n (frm Fo a) c ∧ htT (frm Fo a) < n ∧ 1001 + n ≤ d ∧ (tqF n (frm Fo a) c).2 ≤ 8000 ∧ LimT nt2 u X) : wp (runT d 116 [a, k] u) (FcT (isF Fo a ∧ 0 ≤ k ∧ k ≤ 3) False (abV (frm Fo a) k : Int) (fun u' => ReT W c Fo Pr lc K u' ∧ NdT u u' (fun _ => False)) (fun u' => ReT W c Fo Pr lc K u' ∧ NdT u u' (fun _ => False))) := by
  obtain ⟨d, rfl⟩ : ∃ e, d = e + 1 := ⟨d - 1, by omega⟩
  rw [runT_eq (by omega)]
  show wp (bX3_about (runT d) a k u) _
  have hs := h.s0 (v := 0) (by decide)
  have hS := hs.1.1
  have hn9 := nT_le hS
  have hFo := hs.2.2.2.2.2.2.2.2.1
  have nd : NdT u (sI u 0 0) (fun _ => False) := fun z ⟨y, a, b, e⟩ => Or.inl ⟨y, a, b, e⟩
  have z0 : gI (sI u 0 0) 0 = 0 := by rw [gI_sI, if_pos rfl]
  unfold bX3_about
  rw [wp_jn]; dsimp only
  rw [wp_un]
  have bad : ¬ (isF Fo a ∧ 0 ≤ k ∧ k ≤ 3) → wp (cl (runT d 17 [1] (sI u 0 0)) fun v3 s4 => some (v3, s4)) (FcT (isF Fo a ∧ 0 ≤ k ∧ k ≤ 3) False (abV (frm Fo a) k : Int) (fun u' => ReT W c Fo Pr lc K u' ∧ NdT u u' (fun _ => False)) (fun u' => ReT W c Fo Pr lc K u' ∧ NdT u u' (fun _ => False))) := fun hb => by
    rw [cl_eq (fails_eq (by omega)), wp_some]
    exact Or.inr (Or.inr ⟨hb, rfl, by rw [gI_sI, if_pos rfl], hs.s0 (by decide), fun z ⟨y, a, b, e⟩ => Or.inl ⟨y, a, b, e⟩⟩)
  by_cases a0 : a < 0
  · rw [if_pos a0]; exact bad (fun q => by have := q.1.1; omega)
  rw [if_neg a0, wp_un]
  by_cases hA : isF Fo a
  · obtain ⟨⟨a1, a2, a3⟩, x, a4, a5, a6, a7⟩ := FoT.at hFo hA
    rw [if_pos a2]
    by_cases k0 : k < 0
    · rw [if_pos k0]; exact bad (fun q => by omega)
    rw [if_neg k0]
    by_cases k3 : k ≤ 3
    · rw [if_pos k3, wp_ld]
      refine ⟨⟨a1, a3⟩, ?_⟩
      have ok : isF Fo a ∧ 0 ≤ k ∧ k ≤ 3 := ⟨hA, by omega, k3⟩
      obtain ⟨fo, fz, flo⟩ := hF _ hA.mem
      have fh := hF.ht hA.mem
      have hn := nodeT hS a5 a6
      rw [a7] at hn
      have hin := okT_kin fo
      have so : runT d 13 [(x : Int)] (sI u 0 0) = some ((soN (frm Fo a) : Int), sI u 0 0) := by
        obtain ⟨d, rfl⟩ : ∃ e, d = e + 1 := ⟨d - 1, by omega⟩
        rw [runT_eq (by omega)]
        show bX3_sortOf (runT d) (x : Int) (sI u 0 0) = _
        unfold bX3_sortOf jn soN
        dsimp only
        rw [ld_nat (hS.k a6), hn.1, ld_nat (hS.k a6), hn.1, ld_nat (hS.k a6), hn.1]
        rcases hin with q | q | q | q | q | ⟨q1, q2, q3⟩
        · rw [q]; rfl
        · rw [q]; rfl
        · rw [q]; rfl
        · rw [q]; rfl
        · rw [q]; rfl
        · rw [tkT_hi q1, if_neg (by omega), if_neg (by omega)]
          by_cases h8 : kd (frm Fo a) = 8
          · rw [if_pos (by omega), if_neg (by omega), if_pos h8]; rfl
          · rw [if_neg (by omega), if_neg (by omega), if_neg h8]; rfl
      have fin : ∀ v : Int, v = (abV (frm Fo a) k : Int) → wp (some (v, sI u 0 0)) (FcT (isF Fo a ∧ 0 ≤ k ∧ k ≤ 3) False (abV (frm Fo a) k : Int) (fun u' => ReT W c Fo Pr lc K u' ∧ NdT u u' (fun _ => False)) (fun u' => ReT W c Fo Pr lc K u' ∧ NdT u u' (fun _ => False))) := fun v hv => wp_some.mpr (Or.inl ⟨ok, id, hv, z0, hs, nd⟩)
      rw [a4, cl_eq so]
      by_cases q0 : k = 0
      · rw [if_pos q0]
        exact fin _ (by unfold abV; rw [if_pos q0])
      rw [if_neg q0]
      by_cases q1 : k = 1
      · rw [if_pos q1, wp_ld]
        have hsz := sz_T hS x a5 a6 (by rw [a7]; exact fo) (by rw [a7]; omega)
        rw [a7] at hsz
        have l4 := hS.1.1.2.2.2.1
        have lx := hS.k a6
        refine ⟨⟨by omega, by omega⟩, ?_⟩
        rw [gA_nat, hsz]
        exact fin _ (by unfold abV; rw [if_neg q0, if_pos q1])
      rw [if_neg q1]
      have so3 : soN (frm Fo a) ≤ 2 := by unfold soN; split <;> (try split) <;> omega
      by_cases qs : soN (frm Fo a) < 2
      · rw [if_neg (by omega)]
        refine fin _ ?_
        unfold abV
        rw [if_neg q0, if_neg q1]
        by_cases q2 : k = 2
        · rw [if_pos q2, if_pos qs]; rfl
        · rw [if_neg q2, if_pos qs]; rfl
      have hfo := soN_fo fo qs
      have tk := isFo_hi hfo
      rw [if_pos (by omega)]
      by_cases q2 : k = 2
      · rw [if_pos q2, wp_ld]
        refine ⟨⟨by omega, by have := hS.k a6; omega⟩, ?_⟩
        rw [gA_nat, hn.1, tk]
        by_cases k9 : kd (frm Fo a) = 9
        · rw [if_pos (by omega)]
          refine fin _ ?_
          unfold abV prN
          rw [if_neg q0, if_neg q1, if_pos q2, if_neg qs, if_pos (yes_kd fo.n k9)]
          rfl
        · have ny : ¬ frm Fo a = yesT := fun q => k9 (by rw [q]; exact kd_yes)
          rw [if_neg (by omega), wp_ld]
          refine ⟨⟨by omega, by have := hS.k a6; omega⟩, ?_⟩
          rw [gA_nat, hn.1, tk]
          by_cases k17 : kd (frm Fo a) = 17
          · have l3 : x < gL (sI u 0 0) 3 := by rw [hS.1.1.2.2.2.1.2.1]; exact hS.k a6
            have nw0 : nw (kd (frm Fo a)) = 0 := by rw [k17]; decide
            rw [if_pos (by omega), wp_ld]
            refine ⟨⟨by omega, by omega⟩, ?_⟩
            rw [gA_nat, hn.2.1, nw0]
            refine fin _ ?_
            unfold abV prN
            rw [if_neg q0, if_neg q1, if_pos q2, if_neg qs, if_neg ny, if_pos k17]; rfl
          · rw [if_neg (by omega)]
            refine fin _ ?_
            unfold abV prN
            rw [if_neg q0, if_neg q1, if_pos q2, if_neg qs, if_neg ny, if_neg k17]; rfl
      rw [if_neg q2]
      -- the cases
      obtain ⟨r1, r2, r3, r4, r5⟩ := hR hA (by omega) qs
      have l0 : LimT nt2 (sI u 0 0) X := fun l hl hm => r5 l hl (fun t ht => (hm t ht).imp (fun ⟨y, a, b, e⟩ => ⟨y, a, b, e⟩) id)
      have zq := szQ_le (frm Fo a)
      generalize sI u 0 0 = u0 at *
      have e8 : gI u0 8 = (nT u0 : Int) := hS.1.1.1.1
      have e10 : gI u0 10 = (dT u0 : Int) := hS.1.1.2.1.1
      have e19 : gI u0 19 = ((c + 2 : Nat) : Int) := hs.1.2.2.1.1
      rw [wp_un, e8, wp_un, e10, wp_un, e19, wp_un]
      have h43 := hs.2.2.2.2.2.2.2.1
      have g0 : Gr FT (2 ^ 48) u0 (sI u0 48 0) := Gr_sI (by decide +kernel)
      have w0 : WF FT (sI u0 48 0) := wfIT hs.2.1 rfl ⟨by omega, by omega⟩
      have ee0 : EqH u0 (sI u0 48 0) := EqH.sI (by omega)
      have i48 : gI (sI u0 48 0) 48 = 0 := rfl
      have hAr := hs.2.2.1.rem
      have hTW := (tw_ty hTy).mpr hs.1
      generalize sI u0 48 0 = u1 at *
      have hct : CtT u0 := ⟨hAr.1 17 (by omega), hAr.1 18 (by omega)⟩
      have hA1 : TrA (rmM u0) (wTy W T) c u1 := ⟨hTW.up (ee0.up (X := X) hS).ux g0 (by decide +kernel), w0, hAr.2.2.2.2.fr g0 (by decide +kernel) (by decide +kernel), by unfold CtT; rw [g0.Ln 17 (by decide +kernel), g0.Ln 18 (by decide +kernel)]; exact hct⟩
      have l47 : gL u1 47 = gL u0 47 := g0.Ln 47 (by decide +kernel)
      have h256 := h43 47 (by omega) (by omega)
      have hQ1 : QS u1 0 := ⟨by rw [i48]; rfl, by omega, fun k a b => by
        have := h43 k a b
        rw [g0.Ln k ((by decide +kernel : ∀ k, k ≤ 47 → 43 ≤ k → Nat.testBit (2 ^ 48) k = false) k b a)]
        omega⟩
      have hh1 : hT u1 = 0 := ee0.hh.trans hs.2.2.2.2.1
      refine wp_call (tX3_tree n d u1 x (frm Fo a) c 0 r1 (by omega) hA1 hQ1 a5 (by rw [ee0.1.n]; exact a6) (by rw [ee0.1.tr]; exact a7) fo hfo flo (by omega) (by omega) r4 (by omega) (ee0.lim l0)) (fun r u2 ⟨q', p1, ⟨p2, p2'⟩, p3, p4, p5, p6, p7⟩ => ?_)
      have hq' : q' ≤ 200 := by split at p2' <;> omega
      have kp : gL u2 47 = gL u1 47 := by
        rcases p3.2.2.2.2 with q | q
        · exact q
        · have := p4.1; omega
      rw [wp_gd]
      refine ⟨by unfold keeps; simp [kp], ?_⟩
      have p47 := (p4.2.2 47 (by omega) (by omega)).1
      rw [p1, wp_ld]
      refine ⟨⟨by omega, by omega⟩, ?_⟩
      rw [gA_nat]
      have hcap := p5.cap.2
      have hcr := hcap.rng
      generalize gN u2 47 (0 + 1) = v at hcap hcr
      have n12 : nT u0 ≤ nT u2 := by have := p3.2.1.1; rw [ee0.1.n] at this; exact this
      have t12 : ∀ y, y ≤ nT u0 → trT nt2 u2 y = trT nt2 u0 y := fun y hy => by rw [p3.2.1.2.1 y (by rw [ee0.1.n]; exact hy), ee0.1.tr]
      have hNx : NuX nt2 (c + 2) nt2 ((tqF n (frm Fo a) c).2 + 2) := ⟨by have := tqF_le n (frm Fo a) c; omega, fun _ _ => rfl⟩
      have G2 : Gr FT Dtr u0 u2 := (g0.sub (by decide +kernel)).tr p3.2.2.1
      have ar2 : ArrT (rmM u0) u2 := hAr.tr G2 p3.1.2.2.1 p3.1.2.2.2
      refine tX3_back (by omega) hTW p3.1.1 p3.1.2.1 n12 t12 hNx p3.1.2.2.1 (fun w hB => ?_)
      have arw := hB.arr ar2
      obtain ⟨b1, b2, ⟨b3, b4, b5, b6⟩, b7, b8, b9, b10⟩ := hB
      have hcn := tq_cn n (frm Fo a) r2 fo hfo (htT (frm Fo a) + 1) (by omega) c
      have hmin : (if v < 1000 then v else 1000) = ((min 1000 (cnF (htT (frm Fo a) + 1) (frm Fo a) 0) : Nat) : Int) := by
        rw [← hcn]
        by_cases q : (tqF n (frm Fo a) c).1.length ≤ 1000
        · have e := hcap.1 q
          split <;> omega
        · have e := hcap.2 (by omega)
          rw [if_neg (by omega)]
          omega
      rw [wp_un, hmin, wp_ar]
      refine ⟨⟨by omega, by omega⟩, ?_⟩
      rw [wp_some]
      have GW : Gr FT (Dtr ||| Dbk) u0 w := (G2.sub (by decide +kernel)).tr (b10.sub (by decide +kernel))
      have a54 := hs.2.2.2.2.2.1
      have a76 := hs.2.2.2.2.2.2.1
      have c54 : gI w 54 = gI u0 54 := by rw [b9 54 (by omega) (by omega) (by omega) (by omega) (by omega), G2.I 54 (by decide +kernel)]
      have c76 : gI w 76 = gI u0 76 := by rw [b9 76 (by omega) (by omega) (by omega) (by omega) (by omega), G2.I 76 (by decide +kernel)]
      have c82 : gI w 82 = gI u0 82 := by rw [b9 82 (by omega) (by omega) (by omega) (by omega) (by omega), G2.I 82 (by decide +kernel)]
      have c0 : gI w 0 = gI u0 0 := by rw [b9 0 (by omega) (by omega) (by omega) (by omega) (by omega), G2.I 0 (by decide +kernel)]
      refine Or.inl ⟨ok, id, ?_, c0.trans z0, hs.aft ((tw_ty hTy).mp b1) b2 arw b3 b5 (by rw [b6, p3.2.1.2.2.2.1]; exact ee0.hh) GW (by decide +kernel) (by rw [c54]; exact a54) (by rw [c76]; exact a76) (by rw [c82]; exact hs.2.2.2.2.2.2.2.2.2.2.1), fun z ⟨y, y1, y2, y3⟩ => ?_⟩
      · unfold abV
        rw [if_neg q0, if_neg q1, if_neg q2, if_neg qs]
      · rw [b3] at y2
        rw [b5 y y2] at y3
        exact nd z ⟨y, y1, y2, y3⟩
    · rw [if_neg k3]; exact bad (fun q => k3 q.2.2)
  · rw [if_neg (FoT.no hFo (fun ⟨f, hf⟩ => hA (by unfold isF; rw [hf.frm]; exact hf)) (by omega))]
    exact bad (fun q => hA q.1)
