theorem tX1_hasB {d : Nat} {u : Sg} {x y : Nat} (hd : 5 ≤ d) (hb : gI u 45 = 1) (y0 : 0 < y) : runC d 48 [(x : Int), (y : Int)] u = some (0, u) := by
  obtain ⟨d, rfl⟩ : ∃ d', d = d' + 1 := ⟨d - 1, by omega⟩
  rw [runC_eq (by omega)]
  show bX1_hasType (runC d) x y u = _
  unfold bX1_hasType
  obtain ⟨f, hf⟩ : ∃ f, KF = f + 1 := ⟨KF - 1, by have := KF_gt; omega⟩
  rw [hf, bX1_hasType_L5, if_neg (by omega), un_eq, hb, if_neg (by decide)]
theorem atHand_L140 {d n : Nat} {ν : Nat → Nat} {c : Nat} {W : Wd} {S : Fs} {X : XFm} {Kl Q : List Nat} {u0 : Sg} {H0 : List Nat} {p0 : Nat → Nat} {M0 : List (Nat × Nat × Nat)} {J0 : List (Nat × Nat)} {x t : Nat} {Qq : Int → Sg → Prop} (hAt : AtSp ν c W S X Kl n) (hd : 320 + 6 * n ≤ d) (hn : 100 ≤ H0.length + n) (hs0 : SC ν c u0) (x0 : 0 < x) (hx : x < nC u0) (ext : trC ν u0 x = t) (h8 : kd t ≠ 8) (hp : ∀ i, i < (ps t).length → cltm W (Nm ν c) (pa t i) ∧ fH S (pa t i)) (hlen : (ps t).length ≤ 60000) (hr : rC u0 ≤ 20000) (hl : LimH ν u0 S X H0) : ∀ (m i f : Nat) (u1 : Sg) (H1 : List Nat) (p1 : Nat → Nat) (M1 : List (Nat × Nat × Nat)) (J1 : List (Nat × Nat)), i + m = (ps t).length → m < f → ExC H0 p0 M0 J0 H1 p1 M1 J1 → CaP ν c W S Kl u1 H1 p1 M1 J1 → UpZ ν c S X u0 u1 H1 True → GrH u0 u1 → StA W S Q u1 H1 M1 J1 → (gI u1 45 = 0 → ∀ j, j < i → pa t j ∈ H1) → ∀ xx : Int → Sg → Option (Int × Sg), (∀ (u2 : Sg) (H2 : List Nat) (p2 : Nat → Nat) (M2 : List (Nat × Nat × Nat)) (J2 : List (Nat × Nat)), ExC H0 p0 M0 J0 H2 p2 M2 J2 → CaP ν c W S Kl u2 H2 p2 M2 J2 → UpZ ν c S X u0 u2 H2 True → GrH u0 u2 → StA W S Q u2 H2 M2 J2 → (gI u2 45 = 0 → ∀ j, j < (ps t).length → pa t j ∈ H2) → wp (xx (x : Int) u2) Qq) → wp (bX1_atHand_L140 (runC d) f (x : Int) (i : Int) u1 xx) Qq := by
  intro m
  induction m with
  | zero =>
    intro i f u1 H1 p1 M1 J1 hi hf hE hC hU hg hst hin xx k
    obtain ⟨f, rfl⟩ : ∃ f', f = f' + 1 := ⟨f - 1, by omega⟩
    have hs := hC.1.1
    have hnn := hU.ux.n hs0
    have et : trC ν u1 x = t := by rw [hU.ux.tr hs0 hx]; exact ext
    have hn' := nodeC hs x0 (by omega : x < nC u1)
    rw [et] at hn'
    have l3 : gL u1 3 = gL u1 0 := hs.1.1.2.2.2.1.2.2.1
    rw [bX1_atHand_L140, ld_nat (by omega), hn'.2.2.1, if_neg (by omega)]
    exact k u1 H1 p1 M1 J1 hE hC hU hg hst (fun q j hj => hin q j (by omega))
  | succ m ih =>
    intro i f u1 H1 p1 M1 J1 hi hf hE hC hU hg hst hin xx k
    obtain ⟨f, rfl⟩ : ∃ f', f = f' + 1 := ⟨f - 1, by omega⟩
    have hs := hC.1.1
    have hnn := hU.ux.n hs0
    have hx1 : x < nC u1 := by omega
    have et : trC ν u1 x = t := by rw [hU.ux.tr hs0 hx]; exact ext
    have hn' := nodeC hs x0 hx1
    rw [et] at hn'
    have l3 : gL u1 3 = gL u1 0 := hs.1.1.2.2.2.1.2.2.1
    have hil : i < (ps t).length := by omega
    rw [bX1_atHand_L140, ld_nat (by omega), hn'.2.2.1, if_pos (by omega)]
    obtain ⟨y, y1, y2, y3⟩ := partN (d := d) (i := i) (by omega) hs x0 hx1 (by rw [et]; exact hil) (Or.inl (by rw [et]; exact h8))
    rw [et] at y3
    refine wp_eq y1 ?_
    obtain ⟨c1, c2⟩ := hp i hil
    have hHl : H0.length ≤ H1.length := by obtain ⟨⟨a', e⟩, _⟩ := hE; rw [e]; simp
    have y0 : 0 < y := by
      refine Nat.pos_of_ne_zero (fun q => isTm_pos c1.2.1 ?_)
      rw [← y3, q]; rfl
    have hr1 : rC u1 = rC u0 := hU.r
    have hq1 : gI u1 45 = 0 ∨ (gI u1 45 = 1 ∧ H1.length = 100) := hst.imp And.left (fun q => ⟨q.1, q.2.1⟩)
    have key : wp (runC d 45 [(y : Int)] u1) (fun _ u' => ∃ H2 p2 M2 J2, ExC H1 p1 M1 J1 H2 p2 M2 J2 ∧ CaP ν c W S Kl u' H2 p2 M2 J2 ∧ UpZ ν c S X u1 u' H2 True ∧ GrH u1 u' ∧ StA W S Q u' H2 M2 J2 ∧ (gI u' 45 = 0 → gI u1 45 = 0 ∧ pa t i ∈ H2)) := by
      rcases hst with ⟨s1, s2, s3⟩ | ⟨s1, s2⟩
      · refine wp_mono (hAt d u1 y H1 p1 M1 J1 Q hd (by omega) hC s1 (fun q hq h0 => Or.inl (s2 q hq h0)) s3 y0 (by omega) (by rw [y3]; exact c1) (by rw [y3]; exact c2) (by omega) (hl.up (hU.z s1).ux (fun t ht => hE.H ht))) (fun r u' h => ?_)
        obtain ⟨H2, p2, M2, J2, e1, e2, e3, e4, e5⟩ := h
        refine ⟨H2, p2, M2, J2, e1, e2, e3.w (fun _ => trivial), e4, e5.imp (fun q => ⟨q.1, q.2.1, q.2.2.1⟩) id, fun q => ⟨s1, ?_⟩⟩
        rcases e5 with z | z
        · rw [← y3]; exact z.2.2.2
        · rw [z.1] at q; cases q
      · obtain ⟨r, er⟩ := tX1_atB (d := d) (by omega) hC s1 (by omega : y < nC u1)
        exact ⟨r, u1, er, H1, p1, M1, J1, ExC.rf _ _ _ _, hC, UpZ.of (OvL.rf hC) id (Up.rf hs), GrH.rf, Or.inr ⟨s1, s2⟩, fun q => by rw [s1] at q; cases q⟩
    refine wp_call key (fun _ u2 h => ?_)
    obtain ⟨H2, p2, M2, J2, e1, e2, e3, e4, e5, e6⟩ := h
    rw [wp_ar]
    refine ⟨⟨by omega, by omega⟩, ?_⟩
    rw [show (i : Int) + 1 = ((i + 1 : Nat) : Int) by omega]
    refine ih (i + 1) f u2 H2 p2 M2 J2 (by omega) (by omega) (hE.tr e1) e2 (hU.tr e3 e1.1 hq1 e2.2.2.1.1.1.2.1 (fun _ => trivial)) (hg.tr e4) e5 (fun q j hj => ?_) xx k
    obtain ⟨z1, z2⟩ := e6 q
    by_cases hji : j = i
    · rw [hji]; exact z2
    · exact e1.H (hin z1 j (by omega))
theorem ALM_self {W : Wd} {Kl H : List Nat} {t : Nat} (ht : t ∈ H) : ∀ z ∈ upT W (tyT W t), (t, wh z, pa z 0) ∈ ALM W Kl H := fun z hz => by
  unfold ALM
  exact List.mem_append_left _ (List.mem_flatMap.mpr ⟨t, ht, List.mem_map.mpr ⟨z, hz, rfl⟩⟩)
/-- the type of a term that has just come to hand -/
theorem atHand_end {d n : Nat} {ν : Nat → Nat} {c : Nat} {W : Wd} {S : Fs} {X : XFm} {Kl Q : List Nat} {u2 : Sg} {H2 : List Nat} {p2 : Nat → Nat} {M2 : List (Nat × Nat × Nat)} {J2 : List (Nat × Nat)} {x : Nat} (hW : WOK W (Nm ν c)) (hGk : WGK W (Nm ν c)) (hK : ∀ f ∈ Kl, kd f = 14 → wh f < 20) (hKl : Kl.length ≤ 2500) (hAt : AtSp ν c W S X Kl n) (hd : 322 + 6 * n ≤ d) (hn : 100 ≤ H2.length + n) (hXS : XSp W S X) (hTF : ∀ t, fH S t → tyF W S t (tyT W t)) (hC : CaP ν c W S Kl u2 H2 p2 M2 J2) (x0 : 0 < x) (hx : x < nC u2) (hxH : trC ν u2 x ∈ H2) (hst : StA W S (trC ν u2 x :: Q) u2 H2 M2 J2) (hparts : gI u2 45 = 0 → (kd (trC ν u2 x) = 4 → ∀ i, i < (ps (trC ν u2 x)).length → pa (trC ν u2 x) i ∈ H2) ∧ (kd (trC ν u2 x) = 5 → pa (pa (trC ν u2 x) 0) 0 ≠ 0 → pa (pa (trC ν u2 x) 0) 0 ∈ H2)) (hr : rC u2 ≤ 20000) (hl : gI u2 45 = 0 → LimH ν u2 S X H2) (hL : Lim ν u2 (xf X H2)) :
    wp (cl (runC d 47 [(x : Int)] u2) fun v8 s9 => cl (runC d 48 [(x : Int), v8] s9) fun _ s11 => some (0, s11)) (fun _ u' => AtR ν c W S X Kl Q u2 H2 p2 M2 J2 (fun H' _ _ => trC ν u2 x ∈ H') u') := by
  have hs := hC.1.1
  obtain ⟨f1, f2⟩ := hC.2.2.2.2.2.1 _ hxH
  obtain ⟨X1, X2⟩ := hXS _ f2
  refine wp_call (tX1_typeOf (d := d) (by omega) hC.2.1 hC.1 hW x0 hx f1 (by omega) (X1.mono (xf_at hxH)) hL) (fun v u3 ⟨y, v1, v2, v3, v4, v5, v6, v7⟩ => ?_)
  subst v1
  have hC3 := hC.up v5.ux v6 v7 (by decide +kernel)
  have hg3 : GrH u2 u3 := v7.gh (by decide +kernel)
  have b3 : gI u3 45 = gI u2 45 := v7.I 45 (by decide +kernel)
  have hn3 := v5.ux.n hs
  have ex3 : trC ν u3 x = trC ν u2 x := v5.ux.tr hs hx
  have hr3 : rC u3 = rC u2 := v5.2.2.2.2.2.1
  have hty := ty_ok hW f1
  rcases hst with ⟨s1, s2, s3⟩ | ⟨s1, s2⟩
  · refine wp_call (tX1_hasType (x := x) (y := y) (Q := trC ν u2 x :: Q) hW hGk hK hKl hAt (by omega) hn hC3 (by rw [b3]; exact s1) s2 s3 (by omega) (by rw [ex3]; exact hxH) v2 v3 (by rw [v4]; exact hty) (by rw [ex3, v4]; exact hTF _ f2) (by rw [v4]; exact X2) (by rw [ex3, v4]; exact ALM_self hxH) (by omega) ((hl s1).up v5.ux (fun _ q => q))) (fun r u4 h => ?_)
    rw [wp_some]
    rw [ex3, v4] at h
    obtain ⟨H', p', M', J', e1, e2, e3, e4, e5⟩ := h
    refine ⟨H', p', M', J', e1, e2, UpZ.pre v5 s1 e3 (fun t ht => e1.H ht), hg3.tr e4, e5.imp (fun ⟨z1, z2, z3, z4, _⟩ => ⟨z1, z2, fun z hz hzQ => ?_, e1.H hxH⟩) id⟩
    by_cases hzt : z = trC ν u2 x
    · rw [hzt]
      obtain ⟨g1, g2⟩ := hparts s1
      exact ⟨fun q i hi => e1.H (g1 q i hi), fun q i => e1.H (g2 q i), z4⟩
    · exact z3 z hz (fun q => (List.mem_cons.mp q).elim hzt hzQ)
  · refine wp_eq (tX1_hasB (by omega) (by rw [b3]; exact s1) v2) ?_
    rw [wp_some]
    exact ⟨H2, p2, M2, J2, ExC.rf _ _ _ _, hC3, UpZ.of (OvL.rf hC3) (fun _ => by rw [b3]; exact s1) v5, hg3, Or.inr ⟨by rw [b3]; exact s1, s2⟩⟩
/-- a term comes to hand -/
theorem tX1_atHand {ν : Nat → Nat} {c : Nat} {W : Wd} {S : Fs} {X : XFm} {K B : Nat → Prop} {Kl : List Nat} (hW : WOK W (Nm ν c)) (hGk : WGK W (Nm ν c)) (hK : ∀ f ∈ Kl, kd f = 14 → wh f < 20) (hKl : Kl.length ≤ 2500) (hXS : XSp W S X) (hS : Clo W K B S) : ∀ n, AtSp ν c W S X Kl n := by
  have nil : ∀ (d : Nat) (u : Sg) (x : Nat) (H : List Nat) (p : Nat → Nat) (M : List (Nat × Nat × Nat)) (J : List (Nat × Nat)) (Q : List Nat) (K' : Sg → Option (Int × Sg)), 10 ≤ d → CaP ν c W S Kl u H p M J → gI u 45 = 0 → (∀ q ∈ M, q.2.2 ≠ 0 → q.2.2 ∈ H ∨ q.2.2 = trC ν u x) → (∀ y ∈ H, y ∉ Q → GoodC W H M J y) → 0 < x → x < nC u → fH S (trC ν u x) → (H.length < 100 → trC ν u x ∉ H → wp (K' u) (fun _ u' => AtZ ν c W S X Kl Q u H p M J (fun H' => trC ν u x ∈ H') (fun H' _ _ => trC ν u x ∈ H') u')) → wp (cl (runC d 46 [(x : Int)] u) fun v1 s2 => if v1 = 0 then (un (gI s2 45) fun v3 => if v3 = 0 then (un (gI s2 43) fun v4 => if v4 = 100 then (un (sI s2 45 1) fun s5 => some (0, s5)) else K' s2) else (some (0, s2))) else (some (0, s2))) (fun _ u' => AtZ ν c W S X Kl Q u H p M J (fun H' => trC ν u x ∈ H') (fun H' _ _ => trC ν u x ∈ H') u') := fun d u x H p M J Q K' hd hC hb hA hG x0 hx hf hk => by
    obtain ⟨d, rfl⟩ : ∃ d', d = d' + 1 := ⟨d - 1, by omega⟩
    have hs := hC.1.1
    have hC' := hC
    obtain ⟨h1, h2, ⟨h3, h3b⟩, h4⟩ := hC
    have a1 := h3.1.1
    have a2 := h3.1.2.1
    obtain ⟨m1, m2⟩ := rX1_isAtHand (d := d) (by omega) h3 hs hx
    by_cases hm : trC ν u x ∈ H
    · refine wp_eq (m1 hm) ?_
      rw [if_neg (by decide), wp_some]
      refine ⟨H, p, M, J, ExC.rf _ _ _ _, hC', UpZ.of (OvL.rf hC') id (Up.rf hs), GrH.rf, Or.inl ⟨hb, fun q hq h0 => ?_, hG, hm⟩⟩
      rcases hA q hq h0 with z | z
      · exact z
      · rw [z]; exact hm
    · refine wp_eq (m2 hm) ?_
      rw [if_pos rfl, wp_un, hb, if_pos rfl, wp_un, a1]
      refine wp_ite (fun he => ?_) (fun he => hk (by omega) hm)
      rw [wp_un, wp_some]
      have w : WF FC (sI u 45 1) := h2.sI ⟨by decide, by decide⟩ (fun _ => Or.inr rfl)
      have G : Gr FC 35184372088832 u (sI u 45 1) := Gr_sI (by decide +kernel)
      obtain ⟨e, hU⟩ := G.ux (X := xf X H) hs (by decide +kernel)
      exact ⟨H, p, M, J, ExC.rf _ _ _ _, hC'.up hU.ux w G (by decide +kernel), UpZ.of (OvL.rf hC') (fun _ => by rw [gI_sI, if_pos rfl]) hU, G.gh (by decide +kernel), Or.inr ⟨by rw [gI_sI, if_pos rfl], by omega, trC ν u x, hm, hf⟩⟩
  have bd : ∀ (n d : Nat) (u : Sg) (x : Nat) (H : List Nat) (p : Nat → Nat) (M : List (Nat × Nat × Nat)) (J : List (Nat × Nat)) (Q : List Nat), (H.length < 100 → AtSp ν c W S X Kl (n - 1) ∧ 1 ≤ n) → 320 + 6 * n ≤ d → 100 ≤ H.length + n → CaP ν c W S Kl u H p M J → gI u 45 = 0 → (∀ q ∈ M, q.2.2 ≠ 0 → q.2.2 ∈ H ∨ q.2.2 = trC ν u x) → (∀ y ∈ H, y ∉ Q → GoodC W H M J y) → 0 < x → x < nC u → cltm W (Nm ν c) (trC ν u x) → fH S (trC ν u x) → rC u ≤ 20000 → LimH ν u S X H → wp (runC d 45 [(x : Int)] u) (fun _ u' => AtZ ν c W S X Kl Q u H p M J (fun H' => trC ν u x ∈ H') (fun H' _ _ => trC ν u x ∈ H') u') := fun n d u x H p M J Q hAt hd hn hC hb hA hG x0 hx ht hf hr hl => by
    obtain ⟨d, rfl⟩ : ∃ d', d = d' + 1 := ⟨d - 1, by omega⟩
    rw [runC_eq (by omega)]
    show wp (bX1_atHand (runC d) x u) _
    unfold bX1_atHand
    refine nil d u x H p M J Q _ (by omega) hC hb hA hG x0 hx hf (fun hlt hm => ?_)
    obtain ⟨hAt, hn1⟩ := hAt hlt
    have hs := hC.1.1
    have hbd := (hl.l hC).n hs
    rw [wp_jn]
    obtain ⟨d', rfl⟩ : ∃ d', d = d' + 1 := ⟨d - 1, by omega⟩
    refine wp_call (tX1_room (d := d') (X := xf X (H ++ [trC ν u x])) (by omega) hC.2.1 hs hC.2.2.1.1 hC.2.2.1.2 (by omega : x < 90000)) (fun _ u1 ⟨r1, r2, r3, r4, r5, r6, r7, r8⟩ => ?_)
    have hC1 := hC.room r4.ux r5 r6 r1
    have ex1 : trC ν u1 x = trC ν u x := r3.tr x
    have hs1 := hC1.1.1
    refine hand_push (K := fun s25 => ld s25 0 (x : Int) fun v26 => if v26 = 5 then (cl (runC (d' + 1) 98 [(x : Int), 0] s25) fun v27 s28 => cl (runC (d' + 1) 30 [v27] s28) fun v29 s30 => if v29 = 0 then (cl (runC (d' + 1) 47 [(x : Int)] s30) fun v8 s9 => cl (runC (d' + 1) 48 [(x : Int), v8] s9) fun _ s11 => some (0, s11)) else (cl (runC (d' + 1) 98 [(x : Int), 0] s30) fun v31 s32 => cl (runC (d' + 1) 30 [v31] s32) fun v33 s34 => cl (runC (d' + 1) 45 [v33] s34) fun v35 s36 => (cl (runC (d' + 1) 47 [(x : Int)] s36) fun v8 s9 => cl (runC (d' + 1) 48 [(x : Int), v8] s9) fun _ s11 => some (0, s11)))) else (bX1_atHand_L140 (runC (d' + 1)) KF (x : Int) 0 s25 (fun v38 s37 => (cl (runC (d' + 1) 47 [v38] s37) fun v8 s9 => cl (runC (d' + 1) 48 [v38, v8] s9) fun _ s11 => some (0, s11))))) hC1 hlt x0 (by rw [r3.n]; exact hx) r2 (by rw [ex1]; exact hm) (by rw [ex1]; exact ht) (by rw [ex1]; exact hf) hS.2.1.1 (fun u2 g2 hC2 => ?_)
    rw [ex1] at hC2
    have hs2 := hC2.1.1
    obtain ⟨e2, hU2⟩ := g2.ux (X := xf X (H ++ [trC ν u x])) hs1 (by decide +kernel)
    have ex2 : trC ν u2 x = trC ν u x := by rw [e2.tr]; exact ex1
    have hUU := r4.join hU2
    have hgg : GrH u u2 := GrH.tr ⟨r6.sub (by decide +kernel), fun k hk => ⟨r6.2.2.1 k, fun i hi => r7 k i hk hi, fun i q1 q2 => r8 k i hk q1 q2⟩⟩ (g2.gh (by decide +kernel))
    have hx2 : x < nC u2 := by rw [e2.n, r3.n]; exact hx
    have b2 : gI u2 45 = 0 := by rw [g2.I 45 (by decide +kernel), r6.I 45 (by decide +kernel)]; exact hb
    have hl2 := hl.up hUU.ux (fun t ht => List.mem_append_left _ ht)
    have hr2 : rC u2 = rC u := hUU.2.2.2.2.2.1
    have hex : ExC H p M J (H ++ [trC ν u x]) (puP p H.length H.length) M J := ⟨⟨_, rfl⟩, fun i hi => by unfold puP; rw [if_neg (by omega)], fun i q1 q2 => by rw [List.length_append] at q2; unfold puP; rw [if_pos (by have : i < H.length + 1 := q2; omega)]; have : i < H.length + 1 := q2; omega, ⟨[], by simp⟩, ⟨[], by simp⟩⟩
    have hA2 : ArgOK M (H ++ [trC ν u x]) := fun q hq h0 => by
      rcases hA q hq h0 with z | z
      · exact List.mem_append_left _ z
      · rw [z]; exact List.mem_append_right _ List.mem_cons_self
    have hG2 : ∀ y ∈ H ++ [trC ν u x], y ∉ trC ν u x :: Q → GoodC W (H ++ [trC ν u x]) M J y := fun y hy hyQ => by
      rcases List.mem_append.mp hy with z | z
      · exact hex.good (hG y z (fun q => hyQ (List.mem_cons_of_mem _ q)))
      · exact absurd (by rw [List.mem_singleton.mp z]; exact List.mem_cons_self) hyQ
    have hxH2 : trC ν u x ∈ H ++ [trC ν u x] := List.mem_append_right _ List.mem_cons_self
    have hl9 : (H ++ [trC ν u x]).length = H.length + 1 := by rw [List.length_append]; rfl
    -- the end of all ways
    have fin : ∀ (u3 : Sg) (H3 : List Nat) (p3 : Nat → Nat) (M3 : List (Nat × Nat × Nat)) (J3 : List (Nat × Nat)), ExC (H ++ [trC ν u x]) (puP p H.length H.length) M J H3 p3 M3 J3 → CaP ν c W S Kl u3 H3 p3 M3 J3 → UpZ ν c S X u2 u3 H3 True → GrH u2 u3 → StA W S (trC ν u x :: Q) u3 H3 M3 J3 → (gI u3 45 = 0 → (kd (trC ν u x) = 4 → ∀ i, i < (ps (trC ν u x)).length → pa (trC ν u x) i ∈ H3) ∧ (kd (trC ν u x) = 5 → pa (pa (trC ν u x) 0) 0 ≠ 0 → pa (pa (trC ν u x) 0) 0 ∈ H3)) → wp (cl (runC (d' + 1) 47 [(x : Int)] u3) fun v8 s9 => cl (runC (d' + 1) 48 [(x : Int), v8] s9) fun _ s11 => some (0, s11)) (fun _ u' => AtZ ν c W S X Kl Q u H p M J (fun H' => trC ν u x ∈ H') (fun H' _ _ => trC ν u x ∈ H') u') := fun u3 H3 p3 M3 J3 e1 e2 e3 e4 e5 e6 => by
      have hn3 := e3.ux.n hs2
      have ex3 : trC ν u3 x = trC ν u x := by rw [e3.ux.tr hs2 hx2]; exact ex2
      have hr3 : rC u3 = rC u2 := e3.r
      have hHl : (H ++ [trC ν u x]).length ≤ H3.length := by obtain ⟨⟨a', e⟩, _⟩ := e1; rw [e, List.length_append (as := H ++ [trC ν u x])]; omega
      refine wp_mono (atHand_end (x := x) (Q := Q) hW hGk hK hKl hAt (by omega) (by omega) hXS hS.1.2.2.2.1 e2 x0 (by omega) (by rw [ex3]; exact e1.H hxH2) (by rw [ex3]; exact e5) (by rw [ex3]; exact e6) (by omega) (fun q => hl2.up (e3.z q).ux (fun t ht => e1.H ht)) (e3.lm hl2 (fun t ht => e1.H ht))) (fun r u' h => ?_)
      rw [ex3] at h
      obtain ⟨H', p', M', J', k1, k2, k3, k4, k5⟩ := h
      have m1 : UpZ ν c S X u u3 H3 True := UpZ.pre hUU hb e3 (fun t ht => e1.H ht)
      exact ⟨H', p', M', J', (hex.tr e1).tr k1, k2, (m1.tr k3 k1.1 (e5.imp And.left (fun q => ⟨q.1, q.2.1⟩)) k2.2.2.1.1.1.2.1 (fun _ => trivial)).w (fun _ => k1.H (e1.H hxH2)), (hgg.tr e4).tr k4, k5⟩
    have hn2 := nodeC hs2 x0 hx2
    rw [ex2] at hn2
    rw [ld_nat (by omega), hn2.1]
    refine wp_ite (fun h5 => ?_) (fun h5 => ?_)
    · have h5 : kd (trC ν u x) = 5 := by omega
      obtain ⟨t1, t2, t3⟩ := the_part ht h5
      obtain ⟨y, y1, y2, y3⟩ := partN (d := d' + 1) (i := 0) (by omega) hs2 x0 hx2 (by rw [ex2, t3]; simp) (Or.inr rfl)
      rw [ex2] at y3
      have y1 : runC (d' + 1) 98 [(x : Int), 0] u2 = some ((y : Int), u2) := y1
      have y0 : 0 < y := by
        refine Nat.pos_of_ne_zero (fun q => ?_)
        have e0 : pa (trC ν u x) 0 = 0 := by rw [← y3, q]; rfl
        have := t1.2.1
        rw [e0, kd0] at this
        omega
      obtain ⟨a, a1, a2, a3⟩ := rX1_argOf (d := d' + 1) (by omega) hs2 y0 (by omega : y < nC u2) (by rw [y3]; exact (type_part t1).1)
      rw [y3] at a3
      refine wp_eq y1 (wp_eq a1 ?_)
      refine wp_ite (fun ha => ?_) (fun ha => ?_)
      · have ea : pa (pa (trC ν u x) 0) 0 = 0 := by rw [← a3, show a = 0 by omega]; rfl
        exact fin u2 _ _ M J (ExC.rf _ _ _ _) hC2 (UpZ.of (OvL.rf hC2) id (Up.rf hs2)) GrH.rf (Or.inl ⟨b2, hA2, hG2⟩) (fun _ => ⟨fun q => by omega, fun _ q => absurd ea q⟩)
      · refine wp_eq y1 (wp_eq a1 ?_)
        have hta : trC ν u2 a ≠ 0 := by
          have : 0 < trC ν u2 a := tr_pos (okp_C (ν := ν) hs2.1) (by omega) (by show a ≤ nC u2 - 1; omega)
          omega
        rw [a3] at hta
        obtain ⟨q1, q2⟩ := (type_part t1).2 hta
        have hfa : fH S (pa (pa (trC ν u x) 0) 0) := hS.1.2.2.1 _ hf _ (sub_c t2 (sub_c q2 (sub_rf _))) q1.2.1
        refine wp_call (hAt (d' + 1) u2 a _ _ M J (trC ν u x :: Q) (by omega) (by omega) hC2 b2 (fun q hq h0 => Or.inl (hA2 q hq h0)) hG2 (by omega) (by omega) (by rw [a3]; exact q1) (by rw [a3]; exact hfa) (by omega) hl2) (fun _ u3 h => ?_)
        obtain ⟨H3, p3, M3, J3, e1, e2', e3, e4, e5⟩ := h
        refine fin u3 H3 p3 M3 J3 e1 e2' (e3.w (fun _ => trivial)) e4 (e5.imp (fun q => ⟨q.1, q.2.1, q.2.2.1⟩) id) (fun q => ⟨fun z => by omega, fun _ _ => ?_⟩)
        rcases e5 with z | z
        · rw [← a3]; exact z.2.2.2
        · rw [z.1] at q; cases q
    · have h5 : kd (trC ν u x) ≠ 5 := by omega
      have hk := ht.k
      refine atHand_L140 (x := x) (t := trC ν u x) hAt (by omega) (by omega) hs2 x0 hx2 ex2 (by omega) (fun i hi => ?_) ?_ (by omega) hl2 (ps (trC ν u x)).length 0 KF u2 _ _ M J (by omega) (Nat.lt_of_le_of_lt ?_ KF_gt) (ExC.rf _ _ _ _) hC2 (UpZ.of (OvL.rf hC2) id (Up.rf hs2)) GrH.rf (Or.inl ⟨b2, hA2, hG2⟩) (fun _ j hj => by omega) _ (fun u3 H3 p3 M3 J3 e1 e2 e3 e4 e5 e6 => fin u3 H3 p3 M3 J3 e1 e2 e3 e4 e5 (fun q => ⟨fun _ => e6 q, fun z => absurd z h5⟩))
      · have h4 : kd (trC ν u x) = 4 := by
          rcases hk with z | z | z
          · have : ps (trC ν u x) = [] := by
              rcases ht.1.1.n.2 with q | q | q | q | q | q | q | q | q | q | q | q | q | q <;> first | omega | exact q.2
            rw [this] at hi; cases hi
          · exact z
          · omega
        obtain ⟨q1, q2⟩ := fun_part ht h4 hi
        exact ⟨q1, hS.1.2.2.1 _ hf _ (sub_c q2 (sub_rf _)) q1.2.1⟩
      · rcases ht.1.1.n.2 with q | q | q | q | q | q | q | q | q | q | q | q | q | q <;> first | omega | (rw [q.2]; simp) | exact Nat.le_trans q.2.1 (by decide)
      · rcases ht.1.1.n.2 with q | q | q | q | q | q | q | q | q | q | q | q | q | q <;> first | omega | (rw [q.2]; simp) | exact Nat.le_trans q.2.1 (by decide)
  intro n
  induction n with
  | zero =>
    intro d u x H p M J Q hd hn hC hb hA hG x0 hx ht hf hr hl
    exact bd 0 d u x H p M J Q (fun h => by omega) hd hn hC hb hA hG x0 hx ht hf hr hl
  | succ n ih =>
    intro d u x H p M J Q hd hn hC hb hA hG x0 hx ht hf hr hl
    exact bd (n + 1) d u x H p M J Q (fun _ => ⟨ih, by omega⟩) hd hn hC hb hA hG x0 hx ht hf hr hl
