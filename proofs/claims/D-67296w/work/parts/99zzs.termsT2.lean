/-- a new term at the end of those at hand -/
theorem pushT {ν : Nat → Nat} {c : Nat} {W : Wd} {S : Fs} {X : XFm} {Kl : List Nat} {u : Sg} {l : Ls} {x t : Nat} {K : Sg → Option (Int × Sg)} {Q : Int → Sg → Prop} (hC : CaT ν c W S Kl u l) (hEE : ∀ s, fH S s → fE S s s) (x0 : 0 < x) (hx : x ≤ nT u) (ext : trT ν u x = t) (hnn : nT u < 131072) (hlt : l.1.length < 999) (hnew : t ∉ l.1) (htc : cltm W (NT ν c) t) (htS : fH S t) (hpt : l.1.length < 100 → ∀ c1 ∈ fms t, inHd c1 l.1) (k : ∀ (s : Sg), TwR ν c W S X Kl u l True s (l.1 ++ [t], puP l.2.1 l.1.length l.1.length, l.2.2) → Gr FT DX3_terms u s → wp (K s) Q) :
    wp (un (gI u 8) fun v15 => mor u 52 v15 fun s16 => un (gI s16 8) fun v17 => mor s16 53 v17 fun s18 => un (gI s18 57) fun v19 => mor s18 55 v19 fun s20 => un (gI s20 57) fun v21 => mor s20 56 v21 fun s22 => un (gI s22 54) fun v23 => stA s22 52 (x : Int) v23 fun s24 => un (gI s24 57) fun v25 => stA s24 53 (x : Int) v25 fun s26 => un (gI s26 57) fun v27 => stA s26 55 v27 (x : Int) fun s28 => un (gI s28 57) fun v29 => un (gI s28 57) fun v30 => stA s28 56 v29 v30 fun s31 => un (gI s31 57) fun v32 => ar (v32 + 1) fun v33 => un (sI s31 57 v33) fun s34 => un (sI s34 66 1) fun s35 => K s35) Q := by
  obtain ⟨H, p, M, J⟩ := l
  have hC0 := hC
  obtain ⟨h1, h2, ⟨h3, h3b⟩, h4, h5, h6, h7, h8, h9, h10⟩ := hC
  have h3 : HaT ν u H p := h3
  have hs := h1.1
  have hlt : H.length < 999 := hlt
  have h3' := h3
  obtain ⟨⟨a1, a2, a3, a4, a5, a6⟩, ⟨b1, b2, b3, b4⟩, c3, c4, c5, c6, c7⟩ := h3'
  have en : gI u 8 = (nT u : Int) := hs.1.1.1.1
  rw [wp_un, en]
  refine wp_morT (D := DX3_terms) h2 (by decide) rfl (by decide) (by decide +kernel) b2 (by omega) (fun s1 m1 => ?_)
  obtain ⟨e1, w1, g1, i1, o1, n1, l1, r1, v1, z1⟩ := m1
  rw [wp_un, i1, en]
  refine wp_morT (D := DX3_terms) w1 (by decide) rfl (by decide) (by decide +kernel) (by rw [(o1 53 (by omega)).1]; exact b1) (by omega) (fun s2 m2 => ?_)
  obtain ⟨e2, w2, g2, i2, o2, n2, l2, r2, v2, z2⟩ := m2
  rw [wp_un, i2, i1, a1]
  refine wp_morT (D := DX3_terms) w2 (by decide) rfl (by decide) (by decide +kernel) (by rw [(o2 55 (by omega)).1, (o1 55 (by omega)).1]; exact a5) (by omega) (fun s3 m3 => ?_)
  obtain ⟨e3, w3, g3, i3, o3, n3, l3, r3, v3, z3⟩ := m3
  rw [wp_un, i3, i2, i1, a1]
  refine wp_morT (D := DX3_terms) w3 (by decide) rfl (by decide) (by decide +kernel) (by rw [(o3 56 (by omega)).1, (o2 56 (by omega)).1, (o1 56 (by omega)).1]; exact a6) (by omega) (fun s4 m4 => ?_)
  obtain ⟨e4, w4, g4, i4, o4, n4, l4, r4, v4, z4⟩ := m4
  have Is : ∀ k, gI s4 k = gI u k := fun k => by rw [i4, i3, i2, i1]
  have L52 : gL s4 52 = gL s1 52 := by rw [(o4 52 (by omega)).1, (o3 52 (by omega)).1, (o2 52 (by omega)).1]
  have L53 : gL s4 53 = gL s2 53 := by rw [(o4 53 (by omega)).1, (o3 53 (by omega)).1]
  have L53a : gL s1 53 = gL u 53 := (o1 53 (by omega)).1
  have L55 : gL s4 55 = gL s3 55 := (o4 55 (by omega)).1
  have L55a : gL s2 55 = gL u 55 := by rw [(o2 55 (by omega)).1, (o1 55 (by omega)).1]
  have L56a : gL s3 56 = gL u 56 := by rw [(o3 56 (by omega)).1, (o2 56 (by omega)).1, (o1 56 (by omega)).1]
  have N52 : ∀ y, gN s4 52 y = gN s1 52 y := fun y => by rw [(o4 52 (by omega)).2, (o3 52 (by omega)).2, (o2 52 (by omega)).2]
  have N53 : ∀ y, y < gL u 53 → gN s4 53 y = gN u 53 y := fun y hy => by rw [(o4 53 (by omega)).2, (o3 53 (by omega)).2, v2 y (by omega), (o1 53 (by omega)).2]
  have N55 : ∀ y, y < gL u 55 → gN s4 55 y = gN u 55 y := fun y hy => by rw [(o4 55 (by omega)).2, v3 y (by omega), (o2 55 (by omega)).2, (o1 55 (by omega)).2]
  have N56 : ∀ y, y < gL u 56 → gN s4 56 y = gN u 56 y := fun y hy => by rw [v4 y (by omega), (o3 56 (by omega)).2, (o2 56 (by omega)).2, (o1 56 (by omega)).2]
  have h54 := h2.1 54
  rw [wp_un, Is, stA_pos ⟨by omega, by omega⟩, wp_un, gI_sA, Is, a1, stA_pos ⟨by omega, by rw [gL_sA]; omega⟩, wp_un, gI_sA, gI_sA, Is, a1, stA_pos ⟨by omega, by rw [gL_sA, gL_sA]; omega⟩, wp_un, gI_sA, gI_sA, gI_sA, Is, a1, wp_un, stA_pos ⟨by omega, by rw [gL_sA, gL_sA, gL_sA]; omega⟩, wp_un, gI_sA, gI_sA, gI_sA, gI_sA, Is, a1, wp_ar]
  refine ⟨⟨by omega, by omega⟩, ?_⟩
  rw [wp_un, wp_un]
  generalize hu' : sI (sI (sA (sA (sA (sA s4 52 (x : Int) (gI u 54)) 53 (x : Int) (H.length : Int)) 55 (H.length : Int) (x : Int)) 56 (H.length : Int) (H.length : Int)) 57 ((H.length : Int) + 1)) 66 1 = u'
  have Lx : ∀ k, gL u' k = gL s4 k := fun k => by rw [← hu', gL_sI, gL_sI, gL_sA, gL_sA, gL_sA, gL_sA]
  have Ix : ∀ k, k ≠ 66 → k ≠ 57 → gI u' k = gI u k := fun k hk hk2 => by rw [← hu', gI_sI, if_neg hk, gI_sI, if_neg hk2, gI_sA, gI_sA, gI_sA, gI_sA, Is]
  have I57 : gI u' 57 = (H.length : Int) + 1 := by rw [← hu', gI_sI, if_neg (by omega), gI_sI, if_pos rfl]
  have I66 : gI u' 66 = 1 := by rw [← hu', gI_sI, if_pos rfl]
  have M52 : ∀ y, gN u' 52 y = if y = x then gI u 54 else gN s1 52 y := fun y => by
    rw [← hu', gN_sI, gN_sI, gN_sAn, if_neg (by omega), gN_sAn, if_neg (by omega), gN_sAn, if_neg (by omega), gN_sAn]
    by_cases q : y = x
    · rw [if_pos ⟨rfl, q⟩, if_pos q]
    · rw [if_neg (fun z => q z.2), if_neg q, N52]
  have M53 : ∀ y, gN u' 53 y = if y = x then (H.length : Int) else gN s4 53 y := fun y => by
    rw [← hu', gN_sI, gN_sI, gN_sAn, if_neg (by omega), gN_sAn, if_neg (by omega), gN_sAn]
    by_cases q : y = x
    · rw [if_pos ⟨rfl, q⟩, if_pos q]
    · rw [if_neg (fun z => q z.2), if_neg q, gN_sAn, if_neg (by omega)]
  have M55 : ∀ y, gN u' 55 y = if y = H.length then (x : Int) else gN s4 55 y := fun y => by
    rw [← hu', gN_sI, gN_sI, gN_sAn, if_neg (by omega), gN_sAn]
    by_cases q : y = H.length
    · rw [if_pos ⟨rfl, q⟩, if_pos q]
    · rw [if_neg (fun z => q z.2), if_neg q, gN_sAn, if_neg (by omega), gN_sAn, if_neg (by omega)]
  have M56 : ∀ y, gN u' 56 y = if y = H.length then (H.length : Int) else gN s4 56 y := fun y => by
    rw [← hu', gN_sI, gN_sI, gN_sAn]
    by_cases q : y = H.length
    · rw [if_pos ⟨rfl, q⟩, if_pos q]
    · rw [if_neg (fun z => q z.2), if_neg q, gN_sAn, if_neg (by omega), gN_sAn, if_neg (by omega), gN_sAn, if_neg (by omega)]
  have G : Gr FT DX3_terms u u' := by
    rw [← hu']
    exact (((g1.tr g2).tr g3).tr g4).tr ((Gr_sA (by decide +kernel)).tr ((Gr_sA (by decide +kernel)).tr ((Gr_sA (by decide +kernel)).tr ((Gr_sA (by decide +kernel)).tr ((Gr_sI (by decide +kernel)).tr (Gr_sI (by decide +kernel)))))))
  have w : WF FT u' := by
    rw [← hu']
    exact wfBT (wfIT (wfAT (wfAT (wfAT (wfAT w4 rfl h54) rfl ⟨by omega, by omega⟩) rfl ⟨by omega, by omega⟩) rfl ⟨by omega, by omega⟩) rfl ⟨by omega, by omega⟩) (Or.inr rfl)
  have e := G.eqH (by decide +kernel)
  have hU : UpT ν c u u' (xt X (H ++ [t])) := e.up hs
  have key := eqL_new (x := t) c7 hnew
  have hl1 : (H ++ [t]).length = H.length + 1 := by rw [List.length_append]; rfl
  have hd' : DecP (puP p H.length H.length) (H ++ [t]).length := fun i hi => by
    unfold puP
    rw [hl1] at hi
    split
    · omega
    · exact c7 i (by omega)
  have at' : ∀ (i s : Nat), (H ++ [t])[i]? = some s → (i < H.length ∧ H[i]? = some s) ∨ (i = H.length ∧ s = t) := fun i s h => by
    by_cases hi : i < H.length
    · rw [List.getElem?_append_left hi] at h; exact Or.inl ⟨hi, h⟩
    · rw [List.getElem?_append_right (by omega)] at h
      have h0 : i - H.length = 0 := by have := (List.getElem?_eq_some_iff.mp h).1; simp at this; omega
      rw [h0] at h
      simp at h
      exact Or.inr ⟨by omega, h.symm⟩
  refine k u' ⟨⟨⟨_, rfl⟩, ⟨[], by simp⟩, ⟨[], by simp⟩, fun s t q => (key s t).mpr (Or.inl q)⟩, ⟨h1.up hU.ux G (by decide +kernel), w, ⟨⟨⟨by rw [I57]; show (H.length : Int) + 1 = (((H ++ [t]).length : Nat) : Int); rw [hl1]; rfl, by show (H ++ [t]).length ≤ _; omega, by show (H ++ [t]).length ≤ _; rw [Lx]; omega, by show (H ++ [t]).length ≤ _; rw [Lx]; omega, by rw [Lx]; omega, by rw [Lx]; omega⟩, ⟨by rw [Lx]; omega, by rw [Lx]; omega, by rw [Lx]; omega, by rw [Lx]; omega⟩, ?_, fun i s hi => ?_, fun y hy => ⟨?_, fun he => ?_⟩, fun i hi => ?_, hd'⟩, by rw [Ix 54 (by omega) (by omega)]; exact h3b⟩, (h4.up hs hU.ux G (bitsOff (by decide +kernel))).app, (h5.up G (bitsOff (by decide +kernel))).app, fun s hs' => ?_, fun s s' q => ?_, ⟨h8.1, fun q hq => ?_⟩, ⟨h9.1, fun q hq => ?_⟩, fun hle s hs' => ?_⟩, hU, G.sub (by decide +kernel), Or.inr ⟨I66, ?_⟩⟩ G
  · show (H ++ [t]).Nodup
    refine List.nodup_append.mpr ⟨c3, by simp, fun y hy z hz => ?_⟩
    rw [List.mem_singleton.mp hz]
    intro q; exact hnew (by show t ∈ H; rw [← q]; exact hy)
  · rcases at' i s hi with ⟨q1, q2⟩ | ⟨q1, q2⟩
    · obtain ⟨y, y1, y2, y3, y4, y5, y6, y7, y8⟩ := c4 i s q2
      have hyx : y ≠ x := fun q => hnew (by show t ∈ H; rw [← ext, ← q, y4]; exact List.mem_of_getElem? q2)
      refine ⟨y, ?_, y2, by rw [e.1.n]; exact y3, by rw [e.1.tr]; exact y4, by rw [Lx]; omega, ?_, ?_, by rw [Lx]; omega⟩
      · rw [M55, if_neg (by omega), N55 i (by omega)]; exact y1
      · rw [M52, if_neg hyx, v1 y y5, Ix 54 (by omega) (by omega)]; exact y6
      · rw [M53, if_neg hyx, N53 y y8]; exact y7
    · refine ⟨x, ?_, x0, by rw [e.1.n]; exact hx, by rw [e.1.tr, q2]; exact ext, by rw [Lx]; omega, ?_, ?_, by rw [Lx]; omega⟩
      · rw [M55, if_pos q1]
      · rw [M52, if_pos rfl, Ix 54 (by omega) (by omega)]
      · rw [M53, if_pos rfl, q1]
  · rw [Lx] at hy
    rw [M52, Ix 54 (by omega) (by omega)]
    split
    · omega
    · by_cases hyl : y < gL u 52
      · rw [v1 y hyl]; exact (c5 y hyl).1
      · rw [z1 y (by omega) (by omega)]; omega
  · rw [Lx] at hy
    rw [M52, Ix 54 (by omega) (by omega)] at he
    show ∃ i, i < (H ++ [t]).length ∧ _
    by_cases hyx : y = x
    · exact ⟨H.length, by omega, by rw [M55, if_pos rfl, hyx]⟩
    · rw [if_neg hyx] at he
      by_cases hyl : y < gL u 52
      · rw [v1 y hyl] at he
        obtain ⟨i, hi, q⟩ := (c5 y hyl).2 he
        exact ⟨i, by omega, by rw [M55, if_neg (by omega), N55 i (by omega)]; exact q⟩
      · rw [z1 y (by omega) (by omega)] at he
        omega
  · have hi : i < (H ++ [t]).length := hi
    show gN u' 56 i = ((puP p H.length H.length i : Nat) : Int)
    rw [M56]
    unfold puP
    by_cases q : i = H.length
    · rw [if_pos q, if_pos q]
    · rw [if_neg q, if_neg q, N56 i (by omega)]
      exact c6 i (by omega)
  · rcases List.mem_append.mp hs' with q | q
    · exact h6 s q
    · rw [List.mem_singleton.mp q]; exact ⟨htc, htS⟩
  · rcases (key s s').mp q with z | z
    · exact h7 s s' z
    · rw [z.1, z.2]; exact hEE t htS
  · obtain ⟨q1, q2, q3, q4, q5⟩ := h8.2 q hq
    exact ⟨List.mem_append_left _ q1, q2, ExC.alm ⟨_, rfl⟩ q3, q4, fun z => List.mem_append_left _ (q5 z)⟩
  · obtain ⟨q1, q2⟩ := h9.2 q hq
    exact ⟨List.mem_append_left _ q1, q2⟩
  · have hle : (H ++ [t]).length ≤ 100 := hle
    intro s' r1 r2 r3
    show s' ∈ H ++ [t]
    rcases List.mem_append.mp hs' with q | q
    · exact List.mem_append_left _ (h10 (by show H.length ≤ 100; omega) s q s' r1 r2 r3)
    · rw [List.mem_singleton.mp q, subT_eq] at r1
      rcases r1 with r1 | ⟨c1, r4, r5⟩
      · rw [r1]; exact List.mem_append_right _ List.mem_cons_self
      · exact List.mem_append_left _ (hpt (by show H.length < 100; omega) c1 r4 s' r5 r2 r3)
  · unfold msL
    show H.length + M.length + J.length + ctP p H.length < (H ++ [t]).length + M.length + J.length + ctP (puP p H.length H.length) (H ++ [t]).length
    rw [hl1, ctP_x (n := H.length) (p := p) (fun i hi => by unfold puP; rw [if_neg (by omega)]) 1 (fun i q1 q2 => by unfold puP; rw [if_pos (by omega)]; omega)]
    omega
/-- the closed terms of a form come to hand -/
theorem tX3_terms {ν : Nat → Nat} {c : Nat} {W : Wd} {S : Fs} {X : XFm} {Kl : List Nat} (hEE : ∀ s, fH S s → fE S s s) : ∀ (n t : Nat), htT t < n → TmST ν c W S X Kl t := by
  intro n
  induction n with
  | zero => intro t h; omega
  | succ n ih =>
    intro t htn d u x l hd hht hC x0 hx et hfr hlv hS hnn
    obtain ⟨d, rfl⟩ : ∃ d', d = d' + 4 := ⟨d - 4, by omega⟩
    rw [runT_eq (by omega)]
    show wp (bX3_terms (runT (d + 3)) x u) _
    unfold bX3_terms
    have hs := hC.1.1
    have hw := hC.2.1
    have hn := nodeT hs x0 hx
    rw [et] at hn
    have ihc : ∀ c1 ∈ fms t, TmST ν c W S X Kl c1 := fun c1 h1 => ih c1 (by have := ht_c h1; omega)
    have hlen : (ps t).length ≤ 60000 := by
      have := (hs.1.2.1.1 x x0 hx).1.2.2.2.2.2
      have e2 := hn.2.1
      have e3 : (rawT u x).2.length = (gN u 3 x).toNat := by unfold rawT; rw [List.length_map, List.length_range]
      omega
    have hKF := KF_big
    have hnw1 : nw (kd t) ≤ 1 := by unfold nw; split <;> omega
    have hnwK : (ps t).length + nw (kd t) < KF := by omega
    have hkk := okT_kin hfr.1
    have htk := tkT_tm hkk
    have down : ¬ (isTm t ∧ loT t = 0) → wp (bX3_terms_L208 (runT (d + 3)) KF (x : Int) 0 u (fun s3 => some (0, s3))) (fun _ u' => TmR ν c W S X Kl t u l u') := fun hno => by
      rw [terms_L208]
      refine terms_L43 (t := t) (l0 := l) ihc (by omega) hht hs x0 hx et hfr hlv hS hnn hlen ((ps t).length + nw (kd t)) 0 KF u l (by omega) hnwK (TwR.rf hC trivial) Gr.rf rfl (fun _ i c1 q => by omega) (fun _ => rfl) (fun q => by omega) _ (fun u2 l2 t1 t2 t3 t4 t5 t6 => ?_)
      rw [wp_some]
      refine ⟨l2, t1, t2, t3, fun q s r1 r2 r3 => ?_, t5, fun q => by have := t6 q; omega⟩
      rw [subT_eq] at r1
      rcases r1 with z | ⟨c1, z1, z2⟩
      · exact absurd ⟨by rw [← z]; exact r2, by rw [← z]; exact r3⟩ hno
      · exact t4 q c1 z1 s z2 r2 r3
    have hx1 : x < gL u 1 := hs.k hx
    have l5 : gL u 5 = gL u 1 := hs.1.1.2.2.2.1.2.2.2.1
    rw [wp_jn, ld_nat hx1, hn.1]
    refine wp_eq rX3_isTerm ?_
    by_cases h5 : tkT (kd t) = 2 ∨ tkT (kd t) = 4 ∨ tkT (kd t) = 5
    · have h5' := htk.mp h5
      have htm : isTm t := by unfold isTm; omega
      rw [if_pos h5, if_neg (by decide), ld_nat (by omega), lo_T hs hw x x0 hx (by rw [et]; exact hfr.1), et]
      refine wp_ite (fun h0 => ?_) (fun h0 => down (fun q => h0 (by omega)))
      have hcl : cltm W (NT ν c) t := ⟨hfr, htm, by omega, hlv⟩
      have htS : fH S t := hS t (sub_rf t) htm (by omega)
      have hH : HaT ν u l.1 l.2.1 := hC.2.2.1.1
      obtain ⟨q1, q2⟩ := rX3_indexOf (d := d + 2) (by omega) hH hs hx
      rw [et] at q1 q2
      by_cases hin : t ∈ l.1
      · obtain ⟨i, i1, i2⟩ := q1 hin
        refine wp_eq i2 ?_
        rw [if_neg (by omega), wp_some]
        exact ⟨l, TwR.rf hC trivial, Gr.rf, rfl, fun q => hC.2.2.2.2.2.2.2.2.2 q t hin, fun _ => rfl, fun q => by omega⟩
      · refine wp_eq (q2 hin) ?_
        rw [if_pos (by decide), wp_un, hH.1.1]
        refine wp_ite (fun h100 => ?_) (fun h100 => ?_)
        · refine terms_L43 (t := t) (l0 := l) ihc (by omega) hht hs x0 hx et hfr hlv hS hnn hlen ((ps t).length + nw (kd t)) 0 KF u l (by omega) hnwK (TwR.rf hC trivial) Gr.rf rfl (fun _ i c1 q => by omega) (fun _ => rfl) (fun q => by omega) _ (fun u2 l2 t1 t2 t3 t4 t5 t6 => ?_)
          have t6 := t6 (by omega)
          have hC2 := t1.2.1
          have hs2 := hC2.1.1
          have e2 := t2.eqH (by decide +kernel)
          have hx2 : x ≤ nT u2 := by rw [e2.1.n]; exact hx
          have et2 : trT ν u2 x = t := by rw [e2.1.tr]; exact et
          obtain ⟨r1, r2⟩ := rX3_indexOf (d := d + 2) (by omega) hC2.2.2.1.1 hs2 hx2
          rw [et2] at r1 r2
          by_cases hin2 : t ∈ l2.1
          · obtain ⟨i, i1, i2⟩ := r1 hin2
            refine wp_eq i2 ?_
            rw [if_neg (by omega), wp_some]
            exact ⟨l2, t1, t2, t3, fun q => hC2.2.2.2.2.2.2.2.2.2 q t hin2, fun q => by omega, fun q => by omega⟩
          · refine wp_eq (r2 hin2) ?_
            rw [if_pos (by decide)]
            refine pushT (X := X) hC2 hEE x0 hx2 et2 (by rw [e2.1.n]; exact hnn) (by omega) hin2 hcl htS (fun q => t4 (by omega)) (fun s p1 p2 => ?_)
            rw [wp_some]
            refine ⟨_, t1.seq p1 (fun _ _ _ => trivial), t2.tr p2, t3, fun q => p1.2.1.2.2.2.2.2.2.2.2.2 q t (List.mem_append_right _ List.mem_cons_self), fun q => by omega, fun q => ?_⟩
            show (l2.1 ++ [t]).length ≤ _
            rw [List.length_append]
            show l2.1.length + 1 ≤ _
            omega
        · rw [wp_some]
          exact ⟨l, TwR.rf hC trivial, Gr.rf, rfl, fun q => by omega, fun _ => rfl, fun q => by omega⟩
    · rw [if_neg h5, if_pos rfl]
      refine down (fun q => h5 (htk.mpr ?_))
      have q1 := q.1
      have q2 := q.2
      unfold isTm at q1
      rcases q1 with z | z | z | z | z
      · omega
      · exfalso
        have q3 : loT t = wh t + 1 := by rw [loT_eq]; unfold loS; rw [if_pos z]
        omega
      · omega
      · omega
      · omega
