/-! join, adj, mode in the model -/
theorem bitsOff {D : Nat} {a b : Nat} (h : D &&& ((2 ^ (b + 1 - a) - 1) * 2 ^ a) = 0) : ∀ k, a ≤ k → k ≤ b → D.testBit k = false := fun k h1 h2 => by
  have q := congrArg (fun z => Nat.testBit z k) h
  simp only [Nat.testBit_and, Nat.zero_testBit, Nat.testBit_mul_two_pow, Nat.testBit_two_pow_sub_one] at q
  have e : (decide (a ≤ k) && decide (k - a < b + 1 - a)) = true := by
    rw [decide_eq_true h1, decide_eq_true (by omega : k - a < b + 1 - a)]; rfl
  rw [e, Bool.and_true] at q
  exact q
theorem tX3_join {d : Nat} (hd : 4 ≤ d) {ν : Nat → Nat} {c : Nat} {W : Wd} {S : Fs} {X : XFm} {K B : Nat → Prop} {Kl : List Nat} {u : Sg} {l : Ls} {i j s t : Nat} (hS : Clo W K B S) (hC : CaT ν c W S Kl u l) (hi : l.1[i]? = some s) (hj : l.1[j]? = some t) (hf : fE S s t) :
    wp (runT d 69 [(i : Int), (j : Int)] u) (fun _ u' => ∃ l1, TwR ν c W S X Kl u l (eqL l.1 l.2.1 s t) u' l1 ∧ l1.1 = l.1 ∧ l1.2.2 = l.2.2 ∧ eqL l1.1 l1.2.1 s t) := by
  obtain ⟨H, p, M, J⟩ := l
  have hi : H[i]? = some s := hi
  have hj : H[j]? = some t := hj
  have hC0 := hC
  obtain ⟨h1, h2, ⟨h3, h3b⟩, h4, h5, h6, h7, h8, h9, h10⟩ := hC
  have h3 : HaT ν u H p := h3
  have hs := h1.1
  obtain ⟨d, rfl⟩ : ∃ d', d = d' + 2 := ⟨d - 2, by omega⟩
  rw [runT_eq (by omega)]
  show wp (bX3_join_2 (runT (d + 1)) i j u) _
  unfold bX3_join_2
  have hil := (List.getElem?_eq_some_iff.mp hi).1
  have hjl := (List.getElem?_eq_some_iff.mp hj).1
  have h3' := h3
  obtain ⟨⟨a1, a2, a3, a4, a5, a6⟩, ⟨b1, b2, b3, b4⟩, c3, c4, c5, c6, c7⟩ := h3'
  refine wp_eq (rX3_top (d := d) (by omega) h3 hil) (wp_eq (rX3_top (d := d) (by omega) h3 hjl) ?_)
  refine wp_ite (fun he => ?_) (fun he => ?_)
  · rw [wp_some]
    have q : eqL H p s t := ⟨i, j, hi, hj, by omega⟩
    exact ⟨(H, p, M, J), TwR.rf hC0 q, rfl, rfl, q⟩
  · have ri := rt_le c7 i hil
    have rj := rt_le c7 j hjl
    have core : ∀ (a b : Nat), (rt p i = a ∧ rt p j = b ∨ rt p i = b ∧ rt p j = a) → b < a → wp (stA u 56 (a : Int) (b : Int) fun s9 => un (sI s9 66 1) fun s10 => some (0, s10)) (fun _ u' => ∃ l1, TwR ν c W S X Kl u (H, p, M, J) (eqL H p s t) u' l1 ∧ l1.1 = H ∧ l1.2.2 = (M, J) ∧ eqL l1.1 l1.2.1 s t) := fun a b hab hlt => by
      have hA : a < H.length ∧ p a = a := by
        rcases hab with ⟨q1, q2⟩ | ⟨q1, q2⟩
        · rw [q1] at ri; exact ⟨by omega, ri.2⟩
        · rw [q2] at rj; exact ⟨by omega, rj.2⟩
      rw [stA_pos ⟨by omega, by omega⟩, wp_un, wp_some]
      generalize hu' : sI (sA u 56 (a : Int) (b : Int)) 66 1 = u'
      have w : WF FT u' := by rw [← hu']; exact wfBT (wfAT h2 rfl ⟨by omega, by omega⟩) (Or.inr rfl)
      have G : Gr FT DX3_join_2 u u' := by rw [← hu']; exact (Gr_sA (by decide +kernel)).tr (Gr_sI (by decide +kernel))
      have e := G.eqH (by decide +kernel)
      have hU : UpT ν c u u' (xt X H) := e.up hs
      have N56 : ∀ k, gN u' 56 k = if k = a then (b : Int) else gN u 56 k := fun k => by
        rw [← hu', gN_sI, gN_sAn]
        by_cases q : k = a
        · rw [if_pos ⟨rfl, q⟩, if_pos q]
        · rw [if_neg (fun z => q z.2), if_neg q]
      have Nx : ∀ k x, k ≠ 56 → gN u' k x = gN u k x := fun k x hk => by
        rw [← hu', gN_sI, gN_sAn, if_neg (fun z => hk z.1)]
      have Lx : ∀ k, gL u' k = gL u k := fun k => by rw [← hu', gL_sI, gL_sA]
      have Ix : ∀ k, k ≠ 66 → gI u' k = gI u k := fun k hk => by rw [← hu', gI_sI, if_neg hk, gI_sA]
      have h66 : gI u' 66 = 1 := by rw [← hu', gI_sI, if_pos rfl]
      have key := eqL_join (a := a) (b := b) c3 c7 hi hj hab hlt
      have q : eqL H (puP p a b) s t := (key s t).mpr (Or.inr (Or.inl ⟨eqL.rf (List.mem_of_getElem? hi), eqL.rf (List.mem_of_getElem? hj)⟩))
      refine ⟨(H, puP p a b, M, J), ⟨⟨⟨[], by simp⟩, ⟨[], by simp⟩, ⟨[], by simp⟩, fun s t q => (key s t).mpr (Or.inl q)⟩, ⟨h1.up hU.ux G (by decide +kernel), w, ⟨⟨⟨by rw [Ix 57 (by omega)]; exact a1, a2, by rw [Lx]; exact a3, by rw [Lx]; exact a4, by rw [Lx]; exact a5, by rw [Lx]; exact a6⟩, ⟨by rw [Lx]; exact b1, by rw [Lx]; exact b2, by rw [Lx]; exact b3, by rw [Lx]; exact b4⟩, c3, fun k t hk => ?_, fun z hz => ⟨?_, fun he' => ?_⟩, fun k hk => ?_, puP_dec c7 (by omega)⟩, by rw [Ix 54 (by omega)]; exact h3b⟩, h4.up hs hU.ux G (bitsOff (by decide +kernel)), h5.up G (bitsOff (by decide +kernel)), h6, fun s t q => ?_, h8, h9, h10⟩, hU, G.sub (by decide +kernel), Or.inr ⟨h66, ?_⟩⟩, rfl, rfl, q⟩
      · obtain ⟨z, z1, z2, z3, z4, z5, z6, z7, z8⟩ := c4 k t hk
        exact ⟨z, by rw [Nx _ _ (by omega)]; exact z1, z2, by rw [e.1.n]; exact z3, by rw [e.1.tr]; exact z4, by rw [Lx]; exact z5, by rw [Nx _ _ (by omega), Ix 54 (by omega)]; exact z6, by rw [Nx _ _ (by omega)]; exact z7, by rw [Lx]; exact z8⟩
      · rw [Lx] at hz
        rw [Nx _ _ (by omega), Ix 54 (by omega)]
        exact (c5 z hz).1
      · rw [Lx] at hz
        rw [Nx _ _ (by omega), Ix 54 (by omega)] at he'
        obtain ⟨k, k1, k2⟩ := (c5 z hz).2 he'
        exact ⟨k, k1, by rw [Nx _ _ (by omega)]; exact k2⟩
      · show _ = ((puP p a b k : Nat) : Int)
        rw [N56]
        unfold puP
        by_cases q : k = a
        · rw [if_pos q, if_pos q]
        · rw [if_neg q, if_neg q]; exact c6 k hk
      · have sy := hS.2.1.2.1
        have tr := hS.2.1.2.2.1
        rcases (key s t).mp q with z | ⟨z1, z2⟩ | ⟨z1, z2⟩
        · exact h7 s t z
        · exact tr _ _ _ (tr _ _ _ (h7 _ _ z1) hf) (h7 _ _ z2)
        · exact tr _ _ _ (tr _ _ _ (h7 _ _ z1) (sy _ _ hf)) (h7 _ _ z2)
      · unfold msL
        show H.length + M.length + J.length + ctP p H.length < H.length + M.length + J.length + ctP (puP p a b) H.length
        rw [ctP_pu hA.2 (by omega) _ hA.1]; omega
    rw [wp_jn]
    refine wp_ite (fun hle => ?_) (fun hle => ?_)
    · rw [wp_jn]
      refine wp_ite (fun hle2 => ?_) (fun hle2 => by omega)
      exact core (rt p j) (rt p i) (Or.inr ⟨rfl, rfl⟩) (by omega)
    · rw [wp_jn]
      refine wp_ite (fun hle2 => by omega) (fun hle2 => ?_)
      exact core (rt p i) (rt p j) (Or.inl ⟨rfl, rfl⟩) (by omega)
/-- a new adjective fact is written down -/
theorem adjT_add {u : Sg} {H : List Nat} {J : List (Nat × Nat)} {i0 j t : Nat} {K : Sg → Option (Int × Sg)} {Q : Int → Sg → Prop} (hw : WF FT u) (hJ : FcJT u H J) (hJl : J.length ≤ 100000) (hi0 : H[i0]? = some t) (hi : i0 < 100000) (hj : j < 1000) (k : ∀ s, WF FT s → Gr FT DX3_adj u s → FcJT s H (J ++ [(t, j)]) → gI s 66 = 1 → wp (K s) Q) :
    wp (un (gI u 65) fun v3 => mor u 63 v3 fun s4 => un (gI s4 65) fun v5 => mor s4 64 v5 fun s6 => un (gI s6 65) fun v7 => stA s6 63 v7 (i0 : Int) fun s8 => un (gI s8 65) fun v9 => ar (v9 + 1) fun v10 => un (sI s8 65 v10) fun s11 => stA s11 64 v9 (j : Int) fun s12 => un (sI s12 66 1) fun s13 => K s13) Q := by
  obtain ⟨⟨j1, j2, j3, j4, j5⟩, j6⟩ := hJ
  rw [wp_un, j1]
  refine wp_morT (D := DX3_adj) hw (by decide) rfl (by decide) (by decide +kernel) j4 (by omega) (fun s4 m4 => ?_)
  obtain ⟨e4, w4, g4, i4, o4, n4, l4, _, v4, _⟩ := m4
  rw [wp_un, i4, j1]
  refine wp_morT (D := DX3_adj) w4 (by decide) rfl (by decide) (by decide +kernel) (by rw [(o4 64 (by omega)).1]; exact j5) (by omega) (fun s6 m6 => ?_)
  obtain ⟨e6, w6, g6, i6, o6, n6, l6, _, v6, _⟩ := m6
  have L63 := (o6 63 (by omega)).1
  have L64 := (o4 64 (by omega)).1
  rw [wp_un, i6, i4, j1, stA_pos ⟨by omega, by omega⟩, wp_un, gI_sA, i6, i4, j1, wp_ar]
  refine ⟨⟨by omega, by omega⟩, ?_⟩
  rw [wp_un, stA_pos ⟨by omega, by rw [gL_sI, gL_sA]; omega⟩, wp_un]
  generalize hu' : sI (sA (sI (sA s6 63 (J.length : Int) (i0 : Int)) 65 ((J.length : Int) + 1)) 64 (J.length : Int) (j : Int)) 66 1 = u'
  have N63 : ∀ x, gN u' 63 x = if x = J.length then (i0 : Int) else gN s6 63 x := fun x => by
    rw [← hu', gN_sI, gN_sAn, if_neg (by omega), gN_sI, gN_sAn]
    by_cases q : x = J.length
    · rw [if_pos ⟨rfl, q⟩, if_pos q]
    · rw [if_neg (fun z => q z.2), if_neg q]
  have N64 : ∀ x, gN u' 64 x = if x = J.length then (j : Int) else gN s6 64 x := fun x => by
    rw [← hu', gN_sI, gN_sAn]
    by_cases q : x = J.length
    · rw [if_pos ⟨rfl, q⟩, if_pos q]
    · rw [if_neg (fun z => q z.2), if_neg q, gN_sI, gN_sAn, if_neg (by omega)]
  have Lx : ∀ k, gL u' k = gL s6 k := fun k => by rw [← hu', gL_sI, gL_sA, gL_sI, gL_sA]
  refine k u' ?_ ?_ ⟨⟨?_, ?_, ?_, ?_, ?_⟩, fun x t' j' hx => ?_⟩ ?_
  · rw [← hu']
    exact wfBT (wfAT (wfIT (wfAT w6 rfl ⟨by omega, by omega⟩) rfl ⟨by omega, by omega⟩) rfl ⟨by omega, by omega⟩) (Or.inr rfl)
  · rw [← hu']
    exact (g4.tr g6).tr ((Gr_sA (by decide +kernel)).tr ((Gr_sI (by decide +kernel)).tr ((Gr_sA (by decide +kernel)).tr (Gr_sI (by decide +kernel)))))
  · rw [← hu', gI_sI, if_neg (by omega), gI_sA, gI_sI, if_pos rfl, List.length_append]; rfl
  · rw [Lx, List.length_append]; show J.length + 1 ≤ _; omega
  · rw [Lx, List.length_append]; show J.length + 1 ≤ _; omega
  · rw [Lx]; omega
  · rw [Lx]; omega
  · rw [N63, N64]
    by_cases hxl : x < J.length
    · rw [List.getElem?_append_left hxl] at hx
      obtain ⟨⟨y, y1, y2⟩, b2⟩ := j6 x t' j' hx
      rw [if_neg (by omega), if_neg (by omega), (o6 63 (by omega)).2, v4 x (by omega), v6 x (by omega), (o4 64 (by omega)).2]
      exact ⟨⟨y, y1, y2⟩, b2⟩
    · rw [List.getElem?_append_right (by omega)] at hx
      have h0 : x - J.length = 0 := by have := (List.getElem?_eq_some_iff.mp hx).1; simp at this; omega
      rw [h0] at hx
      simp at hx
      have ek : x = J.length := by omega
      rw [if_pos ek, if_pos ek, ← hx.1, ← hx.2]
      exact ⟨⟨i0, rfl, hi0⟩, rfl⟩
  · rw [← hu', gI_sI, if_pos rfl]
theorem tX3_adj {d : Nat} (hd : 5 ≤ d) {ν : Nat → Nat} {c : Nat} {W : Wd} {S : Fs} {X : XFm} {Kl : List Nat} {u : Sg} {l : Ls} {i t j : Nat} (hW : WOK W (NT ν c)) (hK : KlOK W (NT ν c) Kl) (hC : CaT ν c W S Kl u l) (hi : l.1[i]? = some t) (hj : j < 30) (hf : fA S t j) :
    wp (runT d 71 [(i : Int), (j : Int)] u) (fun _ u' => ∃ l1, TwR ν c W S X Kl u l (fA (FsQ l) t j) u' l1 ∧ l1.1 = l.1 ∧ l1.2.1 = l.2.1 ∧ l1.2.2.1 = l.2.2.1 ∧ fA (FsQ l1) t j) := by
  have hml := hC.ml hW (hK.wh hC.1.2.2.2.1.2.1.2) hK.1
  obtain ⟨H, p, M, J⟩ := l
  have hi : H[i]? = some t := hi
  have hC0 := hC
  obtain ⟨h1, h2, ⟨h3, h3b⟩, h4, h5, h6, h7, h8, ⟨h9, h9b⟩, h10⟩ := hC
  have hs := h1.1
  have hml : M.length ≤ 70000 ∧ J.length ≤ 30000 := hml
  have h5 : FcJT u H J := h5
  have a2 : H.length ≤ 1000 := h3.1.2.1
  have hil := (List.getElem?_eq_some_iff.mp hi).1
  obtain ⟨d, rfl⟩ : ∃ d', d = d' + 1 := ⟨d - 1, by omega⟩
  rw [runT_eq (by omega)]
  show wp (bX3_adj (runT d) i j u) _
  unfold bX3_adj
  obtain ⟨y1, y2⟩ := rX3_hasAdj (d := d) (l := (H, p, M, J)) (j := j) (by omega) h3 h5 (by show J.length ≤ _; omega) hi
  by_cases hq : fA (FsQ (H, p, M, J)) t j
  · refine wp_eq (y1 hq) ?_
    rw [if_neg (by decide), wp_some]
    exact ⟨(H, p, M, J), TwR.rf hC0 hq, rfl, rfl, rfl, hq⟩
  · refine wp_eq (y2 hq) ?_
    rw [if_pos rfl]
    refine adjT_add h2 h5 (by omega) hi (by omega) (by omega) (fun s w g hJ' h66 => ?_)
    rw [wp_some]
    have hnew : (t, j) ∉ J := fun q => hq ⟨t, q, Or.inl rfl⟩
    have e := g.eqH (by decide +kernel)
    have hU : UpT ν c u s (xt X H) := e.up hs
    refine ⟨(H, p, M, J ++ [(t, j)]), ⟨⟨⟨[], by simp⟩, ⟨[], by simp⟩, ⟨_, rfl⟩, fun _ _ q => q⟩, ⟨h1.up hU.ux g (by decide +kernel), w, ⟨h3.up hs hU.ux g (bitsOff (by decide +kernel)), by rw [g.I 54 (by decide +kernel)]; exact h3b⟩, h4.up hs hU.ux g (bitsOff (by decide +kernel)), hJ', h6, h7, h8, ⟨?_, fun q hq' => ?_⟩, h10⟩, hU, g.sub (by decide +kernel), Or.inr ⟨h66, ?_⟩⟩, rfl, rfl, rfl, ⟨t, by simp, Or.inl rfl⟩⟩
    · refine List.nodup_append.mpr ⟨h9, by simp, fun y hy z hz => ?_⟩
      rw [List.mem_singleton.mp hz]
      intro q; exact hnew (by rw [← q]; exact hy)
    · rcases List.mem_append.mp hq' with z | z
      · exact h9b q z
      · rw [List.mem_singleton.mp z]
        exact ⟨List.mem_of_getElem? hi, hj, hf⟩
    · unfold msL
      show H.length + M.length + J.length + ctP p H.length < H.length + M.length + (J ++ [(t, j)]).length + ctP p H.length
      rw [List.length_append]; simp
/-- a new mode fact is written down -/
theorem modeT_add {ν : Nat → Nat} {c : Nat} {u : Sg} {H : List Nat} {M : List (Nat × Nat × Nat)} {i0 m a t : Nat} {K : Sg → Option (Int × Sg)} {Q : Int → Sg → Prop} (hs : ST ν c u) (hw : WF FT u) (hM : FcMT ν u H M) (hMl : M.length ≤ 100000) (hi0 : H[i0]? = some t) (hi : i0 < 100000) (hm : m < 1000) (ha : a ≤ nT u) (han : nT u ≤ 131072) (k : ∀ s, WF FT s → Gr FT DX3_mode_2 u s → FcMT ν s H (M ++ [(t, m, trT ν u a)]) → gI s 66 = 1 → wp (K s) Q) :
    wp (un (gI u 62) fun v3 => mor u 59 v3 fun s4 => un (gI s4 62) fun v5 => mor s4 60 v5 fun s6 => un (gI s6 62) fun v7 => mor s6 61 v7 fun s8 => un (gI s8 62) fun v9 => stA s8 59 v9 (i0 : Int) fun s10 => un (gI s10 62) fun v11 => stA s10 60 v11 (m : Int) fun s12 => un (gI s12 62) fun v13 => ar (v13 + 1) fun v14 => un (sI s12 62 v14) fun s15 => stA s15 61 v13 (a : Int) fun s16 => un (sI s16 66 1) fun s17 => K s17) Q := by
  obtain ⟨⟨j1, j2, j3, j4, j5, j6, j7⟩, j8⟩ := hM
  rw [wp_un, j1]
  refine wp_morT (D := DX3_mode_2) hw (by decide) rfl (by decide) (by decide +kernel) j5 (by omega) (fun s4 m4 => ?_)
  obtain ⟨e4, w4, g4, i4, o4, n4, l4, _, v4, _⟩ := m4
  rw [wp_un, i4, j1]
  refine wp_morT (D := DX3_mode_2) w4 (by decide) rfl (by decide) (by decide +kernel) (by rw [(o4 60 (by omega)).1]; exact j6) (by omega) (fun s6 m6 => ?_)
  obtain ⟨e6, w6, g6, i6, o6, n6, l6, _, v6, _⟩ := m6
  rw [wp_un, i6, i4, j1]
  refine wp_morT (D := DX3_mode_2) w6 (by decide) rfl (by decide) (by decide +kernel) (by rw [(o6 61 (by omega)).1, (o4 61 (by omega)).1]; exact j7) (by omega) (fun s8 m8 => ?_)
  obtain ⟨e8, w8, g8, i8, o8, n8, l8, _, v8, _⟩ := m8
  have L59 := (o6 59 (by omega)).1
  have L59' := (o8 59 (by omega)).1
  have L60 := (o4 60 (by omega)).1
  have L60' := (o8 60 (by omega)).1
  have L61 := (o4 61 (by omega)).1
  have L61' := (o6 61 (by omega)).1
  rw [wp_un, i8, i6, i4, j1, stA_pos ⟨by omega, by omega⟩, wp_un, gI_sA, i8, i6, i4, j1, stA_pos ⟨by omega, by rw [gL_sA]; omega⟩, wp_un, gI_sA, gI_sA, i8, i6, i4, j1, wp_ar]
  refine ⟨⟨by omega, by omega⟩, ?_⟩
  rw [wp_un, stA_pos ⟨by omega, by rw [gL_sI, gL_sA, gL_sA]; omega⟩, wp_un]
  generalize hu' : sI (sA (sI (sA (sA s8 59 (M.length : Int) (i0 : Int)) 60 (M.length : Int) (m : Int)) 62 ((M.length : Int) + 1)) 61 (M.length : Int) (a : Int)) 66 1 = u'
  have N59 : ∀ x, gN u' 59 x = if x = M.length then (i0 : Int) else gN s8 59 x := fun x => by
    rw [← hu', gN_sI, gN_sAn, if_neg (by omega), gN_sI, gN_sAn, if_neg (by omega), gN_sAn]
    by_cases q : x = M.length
    · rw [if_pos ⟨rfl, q⟩, if_pos q]
    · rw [if_neg (fun z => q z.2), if_neg q]
  have N60 : ∀ x, gN u' 60 x = if x = M.length then (m : Int) else gN s8 60 x := fun x => by
    rw [← hu', gN_sI, gN_sAn, if_neg (by omega), gN_sI, gN_sAn]
    by_cases q : x = M.length
    · rw [if_pos ⟨rfl, q⟩, if_pos q]
    · rw [if_neg (fun z => q z.2), if_neg q, gN_sAn, if_neg (by omega)]
  have N61 : ∀ x, gN u' 61 x = if x = M.length then (a : Int) else gN s8 61 x := fun x => by
    rw [← hu', gN_sI, gN_sAn]
    by_cases q : x = M.length
    · rw [if_pos ⟨rfl, q⟩, if_pos q]
    · rw [if_neg (fun z => q z.2), if_neg q, gN_sI, gN_sAn, if_neg (by omega), gN_sAn, if_neg (by omega)]
  have Lx : ∀ k, gL u' k = gL s8 k := fun k => by rw [← hu', gL_sI, gL_sA, gL_sI, gL_sA, gL_sA]
  have G : Gr FT DX3_mode_2 u u' := by
    rw [← hu']
    exact ((g4.tr g6).tr g8).tr ((Gr_sA (by decide +kernel)).tr ((Gr_sA (by decide +kernel)).tr ((Gr_sI (by decide +kernel)).tr ((Gr_sA (by decide +kernel)).tr (Gr_sI (by decide +kernel))))))
  have e := G.eqH (by decide +kernel)
  have hU : UpT ν c u u' (fun _ => False) := e.up hs
  refine k u' ?_ G ⟨⟨?_, ?_, ?_, ?_, ?_, ?_, ?_⟩, fun x t' m' a' hx => ?_⟩ ?_
  · rw [← hu']
    exact wfBT (wfAT (wfIT (wfAT (wfAT w8 rfl ⟨by omega, by omega⟩) rfl ⟨by omega, by omega⟩) rfl ⟨by omega, by omega⟩) rfl ⟨by omega, by omega⟩) (Or.inr rfl)
  · rw [← hu', gI_sI, if_neg (by omega), gI_sA, gI_sI, if_pos rfl, List.length_append]; rfl
  · rw [Lx, List.length_append]; show M.length + 1 ≤ _; omega
  · rw [Lx, List.length_append]; show M.length + 1 ≤ _; omega
  · rw [Lx, List.length_append]; show M.length + 1 ≤ _; omega
  · rw [Lx]; omega
  · rw [Lx]; omega
  · rw [Lx]; omega
  · rw [N59, N60, N61]
    by_cases hxl : x < M.length
    · rw [List.getElem?_append_left hxl] at hx
      obtain ⟨⟨y, y1, y2⟩, b2, b3⟩ := j8 x t' m' a' hx
      rw [if_neg (by omega), if_neg (by omega), if_neg (by omega), (o8 59 (by omega)).2, (o6 59 (by omega)).2, v4 x (by omega), (o8 60 (by omega)).2, v6 x (by omega), (o4 60 (by omega)).2, v8 x (by omega), (o6 61 (by omega)).2, (o4 61 (by omega)).2]
      exact ⟨⟨y, y1, y2⟩, b2, b3.up hs hU.ux⟩
    · rw [List.getElem?_append_right (by omega)] at hx
      have h0 : x - M.length = 0 := by have := (List.getElem?_eq_some_iff.mp hx).1; simp at this; omega
      rw [h0] at hx
      simp at hx
      have ek : x = M.length := by omega
      rw [if_pos ek, if_pos ek, if_pos ek, ← hx.1, ← hx.2.1, ← hx.2.2]
      exact ⟨⟨i0, rfl, hi0⟩, rfl, ⟨a, rfl, by rw [e.1.n]; exact ha, by rw [e.1.tr]⟩⟩
  · rw [← hu', gI_sI, if_pos rfl]
theorem tX3_mode {d : Nat} (hd : 6 ≤ d) {ν : Nat → Nat} {c : Nat} {W : Wd} {S : Fs} {X : XFm} {Kl : List Nat} {u : Sg} {l : Ls} {i t m a : Nat} (hW : WOK W (NT ν c)) (hK : KlOK W (NT ν c) Kl) (hC : CaT ν c W S Kl u l) (hi : l.1[i]? = some t) (hm0 : m ≠ 0) (hm : m < 1000) (ha : a ≤ nT u) (han : nT u ≤ 131072) (hf : fM S t m (trT ν u a)) (hal : (t, m, trT ν u a) ∈ ALM W Kl l.1) (haH : trT ν u a ≠ 0 → trT ν u a ∈ l.1) :
    wp (runT d 74 [(i : Int), (m : Int), (a : Int)] u) (fun _ u' => ∃ l1, TwR ν c W S X Kl u l (fM (FsQ l) t m (trT ν u a)) u' l1 ∧ l1.1 = l.1 ∧ l1.2.1 = l.2.1 ∧ fM (FsQ l1) t m (trT ν u a)) := by
  have hml := hC.ml hW (hK.wh hC.1.2.2.2.1.2.1.2) hK.1
  obtain ⟨H, p, M, J⟩ := l
  have hi : H[i]? = some t := hi
  have hC0 := hC
  obtain ⟨h1, h2, ⟨h3, h3b⟩, h4, h5, h6, h7, ⟨h8, h8b⟩, h9, h10⟩ := hC
  have hs := h1.1
  have hml : M.length ≤ 70000 ∧ J.length ≤ 30000 := hml
  have h4 : FcMT ν u H M := h4
  have a2 : H.length ≤ 1000 := h3.1.2.1
  have hil := (List.getElem?_eq_some_iff.mp hi).1
  obtain ⟨d, rfl⟩ : ∃ d', d = d' + 1 := ⟨d - 1, by omega⟩
  rw [runT_eq (by omega)]
  show wp (bX3_mode_2 (runT d) i m a u) _
  unfold bX3_mode_2
  obtain ⟨y1, y2⟩ := rX3_hasHere (d := d) (l := (H, p, M, J)) (m := m) (a := a) (by omega) h3 hs h4 (by show M.length ≤ _; omega) (fun q hq => (h8b q hq).2.2.2.1) hi ha (fun q => absurd q hm0)
  by_cases hq : fM (FsQ (H, p, M, J)) t m (trT ν u a)
  · refine wp_eq (y1 hq) ?_
    rw [if_neg (by decide), wp_some]
    exact ⟨(H, p, M, J), TwR.rf hC0 hq, rfl, rfl, hq⟩
  · refine wp_eq (y2 hq) ?_
    rw [if_pos rfl]
    refine modeT_add hs h2 h4 (by omega) hi (by omega) (by omega) ha han (fun s w g hM' h66 => ?_)
    rw [wp_some]
    have hnew : (t, m, trT ν u a) ∉ M := fun q => hq ⟨t, _, List.mem_append_left _ q, Or.inl rfl, Or.inl rfl⟩
    have e := g.eqH (by decide +kernel)
    have hU : UpT ν c u s (xt X H) := e.up hs
    refine ⟨(H, p, M ++ [(t, m, trT ν u a)], J), ⟨⟨⟨[], by simp⟩, ⟨_, rfl⟩, ⟨[], by simp⟩, fun _ _ q => q⟩, ⟨h1.up hU.ux g (by decide +kernel), w, ⟨h3.up hs hU.ux g (bitsOff (by decide +kernel)), by rw [g.I 54 (by decide +kernel)]; exact h3b⟩, hM', h5.up g (bitsOff (by decide +kernel)), h6, h7, ⟨?_, fun q hq' => ?_⟩, h9, h10⟩, hU, g.sub (by decide +kernel), Or.inr ⟨h66, ?_⟩⟩, rfl, rfl, ⟨t, _, List.mem_append_left _ (List.mem_append_right _ List.mem_cons_self), Or.inl rfl, Or.inl rfl⟩⟩
    · refine List.nodup_append.mpr ⟨h8, by simp, fun y hy z hz => ?_⟩
      rw [List.mem_singleton.mp hz]
      intro q; exact hnew (by rw [← q]; exact hy)
    · rcases List.mem_append.mp hq' with z | z
      · exact h8b q z
      · rw [List.mem_singleton.mp z]
        exact ⟨List.mem_of_getElem? hi, hf, hal, hm0, haH⟩
    · unfold msL
      show H.length + M.length + J.length + ctP p H.length < H.length + (M ++ [(t, m, trT ν u a)]).length + J.length + ctP p H.length
      rw [List.length_append]; simp
