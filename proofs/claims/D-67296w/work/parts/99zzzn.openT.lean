section MQ
variable {Mq : MqT}
theorem hd0_c (c : Nat) : hd0 [(c : Int)] = c := by unfold hd0; simp
theorem lab_const {ν : Nat → Nat} {c : Nat} (hc : 2 ≤ c) : labT ν (2, [(c : Int)]) = (1, ν c, []) := by
  unfold labT
  rw [if_neg (show ¬ ((2 : Int), [(c : Int)]).1 = 1 from by show ¬ (2 : Int) = 1; decide), if_pos (show ((2 : Int), [(c : Int)]).1 = 2 from rfl)]
  show (if hd0 [(c : Int)] < 2 then _ else _) = _
  rw [hd0_c, if_neg (by omega)]
theorem treeT_const {ν : Nat → Nat} {u : Sg} {c : Nat} (hc : 2 ≤ c) : treeT ν u (2, [(c : Int)]) = mk 1 (ν c) [] := by
  unfold treeT
  rw [lab_const hc]
  rfl
theorem fpt_const (c : Nat) : fptT (2, [(c : Int)]) = [] := by
  unfold fptT
  rw [if_neg (show ¬ ((2 : Int), [(c : Int)]).1 = 7 from by show ¬ (2 : Int) = 7; decide), if_pos (Or.inr (Or.inl rfl))]
theorem okR_const (c : Nat) : okR (2, [(c : Int)]) := by
  unfold okR
  simp
/-- whether a formula is done -/
theorem rX3_isDone {d : Nat} (hd : 2 ≤ d) {ν : Nat → Nat} {c : Nat} {u : Sg} {Ol : List Nat} (h : OpT ν u Ol) (hs : ST ν c u) {x f : Nat} (hx : x ≤ nT u) (ef : trT ν u x = f) : Yq (runT (d + 1) 111 [(x : Int)] u) u (f ∈ Ol) := by
  rw [runT_eq (by omega)]
  show Yq (bX3_isDone (runT d) x u) u _
  unfold bX3_isDone
  have key : f ∈ Ol ↔ (x < gL u 77 ∧ gN u 77 x = gI u 54) := by
    constructor
    · intro q
      obtain ⟨y, y0, y1, y2, y3, y4⟩ := h.2.2 f q
      have : y = x := trT_inj hs y3 hx (by rw [y4, ef])
      rw [← this]
      exact ⟨y1, y2⟩
    · intro q
      have := ((h.2.1 x q.1).2 q.2).2.2
      rw [ef] at this
      exact this
  rw [jn_eq, un_eq]
  by_cases hlt : x < gL u 77
  · rw [if_pos (by omega), ld_nat hlt, un_eq]
    by_cases he : gN u 77 x = gI u 54
    · rw [if_pos he]
      exact ⟨fun _ => rfl, fun q => absurd (key.mpr ⟨hlt, he⟩) q⟩
    · rw [if_neg he]
      exact ⟨fun q => absurd (key.mp q).2 he, fun _ => rfl⟩
  · rw [if_neg (by omega)]
    exact ⟨fun q => absurd (key.mp q).1 hlt, fun _ => rfl⟩
/-- a mark: it is done -/
theorem rdT_done {d : Nat} (hd : 2 ≤ d) {ν : Nat → Nat} {c : Nat} {W : Wd} {S : Fs} {X : Nat → Prop} {Kl : List Nat} {l : Ls} {Fu Fi : Nat → Prop} {Cl Gl Nl Ol : List Nat} {c0 fi x f : Nat} {ν0 : Nat → Nat} {u0 u : Sg} (h : RdT Mq ν c W S X Kl l Fu Fi Cl Gl [] Nl Ol c0 fi ν0 u0 u) (x0 : 0 < x) (hx : x ≤ nT u) (ef : trT ν u x = f) : wp (runT (d + 1) 112 [(x : Int)] u) (fun _ u' => RdT Mq ν c W S X Kl l Fu Fi Cl Gl [] Nl (Ol ++ [f]) c0 fi ν0 u0 u' ∧ EqH u u') := by
  rw [runT_eq (by omega)]
  show wp (bX3_done (runT d) x u) _
  unfold bX3_done
  obtain ⟨h1, ⟨⟨h2, h2b⟩, h3⟩, h4, ⟨h5, h6⟩, h7, h8, h9, h10⟩ := h
  have hs := h1.1.1.1
  have hw := h1.1.2.1
  have h54 := h1.1.2.2.1.2
  have hnb := hs.1.1.1.2
  have hb1 := hs.1.1.2.2.2.2.2.2.1
  rw [wp_un, show gI u 8 = (nT u : Int) from hs.1.1.1.1]
  refine wp_morT (D := DX3_done) hw (by omega) rfl (by decide) (by decide +kernel) h5.1.1 (by omega) (fun s ⟨e4, w4, g4, i4, o4, p1, p2, p3, p4, p5⟩ => ?_)
  rw [wp_un, i4, wp_stA]
  refine ⟨⟨by omega, by omega⟩, ?_⟩
  rw [wp_some]
  generalize ez : sA s 77 (x : Int) (gI u 54) = z
  have wz : WF FT z := by rw [← ez]; exact wfAT w4 rfl (hw.1 54)
  have gz : Gr FT DX3_done u z := by rw [← ez]; exact g4.tr (Gr_sA (by decide +kernel))
  have qz : EqH u z := by rw [← ez]; exact e4.trn (EqH.sA (by omega))
  have hU : UpT ν c u z X := qz.up hs
  have L : gL z 77 = gL s 77 := by rw [← ez, gL_sA]
  have N : ∀ i, gN z 77 i = if i = x then gI u 54 else gN s 77 i := fun i => by
    rw [← ez, gN_sAn]
    by_cases q : i = x
    · rw [if_pos ⟨rfl, q⟩, if_pos q]
    · rw [if_neg (fun z => q z.2), if_neg q]
  have I54 : gI z 54 = gI u 54 := gz.I 54 (by decide +kernel)
  have tz : ∀ y, trT ν z y = trT ν u y := fun y => qz.1.tr
  have nz : nT z = nT u := qz.1.n
  refine ⟨⟨h1.fr hU.ux wz gz (by decide +kernel) (fun k a b => (by decide +kernel : ∀ k, k ≤ 51 → 49 ≤ k → Nat.testBit DX3_done k = false) k b a) (by decide +kernel), ⟨⟨MkL.up h2 hs hU.ux gz (by decide +kernel) (by decide +kernel) (by decide +kernel) (by decide +kernel), by rw [gz.I 76 (by decide +kernel)]; exact h2b⟩, h3⟩, h4.fr hs hU.ux gz (by decide +kernel) (by decide +kernel), ⟨⟨⟨by have := h5.1.1; omega, by have := h5.1.2; omega⟩, fun y hy => ⟨?_, fun q => ?_⟩, fun g hg => ?_⟩, fun i a b => ⟨(h6 i a b).1, fun q => ?_⟩⟩, ⟨h7.1, h7.2.tr ((hU.un hs I54).mon (fun _ q => Or.inr (Or.inl q)))⟩, by rw [gz.I 58 (by decide +kernel)]; exact h8, h9.fr gz (by decide +kernel) (by decide +kernel), ⟨by rw [gz.Ln 17 (by decide +kernel)]; exact h10.1, by rw [gz.Ln 18 (by decide +kernel)]; exact h10.2⟩⟩, qz⟩
  · rw [N, I54]
    by_cases q : y = x
    · rw [if_pos q]; exact Int.le_refl _
    · rw [if_neg q]
      by_cases hl : y < gL u 77
      · rw [p4 y hl]; exact (h5.2.1 y hl).1
      · rw [p5 y (by omega) (by omega)]; omega
  · rw [N, I54] at q
    by_cases hyx : y = x
    · exact ⟨by omega, by omega, by rw [tz, hyx, ef]; exact List.mem_append_right _ List.mem_cons_self⟩
    · rw [if_neg hyx] at q
      by_cases hl : y < gL u 77
      · rw [p4 y hl] at q
        obtain ⟨a, b, e⟩ := (h5.2.1 y hl).2 q
        exact ⟨a, by omega, by rw [tz]; exact List.mem_append_left _ e⟩
      · rw [p5 y (by omega) (by omega)] at q
        omega
  · rcases List.mem_append.mp hg with v | v
    · obtain ⟨y, a, b, e1, e2, e3⟩ := h5.2.2 g v
      refine ⟨y, a, by omega, ?_, by omega, by rw [tz]; exact e3⟩
      rw [N, I54]
      by_cases q : y = x
      · rw [if_pos q]
      · rw [if_neg q, p4 y b]; exact e1
    · exact ⟨x, x0, by omega, by rw [N, if_pos rfl, I54], by omega, by rw [tz, ef, List.mem_singleton.mp v]⟩
  · obtain ⟨g, g1, g2⟩ := (h6 i a b).2 q
    exact ⟨g, List.mem_append_left _ g1, g2⟩
/-- one more name, for all that is known of a case -/
theorem nuT_CaT {ν ν' : Nat → Nat} {c c' D : Nat} {W : Wd} {S : Fs} {Kl : List Nat} {u u' : Sg} {l : Ls} (hC : CaT ν c W S Kl u l) (hx : NuX ν c ν' c') (hT : TW ν' c' W u') (hw : WF FT u') (e : EqH u u') (hg : Gr FT D u u') (hb : ∀ k, (52 ≤ k ∧ k ≤ 57) ∨ (59 ≤ k ∧ k ≤ 65) → D.testBit k = false) : CaT ν' c' W S Kl u' l := by
  obtain ⟨h1, h2, ⟨h3, h3b⟩, h4, h5, h6, h7, h8⟩ := hC
  have hs := h1.1
  have hs' := e.st hs
  have hU : UxT ν c u u' (fun _ => False) := (e.up hs).ux
  exact ⟨hT, hw, ⟨nuT_HaT hs' hx (h3.up hs hU hg (fun k a b => hb k (by omega))), by rw [hg.I 54 (hb 54 (by omega))]; exact h3b⟩, nuT_FcMT hs' hx (h4.up hs hU hg (fun k a b => hb k (by omega))), h5.up hg (fun k a b => hb k (by omega)), fun t ht => ⟨(h6 t ht).1.mono (fun n hn => hx.nt hn), (h6 t ht).2⟩, h7, h8⟩
/-- a new constant in a round -/
theorem rdT_new {d : Nat} (hd : 9 ≤ d) {ν : Nat → Nat} {c : Nat} {W : Wd} {S : Fs} {X : Nat → Prop} {Kl : List Nat} {l : Ls} {Fu Fi : Nat → Prop} {Cl Gl Nl Ol : List Nat} {c0 fi y f : Nat} {ν0 : Nat → Nat} {u0 u : Sg} {K : Int → Sg → Option (Int × Sg)} {Q : Int → Sg → Prop} (h : RdT Mq ν c W S X Kl l Fu Fi Cl Gl [] Nl Ol c0 fi ν0 u0 u) (hl : LimRT ν0 u0 X Kl Fu Fi) (hgl : Kl.length + Gl.length ≤ 501 ∨ Gl.length ≤ 101) (hr0 : hT u0 ≤ 20000) (hc : c ≤ 20000) (hc0 : c0 ≤ c) (hn : ¬ NT ν c (2 * f + 1)) (hf : f ∈ Ol) (hy : y ≤ nT u) (ey : trT ν u y = wcT W (2 * f + 1)) (hX : X (mk 1 (2 * f + 1) [])) (k : ∀ (u' : Sg) (x : Nat), 0 < x → x ≤ nT u' → trT (nuU ν c (2 * f + 1)) u' x = mk 1 (2 * f + 1) [] → RdT Mq (nuU ν c (2 * f + 1)) (c + 1) W S X Kl l Fu Fi Cl Gl [] Nl Ol c0 fi ν0 u0 u' → UNT ν u (nuU ν c (2 * f + 1)) u' X → wp (K (x : Int) u') Q) : wp (cl (runT d 9 [0, (y : Int)] u) fun v33 s34 => cl (runT d 27 [2, v33] s34) K) Q := by
  have hlu := h.lim hl hgl
  have hhu := h.hh
  obtain ⟨h1, ⟨⟨h2, h2b⟩, h3⟩, h4, ⟨h5, h6⟩, h7, h8, h9, h10⟩ := h
  have hC := h1.1
  have hs := hC.1.1
  have hw := hC.2.1
  obtain ⟨_, cc2, _⟩ := hC.1.2.2.1
  refine wp_call (tX3_fresh (by omega) hw hC.1 h9 h10 hc hn hy ey) (fun r u1 ⟨r1, T1, e1, w1, g1, m1, ct1, _⟩ => ?_)
  rw [r1]
  have hx := nuU_x ν c (2 * f + 1)
  have hs1 : ST ν c u1 := e1.st hs
  have hsn : ST (nuU ν c (2 * f + 1)) (c + 1) u1 := T1.1
  have hnn : nT u1 = nT u := e1.1.n
  have hl1 : LimT (nuU ν c (2 * f + 1)) u1 X := nuT_lim hs1 hx (e1.lim hlu)
  have etr : treeT (nuU ν c (2 * f + 1)) u1 (2, [(c : Int)]) = mk 1 (2 * f + 1) [] := by
    rw [treeT_const cc2]
    unfold nuU
    rw [if_pos rfl]
  have hh1 : hT u1 = hT u := e1.hh
  refine wp_call (tX3_leaf (d := d) (k := 2) (v := (c : Int)) (X := X) (by omega) w1 hsn (okR_const c) (by omega) (by omega) (fun p hp => by rw [fpt_const] at hp; cases hp) (fun q => by omega) (fun _ => by omega) (by omega) (by rw [etr]; exact hX) hl1) (fun r2 u2 ⟨x, x1, x2, x3, x4, x5, x6, x7⟩ => ?_)
  rw [x1]
  rw [etr] at x4
  have hU01 : UxT ν c u u1 X := (e1.up hs).ux
  have I1 : ∀ k, Nat.testBit DX3_fresh k = false → gI u1 k = gI u k := fun k hk => g1.I k hk
  have un1 : UNT ν u (nuU ν c (2 * f + 1)) u1 X := ⟨by omega, fun z hz => by rw [nuT_tr hs1 hx (by omega), e1.1.tr], fun t ht => Or.inl (e1.1.nd.mp ((nuT_nd hs1 hx t).mp ht)), hh1, fun i _ => e1.hN i, I1 54 (by decide +kernel)⟩
  have un2 : UNT (nuU ν c (2 * f + 1)) u1 (nuU ν c (2 * f + 1)) u2 X := x5.un hsn (x7.I 54 (by decide +kernel))
  have un := un1.tr un2
  have hC1 : CaT (nuU ν c (2 * f + 1)) (c + 1) W S Kl u1 l := nuT_CaT hC hx T1 w1 e1 g1 (fun k hk => (by decide +kernel : ∀ k, k ≤ 65 → (52 ≤ k ∧ k ≤ 57) ∨ (59 ≤ k ∧ k ≤ 65) → Nat.testBit DX3_fresh k = false) k (by omega) hk)
  have hkn1 : KnT (nuU ν c (2 * f + 1)) u1 Kl := nuT_MkL hs1 hx (MkL.up h1.2 hs hU01 g1 (by decide +kernel) (by decide +kernel) (by decide +kernel) (by decide +kernel))
  have hR1 : RdT Mq (nuU ν c (2 * f + 1)) (c + 1) W S X Kl l Fu Fi Cl Gl [] Nl Ol c0 fi ν0 u0 u1 := by
    refine ⟨⟨hC1, hkn1⟩, ⟨⟨nuT_MkL hs1 hx (MkL.up h2 hs hU01 g1 (by decide +kernel) (by decide +kernel) (by decide +kernel) (by decide +kernel)), by rw [I1 76 (by decide +kernel)]; exact h2b⟩, h3⟩, nuT_ArT hs1 hx (h4.fr hs hU01 g1 (by decide +kernel) (by decide +kernel)), ⟨nuT_OpT hs1 hx (h5.fr hs hU01 g1 (by decide +kernel) (by decide +kernel)), fun i a b => ⟨fun q => ?_, fun q => ?_⟩⟩, ⟨h7.1, h7.2.tr (un1.mon (fun _ q => Or.inr (Or.inl q)))⟩, by rw [I1 58 (by decide +kernel)]; exact h8, m1, ct1⟩
    · unfold nuU
      rw [if_neg (by omega)]
      exact (h6 i a (by omega)).1 q
    · by_cases z : i = c
      · refine ⟨f, hf, ?_⟩
        unfold nuU
        rw [if_pos z]
      · obtain ⟨g, g1', g2⟩ := (h6 i a (by omega)).2 q
        refine ⟨g, g1', ?_⟩
        unfold nuU
        rw [if_neg z]
        exact g2
  exact k u2 x x2 x3 x4 (hR1.fr x5 x6 x7 (by decide +kernel) (by decide +kernel) (by decide +kernel)) un
/-- a constant that a round brought is noted -/
theorem rdT_note {ν : Nat → Nat} {c : Nat} {W : Wd} {S : Fs} {X : Nat → Prop} {Kl : List Nat} {l : Ls} {Fu Fi : Nat → Prop} {Cl Gl Nl Ol : List Nat} {c0 fi x t : Nat} {ν0 : Nat → Nat} {u0 u : Sg} {K : Sg → Option (Int × Sg)} {Q : Int → Sg → Prop} (h : RdT Mq ν c W S X Kl l Fu Fi Cl Gl [] Nl Ol c0 fi ν0 u0 u) (hN : Nl.length ≤ 20000) (x0 : 0 < x) (hx : x ≤ nT u) (et : trT ν u x = t) (k : ∀ u', RdT Mq ν c W S X Kl l Fu Fi Cl Gl [] (Nl ++ [t]) Ol c0 fi ν0 u0 u' → EqH u u' → wp (K u') Q) : wp (un (gI u 70) fun v37 => mor u 69 v37 fun s38 => un (gI s38 70) fun v39 => ar (v39 + 1) fun v40 => un (sI s38 70 v40) fun s41 => stA s41 69 v39 (x : Int) fun s42 => K s42) Q := by
  obtain ⟨h1, ⟨⟨h2, h2b⟩, h3⟩, h4, ⟨h5, h6⟩, h7, h8, h9, h10⟩ := h
  have hs := h1.1.1.1
  have hw := h1.1.2.1
  obtain ⟨a1, ⟨a2, a3⟩, a4⟩ := h4
  have hnb := hs.1.1.1.2
  have hb1 := hs.1.1.2.2.2.2.2.2.1
  rw [wp_un, a1]
  refine wp_morT (D := 2 ^ 69 + 2 ^ 70) hw (by omega) rfl (by decide) (by decide +kernel) a3 (by omega) (fun s ⟨e4, w4, g4, i4, o4, p1, p2, p3, p4, p5⟩ => ?_)
  rw [wp_un, i4, a1, wp_ar]
  refine ⟨⟨by omega, by omega⟩, ?_⟩
  rw [wp_un, wp_stA]
  refine ⟨⟨by omega, by rw [gL_sI]; omega⟩, ?_⟩
  rw [show (Nl.length : Int) + 1 = ((Nl.length + 1 : Nat) : Int) by omega]
  generalize ez : sA (sI s 70 ((Nl.length + 1 : Nat) : Int)) 69 (Nl.length : Int) (x : Int) = z
  have wz : WF FT z := by rw [← ez]; exact wfAT (wfIT w4 rfl ⟨by omega, by omega⟩) rfl ⟨by omega, by omega⟩
  have gz : Gr FT (2 ^ 69 + 2 ^ 70) u z := by rw [← ez]; exact g4.tr ((Gr_sI (by decide +kernel)).tr (Gr_sA (by decide +kernel)))
  have qz : EqH u z := by rw [← ez]; exact e4.trn ((EqH.sI (by omega)).trn (EqH.sA (by omega)))
  have hU : UpT ν c u z X := qz.up hs
  have L : gL z 69 = gL s 69 := by rw [← ez, gL_sA, gL_sI]
  have I70 : gI z 70 = ((Nl.length + 1 : Nat) : Int) := by rw [← ez, gI_sA, gI_sI, if_pos rfl]
  have tz : ∀ y, trT ν z y = trT ν u y := fun y => qz.1.tr
  have nz : nT z = nT u := qz.1.n
  refine k z ⟨h1.fr hU.ux wz gz (by decide +kernel) (fun k a b => (by decide +kernel : ∀ k, k ≤ 51 → 49 ≤ k → Nat.testBit (2 ^ 69 + 2 ^ 70) k = false) k b a) (by decide +kernel), ⟨⟨MkL.up h2 hs hU.ux gz (by decide +kernel) (by decide +kernel) (by decide +kernel) (by decide +kernel), by rw [gz.I 76 (by decide +kernel)]; exact h2b⟩, h3⟩, ⟨by rw [I70, List.length_append]; rfl, ⟨by rw [L, List.length_append]; show Nl.length + 1 ≤ _; omega, by rw [L]; omega⟩, fun i g hi => ?_⟩, ⟨h5.fr hs hU.ux gz (by decide +kernel) (by decide +kernel), h6⟩, ⟨h7.1, h7.2.tr ((hU.un hs (gz.I 54 (by decide +kernel))).mon (fun _ q => Or.inr (Or.inl q)))⟩, by rw [gz.I 58 (by decide +kernel)]; exact h8, h9.fr gz (by decide +kernel) (by decide +kernel), ⟨by rw [gz.Ln 17 (by decide +kernel)]; exact h10.1, by rw [gz.Ln 18 (by decide +kernel)]; exact h10.2⟩⟩ qz
  by_cases hil : i < Nl.length
  · rw [List.getElem?_append_left hil] at hi
    obtain ⟨y, y1, y2, y3, y4⟩ := a4 i g hi
    refine ⟨y, ?_, y2, by omega, by rw [tz]; exact y4⟩
    rw [← ez, gN_sAn, if_neg (fun q => by omega), gN_sI, p4 i (by omega)]
    exact y1
  · have hie : i = Nl.length := by
      have := (List.getElem?_eq_some_iff.mp hi).1
      rw [List.length_append] at this
      have : i < Nl.length + 1 := this
      omega
    rw [hie, List.getElem?_append_right (Nat.le_refl _), Nat.sub_self] at hi
    have hg : t = g := Option.some.inj hi
    refine ⟨x, ?_, x0, by omega, by rw [tz, ← hg]; exact et⟩
    rw [hie, ← ez, gN_sAn, if_pos ⟨rfl, rfl⟩]
end MQ
