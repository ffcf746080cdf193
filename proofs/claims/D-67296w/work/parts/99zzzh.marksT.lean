/-! marked lists of the model: what is known, what comes (printed by tools/mkl.py) -/
def MkL (ν : Nat → Nat) (u : Sg) (cn id mk st : Nat) (L : List Nat) : Prop := (gI u cn = (L.length : Int) ∧ L.length ≤ gL u id ∧ 16 ≤ gL u id) ∧ (16 ≤ gL u mk ∧ gL u mk ≤ 300000) ∧ L.Nodup ∧ (∀ (i f : Nat), L[i]? = some f → ∃ x : Nat, gN u id i = (x : Int) ∧ 0 < x ∧ x ≤ nT u ∧ trT ν u x = f ∧ x < gL u mk ∧ gN u mk x = gI u st) ∧ ∀ x : Nat, x < gL u mk → gN u mk x ≤ gI u st ∧ (gN u mk x = gI u st → ∃ i, i < L.length ∧ gN u id i = (x : Int))
theorem MkL.mem {ν : Nat → Nat} {c : Nat} {u : Sg} {cn id mk st : Nat} {L : List Nat} (h : MkL ν u cn id mk st L) (hs : ST ν c u) {x f : Nat} (hx : x ≤ nT u) (ef : trT ν u x = f) : f ∈ L ↔ (x < gL u mk ∧ gN u mk x = gI u st) := by
  constructor
  · intro q
    obtain ⟨i, hi⟩ := List.getElem?_of_mem q
    obtain ⟨y, y1, y2, y3, y4, y5, y6⟩ := h.2.2.2.1 i f hi
    have : y = x := trT_inj hs y3 hx (by rw [y4, ef])
    rw [← this]
    exact ⟨y5, y6⟩
  · intro q
    obtain ⟨i, hi, e⟩ := (h.2.2.2.2 x q.1).2 q.2
    obtain ⟨y, y1, y2, y3, y4, y5, y6⟩ := h.2.2.2.1 i L[i] (List.getElem?_eq_getElem hi)
    have : y = x := by omega
    rw [this, ef] at y4
    rw [y4]
    exact List.getElem_mem hi
theorem MkL.up {ν : Nat → Nat} {c D : Nat} {u u' : Sg} {X : Nat → Prop} {cn id mk st : Nat} {L : List Nat} (h : MkL ν u cn id mk st L) (hs : ST ν c u) (hx : UxT ν c u u' X) (hg : Gr FT D u u') (b1 : D.testBit cn = false) (b2 : D.testBit id = false) (b3 : D.testBit mk = false) (b4 : D.testBit st = false) : MkL ν u' cn id mk st L := by
  obtain ⟨⟨a1, a2, a3⟩, ⟨c1, c2⟩, h3, h4, h5⟩ := h
  have hn := hx.n
  refine ⟨⟨by rw [hg.I cn b1]; exact a1, by rw [hg.Ln id b2]; exact a2, by rw [hg.Ln id b2]; exact a3⟩, ⟨by rw [hg.Ln mk b3]; exact c1, by rw [hg.Ln mk b3]; exact c2⟩, h3, fun i f hi => ?_, fun x hx' => ⟨?_, fun he => ?_⟩⟩
  · obtain ⟨x, x1, x2, x3, x4, x5, x6⟩ := h4 i f hi
    exact ⟨x, by rw [hg.N id b2]; exact x1, x2, by omega, by rw [hx.tr hs x3]; exact x4, by rw [hg.Ln mk b3]; exact x5, by rw [hg.N mk b3, hg.I st b4]; exact x6⟩
  · rw [hg.Ln mk b3] at hx'
    rw [hg.N mk b3, hg.I st b4]; exact (h5 x hx').1
  · rw [hg.Ln mk b3] at hx'
    rw [hg.N mk b3, hg.I st b4] at he
    obtain ⟨i, hi, e⟩ := (h5 x hx').2 he
    exact ⟨i, hi, by rw [hg.N id b2]; exact e⟩
/-- more room for the marks -/
theorem MkL.mor {ν : Nat → Nat} {D n : Nat} {u u' : Sg} {cn id mk st : Nat} {L : List Nat} (h : MkL ν u cn id mk st L) (hm : MorT u u' mk n D) (hne : id ≠ mk) (hst : 1 ≤ gI u st) (hn : n ≤ 131072) : MkL ν u' cn id mk st L := by
  obtain ⟨⟨a1, a2, a3⟩, ⟨c1, c2⟩, h3, h4, h5⟩ := h
  obtain ⟨e4, w4, g4, i4, o4, p1, p2, p3, p4, p5⟩ := hm
  have hnn : nT u' = nT u := e4.1.n
  have ht : ∀ y, trT ν u' y = trT ν u y := fun y => e4.1.tr
  obtain ⟨o1, o2⟩ := o4 id hne
  refine ⟨⟨by rw [i4]; exact a1, by rw [o1]; exact a2, by rw [o1]; exact a3⟩, ⟨by omega, by omega⟩, h3, fun i f hi => ?_, fun x hx' => ⟨?_, fun he => ?_⟩⟩
  · obtain ⟨x, x1, x2, x3, x4, x5, x6⟩ := h4 i f hi
    exact ⟨x, by rw [o2]; exact x1, x2, by omega, by rw [ht]; exact x4, by omega, by rw [p4 x x5, i4]; exact x6⟩
  · rw [i4]
    by_cases q : x < gL u mk
    · rw [p4 x q]; exact (h5 x q).1
    · rw [p5 x (by omega) hx']; omega
  · rw [i4] at he
    by_cases q : x < gL u mk
    · rw [p4 x q] at he
      obtain ⟨i, hi, e⟩ := (h5 x q).2 he
      exact ⟨i, hi, by rw [o2]; exact e⟩
    · rw [p5 x (by omega) hx'] at he
      omega
theorem push_kn {D : Nat} {ν : Nat → Nat} {c : Nat} {u : Sg} {L : List Nat} {x f : Nat} {K : Sg → Option (Int × Sg)} {Q : Int → Sg → Prop} (hb : D.testBit 49 = true ∧ D.testBit 50 = true ∧ D.testBit 51 = true) (hw : WF FT u) (hs : ST ν c u) (h : MkL ν u 50 49 51 54 L) (hl : L.length ≤ 5000) (x0 : 0 < x) (hx : x ≤ nT u) (ef : trT ν u x = f) (hm : x < gL u 51) (hn : f ∉ L) (k : ∀ u', WF FT u' → EqH u u' → Gr FT D u u' → MkL ν u' 50 49 51 54 (L ++ [f]) → (∀ j, j ≠ 50 → gI u' j = gI u j) → (∀ j, j ≠ 49 → j ≠ 51 → gL u' j = gL u j ∧ ∀ i, gN u' j i = gN u j i) → wp (K u') Q) : wp (stA u 51 (x : Int) (gI u 54) fun s6 => un (gI s6 50) fun v7 => mor s6 49 v7 fun s8 => un (gI s8 50) fun v9 => ar (v9 + 1) fun v10 => un (sI s8 50 v10) fun s11 => stA s11 49 v9 (x : Int) fun s12 => K s12) Q := by
  obtain ⟨⟨a1, a2, a3⟩, ⟨b1, b2⟩, h3, h4, h5⟩ := id h
  have hnk := h.mem hs hx ef
  have hn' : gN u 51 x ≠ gI u 54 := fun q => hn (hnk.mpr ⟨hm, q⟩)
  have hnb := hs.1.1.1.2
  have hb1 := hs.1.1.2.2.2.2.2.2.1
  rw [wp_stA]
  refine ⟨⟨by omega, by omega⟩, ?_⟩
  have w1 : WF FT (sA u 51 (x : Int) (gI u 54)) := wfAT hw rfl (hw.1 54)
  have g1 : Gr FT D u (sA u 51 (x : Int) (gI u 54)) := Gr_sA hb.2.2
  have q1 : EqH u (sA u 51 (x : Int) (gI u 54)) := EqH.sA (by omega)
  rw [wp_un, gI_sA, a1]
  refine wp_morT (D := D) w1 (by omega) rfl (by decide) hb.1 (by rw [gL_sA]; exact a3) (by omega) (fun u4 ⟨e4, w4, g4, i4, o4, p1, p2, p3, p4, p5⟩ => ?_)
  rw [gL_sA] at p2 p3 p4 p5
  rw [wp_un, i4, gI_sA, a1, wp_ar]
  refine ⟨⟨by omega, by omega⟩, ?_⟩
  rw [wp_un, wp_stA]
  refine ⟨⟨by omega, by rw [gL_sI]; omega⟩, ?_⟩
  rw [show (L.length : Int) + 1 = ((L.length + 1 : Nat) : Int) by omega]
  generalize es : sA (sI u4 50 ((L.length + 1 : Nat) : Int)) 49 (L.length : Int) (x : Int) = s
  have eI : ∀ j, j ≠ 50 → gI s j = gI u j := fun j hj => by rw [← es, gI_sA, gI_sI, if_neg hj, i4, gI_sA]
  have eC : gI s 50 = ((L.length + 1 : Nat) : Int) := by rw [← es, gI_sA, gI_sI, if_pos rfl]
  have eO : ∀ j, j ≠ 49 → j ≠ 51 → gL s j = gL u j ∧ ∀ i, gN s j i = gN u j i := fun j h1 h2 => by
    obtain ⟨c1, c2⟩ := o4 j h1
    refine ⟨by rw [← es, gL_sA, gL_sI, c1, gL_sA], fun i => ?_⟩
    rw [← es, gN_sAn, if_neg (fun q => h1 q.1), gN_sI, c2, gN_sAn, if_neg (fun q => h2 q.1)]
  have lM : gL s 51 = gL u 51 := by rw [← es, gL_sA, gL_sI, (o4 51 (by omega)).1, gL_sA]
  have nM : ∀ i, gN s 51 i = if i = x then gI u 54 else gN u 51 i := fun i => by
    rw [← es, gN_sAn, if_neg (fun q => by omega), gN_sI, (o4 51 (by omega)).2, gN_sAn]
    by_cases q : i = x
    · rw [if_pos ⟨rfl, q⟩, if_pos q]
    · rw [if_neg (fun z => q z.2), if_neg q]
  have lD : gL s 49 = gL u4 49 := by rw [← es, gL_sA, gL_sI]
  have nD : ∀ i, i < L.length → gN s 49 i = gN u 49 i := fun i hi => by
    rw [← es, gN_sAn, if_neg (fun q => by omega), gN_sI, p4 i (by omega), gN_sAn, if_neg (fun q => by omega)]
  have nX : gN s 49 L.length = (x : Int) := by rw [← es, gN_sAn, if_pos ⟨rfl, rfl⟩]
  have wS : WF FT s := by rw [← es]; exact wfAT (wfIT w4 rfl ⟨by omega, by omega⟩) rfl ⟨by omega, by omega⟩
  have qS : EqH u s := by rw [← es]; exact ((q1.trn e4).trn (EqH.sI (by omega))).trn (EqH.sA (by omega))
  have gS : Gr FT D u s := by rw [← es]; exact ((g1.tr g4).tr (Gr_sI hb.2.1)).tr (Gr_sA hb.1)
  have tS : ∀ y, trT ν s y = trT ν u y := fun y => qS.1.tr
  have nS : nT s = nT u := qS.1.n
  refine k s wS qS gS ⟨⟨by rw [eC, List.length_append]; rfl, by rw [List.length_append, lD]; show L.length + 1 ≤ _; omega, by rw [lD]; omega⟩, ⟨by omega, by omega⟩, List.nodup_append.mpr ⟨h3, by simp, fun a ha b hb' e => hn (by rw [← List.mem_singleton.mp hb', ← e]; exact ha)⟩, fun i g hi => ?_, fun y hy => ⟨?_, fun he => ?_⟩⟩ eI eO
  · by_cases hil : i < L.length
    · rw [List.getElem?_append_left hil] at hi
      obtain ⟨y, y1, y2, y3, y4, y5, y6⟩ := h4 i g hi
      refine ⟨y, by rw [nD i hil]; exact y1, y2, by omega, by rw [tS]; exact y4, by omega, ?_⟩
      rw [nM, eI 54 (by omega)]
      by_cases q : y = x
      · rw [if_pos q]
      · rw [if_neg q]; exact y6
    · have hie : i = L.length := by
        have := (List.getElem?_eq_some_iff.mp hi).1
        rw [List.length_append] at this
        have : i < L.length + 1 := this
        omega
      rw [hie, List.getElem?_append_right (Nat.le_refl _), Nat.sub_self] at hi
      have hg : f = g := Option.some.inj hi
      refine ⟨x, by rw [hie]; exact nX, x0, by omega, by rw [tS, ← hg]; exact ef, by omega, ?_⟩
      rw [nM, if_pos rfl, eI 54 (by omega)]
  · rw [nM, eI 54 (by omega)]
    by_cases q : y = x
    · rw [if_pos q]; exact Int.le_refl _
    · rw [if_neg q]; exact (h5 y (by omega)).1
  · rw [nM, eI 54 (by omega)] at he
    by_cases q : y = x
    · exact ⟨L.length, by rw [List.length_append]; show L.length < L.length + 1; omega, by rw [q]; exact nX⟩
    · rw [if_neg q] at he
      obtain ⟨i, i1, i2⟩ := (h5 y (by omega)).2 he
      exact ⟨i, by rw [List.length_append]; omega, by rw [nD i i1]; exact i2⟩
theorem push_co {D : Nat} {ν : Nat → Nat} {c : Nat} {u : Sg} {L : List Nat} {x f : Nat} {K : Sg → Option (Int × Sg)} {Q : Int → Sg → Prop} (hb : D.testBit 73 = true ∧ D.testBit 75 = true ∧ D.testBit 74 = true) (hw : WF FT u) (hs : ST ν c u) (h : MkL ν u 75 73 74 76 L) (hl : L.length ≤ 5000) (x0 : 0 < x) (hx : x ≤ nT u) (ef : trT ν u x = f) (hm : x < gL u 74) (hn : f ∉ L) (k : ∀ u', WF FT u' → EqH u u' → Gr FT D u u' → MkL ν u' 75 73 74 76 (L ++ [f]) → (∀ j, j ≠ 75 → gI u' j = gI u j) → (∀ j, j ≠ 73 → j ≠ 74 → gL u' j = gL u j ∧ ∀ i, gN u' j i = gN u j i) → wp (K u') Q) : wp (stA u 74 (x : Int) (gI u 76) fun s6 => un (gI s6 75) fun v7 => mor s6 73 v7 fun s8 => un (gI s8 75) fun v9 => ar (v9 + 1) fun v10 => un (sI s8 75 v10) fun s11 => stA s11 73 v9 (x : Int) fun s12 => K s12) Q := by
  obtain ⟨⟨a1, a2, a3⟩, ⟨b1, b2⟩, h3, h4, h5⟩ := id h
  have hnk := h.mem hs hx ef
  have hn' : gN u 74 x ≠ gI u 76 := fun q => hn (hnk.mpr ⟨hm, q⟩)
  have hnb := hs.1.1.1.2
  have hb1 := hs.1.1.2.2.2.2.2.2.1
  rw [wp_stA]
  refine ⟨⟨by omega, by omega⟩, ?_⟩
  have w1 : WF FT (sA u 74 (x : Int) (gI u 76)) := wfAT hw rfl (hw.1 76)
  have g1 : Gr FT D u (sA u 74 (x : Int) (gI u 76)) := Gr_sA hb.2.2
  have q1 : EqH u (sA u 74 (x : Int) (gI u 76)) := EqH.sA (by omega)
  rw [wp_un, gI_sA, a1]
  refine wp_morT (D := D) w1 (by omega) rfl (by decide) hb.1 (by rw [gL_sA]; exact a3) (by omega) (fun u4 ⟨e4, w4, g4, i4, o4, p1, p2, p3, p4, p5⟩ => ?_)
  rw [gL_sA] at p2 p3 p4 p5
  rw [wp_un, i4, gI_sA, a1, wp_ar]
  refine ⟨⟨by omega, by omega⟩, ?_⟩
  rw [wp_un, wp_stA]
  refine ⟨⟨by omega, by rw [gL_sI]; omega⟩, ?_⟩
  rw [show (L.length : Int) + 1 = ((L.length + 1 : Nat) : Int) by omega]
  generalize es : sA (sI u4 75 ((L.length + 1 : Nat) : Int)) 73 (L.length : Int) (x : Int) = s
  have eI : ∀ j, j ≠ 75 → gI s j = gI u j := fun j hj => by rw [← es, gI_sA, gI_sI, if_neg hj, i4, gI_sA]
  have eC : gI s 75 = ((L.length + 1 : Nat) : Int) := by rw [← es, gI_sA, gI_sI, if_pos rfl]
  have eO : ∀ j, j ≠ 73 → j ≠ 74 → gL s j = gL u j ∧ ∀ i, gN s j i = gN u j i := fun j h1 h2 => by
    obtain ⟨c1, c2⟩ := o4 j h1
    refine ⟨by rw [← es, gL_sA, gL_sI, c1, gL_sA], fun i => ?_⟩
    rw [← es, gN_sAn, if_neg (fun q => h1 q.1), gN_sI, c2, gN_sAn, if_neg (fun q => h2 q.1)]
  have lM : gL s 74 = gL u 74 := by rw [← es, gL_sA, gL_sI, (o4 74 (by omega)).1, gL_sA]
  have nM : ∀ i, gN s 74 i = if i = x then gI u 76 else gN u 74 i := fun i => by
    rw [← es, gN_sAn, if_neg (fun q => by omega), gN_sI, (o4 74 (by omega)).2, gN_sAn]
    by_cases q : i = x
    · rw [if_pos ⟨rfl, q⟩, if_pos q]
    · rw [if_neg (fun z => q z.2), if_neg q]
  have lD : gL s 73 = gL u4 73 := by rw [← es, gL_sA, gL_sI]
  have nD : ∀ i, i < L.length → gN s 73 i = gN u 73 i := fun i hi => by
    rw [← es, gN_sAn, if_neg (fun q => by omega), gN_sI, p4 i (by omega), gN_sAn, if_neg (fun q => by omega)]
  have nX : gN s 73 L.length = (x : Int) := by rw [← es, gN_sAn, if_pos ⟨rfl, rfl⟩]
  have wS : WF FT s := by rw [← es]; exact wfAT (wfIT w4 rfl ⟨by omega, by omega⟩) rfl ⟨by omega, by omega⟩
  have qS : EqH u s := by rw [← es]; exact ((q1.trn e4).trn (EqH.sI (by omega))).trn (EqH.sA (by omega))
  have gS : Gr FT D u s := by rw [← es]; exact ((g1.tr g4).tr (Gr_sI hb.2.1)).tr (Gr_sA hb.1)
  have tS : ∀ y, trT ν s y = trT ν u y := fun y => qS.1.tr
  have nS : nT s = nT u := qS.1.n
  refine k s wS qS gS ⟨⟨by rw [eC, List.length_append]; rfl, by rw [List.length_append, lD]; show L.length + 1 ≤ _; omega, by rw [lD]; omega⟩, ⟨by omega, by omega⟩, List.nodup_append.mpr ⟨h3, by simp, fun a ha b hb' e => hn (by rw [← List.mem_singleton.mp hb', ← e]; exact ha)⟩, fun i g hi => ?_, fun y hy => ⟨?_, fun he => ?_⟩⟩ eI eO
  · by_cases hil : i < L.length
    · rw [List.getElem?_append_left hil] at hi
      obtain ⟨y, y1, y2, y3, y4, y5, y6⟩ := h4 i g hi
      refine ⟨y, by rw [nD i hil]; exact y1, y2, by omega, by rw [tS]; exact y4, by omega, ?_⟩
      rw [nM, eI 76 (by omega)]
      by_cases q : y = x
      · rw [if_pos q]
      · rw [if_neg q]; exact y6
    · have hie : i = L.length := by
        have := (List.getElem?_eq_some_iff.mp hi).1
        rw [List.length_append] at this
        have : i < L.length + 1 := this
        omega
      rw [hie, List.getElem?_append_right (Nat.le_refl _), Nat.sub_self] at hi
      have hg : f = g := Option.some.inj hi
      refine ⟨x, by rw [hie]; exact nX, x0, by omega, by rw [tS, ← hg]; exact ef, by omega, ?_⟩
      rw [nM, if_pos rfl, eI 76 (by omega)]
  · rw [nM, eI 76 (by omega)]
    by_cases q : y = x
    · rw [if_pos q]; exact Int.le_refl _
    · rw [if_neg q]; exact (h5 y (by omega)).1
  · rw [nM, eI 76 (by omega)] at he
    by_cases q : y = x
    · exact ⟨L.length, by rw [List.length_append]; show L.length < L.length + 1; omega, by rw [q]; exact nX⟩
    · rw [if_neg q] at he
      obtain ⟨i, i1, i2⟩ := (h5 y (by omega)).2 he
      exact ⟨i, by rw [List.length_append]; omega, by rw [nD i i1]; exact i2⟩
/-- a formula becomes known -/
theorem tX3_knows {d : Nat} (hd : 2 ≤ d) {ν : Nat → Nat} {c : Nat} {u : Sg} {Kl : List Nat} {x f : Nat} (hw : WF FT u) (hs : ST ν c u) (h : KnT ν u Kl) (hst : 1 ≤ gI u 54) (hl : Kl.length ≤ 5000) (x0 : 0 < x) (hx : x ≤ nT u) (ef : trT ν u x = f) : wp (runT (d + 1) 63 [(x : Int)] u) (fun _ u' => WF FT u' ∧ EqH u u' ∧ Gr FT DX3_knows u u' ∧ KnT ν u' (if f ∈ Kl then Kl else Kl ++ [f]) ∧ (∀ j, j ≠ 50 → gI u' j = gI u j) ∧ ∀ j, j ≠ 49 → j ≠ 51 → gL u' j = gL u j ∧ ∀ i, gN u' j i = gN u j i) := by
  rw [runT_eq (by omega)]
  show wp (bX3_knows (runT d) x u) _
  unfold bX3_knows
  have h : MkL ν u 50 49 51 54 Kl := h
  have hnb := hs.1.1.1.2
  have hb1 := hs.1.1.2.2.2.2.2.2.1
  rw [wp_un, show gI u 8 = (nT u : Int) from hs.1.1.1.1]
  refine wp_morT (D := DX3_knows) hw (by omega) rfl (by decide) (by decide +kernel) h.2.1.1 (by omega) (fun s hm => ?_)
  have h2 := h.mor hm (by omega) hst (by omega)
  obtain ⟨e4, w4, g4, i4, o4, p1, p2, p3, p4, p5⟩ := hm
  have hs2 := e4.st hs
  have es : trT ν s x = f := by rw [e4.1.tr]; exact ef
  have hx2 : x ≤ nT s := by rw [e4.1.n]; exact hx
  have hmk := h2.mem hs2 hx2 es
  rw [ld_nat (by omega), wp_un]
  refine wp_ite (fun q => ?_) (fun q => ?_)
  · rw [wp_some, if_pos (hmk.mpr ⟨by omega, q⟩)]
    exact ⟨w4, e4, g4, h2, fun j _ => i4 j, fun j _ hj => o4 j hj⟩
  · have hn : f ∉ Kl := fun z => q (hmk.mp z).2
    rw [wp_un, if_neg hn]
    refine push_kn (D := DX3_knows) ⟨by decide +kernel, by decide +kernel, by decide +kernel⟩ w4 hs2 h2 hl x0 hx2 es (by omega) hn (fun u' k1 k2 k3 k4 k5 k6 => ?_)
    rw [wp_some]
    exact ⟨k1, e4.trn k2, g4.tr k3, k4, fun j hj => by rw [k5 j hj, i4], fun j h1 h2 => ⟨by rw [(k6 j h1 h2).1, (o4 j h2).1], fun i => by rw [(k6 j h1 h2).2, (o4 j h2).2]⟩⟩
/-- what has come so far in a round -/
def CoT (ν : Nat → Nat) (u : Sg) (Cl : List Nat) : Prop := MkL ν u 75 73 74 76 Cl
/-- a formula comes -/
theorem tX3_comes {d : Nat} (hd : 2 ≤ d) {ν : Nat → Nat} {c : Nat} {u : Sg} {Kl Cl : List Nat} {x f : Nat} (hw : WF FT u) (hs : ST ν c u) (h : CoT ν u Cl) (hk : KnT ν u Kl) (hst : 1 ≤ gI u 76) (hl : Cl.length ≤ 5000) (x0 : 0 < x) (hx : x ≤ nT u) (ef : trT ν u x = f) : wp (runT (d + 1) 106 [(x : Int)] u) (fun _ u' => WF FT u' ∧ EqH u u' ∧ Gr FT DX3_comes u u' ∧ CoT ν u' (if f ∈ Kl ∨ f ∈ Cl then Cl else Cl ++ [f]) ∧ (∀ j, j ≠ 75 → gI u' j = gI u j) ∧ ∀ j, j ≠ 73 → j ≠ 74 → gL u' j = gL u j ∧ ∀ i, gN u' j i = gN u j i) := by
  rw [runT_eq (by omega)]
  show wp (bX3_comes (runT d) x u) _
  unfold bX3_comes
  have h : MkL ν u 75 73 74 76 Cl := h
  have hnb := hs.1.1.1.2
  have hb1 := hs.1.1.2.2.2.2.2.2.1
  rw [wp_un, show gI u 8 = (nT u : Int) from hs.1.1.1.1]
  refine wp_morT (D := DX3_comes) hw (by omega) rfl (by decide) (by decide +kernel) h.2.1.1 (by omega) (fun s hm => ?_)
  have h2 := h.mor hm (by omega) hst (by omega)
  obtain ⟨e4, w4, g4, i4, o4, p1, p2, p3, p4, p5⟩ := hm
  have hs2 := e4.st hs
  have es : trT ν s x = f := by rw [e4.1.tr]; exact ef
  have hx2 : x ≤ nT s := by rw [e4.1.n]; exact hx
  have hmk := h2.mem hs2 hx2 es
  have hkn : f ∈ Kl ↔ (x < gL u 51 ∧ gN u 51 x = gI u 54) := hk.mem hs hx ef
  obtain ⟨o51, n51⟩ := o4 51 (by omega)
  rw [ld_nat (by omega), wp_un]
  refine wp_ite (fun q => ?_) (fun q => ?_)
  · rw [wp_some, if_pos (Or.inr (hmk.mpr ⟨by omega, q⟩))]
    exact ⟨w4, e4, g4, h2, fun j _ => i4 j, fun j _ hj => o4 j hj⟩
  · have hn : f ∉ Cl := fun z => q (hmk.mp z).2
    have new : f ∉ Kl → wp (un (gI s 76) fun v7 => stA s 74 (x : Int) v7 fun s8 => un (gI s8 75) fun v9 => mor s8 73 v9 fun s10 => un (gI s10 75) fun v11 => ar (v11 + 1) fun v12 => un (sI s10 75 v12) fun s13 => stA s13 73 v11 (x : Int) fun s14 => some (0, s14)) (fun _ u' => WF FT u' ∧ EqH u u' ∧ Gr FT DX3_comes u u' ∧ CoT ν u' (if f ∈ Kl ∨ f ∈ Cl then Cl else Cl ++ [f]) ∧ (∀ j, j ≠ 75 → gI u' j = gI u j) ∧ ∀ j, j ≠ 73 → j ≠ 74 → gL u' j = gL u j ∧ ∀ i, gN u' j i = gN u j i) := fun hnk => by
      rw [wp_un, if_neg (fun z => z.elim hnk hn)]
      refine push_co (D := DX3_comes) ⟨by decide +kernel, by decide +kernel, by decide +kernel⟩ w4 hs2 h2 hl x0 hx2 es (by omega) hn (fun u' k1 k2 k3 k4 k5 k6 => ?_)
      rw [wp_some]
      exact ⟨k1, e4.trn k2, g4.tr k3, k4, fun j hj => by rw [k5 j hj, i4], fun j h1 h2 => ⟨by rw [(k6 j h1 h2).1, (o4 j h2).1], fun i => by rw [(k6 j h1 h2).2, (o4 j h2).2]⟩⟩
    rw [wp_jn, wp_un]
    refine wp_ite (fun q2 => ?_) (fun q2 => ?_)
    · rw [ld_nat (by omega), wp_un]
      refine wp_ite (fun q3 => ?_) (fun q3 => new (fun z => ?_))
      · rw [n51, i4] at q3
        rw [wp_some, if_pos (Or.inl (hkn.mpr ⟨by omega, q3⟩))]
        exact ⟨w4, e4, g4, h2, fun j _ => i4 j, fun j _ hj => o4 j hj⟩
      · rw [n51, i4] at q3
        exact q3 (hkn.mp z).2
    · exact new (fun z => q2 (by have := (hkn.mp z).1; omega))
