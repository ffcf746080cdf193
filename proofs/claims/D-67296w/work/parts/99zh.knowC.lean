/-! what is known grows -/
def KnL (u : Sg) : Prop := 16 ≤ gL u 34 ∧ gL u 34 ≤ 16384
def Dkn : Nat := DX1_room_2 ||| (2 ^ 34 + 2 ^ 35 + 2 ^ 37)
def Dk2 : Nat := 2 ^ 34 + 2 ^ 35 + 2 ^ 37
theorem CaP.m37 {ν : Nat → Nat} {c : Nat} {W : Wd} {S : Fs} {Kl : List Nat} {u s : Sg} {H : List Nat} {p : Nat → Nat} {M : List (Nat × Nat × Nat)} {J : List (Nat × Nat)} (h : CaP ν c W S Kl u H p M J) (hw : WF FC s) (hg : Gr FC Dk2 u s) (l37 : gL s 37 = gL u 37) : CaP ν c W S Kl s H p M J := by
  obtain ⟨h1, h2, ⟨h3, h3b⟩, h4, h5, h6⟩ := h
  have hs := h1.1
  obtain ⟨e, hU⟩ := hg.ux (X := fun _ => False) hs (by decide +kernel)
  have b : ∀ k, (36 ≤ k ∧ k ≤ 43 ∧ k ≠ 37) → Nat.testBit Dk2 k = false := fun k hk => (by decide +kernel : ∀ k, k ≤ 43 → 36 ≤ k → k ≠ 37 → Nat.testBit Dk2 k = false) k hk.2.1 hk.1 hk.2.2
  obtain ⟨⟨a1, a2, a3, a4⟩, ⟨b1, b2, b3, b4, b5⟩, c3, c4, c5, c6, c7⟩ := h3
  have L : ∀ k, (36 ≤ k ∧ k ≤ 43 ∧ k ≠ 37) → gL s k = gL u k := fun k hk => hg.Ln k (b k hk)
  have N : ∀ k, (36 ≤ k ∧ k ≤ 43 ∧ k ≠ 37) → ∀ i, gN s k i = gN u k i := fun k hk => hg.N k (b k hk)
  have I : ∀ k, (36 ≤ k ∧ k ≤ 43 ∧ k ≠ 37) → gI s k = gI u k := fun k hk => hg.I k (b k hk)
  refine ⟨h1.up hU.ux hg (by decide +kernel), hw, ⟨⟨⟨by rw [I 43 (by omega)]; exact a1, a2, by rw [L 40 (by omega)]; exact a3, by rw [L 41 (by omega)]; exact a4⟩, ⟨by rw [L 39 (by omega), L 42 (by omega)]; exact b1, by rw [l37, L 42 (by omega)]; exact b2, by rw [L 38 (by omega), L 42 (by omega)]; exact b3, by rw [L 42 (by omega)]; exact b4, by rw [L 42 (by omega)]; exact b5⟩, c3, fun i t hi => ?_, fun x hx => ⟨?_, fun he => ?_⟩, fun i hi => by rw [N 41 (by omega)]; exact c6 i hi, c7⟩, by rw [I 36 (by omega)]; exact h3b⟩, h4.up hs hU.ux hg (by decide +kernel) (by decide +kernel) (by decide +kernel) (by decide +kernel), h5.up hs hU.ux hg (by decide +kernel) (by decide +kernel) (by decide +kernel), h6⟩
  · obtain ⟨y, y1, y2, y3, y4, y5, y6, y7⟩ := c4 i t hi
    exact ⟨y, by rw [N 40 (by omega)]; exact y1, y2, by rw [e.n]; exact y3, by rw [e.tr]; exact y4, by rw [L 42 (by omega)]; exact y5, by rw [N 42 (by omega), I 36 (by omega)]; exact y6, by rw [N 39 (by omega)]; exact y7⟩
  · rw [L 42 (by omega)] at hx
    rw [N 42 (by omega), I 36 (by omega)]
    exact (c5 x hx).1
  · rw [L 42 (by omega)] at hx
    rw [N 42 (by omega), I 36 (by omega)] at he
    obtain ⟨i, i1, i2⟩ := (c5 x hx).2 he
    exact ⟨i, i1, by rw [N 40 (by omega)]; exact i2⟩
theorem tX1_know {d : Nat} (hd : 4 ≤ d) {ν : Nat → Nat} {c : Nat} {W : Wd} {S : Fs} {Kl Kl0 : List Nat} {u : Sg} {l : Ls} {X : Nat → Prop} (hC : CaL ν c W S Kl0 u l) (hk : KnS ν u Kl) (hL : KnL u) (hKl : Kl.length ≤ 2500) {x : Nat} (x0 : 0 < x) (hx : x < nC u) (hx9 : x < 90000) : wp (runC d 42 [(x : Int)] u) (fun _ u' => CaL ν c W S Kl0 u' l ∧ Up ν c u u' X ∧ EqS u u' ∧ Gr FC Dkn u u' ∧ KnL u' ∧ KnS ν u' (if trC ν u x ∈ Kl then Kl else Kl ++ [trC ν u x]) ∧ (gL u 38 ≤ gL u' 38 ∧ (∀ i, i < gL u 38 → gN u' 38 i = gN u 38 i) ∧ ∀ i, gL u 38 ≤ i → i < gL u' 38 → gN u' 38 i = 0)) := by
  obtain ⟨d, rfl⟩ : ∃ d', d = d' + 2 := ⟨d - 2, by omega⟩
  rw [runC_eq (by omega)]
  show wp (bX1_know (runC (d + 1)) x u) _
  unfold bX1_know
  have hs := hC.1.1
  refine wp_call (tX1_room (d := d) (X := X) (by omega) hC.2.1 hs hC.2.2.1.1 hC.2.2.1.2 hx9) (fun _ u1 ⟨r1, r2, r3, r4, r5, r6, r7, r8⟩ => ?_)
  have hC1 : CaL ν c W S Kl0 u1 l := CaP.room hC r4.ux r5 r6 r1
  have hs1 := r4.sc
  have i36 : gI u1 36 = gI u 36 := r6.I 36 (by decide +kernel)
  have i35 : gI u1 35 = gI u 35 := r6.I 35 (by decide +kernel)
  have l34 : gL u1 34 = gL u 34 := r6.Ln 34 (by decide +kernel)
  have l3738 : gL u1 37 = gL u1 42 ∧ gL u1 38 = gL u1 42 := ⟨r1.2.1.2.1, r1.2.1.2.2.1⟩
  have l3738' : gL u 37 = gL u 42 ∧ gL u 38 = gL u 42 := ⟨hC.2.2.1.1.2.1.2.1, hC.2.2.1.1.2.1.2.2.1⟩
  have hrun := hC.2.2.1.2
  obtain ⟨⟨k1, k2⟩, k3, k4, k5⟩ := hk
  have l42 : gL u 42 ≤ gL u1 42 := by have := r6.2.2.1 42; exact this
  have hkn1 : KnS ν u1 Kl := by
    refine ⟨⟨by rw [i35]; exact k1, by rw [l34]; exact k2⟩, k3, fun i f hi => ?_, fun y hy => ⟨?_, fun he => ?_⟩⟩
    · obtain ⟨y, y1, y2, y3, y4, y5, y6⟩ := k4 i f hi
      exact ⟨y, by rw [r6.N 34 (by decide +kernel)]; exact y1, y2, by rw [r3.n]; exact y3, by rw [r3.tr]; exact y4, by omega, by rw [r7 37 y (Or.inl rfl) y5, i36]; exact y6⟩
    · rw [i36]
      by_cases hl : y < gL u 37
      · rw [r7 37 y (Or.inl rfl) hl]; exact (k5 y hl).1
      · rw [r8 37 y (Or.inl rfl) (by omega) hy]; omega
    · rw [i36] at he
      by_cases hl : y < gL u 37
      · rw [r7 37 y (Or.inl rfl) hl] at he
        obtain ⟨i, i1, i2⟩ := (k5 y hl).2 he
        exact ⟨i, i1, by rw [r6.N 34 (by decide +kernel)]; exact i2⟩
      · rw [r8 37 y (Or.inl rfl) (by omega) hy] at he
        omega
  have h38 : gL u 38 ≤ gL u1 38 ∧ (∀ i, i < gL u 38 → gN u1 38 i = gN u 38 i) ∧ ∀ i, gL u 38 ≤ i → i < gL u1 38 → gN u1 38 i = 0 := ⟨by omega, fun i hi => r7 38 i (Or.inr rfl) hi, fun i h1 h2 => r8 38 i (Or.inr rfl) h1 h2⟩
  have g1 : Gr FC Dkn u u1 := r6.sub (by decide +kernel)
  rw [ld_nat (by omega), wp_un]
  obtain ⟨⟨j1, j2⟩, j3, j4, j5⟩ := hkn1
  refine wp_ite (fun he => ?_) (fun he => ?_)
  · rw [wp_some]
    have hin : trC ν u x ∈ Kl := by
      obtain ⟨i, i1, i2⟩ := (j5 x (by omega)).2 he
      obtain ⟨y, y1, y2, y3, y4, _⟩ := j4 i _ (List.getElem?_eq_getElem i1)
      have : y = x := by omega
      rw [this, r3.tr] at y4
      rw [y4]; exact List.getElem_mem i1
    rw [if_pos hin]
    exact ⟨hC1, r4, r3, g1, by unfold KnL; rw [l34]; exact hL, ⟨⟨j1, j2⟩, j3, j4, j5⟩, h38⟩
  · have hni : trC ν u x ∉ Kl := fun hin => he (by
      obtain ⟨i, hi⟩ := List.getElem?_of_mem hin
      obtain ⟨y, y1, y2, y3, y4, y5, y6⟩ := j4 i _ hi
      have : y = x := trC_inj hs1 y3 (by rw [r3.n]; exact hx) (by rw [y4, r3.tr])
      rw [← this]; exact y6)
    rw [if_neg hni]
    -- the mark, then the list
    have w1 : WF FC (sA u1 37 (x : Int) (gI u1 36)) := wfA r5 rfl (r5.1 36)
    have gA : Gr FC Dk2 u1 (sA u1 37 (x : Int) (gI u1 36)) := Gr_sA (by decide +kernel)
    rw [wp_jn, wp_un, stA_pos ⟨by omega, by omega⟩]
    refine push_wp (u := sA u1 37 (x : Int) (gI u1 36)) (id := 34) (cn := 35) (D := Dk2) (n := Kl.length) (hi := 16384) (a := (x : Int)) (K := fun s11 => some (0, s11)) w1 rfl (by decide) (by decide +kernel) (by decide +kernel) rfl ⟨by omega, by omega⟩ (by rw [gI_sA]; exact j1) (by rw [gL_sA]; exact j2) (by rw [gL_sA, l34]; exact hL.1) (by rw [gL_sA, l34]; exact hL.2) (by omega) (by omega) (fun s w g i1 i2 a1 a2 a3 a4 n1 n2 => ?_)
    rw [wp_some]
    have gg : Gr FC Dk2 u1 s := gA.tr g
    obtain ⟨e, hU⟩ := gg.ux (X := X) hs1 (by decide +kernel)
    have s37 : gL s 37 = gL u1 37 := by rw [(a1 37 (by omega)).1, gL_sA]
    have s36 : gI s 36 = gI u1 36 := gg.I 36 (by decide +kernel)
    have n37 : ∀ y, gN s 37 y = if y = x then gI u1 36 else gN u1 37 y := fun y => by
      rw [(a1 37 (by omega)).2, gN_sAn]
      by_cases q : y = x
      · rw [if_pos ⟨rfl, q⟩, if_pos q]
      · rw [if_neg (fun z => q z.2), if_neg q]
    have n34 : ∀ i, i < Kl.length → gN s 34 i = gN u1 34 i := fun i hi => by rw [n2 i hi, gN_sAn, if_neg (by omega)]
    refine ⟨CaP.m37 hC1 w gg s37, r4.join hU, r3.trn e, g1.tr (gg.sub (by decide +kernel)), ⟨by rw [gL_sA, l34] at a3; have := hL.1; omega, a4⟩, ⟨⟨by rw [i1, List.length_append]; rfl, by rw [List.length_append]; exact a2⟩, ?_, fun i f hi => ?_, fun y hy => ⟨?_, fun he' => ?_⟩⟩, ?_⟩
    · refine List.nodup_append.mpr ⟨j3, by simp, fun y hy z hz => ?_⟩
      rw [List.mem_singleton.mp hz]
      intro q; exact hni (by rw [← q]; exact hy)
    · by_cases hil : i < Kl.length
      · rw [List.getElem?_append_left hil] at hi
        obtain ⟨y, y1, y2, y3, y4, y5, y6⟩ := j4 i f hi
        refine ⟨y, by rw [n34 i hil]; exact y1, y2, by rw [e.n]; exact y3, by rw [e.tr]; exact y4, by rw [s37]; exact y5, ?_⟩
        rw [n37, s36]
        by_cases q : y = x
        · rw [if_pos q]
        · rw [if_neg q]; exact y6
      · rw [List.getElem?_append_right (by omega)] at hi
        have h0 : i - Kl.length = 0 := by have := (List.getElem?_eq_some_iff.mp hi).1; simp at this; omega
        rw [h0] at hi
        simp at hi
        have ei : i = Kl.length := by omega
        exact ⟨x, by rw [ei]; exact n1, x0, by rw [e.n, r3.n]; exact hx, by rw [e.tr, r3.tr]; exact hi, by rw [s37]; omega, by rw [n37, if_pos rfl, s36]⟩
    · rw [s37] at hy
      rw [n37, s36]
      by_cases q : y = x
      · rw [if_pos q]; exact Int.le_refl _
      · rw [if_neg q]; exact (j5 y hy).1
    · rw [s37] at hy
      rw [n37, s36] at he'
      by_cases q : y = x
      · exact ⟨Kl.length, by rw [List.length_append]; exact Nat.lt_succ_self _, by rw [n1, q]⟩
      · rw [if_neg q] at he'
        obtain ⟨i, q1, q2⟩ := (j5 y hy).2 he'
        exact ⟨i, by rw [List.length_append]; omega, by rw [n34 i q1]; exact q2⟩
    · have l38 : gL s 38 = gL u1 38 := gg.Ln 38 (by decide +kernel)
      have k38 : ∀ i, gN s 38 i = gN u1 38 i := gg.N 38 (by decide +kernel)
      exact ⟨by omega, fun i hi => by rw [k38]; exact h38.2.1 i hi, fun i h1 h2 => by rw [k38]; exact h38.2.2 i h1 (by omega)⟩
