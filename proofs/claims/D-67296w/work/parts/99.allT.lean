/-! the model's stack of terms that are wanted -/
theorem EqH.sN {u : Sg} {k n : Nat} {f : Nat → Int} (hk : 14 ≤ k) : EqH u (sN u k n f) := ⟨⟨fun j hj => by show va_up u.2.1 k _ j = _; unfold va_up; rw [if_neg (by omega)], fun j hj => rfl⟩, rfl, by show va_up u.2.1 k _ 12 = _; unfold va_up; rw [if_neg (by omega)]⟩
theorem gI_sN' (u : Sg) (k n : Nat) (f : Nat → Int) (j : Nat) : gI (sN u k n f) j = gI u j := rfl
theorem gN_sN' {u : Sg} {k n j i : Nat} {f : Nat → Int} : gN (sN u k n f) j i = if j = k then f i else gN u j i := gN_sN u k n f j i
theorem gL_sN' {u : Sg} {k n j : Nat} {f : Nat → Int} : gL (sN u k n f) j = if j = k then n else gL u j := by
  show (va_up u.2.1 k (n, f) j).1 = _
  unfold va_up
  by_cases h : j = k
  · rw [if_pos h, if_pos h]
  · rw [if_neg h, if_neg h]; rfl
/-- room is made in one array -/
def MorT (u u' : Sg) (id n D : Nat) : Prop := EqH u u' ∧ WF FT u' ∧ Gr FT D u u' ∧ (∀ j, gI u' j = gI u j) ∧ (∀ j, j ≠ id → gL u' j = gL u j ∧ ∀ i, gN u' j i = gN u j i) ∧ n < gL u' id ∧ gL u id ≤ gL u' id ∧ (gL u' id = gL u id ∨ gL u' id ≤ 2 * n + 2) ∧ (∀ i, i < gL u id → gN u' id i = gN u id i) ∧ ∀ i, gL u id ≤ i → i < gL u' id → gN u' id i = 0
theorem wp_morT {u : Sg} {id n D : Nat} {K : Sg → Option (Int × Sg)} {Q : Int → Sg → Prop} (hw : WF FT u) (h14 : 14 ≤ id) (hk1 : FT.2.1 id = 1) (hin : id ∈ FT.2.2) (hD : D.testBit id = true) (h16 : 16 ≤ gL u id) (hn : n < 1000000) (k : ∀ u', MorT u u' id n D → wp (K u') Q) : wp (mor u id (n : Int) K) Q := by
  refine wp_mor (fun h => ?_) (fun h => ?_)
  · exact k u ⟨EqH.rf, hw, Gr.rf, fun _ => rfl, fun _ _ => ⟨rfl, fun _ => rfl⟩, by omega, Nat.le_refl _, Or.inl rfl, fun _ _ => rfl, fun i h1 h2 => by omega⟩
  · have hm : morN (gL u id) (n : Int) = if n + 1 < 2 * gL u id then 2 * gL u id else n + 1 := by unfold morN; rw [Int.toNat_natCast]
    have h1 : 2 * gL u id ≤ morN (gL u id) (n : Int) := by rw [hm]; split <;> omega
    have h2 : morN (gL u id) (n : Int) ≤ 2 * n + 2 := by rw [hm]; split <;> omega
    have h3 : n < morN (gL u id) (n : Int) := by rw [hm]; split <;> omega
    obtain ⟨j, hj⟩ := List.getElem?_of_mem hin
    refine ⟨⟨h16, by omega⟩, k _ ⟨EqH.sN (by omega), hw.sN hk1 (by omega) (fun i => ?_), Gr_sN FT_ok hj hD ?_ (by omega), fun _ => rfl, fun j' hj' => ⟨by rw [gL_sN', if_neg hj'], fun i => by rw [gN_sN', if_neg hj']⟩, by rw [gL_sN', if_pos rfl]; exact h3, by rw [gL_sN', if_pos rfl]; omega, Or.inr (by rw [gL_sN', if_pos rfl]; exact h2), fun i hi => ?_, fun i hi hi2 => ?_⟩⟩
    · by_cases hi : i < gL u id
      · rw [if_pos hi]
        exact hw.2.2.2.1 id i (by rw [hk1]; decide)
      · rw [if_neg hi]; decide
    · show (1 + 1) * gL u id ≤ 1 * morN (gL u id) (n : Int)
      omega
    · rw [gN_sN', if_pos rfl, if_pos hi]; rfl
    · rw [gN_sN', if_pos rfl, if_neg (by omega)]
/-- the stack of wanted terms -/
def StkT (u : Sg) (w : Nat) : Prop := gI u 42 = (w : Int) ∧ w ≤ gL u 41 ∧ 16 ≤ gL u 41
def MmT (u : Sg) : Prop := 1 ≤ gI u 40 ∧ 16 ≤ gL u 38 ∧ 16 ≤ gL u 39
/-- and no mark is later than now -/
def MmA (u : Sg) : Prop := MmT u ∧ ∀ i, i < gL u 39 → 0 ≤ gN u 39 i ∧ gN u 39 i ≤ gI u 40
/-- on the way: from u0 the store has grown, what is remembered is right -/
def AlP (ν : Nat → Nat) (c : Nat) (W : Wd) (u0 : Sg) (X : Nat → Prop) (u : Sg) : Prop := UpT ν c u0 u X ∧ WF FT u ∧ Gr FT DX3_allOf u0 u ∧ MemT ν c W u ∧ MmA u
theorem EqH.up {ν : Nat → Nat} {c : Nat} {u u' : Sg} {X : Nat → Prop} (h : EqH u u') (hs : ST ν c u) : UpT ν c u u' X := ⟨h.st hs, by rw [h.1.st]; exact Ext.rf, fun t ht => Or.inl (h.1.nd.mp ht), h.hh, fun i _ => h.hN i⟩
theorem rX3_wants {d : Nat} (hd : 4 ≤ d) {ν : Nat → Nat} {c : Nat} {W : Wd} {u0 u : Sg} {X : Nat → Prop} {t w : Nat} (hA : AlP ν c W u0 X u) (t0 : 0 < t) (ht : t < 131072) (hnr : ¬ RemT u t) (hS : StkT u w) (hw2 : w ≤ 100000) : wp (runT d 92 [(t : Int)] u) (fun _ u' => EqH u u' ∧ AlP ν c W u0 X u' ∧ StkT u' (w + 1) ∧ gN u' 41 w = (t : Int) ∧ (∀ i, i < w → gN u' 41 i = gN u 41 i) ∧ ∀ s, RemT u' s ↔ RemT u s) := by
  obtain ⟨d, rfl⟩ : ∃ d', d = d' + 1 := ⟨d - 1, by omega⟩
  rw [runT_eq (by omega)]
  show wp (bX3_wants (runT d) t u) _
  unfold bX3_wants
  obtain ⟨d, rfl⟩ : ∃ d', d = d' + 1 := ⟨d - 1, by omega⟩
  obtain ⟨hU, hw, hg, hm, hmm⟩ := hA
  obtain ⟨s1, s2, s3⟩ := hS
  rw [if_neg (by omega)]
  refine wp_eq ((rX3_isRem (by omega) t).2 hnr) ?_
  rw [if_pos rfl, wp_un, s1]
  refine wp_morT (D := DX3_allOf) hw (by omega) rfl (by decide) (by decide +kernel) s3 (by omega) (fun u1 ⟨e1, w1, g1, i1, o1, n1, n2, n3, n4, n5⟩ => ?_)
  rw [wp_un, i1, s1, wp_ar]
  refine ⟨⟨by omega, by omega⟩, ?_⟩
  rw [wp_un, stA_pos ⟨by omega, by rw [gL_sI]; omega⟩, wp_some]
  have e2 : EqH u (sA (sI u1 42 ((w : Int) + 1)) 41 (w : Int) (t : Int)) := e1.trn ((EqH.sI (by omega)).trn (EqH.sA (by omega)))
  have G2 : Gr FT DX3_allOf u (sA (sI u1 42 ((w : Int) + 1)) 41 (w : Int) (t : Int)) := g1.tr ((Gr_sI (by decide +kernel)).tr (Gr_sA (by decide +kernel)))
  have l38 : gL (sA (sI u1 42 ((w : Int) + 1)) 41 (w : Int) (t : Int)) 38 = gL u 38 := by rw [gL_sA, gL_sI]; exact (o1 38 (by omega)).1
  have l39 : gL (sA (sI u1 42 ((w : Int) + 1)) 41 (w : Int) (t : Int)) 39 = gL u 39 := by rw [gL_sA, gL_sI]; exact (o1 39 (by omega)).1
  have a38 : ∀ i, gN (sA (sI u1 42 ((w : Int) + 1)) 41 (w : Int) (t : Int)) 38 i = gN u 38 i := fun i => by rw [gN_sA, if_neg (by omega), gN_sI]; exact (o1 38 (by omega)).2 i
  have a39 : ∀ i, gN (sA (sI u1 42 ((w : Int) + 1)) 41 (w : Int) (t : Int)) 39 i = gN u 39 i := fun i => by rw [gN_sA, if_neg (by omega), gN_sI]; exact (o1 39 (by omega)).2 i
  have i40 : gI (sA (sI u1 42 ((w : Int) + 1)) 41 (w : Int) (t : Int)) 40 = gI u 40 := by rw [gI_sA, gI_sI, if_neg (by omega), i1]
  have hrem : ∀ s, RemT (sA (sI u1 42 ((w : Int) + 1)) 41 (w : Int) (t : Int)) s ↔ RemT u s := fun s => by unfold RemT; rw [l39, a39, i40]
  refine ⟨e2, ⟨hU.join (e2.up hU.1), ?_, hg.tr G2, fun s hs => ?_, ?_⟩, ⟨by rw [gI_sA, gI_sI, if_pos rfl]; omega, by rw [gL_sA, gL_sI]; omega, by rw [gL_sA, gL_sI]; omega⟩, by rw [gN_sA, if_pos ⟨rfl, by omega⟩], fun i hi => by rw [gN_sA, if_neg (by omega), gN_sI, n4 i (by omega)], hrem⟩
  · refine (w1.sI ⟨by omega, by omega⟩ (fun h => ?_)).sA (fun _ => ⟨by omega, by omega⟩) (fun h => ?_) (fun h => ?_)
    · have h : (0 : Nat) = 4 := h; cases h
    · have h : (1 : Nat) = 2 := h; cases h
    · have h : (1 : Nat) = 3 := h; cases h
  · obtain ⟨b1, b2, b3, b4⟩ := hm s ((hrem s).mp hs)
    exact ⟨b1, by rw [e2.1.n]; exact b2, by rw [l38]; exact b3, by rw [a38, e2.1.tr]; exact b4⟩
  · refine ⟨by unfold MmT; rw [i40, l38, l39]; exact hmm.1, fun i hi => ?_⟩
    rw [l39] at hi
    rw [a39, i40]; exact hmm.2 i hi
