/-! the two families: the class with its store (FC), the reference (FT) -/
abbrev clA : List vw_C := [(RX2, TX2, 21), (RX1, TX1, 57), (RX3, TX3, 83)]
def kdC_l : List Nat := [1, 1, 1, 1, 1, 1, 1, 1, 1, 0, 0, 1, 0, 0, 0, 0, 0, 0, 0, 0, 0, 0, 0, 0, 0, 0, 0, 0, 0, 0, 5, 1, 1, 0, 1, 0, 0, 1, 1, 1, 1, 1, 1, 0, 0, 4, 1, 1, 1, 1, 1, 0, 0, 1, 0, 1, 0, 0, 4, 4, 1, 1, 1, 0, 0, 1, 0, 1, 3, 0, 0, 1, 1, 1, 0, 0, 1, 1, 1, 1, 1, 0, 1, 0, 0, 1, 0]
def kdC (i : Nat) : Nat := kdC_l.getD i 0
def kdT_l : List Nat := [0, 1, 1, 1, 1, 1, 1, 1, 0, 1, 0, 1, 1, 0, 1, 1, 0, 1, 1, 0, 1, 1, 0, 1, 0, 1, 3, 0, 0, 1, 1, 1, 1, 1, 1, 1, 1, 0, 1, 1, 0, 1, 0, 1, 1, 1, 1, 2, 0, 1, 0, 1, 1, 1, 0, 1, 1, 0, 0, 1, 1, 1, 0, 1, 1, 0, 4, 0, 0, 1, 0, 4, 4, 1, 1, 0, 0, 1, 1, 0, 1, 0, 0]
def kdT (i : Nat) : Nat := kdT_l.getD i 0
abbrev FC : Fm := ([(0, 0, 21), (1, 30, 57)], kdC, [0, 1, 2, 3, 4, 5, 6, 7, 8, 11, 31, 32, 34, 37, 38, 39, 40, 41, 42, 46, 47, 48, 49, 50, 53, 55, 60, 61, 62, 65, 67, 68, 71, 72, 73, 76, 77, 78, 79, 80, 82, 85])
abbrev FT : Fm := ([(2, 0, 83)], kdT, [1, 2, 3, 4, 5, 6, 7, 9, 11, 12, 14, 15, 17, 18, 20, 21, 23, 25, 26, 29, 30, 31, 32, 33, 34, 35, 36, 38, 39, 41, 43, 44, 45, 46, 47, 49, 51, 52, 53, 55, 56, 59, 60, 61, 63, 64, 69, 73, 74, 77, 78, 80])
theorem FC_ok : FOK FC := ⟨by decide, by decide⟩
theorem FT_ok : FOK FT := ⟨by decide, by decide⟩
theorem kdC_le (j : Nat) : kdC j ≤ 5 := by
  unfold kdC
  rw [List.getD_eq_getElem?_getD]
  cases h : kdC_l[j]? with
  | none => decide
  | some v => exact (by decide : ∀ x ∈ kdC_l, x ≤ 5) v (List.mem_of_getElem? h)
theorem kdT_le (j : Nat) : kdT j ≤ 5 := by
  unfold kdT
  rw [List.getD_eq_getElem?_getD]
  cases h : kdT_l[j]? with
  | none => decide
  | some v => exact (by decide : ∀ x ∈ kdT_l, x ≤ 5) v (List.mem_of_getElem? h)
theorem FC_10 : FO10 FC := fun j k h => by have := kdC_le j; have h : kdC j = k + 5 := h; omega
theorem FT_10 : FO10 FT := fun j k h => by have := kdT_le j; have h : kdT j = k + 5 := h; omega
