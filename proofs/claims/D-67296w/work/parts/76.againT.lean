/-! a node put together again -/
/-- the hand from a place on holds the numbers of a tree -/
def DatIs (ν : Nat → Nat) (u : Sg) (h s : Nat) : Prop := h + ((ps s).length + nw (kd s)) = hT u ∧ (nw (kd s) = 1 → gN u 12 h = (wh s : Int)) ∧ ∀ (i t : Nat), (ps s)[i]? = some t → ∃ y : Nat, gN u 12 (h + (i + nw (kd s))) = (y : Int) ∧ ((kd s = 8 ∧ 0 < i) → y = t) ∧ (¬ (kd s = 8 ∧ 0 < i) → y ≤ nT u ∧ trT ν u y = t)
theorem pmp_is {g : Nat → Nat} {k : Nat} {L : List Nat} {cs : List Int} (hl : cs.length = L.length) (h : ∀ i, i < L.length → ∃ y t : Nat, cs[i]? = some (y : Int) ∧ L[i]? = some t ∧ ((k = 8 ∧ 0 < i) → y = t) ∧ (¬ (k = 8 ∧ 0 < i) → g y = t)) : pmp g k (cs.map Int.toNat) = L := by
  refine List.ext_getElem? (fun i => ?_)
  by_cases hi : i < L.length
  · obtain ⟨y, t, y1, y2, y3, y4⟩ := h i hi
    rw [y2]
    unfold pmp
    by_cases h8 : k = 8
    · rw [if_pos h8]
      cases i with
      | zero =>
        have := y4 (by omega)
        cases hr : cs with
        | nil => rw [hr] at y1; simp at y1
        | cons z zs => rw [hr] at y1; simp at y1; simp [y1, this]
      | succ i =>
        have := y3 ⟨h8, by omega⟩
        cases hr : cs with
        | nil => rw [hr] at y1; simp at y1
        | cons z zs => rw [hr] at y1; simp at y1; simp [y1, this]
    · rw [if_neg h8, List.map_map, List.getElem?_map, y1]
      have := y4 (fun q => h8 q.1)
      show some (g ((y : Int).toNat)) = _
      rw [← this]; rfl
  · rw [List.getElem?_eq_none (by rw [pmp_len, List.length_map]; omega), List.getElem?_eq_none (by omega)]
theorem labT_tk {ν : Nat → Nat} {k : Nat} {l : List Int} (hk : k = 4 ∨ k = 5 ∨ (8 ≤ k ∧ k ≤ 18 ∧ k ≠ 15)) : labT ν (tkT k, l) = (k, if nw k = 1 then hd0 l else 0, (l.drop (nw k)).map Int.toNat) := by
  have hin := tkT_in (k := k) (by omega)
  have hf : fsT (tkT k) = nw k := by
    rcases hk with q | q | q
    · subst q; decide
    · subst q; decide
    · have : k = 8 ∨ k = 9 ∨ k = 10 ∨ k = 11 ∨ k = 12 ∨ k = 13 ∨ k = 14 ∨ k = 16 ∨ k = 17 ∨ k = 18 := by omega
      rcases this with q | q | q | q | q | q | q | q | q | q <;> (subst q; decide)
  have hn : nk (tkT k) = k := by
    rcases hk with q | q | q
    · subst q; decide
    · subst q; decide
    · have : k = 8 ∨ k = 9 ∨ k = 10 ∨ k = 11 ∨ k = 12 ∨ k = 13 ∨ k = 14 ∨ k = 16 ∨ k = 17 ∨ k = 18 := by omega
      rcases this with q | q | q | q | q | q | q | q | q | q <;> (subst q; decide)
  unfold labT
  dsimp only
  rw [if_neg (fun q => by have := hin.2.1.mp q; omega), if_neg (fun q => by have := hin.1.mp q; omega), hf, hn]
  by_cases h1 : nw k = 1
  · rw [if_pos h1, if_pos h1, h1]
  · have h0 : nw k = 0 := by unfold nw at h1 ⊢; split at h1 <;> simp_all
    rw [if_neg h1, if_neg h1, h0, List.drop_zero]
theorem wh0 {s : Nat} (h : okN s) (h3 : ¬ kd s ≤ 3) (h0 : nw (kd s) ≠ 1) : wh s = 0 := by
  rcases h.2 with q | q | q | q | q | q | q | q | q | q | q | q | q | q
  · omega
  · omega
  · omega
  · rw [q.1] at h0; exact absurd (by decide) h0
  · exact q.2.1
  · rw [q.1] at h0; exact absurd (by decide) h0
  · exact q.2.1
  · exact q.2.1
  · rw [q.1] at h0; exact absurd (by decide) h0
  · rw [q.1] at h0; exact absurd (by decide) h0
  · rw [q.1] at h0; exact absurd (by decide) h0
  · exact q.2.1
  · exact q.2.1
  · exact q.2.1
theorem DatIs.row {ν : Nat → Nat} {u : Sg} {h s : Nat} (hd : DatIs ν u h s) (ho : okT s) (h3 : ¬ kd s ≤ 3) : treeT ν u (tkT (kd s), rowH u h) = s := by
  have hin := okT_kin ho
  have hk : kd s = 4 ∨ kd s = 5 ∨ (8 ≤ kd s ∧ kd s ≤ 18 ∧ kd s ≠ 15) := by omega
  have hlen : (rowH u h).length = (ps s).length + nw (kd s) := by rw [rowH_len]; have := hd.1; omega
  unfold treeT
  rw [labT_tk hk]
  dsimp only
  rw [pmp_is (g := trT ν u) (k := kd s) (L := ps s) (by rw [List.length_drop, hlen]; omega) (fun i hi => ?_)]
  · have ew : (if nw (kd s) = 1 then hd0 (rowH u h) else 0) = wh s := by
      by_cases h1 : nw (kd s) = 1
      · rw [if_pos h1]
        have a := rowH_at u (a := h) (i := 0) (by have := hd.1; omega)
        unfold hd0
        rw [a, Nat.add_zero, hd.2.1 h1]; rfl
      · rw [if_neg h1, wh0 ho.n h3 h1]
    rw [ew]; exact ho.n.1.symm
  · obtain ⟨y, y1, y2, y3⟩ := hd.2.2 i _ (List.getElem?_eq_getElem hi)
    refine ⟨y, _, ?_, List.getElem?_eq_getElem hi, y2, fun q => (y3 q).2⟩
    rw [List.getElem?_drop, Nat.add_comm (nw (kd s)) i, rowH_at u (by have := hd.1; omega), y1]
theorem DatIs.nn {ν : Nat → Nat} {u : Sg} {h s : Nat} (hd : DatIs ν u h s) (hnw : nw (kd s) ≤ 1) : ∀ v ∈ rowH u h, 0 ≤ v := fun v hv => by
  obtain ⟨i, hi⟩ := List.getElem?_of_mem hv
  have hil : i < hT u - h := by have := (List.getElem?_eq_some_iff.mp hi).1; rw [rowH_len] at this; exact this
  rw [rowH_at u hil] at hi
  have e := Option.some.inj hi
  have h1 := hd.1
  by_cases hq : i < nw (kd s)
  · have : i = 0 := by omega
    subst this
    have := hd.2.1 (by omega)
    rw [Nat.add_zero] at e
    omega
  · have hj : i - nw (kd s) < (ps s).length := by omega
    obtain ⟨y, y1, _⟩ := hd.2.2 _ _ (List.getElem?_eq_getElem hj)
    rw [show h + (i - nw (kd s) + nw (kd s)) = h + i by omega] at y1
    omega
theorem nw_le (k : Nat) : nw k ≤ 1 := by unfold nw; split <;> omega
