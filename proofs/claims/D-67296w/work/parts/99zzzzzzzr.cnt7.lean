/-! counting: a put, all in one list -/
def nZs (Sh : List Nat) : Nat := (ddL (Sh.filter (fun h => decide (9 ≤ kd h ∧ (iL h).length = 1)))).length
def nXs (Sh : List Nat) : Nat := (ddL (Sh.filter (fun h => decide (kd h ≤ 8)))).length
section CNT
variable {t : Nat} {E : Nat → Nat} {χ : Prop} {n N M cA cP : Nat} {Sh : List Nat}
theorem ZxP.le {Zx : List Nat} (h : ZxP Sh t Zx) : (ddL Zx).length ≤ nXs Sh := by
  have h1 : (ddL Zx).length ≤ ((ddL (Sh.filter (fun h => decide (kd h ≤ 8)))).map (sbT (fun _ _ => t) 0)).length := dd_sub (fun s hs => by
    obtain ⟨q, q1, q2, q3⟩ := h s hs
    exact List.mem_map.mpr ⟨q, dd_mem.mpr (List.mem_filter.mpr ⟨q1, by simpa using q2⟩), q3.symm⟩)
  rwa [List.length_map] at h1
theorem ZaP.le {Za : List Nat} (h : ZaP Sh t Za) : (ddL Za).length ≤ nZs Sh := by
  have h1 : (ddL Za).length ≤ ((ddL (Sh.filter (fun h => decide (9 ≤ kd h ∧ (iL h).length = 1)))).map (sbT (fun _ _ => t) 0)).length := dd_sub (fun s hs => by
    obtain ⟨q, q1, q2, q3, q4⟩ := h s hs
    exact List.mem_map.mpr ⟨q, dd_mem.mpr (List.mem_filter.mpr ⟨q1, by simpa using ⟨q2, q3⟩⟩), q4.symm⟩)
  rwa [List.length_map] at h1
/-- all that is new when something is put for a variable -/
def EvC (χ : Prop) (t : Nat) (E : Nat → Nat) (e b : Nat) (Y : List Nat) : Prop := (∀ s, subT s (nwT t E e b) → subT s (odT E e b) ∨ subT s t ∨ s ∈ Y ∨ (χ ∧ ∃ r, subT r (nwT t E e b) ∧ isTm r ∧ loT r = 0 ∧ subT s r)) ∧ (χ → ∀ s p, subT s (nwT t E e b) → kd s = 17 → p ∈ ps s → loT p = 0 → kd p ≠ 16 → (∃ s', subT s' (odT E e b) ∧ kd s' = 17 ∧ p ∈ ps s') ∨ notT p ∈ Y)
theorem ev_cnt (ht : clT1 t) (hE : clE1 E) (hM : MOK M n N) (hcr : CrK χ cA cP) {b : Nat} (ho : okT b) (hf : isFo b) (hA : Alls (AtP n N Sh) b) (e : Nat) : ∃ Y : List Nat, (M + 2) * Y.length ≤ M * szT b + 16 * nZs Sh + 2 * nXs Sh ∧ EvC χ t E e b Y := by
  by_cases hc : nwT t E e b = odT E e b
  · exact ⟨[], by simp, fun s hs => Or.inl (by rw [← hc]; exact hs), fun _ s p hs k hp _ _ => Or.inl ⟨s, by rw [← hc]; exact hs, k, hp⟩⟩
  · obtain ⟨K, hK⟩ : ∃ K, K + 12 = 2 * M := ⟨2 * M - 12, by have := hM.1; omega⟩
    have F : ∃ cr, Fq M K χ Sh t E e b cr := by
      rcases (cov_fo (χ := χ) ht hE hM hK hcr b ho hf hA e hc).1 with ⟨_, q⟩ | q
      · exact ⟨_, q⟩
      · exact ⟨_, q⟩
    obtain ⟨cr, L, Zx, Za, c1, c2⟩ := F
    have x1 : (ddL Zx).length ≤ nXs Sh := ZxP.le c1.2.2.1
    have x2 := dd_le Zx
    have z1 : (ddL Za).length ≤ nZs Sh := ZaP.le c1.2.2.2
    have z2 := dd_le Za
    refine ⟨L ++ (ddL Zx ++ (ddL Za ++ (ddL Za).map notT)), ?_, fun s hs => ?_, fun hχ s p hs k hp l0 k16 => ?_⟩
    · rw [List.length_append, List.length_append, List.length_append, List.length_map]
      generalize (ddL Zx).length = x at *
      generalize (ddL Za).length = z at *
      have a1 : M * x ≤ M * Zx.length := Nat.mul_le_mul_left M x2
      have a2 : K * z ≤ K * Za.length := Nat.mul_le_mul_left K z2
      have a3 : K * z + 12 * z = 2 * M * z := by rw [← Nat.add_mul, hK]
      have a4 : 2 * M * z = M * z + M * z := by rw [Nat.mul_assoc, Nat.two_mul]
      simp only [Nat.mul_add, Nat.add_mul]
      simp only [Nat.add_mul] at c2
      omega
    · rcases c1.1 s hs with q | q | q | q | ⟨z, q1, q2⟩ | q
      · exact Or.inl q
      · exact Or.inr (Or.inl q)
      · exact Or.inr (Or.inr (Or.inl (List.mem_append_left _ q)))
      · exact Or.inr (Or.inr (Or.inl (List.mem_append_right _ (List.mem_append_left _ (dd_mem.mpr q)))))
      · refine Or.inr (Or.inr (Or.inl (List.mem_append_right _ (List.mem_append_right _ ?_))))
        rcases q2 with w | w
        · exact List.mem_append_left _ (dd_mem.mpr (by rw [w]; exact q1))
        · exact List.mem_append_right _ (List.mem_map.mpr ⟨z, dd_mem.mpr q1, w.symm⟩)
      · exact Or.inr (Or.inr (Or.inr q))
    · rcases c1.2.1 hχ s p hs k hp l0 k16 with q | q | q
      · exact Or.inl q
      · exact Or.inr (List.mem_append_left _ q)
      · exact Or.inr (List.mem_append_right _ (List.mem_append_right _ (List.mem_append_right _ (List.mem_map.mpr ⟨p, dd_mem.mpr q, rfl⟩))))
end CNT
