/-! levels: binds and joins told apart -/
/-- ALL, or NOT of it -/
def isB (t : Nat) : Bool := decide (kd t = 18 ∨ (kd t = 16 ∧ kd (pa t 0) = 18))
def nFB (Fo : List Nat) : Nat := (Fo.filter isB).length
def nFJ (Fo : List Nat) : Nat := (Fo.filter (fun t => decide (15 ≤ kd t) && !isB t)).length
theorem hg_and2 {L : List Nat} {B : Nat} (h : ∀ f ∈ L, hgT f ≤ B) : hgT (andT L) ≤ B + (if kd (andT L) = 17 then 1 else 0) := by
  have h1 := hg_and h
  by_cases k17 : kd (andT L) = 17
  · rw [if_pos k17]; exact h1
  rw [if_neg k17]
  have hfl : ∀ g ∈ L.flatMap flt, hgT g ≤ B := fun g hg => by
    obtain ⟨f, hf, q⟩ := List.mem_flatMap.mp hg
    rcases flt_in q with e | ⟨e, z⟩
    · rw [e]; exact h f hf
    · have := hg_part (t := f) (by omega) z
      have := h f hf
      omega
  unfold andT at k17 ⊢
  by_cases hn : noT ∈ L
  · rw [if_pos hn, hg_no]; omega
  · rw [if_neg hn] at k17 ⊢
    cases hl : L.flatMap flt with
    | nil => show hgT yesT ≤ _; rw [hg_lo (by unfold yesT; rw [kd_mk]; decide)]; omega
    | cons a l =>
      rw [hl] at hfl k17
      cases l with
      | nil => exact hfl a List.mem_cons_self
      | cons b l => exact absurd (kd_mk _ _ _) k17
theorem isB_and {L : List Nat} (h : isB (andT L) = true) : kd (andT L) ≠ 17 := fun q => by
  unfold isB at h
  simp only [decide_eq_true_eq] at h
  omega
theorem isB_not {f : Nat} (ho : okT f) (h : isB (notT f) = true) : isB f = true := by
  unfold isB at h ⊢
  simp only [decide_eq_true_eq] at h ⊢
  unfold notT at h
  by_cases h16 : kd f = 16
  · rw [if_pos h16] at h
    obtain ⟨g, e, fg, kg, mg⟩ := ps_not1 ho h16
    have hp : pa f 0 = g := by unfold pa; rw [e]; rfl
    have e0 : (ps f).headD 0 = g := by rw [e]; rfl
    first
      | (rw [e] at h; simp at h; rw [hp]; omega)
      | (rw [e0] at h; rw [hp]; omega)
  · rw [if_neg h16] at h
    rcases h with q | ⟨_, q⟩
    · rw [kd_mk] at q; omega
    · have hp : pa (mk 16 0 [f]) 0 = f := by unfold pa; rw [ps_mk]; rfl
      rw [hp] at q
      exact Or.inl q
