/-! how much typing makes in a case that is not many -/
section TY3
variable {W : Wd} {Fo : List Nat} {K O : Nat → Prop}
theorem not_many {S : Fs} (h : ¬ manyS S) : ∃ E : List Nat, E.Nodup ∧ (∀ t, t ∈ E ↔ fH S t) ∧ E.length ≤ 100 := enum_of (fun L hL hs => by
  rcases Nat.lt_or_ge 100 L.length with w | w
  · exact absurd ⟨L.take 101, hL.sublist (List.take_sublist _ _), by rw [List.length_take]; omega, fun t ht => hs t (List.mem_of_mem_take ht)⟩ h
  · exact w)
/-- images for the terms at hand -/
def tyI (Fo E : List Nat) : List Nat := E.flatMap (fun t => (lcF Fo).map (sbT (locg (pa t 0) (pa t 1)) 0)) ++ (0 :: E).flatMap (fun a => (lcF Fo).map (sbT (locg a 0) 0))
theorem tyI_len {E : List Nat} : (tyI Fo E).length = (2 * E.length + 1) * (lcF Fo).length := by
  unfold tyI
  rw [List.length_append, fm_len (n := (lcF Fo).length) (fun a => by rw [List.length_map]), fm_len (n := (lcF Fo).length) (fun a => by rw [List.length_map]), List.length_cons, ← Nat.add_mul]
  congr 1
  omega
theorem pa_sub {t i : Nat} (h8 : kd t ≠ 8) : pa t i = 0 ∨ subT (pa t i) t := by
  unfold pa
  cases e : (ps t)[i]? with
  | none => exact Or.inl rfl
  | some c =>
    by_cases h0 : c = 0
    · exact Or.inl h0
    · exact Or.inr (sub_c (fms_at.mpr ⟨i, Or.inl h8, e, h0⟩) (sub_rf _))
theorem X22.covS (hF : ∀ f ∈ Fo, okT f) (hs : ∀ f ∈ Fo, kd f ≤ 8 → KpT Fo f) (hO : ∀ t, fH (facS W K O) t → okT t ∧ isTm t) {E : List Nat} (hE : ∀ t, t ∈ E ↔ fH (facS W K O) t) {t z : Nat} (ht : fH (facS W K O) t) (h : X22 W Fo t z) : (∃ f ∈ Fo, subT z f) ∨ z = 0 ∨ (∃ t, fH (facS W K O) t ∧ subT z t) ∨ z ∈ tyI Fo E := by
  have par : ∀ t ∈ E, ∀ i, pa t i = 0 ∨ ∃ r, fH (facS W K O) r ∧ subT (pa t i) r := fun t ht i => by
    have q := (hE t).mp ht
    have m := (hO t q).2
    rcases pa_sub (t := t) (i := i) (by unfold isTm at m; omega) with w | w
    · exact Or.inl w
    · exact Or.inr ⟨t, q, w⟩
  rcases X22.cov (T := 0 :: E) hF hs (fun t ht => List.mem_cons_of_mem _ ht) ((hE t).mpr ht) h with w | w
  · exact Or.inl w
  · refine Or.inr ?_
    unfold tyL at w
    rcases List.mem_append.mp w with w | w
    · rcases List.mem_append.mp w with w | w
      · rcases List.mem_append.mp w with w | w
        · rcases List.mem_append.mp w with w | w
          · obtain ⟨r, hr, e⟩ := List.mem_map.mp w
            rw [← e]
            exact (par r hr 0).imp id Or.inl
          · obtain ⟨r, hr, e⟩ := List.mem_map.mp w
            rw [← e]
            exact (par r hr 1).imp id Or.inl
        · rcases List.mem_cons.mp w with w | w
          · exact Or.inl w
          · rcases List.mem_cons.mp w with w | w
            · exact Or.inl w
            · exact Or.inr (Or.inl ⟨z, (hE z).mp w, sub_rf z⟩)
      · exact Or.inr (Or.inr (List.mem_append_left _ w))
    · exact Or.inr (Or.inr (List.mem_append_right _ w))
end TY3
