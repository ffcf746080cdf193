/-! how much typing makes -/
section TY2
variable {W : Wd} {Fo : List Nat}
/-- kept terms and types with a place for an argument -/
def lcF (Fo : List Nat) : List Nat := Fo.filter (fun s => decide (4 ≤ kd s ∧ kd s ≤ 8 ∧ ∃ c ∈ lvT s, kd c = 3))
theorem loc_lf {a b d s : Nat} (hk : kd s = 3) : sbT (locg a b) d s = a ∨ sbT (locg a b) d s = b := by
  rw [sbT_eq, if_pos (by omega)]
  unfold locg
  rw [if_pos hk]
  split
  · exact Or.inl rfl
  · exact Or.inr rfl
theorem loc_no {a b d s : Nat} (ho : okT s) (h : ¬ ∃ c ∈ lvT s, kd c = 3) : sbT (locg a b) d s = s := sb_same s ho (fun c hc d' => by
  unfold locg
  rw [if_neg (fun k => h ⟨c, hc, k⟩)]) d
theorem loc_cov {a b s : Nat} (ho : okT s) (hs : 4 ≤ kd s → s ∈ Fo) (h8 : kd s ≤ 8) : sbT (locg a b) 0 s = s ∨ (sbT (locg a b) 0 s = a ∨ sbT (locg a b) 0 s = b) ∨ sbT (locg a b) 0 s ∈ (lcF Fo).map (sbT (locg a b) 0) := by
  by_cases h : ∃ c ∈ lvT s, kd c = 3
  · by_cases hk : kd s ≤ 3
    · obtain ⟨c, hc, k⟩ := h
      rw [lvT_eq, if_pos hk, List.mem_singleton] at hc
      exact Or.inr (Or.inl (loc_lf (by rw [← hc]; exact k)))
    · exact Or.inr (Or.inr (List.mem_map_of_mem (List.mem_filter.mpr ⟨hs (by omega), by simp only [decide_eq_true_eq]; exact ⟨by omega, h8, h⟩⟩)))
  · exact Or.inl (loc_no ho h)
/-- what typing makes for the terms of H: kept forms, terms at hand, images of forms with a place -/
def tyL (Fo H T : List Nat) : List Nat := (H.map (fun t => pa t 0) ++ H.map (fun t => pa t 1)) ++ (0 :: T) ++ H.flatMap (fun t => (lcF Fo).map (sbT (locg (pa t 0) (pa t 1)) 0)) ++ T.flatMap (fun a => (lcF Fo).map (sbT (locg a 0) 0))
theorem fm_len {A : Type} {n : Nat} {f : A → List Nat} (h : ∀ a, (f a).length = n) : ∀ l : List A, (l.flatMap f).length = l.length * n
  | [] => by simp
  | a :: l => by rw [List.flatMap_cons, List.length_append, h, fm_len h l, List.length_cons, Nat.succ_mul]; omega
theorem tyL_len {H T : List Nat} : (tyL Fo H T).length = 2 * H.length + (T.length + 1) + H.length * (lcF Fo).length + T.length * (lcF Fo).length := by
  unfold tyL
  simp only [List.length_append, List.length_map, List.length_cons]
  rw [fm_len (n := (lcF Fo).length) (fun a => by rw [List.length_map]), fm_len (n := (lcF Fo).length) (fun a => by rw [List.length_map])]
  omega
theorem X22.cov (hF : ∀ f ∈ Fo, okT f) (hs : ∀ f ∈ Fo, kd f ≤ 8 → KpT Fo f) {H T : List Nat} (ht2 : ∀ t ∈ H, t ∈ T) {t z : Nat} (ht : t ∈ H) (h : X22 W Fo t z) : (∃ f ∈ Fo, subT z f) ∨ z ∈ tyL Fo H T := by
  obtain ⟨f, hf, h8, s, hsf, hz⟩ := h
  have ho := sub_ok f (hF f hf) hsf
  have s8 : kd s ≤ 8 := by
    have hsf2 := hsf
    rw [subT_eq] at hsf2
    rcases hsf2 with w | ⟨c, hc, w⟩
    · rw [w]; exact h8
    · exact kd_sub8 (hF f hf) h8 hc w
  have ms := fun k => hs f hf h8 s hsf k s8
  unfold tyL
  rcases hz with e | e
  · rcases loc_cov (a := pa t 0) (b := pa t 1) ho ms s8 with w | (w | w) | w
    · exact Or.inl ⟨f, hf, by rw [e, w]; exact hsf⟩
    · exact Or.inr (List.mem_append_left _ (List.mem_append_left _ (List.mem_append_left _ (List.mem_append_left _ (List.mem_map.mpr ⟨t, ht, by rw [e, w]⟩)))))
    · exact Or.inr (List.mem_append_left _ (List.mem_append_left _ (List.mem_append_left _ (List.mem_append_right _ (List.mem_map.mpr ⟨t, ht, by rw [e, w]⟩)))))
    · exact Or.inr (List.mem_append_left _ (List.mem_append_right _ (List.mem_flatMap.mpr ⟨t, ht, by rw [e]; exact w⟩)))
  · have my := ht2 t ht
    rcases loc_cov (a := t) (b := 0) ho ms s8 with w | (w | w) | w
    · exact Or.inl ⟨f, hf, by rw [e, w]; exact hsf⟩
    · exact Or.inr (List.mem_append_left _ (List.mem_append_left _ (List.mem_append_right _ (by rw [e, w]; exact List.mem_cons_of_mem _ my))))
    · exact Or.inr (List.mem_append_left _ (List.mem_append_left _ (List.mem_append_right _ (by rw [e, w]; exact List.mem_cons_self))))
    · exact Or.inr (List.mem_append_right _ (List.mem_flatMap.mpr ⟨t, my, by rw [e]; exact w⟩))
theorem X20.cov (hF : ∀ f ∈ Fo, okT f) (hs : ∀ f ∈ Fo, kd f ≤ 8 → KpT Fo f) {z : Nat} (h : X20 Fo z) : (∃ f ∈ Fo, subT z f) ∨ z = 0 ∨ z ∈ (lcF Fo).map (sbT (locg 0 0) 0) := by
  obtain ⟨f, hf, h8, s, hsf, e⟩ := h
  have ho := sub_ok f (hF f hf) hsf
  have s8 : kd s ≤ 8 := by
    have hsf2 := hsf
    rw [subT_eq] at hsf2
    rcases hsf2 with w | ⟨c, hc, w⟩
    · rw [w]; exact h8
    · exact kd_sub8 (hF f hf) h8 hc w
  rcases loc_cov (a := 0) (b := 0) ho (fun k => hs f hf h8 s hsf k s8) s8 with w | (w | w) | w
  · exact Or.inl ⟨f, hf, by rw [e, w]; exact hsf⟩
  · exact Or.inr (Or.inl (by rw [e, w]))
  · exact Or.inr (Or.inl (by rw [e, w]))
  · exact Or.inr (Or.inr (by rw [e]; exact w))
end TY2
