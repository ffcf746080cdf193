/-! counting openings: variables in a form -/
def hvS (f : Nat → Nat → Prop) (t : Nat) : Nat → Prop := fun j => (kd t = 2 ∧ wh t = j) ∨ (kd t = 18 ∧ ((∃ c ∈ (ps t).take 1, f c j) ∨ ∃ c ∈ (ps t).drop 1, f c (j + 1))) ∨ (kd t ≠ 18 ∧ ∃ c ∈ fms t, f c j)
/-- a form speaks of the binder j around it -/
def hvT (t j : Nat) : Prop := rcT hvS (fun _ => False) t j
theorem hv_eq (t j : Nat) : hvT t j = ((kd t = 2 ∧ wh t = j) ∨ (kd t = 18 ∧ ((∃ c ∈ (ps t).take 1, hvT c j) ∨ ∃ c ∈ (ps t).drop 1, hvT c (j + 1))) ∨ (kd t ≠ 18 ∧ ∃ c ∈ fms t, hvT c j)) := by
  unfold hvT
  rw [rc_eq (fun f f' t h => by
    unfold hvS
    funext j
    refine propext ⟨fun q => ?_, fun q => ?_⟩
    · rcases q with q | ⟨q0, ⟨c, q1, q2⟩ | ⟨c, q1, q2⟩⟩ | ⟨q0, c, q1, q2⟩
      · exact Or.inl q
      · exact Or.inr (Or.inl ⟨q0, Or.inl ⟨c, q1, by rw [← h c (List.mem_of_mem_take q1)]; exact q2⟩⟩)
      · exact Or.inr (Or.inl ⟨q0, Or.inr ⟨c, q1, by rw [← h c (List.mem_of_mem_drop q1)]; exact q2⟩⟩)
      · exact Or.inr (Or.inr ⟨q0, c, q1, by rw [← h c (fms_ps q1).1]; exact q2⟩)
    · rcases q with q | ⟨q0, ⟨c, q1, q2⟩ | ⟨c, q1, q2⟩⟩ | ⟨q0, c, q1, q2⟩
      · exact Or.inl q
      · exact Or.inr (Or.inl ⟨q0, Or.inl ⟨c, q1, by rw [h c (List.mem_of_mem_take q1)]; exact q2⟩⟩)
      · exact Or.inr (Or.inl ⟨q0, Or.inr ⟨c, q1, by rw [h c (List.mem_of_mem_drop q1)]; exact q2⟩⟩)
      · exact Or.inr (Or.inr ⟨q0, c, q1, by rw [h c (fms_ps q1).1]; exact q2⟩)) t]
  rfl
theorem hv_pl {t j : Nat} (hk : ¬ kd t ≤ 3) (h18 : kd t ≠ 18) : hvT t j ↔ ∃ c ∈ fms t, hvT c j := by
  rw [hv_eq]
  constructor
  · rintro (q | q | q)
    · omega
    · exact absurd q.1 h18
    · exact q.2
  · exact fun q => Or.inr (Or.inr ⟨h18, q⟩)
theorem hv_all {t y f j : Nat} (h18 : kd t = 18) (hp : ps t = [y, f]) : hvT t j ↔ hvT y j ∨ hvT f (j + 1) := by
  rw [hv_eq, hp]
  constructor
  · rintro (q | ⟨_, ⟨c, q1, q2⟩ | ⟨c, q1, q2⟩⟩ | q)
    · omega
    · have : c = y := by simpa using q1
      exact Or.inl (this ▸ q2)
    · have : c = f := by simpa using q1
      exact Or.inr (this ▸ q2)
    · exact absurd h18 q.1
  · rintro (q | q)
    · exact Or.inr (Or.inl ⟨h18, Or.inl ⟨y, by simp, q⟩⟩)
    · exact Or.inr (Or.inl ⟨h18, Or.inr ⟨f, by simp, q⟩⟩)
/-- without binders: a leaf says so -/
theorem hv_lf : ∀ (t : Nat), okT t → kd t ≤ 14 → ∀ j, hvT t j ↔ ∃ l ∈ lvT t, kd l = 2 ∧ wh l = j := by
  intro t
  induction t using Nat.strongRecOn with
  | ind t ih =>
    intro ho h14 j
    by_cases hk : kd t ≤ 3
    · have hf := fms_lf ho.n hk
      rw [hv_eq, lvT_eq, if_pos hk]
      constructor
      · rintro (q | q | ⟨_, c, q, _⟩)
        · exact ⟨t, List.mem_cons_self, q⟩
        · omega
        · rw [hf] at q; cases q
      · rintro ⟨l, hl, q⟩
        rw [List.mem_singleton.mp hl] at q
        exact Or.inl q
    · rw [hv_pl hk (by omega), lvT_eq, if_neg hk]
      constructor
      · rintro ⟨c, hc, q⟩
        obtain ⟨l, h1, h2⟩ := (ih c (fms_lt hc) (ho.c hc) (by have := kd_14 ho.n h14 hc; omega) j).mp q
        exact ⟨l, List.mem_flatMap.mpr ⟨c, hc, h1⟩, h2⟩
      · rintro ⟨l, hl, q⟩
        obtain ⟨c, hc, h1⟩ := List.mem_flatMap.mp hl
        exact ⟨c, hc, (ih c (fms_lt hc) (ho.c hc) (by have := kd_14 ho.n h14 hc; omega) j).mpr ⟨l, h1, q⟩⟩
theorem hv_sub {t s j : Nat} (ho : okT t) (h14 : kd t ≤ 14) (hs : subT s t) (h : hvT s j) : hvT t j := by
  have os := sub_ok t ho hs
  obtain ⟨l, h1, h2⟩ := (hv_lf s os (kd_sub14 ho h14 hs) j).mp h
  exact (hv_lf t ho h14 j).mpr ⟨l, lv_in t ho hs h1, h2⟩
/-- how many of the binders d .. d + i a form speaks of -/
noncomputable def vnT (s d i : Nat) : Nat := ((List.range i).filter (fun r => @decide (hvT s (d + r)) (Classical.propDecidable _))).length
theorem vn_mem {s d i r : Nat} : r ∈ (List.range i).filter (fun r => @decide (hvT s (d + r)) (Classical.propDecidable _)) ↔ r < i ∧ hvT s (d + r) := by
  rw [List.mem_filter, List.mem_range]
  simp
theorem vn_nd {s d i : Nat} : ((List.range i).filter (fun r => @decide (hvT s (d + r)) (Classical.propDecidable _))).Nodup := List.Pairwise.filter _ List.nodup_range
theorem vn_i {s d i : Nat} : vnT s d i ≤ i := by
  unfold vnT
  have := List.length_filter_le (fun r => @decide (hvT s (d + r)) (Classical.propDecidable _)) (List.range i)
  rwa [List.length_range] at this
/-- no more than it has leaves -/
theorem vn_lf {s d i : Nat} (ho : okT s) (h14 : kd s ≤ 14) : vnT s d i ≤ lf s := by
  unfold vnT lf
  have h1 : ((List.range i).filter (fun r => @decide (hvT s (d + r)) (Classical.propDecidable _))).length = (((List.range i).filter (fun r => @decide (hvT s (d + r)) (Classical.propDecidable _))).map (fun r => d + r)).length := by rw [List.length_map]
  have h2 : (lvT s).length = ((lvT s).map wh).length := by rw [List.length_map]
  rw [h1, h2]
  refine nd_lenL _ _ ?_ (fun x hx => ?_)
  · exact List.pairwise_map.mpr (List.Pairwise.imp (fun hne e => hne (by omega)) vn_nd)
  · obtain ⟨r, hr, e⟩ := List.mem_map.mp hx
    obtain ⟨l, h3, h4⟩ := (hv_lf s ho h14 _).mp (vn_mem.mp hr).2
    exact List.mem_map.mpr ⟨l, h3, by rw [← e]; exact h4.2⟩
theorem vn_mono {s t d d' i i' : Nat} (h : ∀ r, r < i → hvT s (d + r) → ∃ r', r' < i' ∧ hvT t (d' + r') ∧ d + r = d' + r') : vnT s d i ≤ vnT t d' i' := by
  unfold vnT
  have h1 : ((List.range i).filter (fun r => @decide (hvT s (d + r)) (Classical.propDecidable _))).length = (((List.range i).filter (fun r => @decide (hvT s (d + r)) (Classical.propDecidable _))).map (fun r => d + r)).length := by rw [List.length_map]
  have h2 : ((List.range i').filter (fun r => @decide (hvT t (d' + r)) (Classical.propDecidable _))).length = (((List.range i').filter (fun r => @decide (hvT t (d' + r)) (Classical.propDecidable _))).map (fun r => d' + r)).length := by rw [List.length_map]
  rw [h1, h2]
  refine nd_lenL _ _ ?_ (fun x hx => ?_)
  · exact List.pairwise_map.mpr (List.Pairwise.imp (fun hne e => hne (by omega)) vn_nd)
  · obtain ⟨r, hr, e⟩ := List.mem_map.mp hx
    obtain ⟨r', q1, q2, q3⟩ := h r (vn_mem.mp hr).1 (vn_mem.mp hr).2
    exact List.mem_map.mpr ⟨r', vn_mem.mpr ⟨q1, q2⟩, by rw [← e]; exact q3.symm⟩
theorem flt_or {p : Nat → Prop} {q : Nat → Nat → Prop} : ∀ (L : List Nat) (l : List Nat), (∀ r ∈ l, p r → ∃ c ∈ L, q c r) → (l.filter (fun r => @decide (p r) (Classical.propDecidable _))).length ≤ (L.map (fun c => (l.filter (fun r => @decide (q c r) (Classical.propDecidable _))).length)).sum
  | [], l, h => by
    have : l.filter (fun r => @decide (p r) (Classical.propDecidable _)) = [] := List.filter_eq_nil_iff.mpr (fun r hr hp => by
      obtain ⟨c, hc, _⟩ := h r hr (by simpa using hp)
      cases hc)
    rw [this]; exact Nat.zero_le _
  | c :: L, l, h => by
    have ih := flt_or (p := fun r => p r ∧ ¬ q c r) (q := q) L l (fun r hr hp => by
      obtain ⟨c', hc', hq⟩ := h r hr hp.1
      rcases List.mem_cons.mp hc' with w | w
      · rw [w] at hq; exact absurd hq hp.2
      · exact ⟨c', w, hq⟩)
    have h2 : ∀ l : List Nat, (l.filter (fun r => @decide (p r) (Classical.propDecidable _))).length ≤ (l.filter (fun r => @decide (q c r) (Classical.propDecidable _))).length + (l.filter (fun r => @decide (p r ∧ ¬ q c r) (Classical.propDecidable _))).length := fun l => by
      induction l with
      | nil => exact Nat.zero_le _
      | cons a l ihl =>
        rw [List.filter_cons, List.filter_cons, List.filter_cons]
        by_cases hp : p a <;> by_cases hq : q c a <;> simp [hp, hq] <;> omega
    rw [List.map_cons, List.sum_cons]
    have := h2 l
    omega
theorem vn_pl {t d i : Nat} (hk : ¬ kd t ≤ 3) (h18 : kd t ≠ 18) : vnT t d i ≤ ((fms t).map (fun c => vnT c d i)).sum := flt_or (fms t) (List.range i) (fun r _ h => (hv_pl hk h18).mp h)
/-- counted up to k -/
noncomputable def mvT (k s d i : Nat) : Nat := min k (vnT s d i)
