/-! counting: one thing for another in forms without binders -/
theorem sb_lfe {g g' : Nat → Nat → Nat} {e e' : Nat} : ∀ (t : Nat), okT t → kd t ≤ 14 → (∀ c ∈ lvT t, g e c = g' e' c) → sbT g e t = sbT g' e' t := by
  intro t
  induction t using Nat.strongRecOn with
  | ind t ih =>
    intro ho h14 h
    by_cases hk : kd t ≤ 3
    · rw [sbT_eq, if_pos hk, sbT_eq, if_pos hk]
      exact h t (by rw [lvT_eq, if_pos hk]; exact List.mem_cons_self)
    · rw [sbT_eq, if_neg hk, sbT_eq, if_neg hk, chm_ap (by omega), chm_ap (by omega)]
      have hz : ∀ c ∈ ps t, (kd t = 8 → c ∈ (ps t).take 1) → zf (sbT g e) c = zf (sbT g' e') c := fun c hc h8 => by
        by_cases c0 : c = 0
        · rw [c0]; rfl
        · have hf : c ∈ fms t := by
            unfold fms
            refine List.mem_filter.mpr ⟨?_, by simpa using c0⟩
            split
            · rename_i q; exact h8 q
            · exact hc
          unfold zf
          rw [if_neg c0, if_neg c0]
          exact ih c (fms_lt hf) (ho.c hf) (by have := kd_14 ho.n h14 hf; omega) (fun l hl => h l (lv_part ho.n hf l hl))
      by_cases h8 : kd t = 8
      · rw [if_pos h8, if_pos h8]
        congr 2
        exact List.map_congr_left (fun c hc => hz c (List.mem_of_mem_take hc) (fun _ => hc))
      · rw [if_neg h8, if_neg h8]
        congr 1
        exact List.map_congr_left (fun c hc => hz c hc (fun q => absurd q h8))
/-- no leaf becomes nothing -/
def gN0 (g : Nat → Nat → Nat) : Prop := ∀ e l, l ≠ 0 → kd l ≤ 3 → g e l ≠ 0
theorem sb_nz {g : Nat → Nat → Nat} {e t : Nat} (hg : gN0 g) (h : t ≠ 0) : sbT g e t ≠ 0 := by
  by_cases hk : kd t ≤ 3
  · rw [sbT_eq, if_pos hk]; exact hg e t h hk
  · intro q
    have := (sb_kd (g := g) (d := e) hk).1
    rw [q, kd0] at this
    omega
theorem fms_sbn {g : Nat → Nat → Nat} {e t : Nat} (hg : gN0 g) (hk : ¬ kd t ≤ 3) (h18 : kd t ≠ 18) : fms (sbT g e t) = (fms t).map (sbT g e) := fms_sbf hk h18 (fun _ _ h _ => sb_nz hg h)
theorem sub_img {g : Nat → Nat → Nat} {e : Nat} (hg : gN0 g) : ∀ (t : Nat) {q : Nat}, okT t → kd t ≤ 14 → subT q t → subT (sbT g e q) (sbT g e t) := by
  intro t
  induction t using Nat.strongRecOn with
  | ind t ih =>
    intro q ho h14 h
    rw [subT_eq] at h
    rcases h with h | ⟨c, hc, h⟩
    · rw [h]; exact sub_rf _
    · have hk : ¬ kd t ≤ 3 := fun z => by rw [fms_lf ho.n z] at hc; cases hc
      have h1 := ih c (fms_lt hc) (ho.c hc) (by have := kd_14 ho.n h14 hc; omega) h
      refine sub_c (c := sbT g e c) ?_ h1
      rw [fms_sbn hg hk (by omega)]
      exact List.mem_map.mpr ⟨c, hc, rfl⟩
theorem lv_is : ∀ (t : Nat) {c : Nat}, c ∈ lvT t → subT c t := fun t _ h => (lv_sb0 t h).1
theorem sub_sbf {g : Nat → Nat → Nat} {e : Nat} (hg : gN0 g) : ∀ (t : Nat) {s : Nat}, okT t → kd t ≤ 14 → subT s (sbT g e t) → (∃ c ∈ lvT t, subT s (g e c)) ∨ ∃ q, subT q t ∧ ¬ kd q ≤ 3 ∧ s = sbT g e q := by
  intro t
  induction t using Nat.strongRecOn with
  | ind t ih =>
    intro s ho h14 h
    by_cases hk : kd t ≤ 3
    · left
      rw [sbT_eq, if_pos hk] at h
      exact ⟨t, by rw [lvT_eq, if_pos hk]; exact List.mem_cons_self, h⟩
    · rw [subT_eq] at h
      rcases h with h | ⟨c', hc', h⟩
      · exact Or.inr ⟨t, sub_rf t, hk, h⟩
      · rw [fms_sbn hg hk (by omega)] at hc'
        obtain ⟨c, hc, e1⟩ := List.mem_map.mp hc'
        rw [← e1] at h
        rcases ih c (fms_lt hc) (ho.c hc) (by have := kd_14 ho.n h14 hc; omega) h with ⟨l, h1, h2⟩ | ⟨q, h1, h2, h3⟩
        · exact Or.inl ⟨l, lv_part ho.n hc l h1, h2⟩
        · exact Or.inr ⟨q, sub_c hc h1, h2, h3⟩
/-- terms for the binders around -/
def gv (E : Nat → Nat) : Nat → Nat → Nat := fun d l => if kd l = 2 ∧ d ≤ wh l then E (wh l - d) else l
def cE (t : Nat) (E : Nat → Nat) : Nat → Nat := fun i => if i = 0 then t else E (i - 1)
/-- closed terms -/
def clT1 (t : Nat) : Prop := okT t ∧ isTm t ∧ loT t = 0
def clE1 (E : Nat → Nat) : Prop := ∀ i, clT1 (E i)
theorem clE1.c {t : Nat} {E : Nat → Nat} (ht : clT1 t) (hE : clE1 E) : clE1 (cE t E) := fun i => by
  unfold cE
  split
  · exact ht
  · exact hE _
theorem gv_0 {E : Nat → Nat} (hE : clE1 E) : gN0 (gv E) := fun e l h _ => by
  unfold gv
  split
  · exact isTm_pos (hE _).2.1
  · exact h
theorem gv_c {t : Nat} {E : Nat → Nat} {e l : Nat} (h : ¬ (kd l = 2 ∧ wh l = e)) : gv (cE t E) e l = gv E (e + 1) l := by
  unfold gv cE
  by_cases h2 : kd l = 2
  · by_cases h3 : e ≤ wh l
    · have h4 : wh l ≠ e := fun q => h ⟨h2, q⟩
      have c1 : kd l = 2 ∧ e ≤ wh l := ⟨h2, h3⟩
      have c2 : kd l = 2 ∧ e + 1 ≤ wh l := ⟨h2, by omega⟩
      have c3 : ¬ wh l - e = 0 := by omega
      rw [if_pos c1, if_pos c2, if_neg c3]
      congr 1
    · have c1 : ¬ (kd l = 2 ∧ e ≤ wh l) := fun q => h3 q.2
      have c2 : ¬ (kd l = 2 ∧ e + 1 ≤ wh l) := fun q => by have := q.2; omega
      rw [if_neg c1, if_neg c2]
  · have c1 : ¬ (kd l = 2 ∧ e ≤ wh l) := fun q => h2 q.1
    have c2 : ¬ (kd l = 2 ∧ e + 1 ≤ wh l) := fun q => h2 q.1
    rw [if_neg c1, if_neg c2]
theorem gv_t {t : Nat} {E : Nat → Nat} {e l : Nat} (h : kd l = 2 ∧ wh l = e) : gv (cE t E) e l = t := by
  unfold gv cE
  have c1 : kd l = 2 ∧ e ≤ wh l := ⟨h.1, by omega⟩
  have c2 : wh l - e = 0 := by omega
  rw [if_pos c1, if_pos c2]
/-- what a form becomes; what it was -/
def nwT (t : Nat) (E : Nat → Nat) (e b : Nat) : Nat := sbT (gv (cE t E)) e b
def odT (E : Nat → Nat) (e b : Nat) : Nat := sbT (gv E) (e + 1) b
/-- a form without binders that changes has the variable -/
theorem ch_lf {t : Nat} {E : Nat → Nat} {e b : Nat} (ho : okT b) (h14 : kd b ≤ 14) (h : nwT t E e b ≠ odT E e b) : ∃ l ∈ lvT b, kd l = 2 ∧ wh l = e := by
  rcases Classical.em (∃ l ∈ lvT b, kd l = 2 ∧ wh l = e) with q | q
  · exact q
  · exact absurd (sb_lfe b ho h14 (fun c hc => gv_c (fun z => q ⟨c, hc, z⟩))) h
theorem ch_1 {t : Nat} {E : Nat → Nat} {e b : Nat} (ho : okT b) (h14 : kd b ≤ 14) (h : nwT t E e b ≠ odT E e b) : 1 ≤ lf b := by
  obtain ⟨l, hl, _⟩ := ch_lf ho h14 h
  unfold lf
  exact List.length_pos_of_mem hl
/-- one leaf, and it is the variable: the shape says what it becomes -/
theorem nw_one {t : Nat} {E : Nat → Nat} {e b : Nat} (ho : okT b) (h14 : kd b ≤ 14) (h1 : lf b = 1) (h : nwT t E e b ≠ odT E e b) : nwT t E e b = sbT (fun _ _ => t) 0 (imL b) := by
  obtain ⟨l, hl, h2⟩ := ch_lf ho h14 h
  have hall : ∀ c ∈ lvT b, c = l := fun c hc => by
    unfold lf at h1
    obtain ⟨a, ha⟩ := List.length_eq_one_iff.mp h1
    rw [ha] at hl hc
    rw [List.mem_singleton.mp hl, List.mem_singleton.mp hc]
  have e1 : nwT t E e b = sbT (fun _ _ => t) 0 b := sb_lfe b ho h14 (fun c hc => by rw [hall c hc]; exact gv_t h2)
  have e2 : sbT (fun _ _ => t) 0 (imL b) = sbT (fun _ _ => t) 0 b := sb_cst (e := 0) (fun l _ _ => ⟨by rw [kd_mk]; decide, fun z => by have := kd_mk 3 0 []; rw [z, kd0] at this; omega⟩) b ho h14
  rw [e1, e2]
