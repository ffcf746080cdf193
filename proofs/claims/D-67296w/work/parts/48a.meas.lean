/-! how much of a form is gone through -/
theorem sum_at {f : Nat → Nat} : ∀ {l : List Nat} {i c : Nat}, (∀ x ∈ l, 1 ≤ f x) → l[i]? = some c → i + f c ≤ (l.map f).sum
  | a :: l, 0, c, _, h => by
    simp at h; subst h
    rw [List.map_cons, List.sum_cons]; omega
  | a :: l, i + 1, c, hp, h => by
    simp at h
    rw [List.map_cons, List.sum_cons]
    have := sum_at (f := f) (fun x hx => hp x (List.mem_cons_of_mem _ hx)) h
    have := hp a List.mem_cons_self
    omega
theorem nz_ps {t : Nat} (ho : okT t) (h8 : kd t ≠ 8) (h14 : kd t ≠ 14) : ∀ x ∈ ps t, x ≠ 0 := fun x hx => by
  rcases ho.n.2 with q | q | q | q | q | q | q | q | q | q | q | q | q | q
  · rw [q.2] at hx; cases hx
  · rw [q.2] at hx; cases hx
  · rw [q.2.1] at hx; cases hx
  · exact isTm_pos (q.2.2 x hx)
  · obtain ⟨q1, q2, y, q3, q4⟩ := q
    rw [q3] at hx; simp at hx
    intro e; rw [hx] at e; rw [e, kd0] at q4; omega
  · omega
  · rw [q.2.2] at hx; cases hx
  · obtain ⟨q1, q2, a, b, q3, q4, q5⟩ := q
    rw [q3] at hx; simp at hx
    rcases hx with e | e
    · rw [e]; exact isTm_pos q4
    · rw [e]; exact isTm_pos q5
  · exact isTm_pos (q.2.2 x hx)
  · obtain ⟨q1, a, q3, q4⟩ := q
    rw [q3] at hx; simp at hx
    rw [hx]; exact isTm_pos q4
  · omega
  · obtain ⟨q1, q2, f, q3, q4, q5⟩ := q
    rw [q3] at hx; simp at hx
    rw [hx]; exact isFo_pos q4
  · exact isFo_pos (q.2.2.2 x hx).1
  · obtain ⟨q1, q2, y, f, q3, q4, q5, q6⟩ := q
    rw [q3] at hx; simp at hx
    rcases hx with e | e
    · intro e2; rw [e] at e2; rw [e2, kd0] at q4; omega
    · rw [e]; exact isFo_pos q5
theorem ps_14 {t : Nat} (ho : okT t) (h : kd t = 14) : ∃ a b, ps t = [a, b] ∧ isTm b := by
  rcases ho.n.2 with q | q | q | q | q | q | q | q | q | q | q | q | q | q <;> try omega
  obtain ⟨q1, a, b, q3, q4, q5⟩ := q
  exact ⟨a, b, q3, q5⟩
def exp1 (M : Nat → Nat) (t : Nat) : Nat := if kd t = 8 then 1 + (((ps t).take 1).map M).sum + ((ps t).drop 1).length else 1 + ((ps t).map M).sum
theorem g_at {M : Nat → Nat} {t i c : Nat} (ho : okT t) (hM : ∀ x, x ≠ 0 → 1 ≤ M x) (e : M t = exp1 M t) (h : (ps t)[i]? = some c) (hf : kd t ≠ 8 ∨ i = 0) : i + M c ≤ M t := by
  rw [e]
  unfold exp1
  by_cases h8 : kd t = 8
  · have hi : i = 0 := by rcases hf with q | q; exact absurd h8 q; exact q
    subst hi
    rw [if_pos h8]
    have hm : c ∈ (ps t).take 1 := by
      cases hps : ps t with
      | nil => rw [hps] at h; simp at h
      | cons a js => rw [hps] at h; simp at h; simp [h]
    have := sum_mem (f := M) hm
    omega
  · rw [if_neg h8]
    by_cases h14 : kd t = 14
    · obtain ⟨a, b, q3, q5⟩ := ps_14 ho h14
      rw [q3] at h ⊢
      cases i with
      | zero => simp at h; subst h; simp <;> omega
      | succ i =>
        cases i with
        | zero => simp at h; subst h; simp <;> omega
        | succ i => simp at h
    · have := sum_at (f := M) (fun x hx => hM x (nz_ps ho h8 h14 x hx)) h
      omega
theorem g_len {M : Nat → Nat} {t : Nat} (ho : okT t) (hM : ∀ x, x ≠ 0 → 1 ≤ M x) (e : M t = exp1 M t) : (ps t).length ≤ M t := by
  rw [e]
  unfold exp1
  by_cases h8 : kd t = 8
  · rw [if_pos h8]
    have : ((ps t).take 1).length + ((ps t).drop 1).length = (ps t).length := by rw [← List.length_append, List.take_append_drop]
    have h1 : ((ps t).take 1).length ≤ 1 := by rw [List.length_take]; omega
    omega
  · rw [if_neg h8]
    by_cases h14 : kd t = 14
    · obtain ⟨a, b, q3, q5⟩ := ps_14 ho h14
      have := hM b (isTm_pos q5)
      rw [q3]; simp; omega
    · have := len_sum (f := M) (l := ps t) (fun x hx => hM x (nz_ps ho h8 h14 x hx))
      omega
theorem g_c {M : Nat → Nat} {t c : Nat} (e : M t = exp1 M t) (h : c ∈ fms t) : M c + 1 ≤ M t := by
  rw [e]
  unfold exp1
  unfold fms at h
  have h1 := (List.mem_filter.mp h).1
  by_cases h8 : kd t = 8
  · rw [if_pos h8] at h1 ⊢
    have := sum_mem (f := M) h1
    omega
  · rw [if_neg h8] at h1 ⊢
    have := sum_mem (f := M) h1
    omega
theorem szT_ex {t : Nat} (h0 : t ≠ 0) : szT t = exp1 szT t := by rw [szT_eq]; unfold szS exp1; rw [if_neg h0]
theorem sz_at {t i c : Nat} (ho : okT t) (h : (ps t)[i]? = some c) (hc : c ≠ 0) (hf : kd t ≠ 8 ∨ i = 0) : i + szT c ≤ szT t :=
  g_at ho (fun _ h => sz_pos h) (szT_ex (fun e => by rw [e, ps0] at h; simp at h)) h hf
theorem len_sz {t : Nat} (ho : okT t) (h0 : t ≠ 0) : (ps t).length ≤ szT t := g_len ho (fun _ h => sz_pos h) (szT_ex h0)
/-- the size with closed terms as one -/
def szQS (f : Nat → Nat) (t : Nat) : Nat := if t = 0 then 0 else if kd t ≤ 5 ∧ loT t = 0 then 1 else exp1 f t
def szQ (t : Nat) : Nat := rcT szQS 0 t
theorem exp1_c {f f' : Nat → Nat} {t : Nat} (h : ∀ c ∈ ps t, f c = f' c) : exp1 f t = exp1 f' t := by
  unfold exp1
  have h1 : ((ps t).take 1).map f = ((ps t).take 1).map f' := List.map_congr_left fun c hc => h c (List.mem_of_mem_take hc)
  have h3 : (ps t).map f = (ps t).map f' := List.map_congr_left h
  rw [h1, h3]
theorem szQ_eq (t : Nat) : szQ t = szQS szQ t := rc_eq (fun f f' t h => by unfold szQS; rw [exp1_c h]) t
theorem szQ_ex {t : Nat} (h0 : t ≠ 0) (h : ¬ (kd t ≤ 5 ∧ loT t = 0)) : szQ t = exp1 szQ t := by rw [szQ_eq]; unfold szQS; rw [if_neg h0, if_neg h]
theorem szQ_pos {t : Nat} (h : t ≠ 0) : 1 ≤ szQ t := by
  rw [szQ_eq]; unfold szQS; rw [if_neg h]
  split
  · omega
  · unfold exp1; split <;> omega
theorem szQ0 : szQ 0 = 0 := by rw [szQ_eq]; unfold szQS; rw [if_pos rfl]
theorem szQ_cl {t : Nat} (h0 : t ≠ 0) (h : kd t ≤ 5 ∧ loT t = 0) : szQ t = 1 := by rw [szQ_eq]; unfold szQS; rw [if_neg h0, if_pos h]
def htQ (t : Nat) : Nat := rcT (fun f t => if kd t ≤ 5 ∧ loT t = 0 then 1 else 1 + ((fms t).map f).foldl max 0) 0 t
theorem htQ_eq (t : Nat) : htQ t = if kd t ≤ 5 ∧ loT t = 0 then 1 else 1 + ((fms t).map htQ).foldl max 0 := rc_eq (fun f f' t h => by
  have : (fms t).map f = (fms t).map f' := List.map_congr_left fun c hc => h c (fms_ps hc).1
  show (if kd t ≤ 5 ∧ loT t = 0 then 1 else 1 + ((fms t).map f).foldl max 0) = _
  rw [this]) t
theorem htQ_sz : ∀ (t : Nat), t ≠ 0 → htQ t ≤ szQ t := by
  intro t
  induction t using Nat.strongRecOn with
  | ind t ih =>
    intro h0
    have hp := szQ_pos h0
    rw [htQ_eq]
    by_cases hc : kd t ≤ 5 ∧ loT t = 0
    · rw [if_pos hc]; exact hp
    · rw [if_neg hc]
      have key : ∀ (l : List Nat), (∀ c ∈ l, htQ c + 1 ≤ szQ t) → ∀ a, a + 1 ≤ szQ t → (l.map htQ).foldl max a + 1 ≤ szQ t := by
        intro l
        induction l with
        | nil => exact fun _ a ha => ha
        | cons b l ihl =>
          intro h a ha
          rw [List.map_cons, List.foldl_cons]
          refine ihl (fun c hc => h c (List.mem_cons_of_mem _ hc)) _ ?_
          have := h b List.mem_cons_self
          omega
      have := key (fms t) (fun c hc' => by
        have a := ih c (fms_lt hc') (fms_ps hc').2
        have b := g_c (szQ_ex h0 hc) hc'
        omega) 0 (by omega)
      omega
/-- M is a size and H a height of what is gone through; p: what is closed is passed over -/
def Ms (p : Prop) (M H : Nat → Nat) : Prop := ∀ t, okT t → t ≠ 0 → 1 ≤ H t ∧ ∀ dep, (p → ¬ loT t ≤ dep) → (ps t).length ≤ M t ∧ (∀ c ∈ fms t, M c + 1 ≤ M t ∧ H c + 1 ≤ H t) ∧ ∀ i c, (ps t)[i]? = some c → c ≠ 0 → (kd t ≠ 8 ∨ i = 0) → i + M c ≤ M t
theorem Ms_T : Ms False szT htT := fun t ho h0 => ⟨by rw [htT_eq]; omega, fun _ _ => ⟨len_sz ho h0, fun c hc => ⟨sz_c hc, ht_c hc⟩, fun i c h hc hf => sz_at ho h hc hf⟩⟩
theorem Ms_Q : Ms True szQ htQ := fun t ho h0 => ⟨by rw [htQ_eq]; split <;> omega, fun dep hE => by
  have hc : ¬ (kd t ≤ 5 ∧ loT t = 0) := fun q => hE trivial (by omega)
  have e := szQ_ex h0 hc
  refine ⟨g_len ho (fun _ h => szQ_pos h) e, fun c h => ⟨g_c e h, ?_⟩, fun i c h _ hf => g_at ho (fun _ h => szQ_pos h) e h hf⟩
  rw [htQ_eq t, if_neg hc]
  have := (foldl_max (l := (fms t).map htQ) 0).1 _ (List.mem_map.mpr ⟨c, h, rfl⟩)
  omega⟩
theorem sum_le {f g : Nat → Nat} : ∀ {l : List Nat}, (∀ c ∈ l, f c ≤ g c) → (l.map f).sum ≤ (l.map g).sum
  | [], _ => Nat.le_refl _
  | a :: l, h => by
    rw [List.map_cons, List.map_cons, List.sum_cons, List.sum_cons]
    have := h a List.mem_cons_self
    have := sum_le (f := f) (g := g) (l := l) (fun c hc => h c (List.mem_cons_of_mem _ hc))
    omega
theorem szQ_le : ∀ (t : Nat), szQ t ≤ szT t := by
  intro t
  induction t using Nat.strongRecOn with
  | ind t ih =>
    by_cases h0 : t = 0
    · rw [h0, szQ0]; omega
    · by_cases hc : kd t ≤ 5 ∧ loT t = 0
      · rw [szQ_cl h0 hc]; exact sz_pos h0
      · rw [szQ_ex h0 hc, szT_ex h0]
        unfold exp1
        have h1 : (((ps t).take 1).map szQ).sum ≤ (((ps t).take 1).map szT).sum := sum_le (fun c hc => ih c (ps_lt (List.mem_of_mem_take hc)))
        have h3 : ((ps t).map szQ).sum ≤ ((ps t).map szT).sum := sum_le (fun c hc => ih c (ps_lt hc))
        split <;> omega
