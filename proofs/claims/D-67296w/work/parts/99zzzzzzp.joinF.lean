/-! formulas out of formulas -/
def fF (W : Wd) (N : Nat → Prop) (f : Nat) : Prop := fW W N f ∧ isFo f
theorem fF.lv {W : Wd} {N : Nat → Prop} {f : Nat} (h : fF W N f) : lvL f 0 := h.1.2.2 h.2
theorem fF_part {W : Wd} {N : Nat → Prop} {f g : Nat} (h : fF W N f) (h18 : kd f ≠ 18) (hg : g ∈ fms f) (hf : isFo g) : fF W N g := by
  refine ⟨⟨h.1.1.part hg, ?_, fun _ => ?_⟩, hf⟩
  · have := lo_part h.1.1.1.n h18 hg
    have := h.1.2.1
    omega
  · have h3 : ¬ kd f ≤ 3 := by have := h.2; unfold isFo at this; omega
    exact (lvL_part h3).mp h.lv g hg
theorem fF_mk {W : Wd} {N : Nat → Prop} {k : Nat} {l : List Nat} (hk : k = 16 ∨ k = 17) (ho : okN (mk k 0 l)) (hl : ∀ c ∈ l, fF W N c) : fF W N (mk k 0 l) := by
  have hf : ∀ c ∈ fms (mk k 0 l), fF W N c := fun c hc => by
    have := (fms_ps hc).1
    rw [ps_mk] at this
    exact hl c this
  exact ⟨⟨fr_mk ho (lc_leaf (by omega)) (fun c hc => (hf c hc).1.1), lo_mk0 (by rw [kd_mk]; omega) (fun c hc => (hf c hc).1.2.1), fun _ => lv_of (by rw [kd_mk]; omega) (fun c hc => (hf c hc).lv)⟩, by unfold isFo; rw [kd_mk]; omega⟩
theorem fF_yes {W : Wd} {N : Nat → Prop} : fF W N yesT := ⟨fW_yes, by unfold isFo yesT; rw [kd_mk]; omega⟩
theorem fF_not {W : Wd} {N : Nat → Prop} {f : Nat} (h : fF W N f) : fF W N (notT f) ∧ szT (notT f) ≤ szT f + 1 := by
  have ho := okT_not h.1.1.1 h.2
  refine ⟨?_, szT_not h.1.1.1⟩
  unfold notT at ho ⊢
  by_cases h16 : kd f = 16
  · rw [if_pos h16] at ho ⊢
    have hp : ∃ g, ps f = [g] ∧ isFo g := by
      rcases h.1.1.1.n.2 with q | q | q | q | q | q | q | q | q | q | q | q | q | q <;> try omega
      obtain ⟨q1, q2, g, q3, q4, q5⟩ := q
      exact ⟨g, q3, q4⟩
    obtain ⟨g, e, hg⟩ := hp
    rw [e]
    exact fF_part h (by omega) (fms_mem (by rw [e]; simp) (by omega) (isFo_pos hg)) hg
  · rw [if_neg h16] at ho ⊢
    exact fF_mk (Or.inl rfl) ho.1.n (fun c hc => by rw [List.mem_singleton.mp hc]; exact h)
theorem fF_no {W : Wd} {N : Nat → Prop} : fF W N noT := by
  have := (fF_not (fF_yes (W := W) (N := N))).1
  unfold notT at this
  rw [if_neg (by unfold yesT; rw [kd_mk]; decide)] at this
  exact this
theorem flt_in {f g : Nat} (hg : g ∈ flt f) : g = f ∨ (kd f = 17 ∧ g ∈ ps f) := by
  unfold flt at hg
  split at hg
  · simp at hg
  · split at hg
    · rename_i h
      exact Or.inr ⟨h, hg⟩
    · split at hg
      · cases hg
      · exact Or.inl (List.mem_singleton.mp hg)
theorem flt_sz {f : Nat} (h0 : f ≠ 0) : ((flt f).map szT).sum ≤ szT f := by
  unfold flt
  split
  · simp
  · split
    · rename_i h
      rw [szT_ex h0]
      unfold exp1
      rw [if_neg (by omega)]
      omega
    · split <;> simp
theorem and_sz : ∀ (L : List Nat), (∀ f ∈ L, f ≠ 0) → ((L.flatMap flt).map szT).sum ≤ (L.map szT).sum
  | [], _ => Nat.le_refl _
  | f :: L, h => by
    rw [List.flatMap_cons, List.map_append, List.sum_append, List.map_cons, List.sum_cons]
    have h1 := flt_sz (h f List.mem_cons_self)
    have h2 := and_sz L (fun g hg => h g (List.mem_cons_of_mem _ hg))
    omega
theorem fF_and {W : Wd} {N : Nat → Prop} {L : List Nat} (h : ∀ f ∈ L, fF W N f) : fF W N (andT L) ∧ szT (andT L) ≤ 2 + (L.map szT).sum := by
  have ho := okT_and (L := L) (fun f hf => ⟨(h f hf).1.1.1, (h f hf).2⟩)
  have hfl : ∀ g ∈ L.flatMap flt, fF W N g := fun g hg => by
    obtain ⟨f, hf, q⟩ := List.mem_flatMap.mp hg
    rcases flt_in q with e | ⟨e, z⟩
    · rw [e]; exact h f hf
    · have hfo : isFo g := by
        rcases (h f hf).1.1.1.n.2 with q | q | q | q | q | q | q | q | q | q | q | q | q | q <;> try omega
        exact (q.2.2.2 g z).1
      exact fF_part (h f hf) (by omega) (fms_mem z (by omega) (isFo_pos hfo)) hfo
  have hsz := and_sz L (fun f hf => isFo_pos (h f hf).2)
  unfold andT at ho ⊢
  by_cases hn : noT ∈ L
  · rw [if_pos hn]
    refine ⟨fF_no, ?_⟩
    have h1 : szT noT ≤ 1 + szT yesT := sz_1
    have h2 : szT yesT ≤ 1 := sz_c0
    omega
  · rw [if_neg hn] at ho ⊢
    cases hl : L.flatMap flt with
    | nil =>
      refine ⟨fF_yes, ?_⟩
      have h2 : szT yesT ≤ 1 := sz_c0
      show szT yesT ≤ _
      omega
    | cons a l =>
      cases l with
      | nil =>
        refine ⟨hfl a (by rw [hl]; exact List.mem_cons_self), ?_⟩
        rw [hl] at hsz
        simp at hsz
        show szT a ≤ _
        omega
      | cons b l =>
        rw [hl] at ho hsz hfl
        refine ⟨fF_mk (Or.inr rfl) ho.1.n (fun c hc => hfl c hc), ?_⟩
        show szT (mk 17 0 (a :: b :: l)) ≤ _
        have h0 : mk 17 0 (a :: b :: l) ≠ 0 := fun e => by have := kd_mk 17 0 (a :: b :: l); rw [e, kd0] at this; omega
        rw [szT_ex h0]
        unfold exp1
        rw [kd_mk, if_neg (by decide), ps_mk]
        omega
theorem fF_imp {W : Wd} {N : Nat → Prop} {f g : Nat} (hf : fF W N f) (hg : fF W N g) : fF W N (impT f g) ∧ szT (impT f g) ≤ szT f + szT g + 4 := by
  have h1 := fF_not hg
  have h2 := fF_and (W := W) (N := N) (L := [f, notT g]) (fun c hc => by
    simp at hc
    rcases hc with e | e
    · rw [e]; exact hf
    · rw [e]; exact h1.1)
  have h3 := fF_not h2.1
  refine ⟨h3.1, ?_⟩
  have := h3.2
  have h4 := h2.2
  simp only [List.map_cons, List.map_nil, List.sum_cons, List.sum_nil] at h4
  unfold impT
  omega
/-- what join makes -/
def jnT (k : Int) (x y : Nat) : Nat := if k = 0 then notT x else if k = 1 then andT [x, y] else if k = 2 then notT (andT [notT x, notT y]) else if k = 3 then impT x y else iffT x y
def jnX (x y t : Nat) : Prop := t = notT x ∨ t = notT y ∨ t = andT [x, y] ∨ t = andT [notT x, notT y] ∨ t = notT (andT [notT x, notT y]) ∨ t = andT [x, notT y] ∨ t = impT x y ∨ t = andT [y, notT x] ∨ t = impT y x ∨ t = iffT x y
theorem fF_jn {W : Wd} {N : Nat → Prop} {k : Int} {x y : Nat} (hx : fF W N x) (hy : k ≠ 0 → fF W N y) (zx : szT x ≤ 200) (zy : k ≠ 0 → szT y ≤ 200) : fF W N (jnT k x y) ∧ szT (jnT k x y) ≤ 1000 := by
  unfold jnT
  by_cases k0 : k = 0
  · rw [if_pos k0]
    have := fF_not hx
    exact ⟨this.1, by omega⟩
  · have hy := hy k0
    have zy := zy k0
    rw [if_neg k0]
    have h2 : ∀ a b, fF W N a → fF W N b → fF W N (andT [a, b]) ∧ szT (andT [a, b]) ≤ 2 + szT a + szT b := fun a b ha hb => by
      have := fF_and (W := W) (N := N) (L := [a, b]) (fun c hc => by
        simp at hc
        rcases hc with e | e
        · rw [e]; exact ha
        · rw [e]; exact hb)
      simp only [List.map_cons, List.map_nil, List.sum_cons, List.sum_nil] at this
      exact ⟨this.1, by omega⟩
    split
    · have := h2 x y hx hy
      exact ⟨this.1, by omega⟩
    · split
      · have n1 := fF_not hx
        have n2 := fF_not hy
        have := h2 _ _ n1.1 n2.1
        have n3 := fF_not this.1
        exact ⟨n3.1, by omega⟩
      · split
        · have := fF_imp hx hy
          exact ⟨this.1, by omega⟩
        · have i1 := fF_imp hx hy
          have i2 := fF_imp hy hx
          have := h2 _ _ i1.1 i2.1
          unfold iffT
          exact ⟨this.1, by omega⟩
