/-! heights of what is at hand -/
theorem sub_le : ∀ (t : Nat) {s : Nat}, subT s t → s ≤ t := by
  intro t
  induction t using Nat.strongRecOn with
  | ind t ih =>
    intro s h
    rw [subT_eq] at h
    rcases h with e | ⟨c, c1, c2⟩
    · omega
    · have := ih c (fms_lt c1) c2
      have := fms_lt c1
      omega
theorem ht_max {t : Nat} : htT t = 1 ∨ ∃ c ∈ fms t, htT t = htT c + 1 := by
  rw [htT_eq]
  have mx : ∀ (l : List Nat) (a : Nat), (l.map htT).foldl max a = a ∨ ∃ c ∈ l, (l.map htT).foldl max a = htT c := by
    intro l
    induction l with
    | nil => intro a; exact Or.inl rfl
    | cons b l ihl =>
      intro a
      rw [List.map_cons, List.foldl_cons]
      rcases ihl (max a (htT b)) with q | ⟨c, c1, c2⟩
      · rw [q]
        by_cases z : htT b ≤ a
        · exact Or.inl (by omega)
        · exact Or.inr ⟨b, List.mem_cons_self, by omega⟩
      · exact Or.inr ⟨c, List.mem_cons_of_mem _ c1, c2⟩
  rcases mx (fms t) 0 with q | ⟨c, c1, c2⟩
  · exact Or.inl (by omega)
  · exact Or.inr ⟨c, c1, by omega⟩
theorem tm_chain : ∀ (t : Nat), okT t → isTm t → ∃ L : List Nat, L.Nodup ∧ (∀ s ∈ L, subT s t ∧ isTm s) ∧ htT t ≤ 2 * L.length := by
  intro t
  induction t using Nat.strongRecOn with
  | ind t ih =>
    intro ho ht
    have up : ∀ (a : Nat), a ∈ fms t ∨ (∃ y, y ∈ fms t ∧ a ∈ fms y) → isTm a → okT a → htT t ≤ htT a + 2 → ∃ L : List Nat, L.Nodup ∧ (∀ s ∈ L, subT s t ∧ isTm s) ∧ htT t ≤ 2 * L.length := fun a ha hta hoa hh => by
      have hlt : a < t ∧ ∀ s, subT s a → subT s t := by
        rcases ha with q | ⟨y, y1, y2⟩
        · exact ⟨fms_lt q, fun s h => sub_c q h⟩
        · exact ⟨Nat.lt_trans (fms_lt y2) (fms_lt y1), fun s h => sub_c y1 (sub_c y2 h)⟩
      obtain ⟨L, l1, l2, l3⟩ := ih a hlt.1 hoa hta
      refine ⟨t :: L, List.nodup_cons.mpr ⟨fun q => ?_, l1⟩, fun s hs => ?_, by rw [List.length_cons]; omega⟩
      · have := sub_le a (l2 t q).1
        have := hlt.1
        omega
      · rcases List.mem_cons.mp hs with q | q
        · rw [q]; exact ⟨sub_rf t, ht⟩
        · exact ⟨hlt.2 s (l2 s q).1, (l2 s q).2⟩
    have one : htT t ≤ 2 → ∃ L : List Nat, L.Nodup ∧ (∀ s ∈ L, subT s t ∧ isTm s) ∧ htT t ≤ 2 * L.length := fun h => ⟨[t], by simp, fun s hs => by rw [List.mem_singleton.mp hs]; exact ⟨sub_rf t, ht⟩, h⟩
    rcases ht_max (t := t) with q | ⟨c, c1, c2⟩
    · exact one (by omega)
    · rcases tt_part ho (Or.inl ht) c1 with q | q
      · exact up c (Or.inl c1) q (ho.c c1) (by omega)
      · rcases ht_max (t := c) with z | ⟨a, a1, a2⟩
        · exact one (by omega)
        · rcases tt_part (ho.c c1) (Or.inr q) a1 with w | w
          · exact up a (Or.inr ⟨c, c1, a1⟩) w ((ho.c c1).c a1) (by omega)
          · exfalso
            obtain ⟨i, i1, i2, i3⟩ := fms_at.mp a1
            rcases (ho.c c1).n.2 with z | z | z | z | z | z | z | z | z | z | z | z | z | z <;> try omega
            obtain ⟨_, b, js, e, hb, _⟩ := z
            have : i = 0 := i1.resolve_left (fun x => x q)
            rw [this, e] at i2
            simp at i2
            rw [i2] at hb
            have := hb.resolve_left i3
            unfold isTm at this
            omega
/-- terms at hand are not high -/
theorem hand_ht {W : Wd} {N : Nat → Prop} {H : List Nat} {M : List (Nat × Nat × Nat)} {J : List (Nat × Nat)} (hH : ∀ t ∈ H, cltm W N t) (hG : ∀ x ∈ H, GoodC W H M J x) (hl : H.length ≤ 100) {t : Nat} (ht : t ∈ H) : htT t ≤ 200 := by
  have hc := hH t ht
  obtain ⟨L, l1, l2, l3⟩ := tm_chain t hc.1.1 hc.2.1
  have := nd_lenL L H l1 (fun s hs => good_sub hH hG (htT t + 1) t (by omega) ht s (l2 s hs).1 (l2 s hs).2)
  omega
theorem form_ht {m : Nat} : ∀ (f : Nat), okT f → (∀ s, subT s f → isTm s → loT s = 0 → htT s ≤ m) → htT f ≤ htQ f + m := by
  intro f
  induction f using Nat.strongRecOn with
  | ind f ih =>
    intro ho h
    by_cases hc : kd f ≤ 5 ∧ loT f = 0
    · have : isTm f := by have := okN_kd ho.n; unfold isTm isFo at *; omega
      have := h f (sub_rf f) this hc.2
      omega
    · rcases ht_max (t := f) with q | ⟨c, c1, c2⟩
      · have : 1 ≤ htQ f := by rw [htQ_eq]; split <;> omega
        omega
      · have a := ih c (fms_lt c1) (ho.c c1) (fun s q1 q2 q3 => h s (sub_c c1 q1) q2 q3)
        have b := htQ_c hc c1
        omega
theorem ht_put {s : Nat} : ∀ (t : Nat), okT t → ∀ e, htT (sbT (putg s) e t) ≤ htT t + htT s := by
  intro t
  induction t using Nat.strongRecOn with
  | ind t ih =>
    intro ho e
    by_cases h3 : kd t ≤ 3
    · rw [sbT_eq, if_pos h3]
      unfold putg
      split <;> omega
    · rcases ht_max (t := sbT (putg s) e t) with q | ⟨c', c1, c2⟩
      · have : 1 ≤ htT t := by rw [htT_eq]; omega
        omega
      · obtain ⟨c, d1, i, _, _, e1⟩ := fms_sb h3 c1
        have a := ih c (fms_lt d1) (ho.c d1) (if kd t = 18 ∧ 0 < i then e + 1 else e)
        have b := ht_c d1
        rw [← e1] at a
        omega
