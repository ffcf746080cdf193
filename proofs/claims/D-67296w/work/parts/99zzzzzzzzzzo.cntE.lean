/-! counting: a put, all in one list, long units without doubles -/
section CNY
variable {t : Nat} {E : Nat → Nat} {M K : Nat} {Sh : List Nat}
theorem cd_lu : ∀ (b : Nat), okT b → (kd b = 8 ∨ isFo b) → ∀ e z, z ∈ cdT M b e → isLU M (pa z 0) := by
  intro b
  induction b using Nat.strongRecOn with
  | ind b ih =>
    intro ho hf e z hz
    by_cases k14 : kd b ≤ 14
    · obtain ⟨q1, q2⟩ := (cd_lo k14).mp hz
      have e0 : pa z 0 = b := by rw [q2]; unfold pa; rw [ps_mk]; rfl
      rw [e0]; exact q1
    by_cases k18 : kd b = 18
    · obtain ⟨y, f, hp, y8, ff, my, mf⟩ := ps_all1 ho k18
      rcases (cd_all k18 hp).mp hz with q | q
      · exact ih y (fms_lt my) (ho.c my) (Or.inl y8) e z q
      · exact ih f (fms_lt mf) (ho.c mf) (Or.inr ff) (e + 1) z q
    · have hk67 : kd b = 16 ∨ kd b = 17 := by unfold isFo at hf; omega
      obtain ⟨p, hp, q⟩ := (cd_pl hk67).mp hz
      have fp : isFo p := by
        rcases ho.n.2 with q | q | q | q | q | q | q | q | q | q | q | q | q | q <;> first | omega | skip
        · obtain ⟨_, _, g, q3, q4, _⟩ := q
          rw [q3, List.mem_singleton] at hp
          rw [hp]; exact q4
        · exact (q.2.2.2 p hp).1
      have mp : p ∈ fms b := fms_mem hp (by omega) (isFo_pos fp)
      exact ih p (fms_lt mp) (ho.c mp) (Or.inr fp) e z q
theorem un_len {ε : Nat} : ∀ (l : List Nat), (∀ z ∈ l, isLU M (pa z 0) ∧ 2 * (dQ (pa z 0)).length + 12 ≤ 2 * M + ε) → 8 ≤ M → (M + 2) * (l.flatMap (unL t E)).length ≤ (l.map (cst M)).sum + ε * l.length
  | [], _, _ => by simp
  | z :: l, h, hM => by
    have ih := un_len l (fun q hq => h q (List.mem_cons_of_mem _ hq)) hM
    obtain ⟨⟨_, _, _, h1⟩, h2⟩ := h z List.mem_cons_self
    rw [List.flatMap_cons, List.length_append, List.map_cons, List.sum_cons, List.length_cons]
    have e1 : (unL t E z).length = (dQ (pa z 0)).length + 1 := by unfold unL; rw [List.length_cons, List.length_map]
    rw [e1]
    have ec : cst M z = M * ((dQ (pa z 0)).length + 3) - 10 := rfl
    rw [ec]
    generalize (dQ (pa z 0)).length = d at *
    have e2 : (M + 2) * (d + 1) = M * d + M + 2 * d + 2 := by rw [Nat.mul_add, Nat.add_mul, Nat.mul_one]; omega
    have e3 : M * (d + 3) = M * d + 3 * M := by rw [Nat.mul_add, Nat.mul_comm M 3]
    rw [Nat.mul_add, Nat.mul_add ε, Nat.mul_one]
    omega
end CNY
