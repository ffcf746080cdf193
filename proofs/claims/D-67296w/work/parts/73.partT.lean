/-! which numbers of a node are parts -/
abbrev isPt (k : Nat) (j : Nat) (v : Int) : Prop := 3 < k ∧ nw k ≤ j ∧ (k = 8 → j = 1) ∧ 0 < v
theorem tkT_in {k : Nat} (h : k = 1 ∨ k = 2 ∨ k = 3 ∨ k = 4 ∨ k = 5 ∨ (8 ≤ k ∧ k ≤ 18 ∧ k ≠ 15)) : (tkT k = 2 ↔ (k = 1 ∨ k = 3)) ∧ (tkT k = 1 ↔ k = 2) ∧ tkT k ≠ 3 ∧ (tkT k = 8 ↔ k = 9) ∧ (tkT k = 7 ↔ k = 8) ∧ (tkT k = 15 ↔ k = 16) ∧ (tkT k = 16 ↔ k = 17) ∧ (tkT k = 17 ↔ k = 18) := by
  unfold tkT
  by_cases h1 : k = 1 ∨ k = 3
  · rw [if_pos h1]; omega
  rw [if_neg h1]
  by_cases h2 : k = 2
  · rw [if_pos h2]; omega
  rw [if_neg h2]
  by_cases h5 : k ≤ 5
  · rw [if_pos h5]; omega
  · rw [if_neg h5]; omega
theorem okT_kin {t : Nat} (h : okT t) : kd t = 1 ∨ kd t = 2 ∨ kd t = 3 ∨ kd t = 4 ∨ kd t = 5 ∨ (8 ≤ kd t ∧ kd t ≤ 18 ∧ kd t ≠ 15) := by
  have := okN_kd h.n
  unfold isTm isFo at this
  omega
theorem isPartT {ν : Nat → Nat} {c : Nat} {d : Nat} (hd : 4 ≤ d) {u : Sg} (hs : ST ν c u) {x j : Nat} (x0 : 0 < x) (hx : x ≤ nT u) (ho : okT (trT ν u x)) (hj : j < (ps (trT ν u x)).length + nw (kd (trT ν u x))) : runT d 16 [(x : Int), (j : Int)] u = some (if isPt (kd (trT ν u x)) j (dt u x j) then 1 else 0, u) := by
  obtain ⟨d, rfl⟩ : ∃ d', d = d' + 1 := ⟨d - 1, by omega⟩
  rw [runT_eq (by omega)]
  show bX3_isPart (runT d) x j u = _
  unfold bX3_isPart
  have hn := nodeT hs x0 hx
  have hin := okT_kin ho
  obtain ⟨t2, t1, t3, t8, t7, t15, t16, t17⟩ := tkT_in hin
  have hnn := hn.2.2.2.2.2 j hj
  rw [ld_nat (hs.k hx), hn.1]
  by_cases k3 : kd (trT ν u x) ≤ 3
  · have hq : ¬ isPt (kd (trT ν u x)) j (dt u x j) := fun q => by have := q.1; omega
    rw [if_neg hq]
    by_cases q2 : tkT (kd (trT ν u x)) = 2
    · rw [if_pos q2]
    rw [if_neg q2, if_neg t3, if_pos (t1.mpr (by omega))]
  rw [if_neg (fun q => by have := t2.mp q; omega), if_neg t3, if_neg (fun q => by have := t1.mp q; omega)]
  by_cases k9 : kd (trT ν u x) = 9
  · have p0 : ps (trT ν u x) = [] := by
      rcases ho.n.2 with z | z | z | z | z | z | z | z | z | z | z | z | z | z <;> first | omega | exact z.2.2
    rw [p0, k9] at hj
    have : nw 9 = 0 := by decide
    rw [this] at hj
    simp at hj
  rw [if_neg (fun q => k9 (t8.mp q))]
  by_cases k8 : kd (trT ν u x) = 8
  · have nw8 : nw 8 = 1 := by decide
    rw [if_pos (t7.mpr k8), jn_eq]
    by_cases hj1 : j = 1
    · subst hj1
      have hg : runT d 7 [(x : Int), 1] u = some (dt u x 1, u) := getT (by omega) hs x0 hx hj
      rw [if_pos (by decide), cl_eq hg]
      by_cases hv : dt u x 1 ≤ 0
      · rw [if_pos hv, if_neg (fun q => by have := q.2.2.2; omega)]
      · rw [if_neg hv, if_pos ⟨by omega, by rw [k8, nw8]; omega, fun _ => rfl, by omega⟩]
    · rw [if_neg (by omega), if_neg (fun q => hj1 (q.2.2.1 k8))]
  · have hf := (fptT_drop (r := rawT u x) hn.1 k8 k3 k9 (by omega)).2
    have hf : fsT (tkT (kd (trT ν u x))) = nw (kd (trT ν u x)) := by rw [← hn.1]; exact hf
    rw [if_neg (fun q => k8 (t7.mp q)), jn_eq, cl_eq (rX3_first (by omega)), hf]
    by_cases hjn : j < nw (kd (trT ν u x))
    · rw [if_pos (by omega), if_neg (fun q => by have := q.2.1; omega)]
    · rw [if_neg (by omega), cl_eq (getT (by omega) hs x0 hx hj)]
      by_cases hv : dt u x j ≤ 0
      · rw [if_pos hv, if_neg (fun q => by have := q.2.2.2; omega)]
      · rw [if_neg hv, if_pos ⟨by omega, by omega, fun q => absurd q k8, by omega⟩]
