/-! rounds: constants that are spoken of are at hand -/
theorem cs_sb {z m : Nat} (ho : okT z) (h : csP z m) : subT (mk 1 m []) z := by
  obtain ⟨l, h1, h2, h3⟩ := h
  have e := c1_mk (lv_ok z ho l h1).1 h2
  rw [h3] at e
  rw [← e]
  exact lv_is z h1
theorem pk_100 {W : Wd} {K O : Nat → Prop} (hm : ¬ manyS (facS W K O)) {D : List Nat} (hn : D.Nodup) (hD : ∀ d ∈ D, ∃ z, K z ∧ okT z ∧ csP z (2 * d)) : D.length ≤ 100 := by
  rcases Nat.lt_or_ge 100 D.length with q | q
  · exfalso
    refine hm ⟨(D.take 101).map (fun d => mk 1 (2 * d) []), ?_, by rw [List.length_map, List.length_take]; omega, fun t ht => ?_⟩
    · refine List.pairwise_map.mpr (List.Pairwise.imp (fun {a b} hne e => hne ?_) (hn.sublist (List.take_sublist _ _)))
      have := congrArg wh e
      rw [wh_mk, wh_mk] at this
      omega
    · obtain ⟨d, hd, e⟩ := List.mem_map.mp ht
      obtain ⟨z, z1, z2, z3⟩ := hD d (List.mem_of_mem_take hd)
      rw [← e]
      exact (Der_clo W K (newc O)).1.1 z z1 _ (cs_sb z2 z3) (clT1_const (2 * d)).2.1 (clT1_const (2 * d)).2.2
  · exact q
/-- the premises of a case that goes on: constants at hand, formulas of their own -/
theorem prem_N {W : Wd} {O : Nat → Prop} {n c0 c : Nat} {l : List Nat} (h0 : c0 ≤ c) (h : ∀ p ∈ l, PrK n c0 p) {y : List Nat} (hy : y ∈ prodL (tqL (tqF n) l c).1) (hok : ∀ z ∈ y, okT z) (hm : ¬ manyS (facS W (fun f => f ∈ y) O)) : (l.map kz).sum ≤ 100 ∧ ∃ Z : List Nat, Z.Nodup ∧ Z.length = (l.map nz).sum ∧ ∀ z ∈ Z, z ∈ y ∧ ∃ d, c ≤ d ∧ csP z (2 * d) := by
  obtain ⟨D, Z, ⟨d1, d2, d3⟩, z1, z2, z3⟩ := prem_K l c h0 h y hy
  refine ⟨?_, Z, z1, z2, z3⟩
  rw [← d2]
  exact pk_100 hm d1 (fun d hd => by
    obtain ⟨⟨z, q1, q2⟩, _⟩ := d3 d hd
    exact ⟨z, q1, hok z q1, q2⟩)
