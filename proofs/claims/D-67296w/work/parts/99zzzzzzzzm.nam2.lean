/-! names in kept forms -/
theorem lo_allf {b y f : Nat} (h18 : kd b = 18) (hp : ps b = [y, f]) : loT f ≤ loT b + 1 := by
  rw [loT_eq b]
  unfold loS loX
  rw [if_neg (by omega), if_neg (by omega), if_pos h18, hp]
  simp
  omega
theorem hv_lo : ∀ (s : Nat), okT s → ∀ j, hvT s j → j < loT s := by
  intro s
  induction s using Nat.strongRecOn with
  | ind s ih =>
    intro ho j h
    by_cases hk : kd s ≤ 3
    · rw [hv_eq, fms_lf ho.n hk] at h
      rcases h with ⟨q1, q2⟩ | ⟨q, _⟩ | ⟨_, c, q, _⟩
      · rw [loT_eq]
        unfold loS
        rw [if_pos q1, q2]
        omega
      · omega
      · cases q
    · by_cases k18 : kd s = 18
      · obtain ⟨y, f, hp, y8, ff, my, mf⟩ := ps_all1 ho k18
        rcases (hv_all k18 hp).mp h with q | q
        · have := ih y (fms_lt my) (ho.c my) j q
          have := lo_ally k18 hp
          omega
        · have := ih f (fms_lt mf) (ho.c mf) (j + 1) q
          have := lo_allf k18 hp
          omega
      · obtain ⟨c, hc, q⟩ := (hv_pl hk k18).mp h
        have := ih c (fms_lt hc) (ho.c hc) j q
        have := lo_part ho.n k18 hc
        omega
/-- closed, and its constants among those there are -/
theorem NmL.cl {W : Wd} {c s : Nat} (ho : okT s) (hlo : loT s = 0) (hfr : frW W (Nm nu2 c) s) : NmL c s := by
  refine ⟨(List.range c).map (fun i => 2 * mk 1 (2 * i) [] + 1), by rw [List.length_map, List.length_range]; exact Nat.le_refl _, fun l hl k1 => ?_, fun j hj => ?_⟩
  · have hs := lv_is s hl
    have ol := sub_ok s ho hs
    obtain ⟨i, i1, i2⟩ := (hfr.2 l hs).1 k1
    have hp : ps l = [] := by
      rcases ol.n.2 with q | q | q | q | q | q | q | q | q | q | q | q | q | q <;> first | omega | exact q.2
    have e := ol.n.1
    rw [k1, hp, ← i2] at e
    refine List.mem_map.mpr ⟨i, List.mem_range.mpr i1, ?_⟩
    have e2 : mk 1 (2 * i) [] = l := e.symm
    show 2 * mk 1 (2 * i) [] + 1 = 2 * l + 1
    rw [e2]
  · have := hv_lo s ho j hj
    omega
