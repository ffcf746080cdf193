/-! what is at hand: terms, and a type below each THE -/
section HND
variable {W : Wd} {A K0 : Nat → Prop}
theorem sub_hand {K O : Nat → Prop} (hO : ∀ t, fH (facS W K O) t → okT t ∧ isTm t) : ∀ (t : Nat), fH (facS W K O) t → ∀ z, subT z t → fH (facS W K O) z ∨ ∃ r, fH (facS W K O) r ∧ z = pa r 0 := by
  intro t
  have hc := Der_clo W K (newc O)
  induction t using Nat.strongRecOn with
  | ind t ih =>
    intro ht z hz
    obtain ⟨ho, hm⟩ := hO t ht
    rw [subT_eq] at hz
    rcases hz with w | ⟨c, mc, w⟩
    · rw [w]; exact Or.inl ht
    · have up : ∀ s, subT s t → s < t → isTm s → subT z s → fH (facS W K O) z ∨ ∃ r, fH (facS W K O) r ∧ z = pa r 0 := fun s hs hl ms q => ih s hl (hc.1.2.2.1 t ht s hs ms) z q
      by_cases k5 : kd t = 5
      · have hy : ∃ y, ps t = [y] ∧ kd y = 8 := by
          rcases ho.n.2 with q | q | q | q | q | q | q | q | q | q | q | q | q | q <;> first | omega | skip
          exact q.2.2
        obtain ⟨y, e, y8⟩ := hy
        have ec : c = y := by
          have := (fms_ps mc).1
          rw [e, List.mem_singleton] at this
          exact this
        rw [ec] at mc w
        rw [subT_eq] at w
        rcases w with v | ⟨c2, m2, v⟩
        · exact Or.inr ⟨t, ht, by rw [v]; unfold pa; rw [e]; rfl⟩
        · have oy := ho.c mc
          have m3 : isTm c2 := by
            rcases oy.n.2 with q | q | q | q | q | q | q | q | q | q | q | q | q | q <;> first | omega | skip
            obtain ⟨k8, a, js, e2, ha, _⟩ := q
            unfold fms at m2
            rw [if_pos k8, e2] at m2
            have hm2 := List.mem_filter.mp m2
            have h1 := hm2.1
            rw [List.take_succ_cons, List.take_zero, List.mem_singleton] at h1
            have h2 : c2 ≠ 0 := by simpa using hm2.2
            rcases ha with u | u
            · exact absurd (h1.trans u) h2
            · rw [h1]; exact u
          exact up c2 (sub_c mc (sub_c m2 (sub_rf _))) (Nat.lt_trans (fms_lt m2) (fms_lt mc)) m3 v
      · have m3 : isTm c := by
          have mp := (fms_ps mc).1
          unfold isTm at hm
          rcases ho.n.2 with q | q | q | q | q | q | q | q | q | q | q | q | q | q <;> first | omega | skip
          · rw [q.2] at mp; cases mp
          · rw [q.2] at mp; cases mp
          · rw [q.2.1] at mp; cases mp
          · exact q.2.2 c mp
        exact up c (sub_c mc (sub_rf _)) (fms_lt mc) m3 w
theorem hand_up {q r : Nat} (h : q ≤ r) {t : Nat} : fH (facS W (stg W A K0 q).1 (stg W A K0 q).2) t → fH (facS W (stg W A K0 r).1 (stg W A K0 r).2) t := (Der_mono (fun _ k => stg_le h k) (fun _ ⟨f, hf, e⟩ => ⟨f, stg_Ole h hf, e⟩)).1 t
theorem con_hand {q r f : Nat} (h : q < r) (hf : (stg W A K0 q).1 f) (k : kd f = 16) (k2 : kd (pa f 0) = 18) : fH (facS W (stg W A K0 r).1 (stg W A K0 r).2) (mk 1 (2 * f + 1) []) := hand_up (q := q + 1) h ((Der_clo W _ _).1.2.1 _ ⟨f, Or.inr ⟨hf, k, k2⟩, rfl⟩)
/-- a list for what is at hand, in a case that is not many -/
theorem hz_cov {r : Nat} (hO : ∀ t, fH (facS W (stg W A K0 r).1 (stg W A K0 r).2) t → okT t ∧ isTm t) (hm : ¬ manyS (facS W (stg W A K0 r).1 (stg W A K0 r).2)) : ∃ Z : List Nat, Z.length ≤ 200 ∧ ∀ z, HzS W A K0 r z → z ∈ Z := by
  obtain ⟨E, _, hE, hl⟩ := not_many hm
  refine ⟨E ++ E.map (fun t => pa t 0), by rw [List.length_append, List.length_map]; omega, fun z hz => ?_⟩
  rcases hz with ⟨q, t, hq, _, ht, hs⟩ | ⟨q, f, hq, hf, k, k2, e⟩
  · rcases sub_hand hO t (hand_up hq ht) z hs with w | ⟨s, w, e⟩
    · exact List.mem_append_left _ ((hE z).mpr w)
    · exact List.mem_append_right _ (List.mem_map.mpr ⟨s, (hE s).mpr w, e.symm⟩)
  · rw [e]
    exact List.mem_append_left _ ((hE _).mpr (con_hand hq hf k k2))
/-- and when it has become many: the constants of the last round beside it -/
theorem hz_covM {r : Nat} (hr : rch W A K0 (r + 1)) (hO : ∀ t, fH (facS W (stg W A K0 r).1 (stg W A K0 r).2) t → okT t ∧ isTm t) (hm : manyS (facS W (stg W A K0 (r + 1)).1 (stg W A K0 (r + 1)).2)) : ∃ Z : List Nat, Z.length ≤ 200 ∧ ∀ z, HzS W A K0 (r + 1) z → z ∈ Z ∨ ∃ f, (stg W A K0 r).1 f ∧ ¬ (stg W A K0 r).2 f ∧ kd f = 16 ∧ kd (pa f 0) = 18 ∧ z = mk 1 (2 * f + 1) [] := by
  have hn : ¬ manyS (facS W (stg W A K0 r).1 (stg W A K0 r).2) := (hr r (by omega)).1
  obtain ⟨Z, h1, h2⟩ := hz_cov hO hn
  refine ⟨Z, h1, fun z hz => ?_⟩
  rcases hz with ⟨q, t, hq, hq2, ht, hs⟩ | ⟨q, f, hq, hf, k, k2, e⟩
  · by_cases hqr : q ≤ r
    · exact Or.inl (h2 z (Or.inl ⟨q, t, hqr, hq2, ht, hs⟩))
    · rw [show q = r + 1 by omega] at hq2
      exact absurd hm hq2
  · by_cases hqr : q < r
    · exact Or.inl (h2 z (Or.inr ⟨q, f, hqr, hf, k, k2, e⟩))
    · rw [show q = r by omega] at hf
      by_cases ho : (stg W A K0 r).2 f
      · obtain ⟨q', a, b, c, d⟩ := stg_O ho
        exact Or.inl (h2 z (Or.inr ⟨q', f, a, b, c, d, e⟩))
      · exact Or.inr ⟨f, hf, ho, k, k2, e⟩
end HND
