/-! counting: a put, all in one list, long units without doubles (the two counts) -/
section CNZ
variable {t : Nat} {E : Nat → Nat} {M : Nat} {Sh : List Nat}
/-- no NOTs asked for (the last round) -/
theorem evbu_cnt (ht : clT1 t) (hE : clE1 E) (hM : 8 ≤ M) {b N ε : Nat} (ho : okT b) (hf : isFo b) (hA : Alls (AtE0 M Sh) b) (hε : ∀ z ∈ cdT M b 0, 2 * (dQ (pa z 0)).length + 12 ≤ 2 * M + ε) (hN : nLU M b ≤ N) : ∃ Y : List Nat, (M + 2) * Y.length ≤ M * szT b + ε * N + 14 * nYs Sh + 2 * nXs Sh ∧ ∀ s, subT s (nwT t E 0 b) → subT s (odT E 0 b) ∨ subT s t ∨ s ∈ Y := by
  by_cases hc : nwT t E 0 b = odT E 0 b
  · exact ⟨[], by simp, fun s hs => Or.inl (by rw [← hc]; exact hs)⟩
  · obtain ⟨K, hK⟩ : ∃ K, K + 10 = 2 * M := ⟨2 * M - 10, by omega⟩
    obtain ⟨L, Zx, Za, Zu, c1, c3, c2⟩ := (covu_fo (χ := False) ht hE hM hK b ho hf hA 0 hc).2
    exact ⟨_, lstu_len hM hK c1.2.1 c1.2.2 ho hf c3 hε hN c2, fun s hs => (lst_cov c1 hs).imp id (fun q => q.imp id (fun q => q.elim (fun w => lstu_mem w) (fun z => z.1.elim)))⟩
/-- with NOT of the parts of ANDs outside binders; closed terms left out -/
theorem evtu_cnt (ht : clT1 t) (hE : clE1 E) (hM : 8 ≤ M) {b N ε : Nat} (ho : okT b) (hf : isFo b) (hA : Alls (AtE0 M Sh) b) (hε : ∀ z ∈ cdT M b 0, 2 * (dQ (pa z 0)).length + 12 ≤ 2 * M + ε) (hN : nLU M b ≤ N) (hlo : loT (nwT t E 0 b) = 0) : ∃ Y : List Nat, (M + 2) * Y.length ≤ M * szT b + ε * N + 14 * nYs Sh + 2 * nXs Sh ∧ (∀ s, subT s (nwT t E 0 b) → subT s (odT E 0 b) ∨ subT s t ∨ s ∈ Y ∨ ∃ r, subT r (nwT t E 0 b) ∧ isTm r ∧ loT r = 0 ∧ subT s r) ∧ ∀ s p, subN s (nwT t E 0 b) → kd s = 17 → p ∈ ps s → kd p ≠ 16 → notT p ∈ Y ∨ szT p = 1 := by
  obtain ⟨K, hK⟩ : ∃ K, K + 10 = 2 * M := ⟨2 * M - 10, by omega⟩
  obtain ⟨L, Zx, Za, Zu, c1, c2, c4, c3⟩ := (topu_fo ht hE hM hK 0 b ho hf hA hlo).2.1
  refine ⟨_, lstu_len hM hK c1.2.1 c1.2.2 ho hf c4 hε hN c3, fun s hs => (lst_cov c1 hs).imp id (fun q => q.imp id (fun q => q.imp (fun w => lstu_mem w) (fun z => z.2))), fun s p hs k17 hps k16 => ?_⟩
  rcases c2 s p hs k17 hps k16 with q | q | q
  · exact Or.inl (List.mem_append_left _ (List.mem_append_left _ q))
  · exact Or.inl (List.mem_append_right _ (List.mem_append_right _ (List.mem_append_right _ (List.mem_map.mpr ⟨p, dd_mem.mpr q, rfl⟩))))
  · exact Or.inr q
end CNZ
