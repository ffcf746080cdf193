/-! counting: a put, all in one list, once more -/
/-- how many one-leaf atoms there are, by shape -/
def nYs (Sh : List Nat) : Nat := (ddL (Sh.filter (fun h => decide (9 ≤ kd h)))).length
section CNT
variable {t : Nat} {E : Nat → Nat} {χ : Prop} {M K : Nat} {Sh : List Nat}
theorem ZaQ.le {Za : List Nat} (h : ZaQ Sh t Za) : (ddL Za).length ≤ nYs Sh := by
  have h1 : (ddL Za).length ≤ ((ddL (Sh.filter (fun h => decide (9 ≤ kd h)))).map (sbT (fun _ _ => t) 0)).length := dd_sub (fun s hs => by
    obtain ⟨q, q1, q2, q3⟩ := h s hs
    exact List.mem_map.mpr ⟨q, dd_mem.mpr (List.mem_filter.mpr ⟨q1, by simpa using q2⟩), q3.symm⟩)
  rwa [List.length_map] at h1
theorem lst_len {L Zx Za : List Nat} {Z cr : Nat} (hM : 8 ≤ M) (hK : K + 12 = 2 * M) (hx : ZxP Sh t Zx) (ha : ZaQ Sh t Za) (h : (M + 2) * L.length + K * Za.length + M * Zx.length + cr ≤ M * Z) : (M + 2) * (L ++ (ddL Zx ++ (ddL Za ++ (ddL Za).map notT))).length ≤ M * Z + 16 * nYs Sh + 2 * nXs Sh := by
  have x1 : (ddL Zx).length ≤ nXs Sh := hx.le
  have x2 := dd_le Zx
  have z1 : (ddL Za).length ≤ nYs Sh := ha.le
  have z2 := dd_le Za
  rw [List.length_append, List.length_append, List.length_append, List.length_map]
  generalize (ddL Zx).length = x at *
  generalize (ddL Za).length = z at *
  have a1 : M * x ≤ M * Zx.length := Nat.mul_le_mul_left M x2
  have a2 : K * z ≤ K * Za.length := Nat.mul_le_mul_left K z2
  have a3 : K * z + 12 * z = 2 * M * z := by rw [← Nat.add_mul, hK]
  have a4 : 2 * M * z = M * z + M * z := by rw [Nat.mul_assoc, Nat.two_mul]
  simp only [Nat.mul_add, Nat.add_mul] at h ⊢
  omega
theorem lst_cov {e b : Nat} {L Zx Za : List Nat} (h : CovB χ Sh t E e b L Zx Za) {s : Nat} (hs : subT s (nwT t E e b)) : subT s (odT E e b) ∨ subT s t ∨ s ∈ L ++ (ddL Zx ++ (ddL Za ++ (ddL Za).map notT)) ∨ (χ ∧ ∃ r, subT r (nwT t E e b) ∧ isTm r ∧ loT r = 0 ∧ subT s r) := by
  rcases h.1 s hs with q | q | q | q | ⟨z, q1, q2⟩ | q
  · exact Or.inl q
  · exact Or.inr (Or.inl q)
  · exact Or.inr (Or.inr (Or.inl (List.mem_append_left _ q)))
  · exact Or.inr (Or.inr (Or.inl (List.mem_append_right _ (List.mem_append_left _ (dd_mem.mpr q)))))
  · refine Or.inr (Or.inr (Or.inl (List.mem_append_right _ (List.mem_append_right _ ?_))))
    rcases q2 with w | w
    · exact List.mem_append_left _ (dd_mem.mpr (by rw [w]; exact q1))
    · exact List.mem_append_right _ (List.mem_map.mpr ⟨z, dd_mem.mpr q1, w.symm⟩)
  · exact Or.inr (Or.inr (Or.inr q))
/-- no NOTs asked for (the last round; a bind) -/
theorem evb_cnt (ht : clT1 t) (hE : clE1 E) (hM : 8 ≤ M) {b : Nat} (ho : okT b) (hf : isFo b) (hA : Alls (AtE M Sh) b) (e : Nat) : ∃ Y : List Nat, (M + 2) * Y.length ≤ M * szT b + 16 * nYs Sh + 2 * nXs Sh ∧ ∀ s, subT s (nwT t E e b) → subT s (odT E e b) ∨ subT s t ∨ s ∈ Y := by
  by_cases hc : nwT t E e b = odT E e b
  · exact ⟨[], by simp, fun s hs => Or.inl (by rw [← hc]; exact hs)⟩
  · obtain ⟨K, hK⟩ : ∃ K, K + 12 = 2 * M := ⟨2 * M - 12, by omega⟩
    obtain ⟨L, Zx, Za, c1, c2⟩ := (covb_fo (χ := False) ht hE hM hK b ho hf hA e hc).2
    exact ⟨_, lst_len hM hK c1.2.1 c1.2.2 c2, fun s hs => (lst_cov c1 hs).imp id (fun q => q.imp id (fun q => q.elim id (fun z => z.1.elim)))⟩
/-- with NOT of the parts of ANDs outside binders; closed terms left out -/
theorem evt_cnt (ht : clT1 t) (hE : clE1 E) (hM : 8 ≤ M) {b : Nat} (ho : okT b) (hf : isFo b) (hA : Alls (AtE M Sh) b) (e : Nat) (hlo : loT (nwT t E e b) = 0) : ∃ Y : List Nat, (M + 2) * Y.length ≤ M * szT b + 16 * nYs Sh + 2 * nXs Sh ∧ (∀ s, subT s (nwT t E e b) → subT s (odT E e b) ∨ subT s t ∨ s ∈ Y ∨ ∃ r, subT r (nwT t E e b) ∧ isTm r ∧ loT r = 0 ∧ subT s r) ∧ ∀ s p, subN s (nwT t E e b) → kd s = 17 → p ∈ ps s → kd p ≠ 16 → notT p ∈ Y ∨ szT p = 1 := by
  obtain ⟨K, hK⟩ : ∃ K, K + 12 = 2 * M := ⟨2 * M - 12, by omega⟩
  obtain ⟨L, Zx, Za, c1, c2, c3⟩ := (top_fo ht hE hM hK e b ho hf hA hlo).2.1
  refine ⟨_, lst_len hM hK c1.2.1 c1.2.2 c3, fun s hs => (lst_cov c1 hs).imp id (fun q => q.imp id (fun q => q.imp id (fun z => z.2))), fun s p hs k17 hps k16 => ?_⟩
  rcases c2 s p hs k17 hps k16 with q | q | q
  · exact Or.inl (List.mem_append_left _ q)
  · exact Or.inl (List.mem_append_right _ (List.mem_append_right _ (List.mem_append_right _ (List.mem_map.mpr ⟨p, dd_mem.mpr q, rfl⟩))))
  · exact Or.inr q
/-- an instance of what is known, and what is new in it -/
theorem Rep.all2 {B f t : Nat} (hM : 8 ≤ M) (h : Rep (AtE M Sh) B f) (h18 : kd f = 18) (ht : clT1 t) : ∃ Y : List Nat, (M + 2) * Y.length ≤ M * (B - 2) + 16 * nYs Sh + 2 * nXs Sh ∧ ∀ s, subT s (sbT (putg t) 0 (pa f 1)) → subT s (pa f 1) ∨ subT s t ∨ s ∈ Y := by
  obtain ⟨F, E, ⟨ho, hf, hz, hA⟩, hE, e⟩ := h
  have hk : ¬ kd F ≤ 3 := by unfold isFo at hf; omega
  have k1 := (sb_kd (g := gv E) (d := 0) hk).1
  have kF : kd F = 18 := by rw [e, k1] at h18; exact h18
  obtain ⟨y, b, hp, y8, fb, my, mb⟩ := ps_all1 ho kF
  have ob := ho.c mb
  have e1 : pa f 1 = odT E 0 b := by
    have := (fms_all (d := 0) (gv_0 hE) kF hp (okT_0 (ho.c my)) (okT_0 ob)).2
    unfold pa
    rw [e, this]
    rfl
  have e2 : sbT (putg t) 0 (pa f 1) = nwT t E 0 b := by rw [e1]; exact put_gv hE b ob 0
  have hs : 2 + szT b ≤ szT F := by
    rw [sz_pl (okT_0 ho) (by omega), hp]
    have := sz_fms (okT_0 (ho.c my))
    simp
    omega
  obtain ⟨Y, y1, y2⟩ := evb_cnt ht hE hM ob fb (hA.sub (sub_c mb (sub_rf b))) 0
  refine ⟨Y, ?_, ?_⟩
  · have : M * szT b ≤ M * (B - 2) := Nat.mul_le_mul_left M (by omega)
    omega
  · rw [e2, e1]
    exact y2
theorem Rep.allN {B f t : Nat} (hM : 8 ≤ M) (h : Rep (AtE M Sh) B f) (h18 : kd f = 18) (ht : clT1 t) (hlo : loT (sbT (putg t) 0 (pa f 1)) = 0) : ∃ Y : List Nat, (M + 2) * Y.length ≤ M * (B - 2) + 16 * nYs Sh + 2 * nXs Sh ∧ (∀ s, subT s (sbT (putg t) 0 (pa f 1)) → subT s (pa f 1) ∨ subT s t ∨ s ∈ Y ∨ ∃ r, subT r (sbT (putg t) 0 (pa f 1)) ∧ isTm r ∧ loT r = 0 ∧ subT s r) ∧ ∀ s p, subN s (sbT (putg t) 0 (pa f 1)) → kd s = 17 → p ∈ ps s → kd p ≠ 16 → notT p ∈ Y ∨ szT p = 1 := by
  obtain ⟨F, E, ⟨ho, hf, hz, hA⟩, hE, e⟩ := h
  have hk : ¬ kd F ≤ 3 := by unfold isFo at hf; omega
  have k1 := (sb_kd (g := gv E) (d := 0) hk).1
  have kF : kd F = 18 := by rw [e, k1] at h18; exact h18
  obtain ⟨y, b, hp, y8, fb, my, mb⟩ := ps_all1 ho kF
  have ob := ho.c mb
  have e1 : pa f 1 = odT E 0 b := by
    have := (fms_all (d := 0) (gv_0 hE) kF hp (okT_0 (ho.c my)) (okT_0 ob)).2
    unfold pa
    rw [e, this]
    rfl
  have e2 : sbT (putg t) 0 (pa f 1) = nwT t E 0 b := by rw [e1]; exact put_gv hE b ob 0
  have hs : 2 + szT b ≤ szT F := by
    rw [sz_pl (okT_0 ho) (by omega), hp]
    have := sz_fms (okT_0 (ho.c my))
    simp
    omega
  rw [e2] at hlo
  obtain ⟨Y, y1, y2⟩ := evt_cnt ht hE hM ob fb (hA.sub (sub_c mb (sub_rf b))) 0 hlo
  refine ⟨Y, ?_, ?_⟩
  · have : M * szT b ≤ M * (B - 2) := Nat.mul_le_mul_left M (by omega)
    omega
  · rw [e2, e1]
    exact y2
end CNT
