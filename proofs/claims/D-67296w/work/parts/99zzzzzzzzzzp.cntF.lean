/-! counting: a put, all in one list, long units without doubles (lengths) -/
section CNZ
variable {t : Nat} {E : Nat → Nat} {M K : Nat} {Sh : List Nat}
theorem lstu_len {L Zx Za Zu : List Nat} {Z cr N ε b e : Nat} (hM : 8 ≤ M) (hK : K + 10 = 2 * M) (hx : ZxP Sh t Zx) (ha : ZaQ Sh t Za) (ho : okT b) (hf : isFo b) (hu : ∀ z ∈ Zu, z ∈ cdT M b e) (hε : ∀ z ∈ cdT M b e, 2 * (dQ (pa z 0)).length + 12 ≤ 2 * M + ε) (hN : (ddL (cdT M b e)).length ≤ N) (h : (M + 2) * L.length + K * Za.length + M * Zx.length + (Zu.map (cst M)).sum + cr ≤ M * Z) : (M + 2) * ((L ++ (ddL Zu).flatMap (unL t E)) ++ (ddL Zx ++ (ddL Za ++ (ddL Za).map notT))).length ≤ M * Z + ε * N + 14 * nYs Sh + 2 * nXs Sh := by
  have x1 : (ddL Zx).length ≤ nXs Sh := hx.le
  have x2 := dd_le Zx
  have z1 : (ddL Za).length ≤ nYs Sh := ha.le
  have z2 := dd_le Za
  have u1 := un_len (t := t) (E := E) (M := M) (ε := ε) (ddL Zu) (fun z hz => ⟨cd_lu b ho (Or.inr hf) e z (hu z (dd_mem.mp hz)), hε z (hu z (dd_mem.mp hz))⟩) hM
  have u2 : ((ddL Zu).map (cst M)).sum ≤ (Zu.map (cst M)).sum := sum_sub (dd_nd _) (fun z hz => dd_mem.mp hz)
  have u3 : (ddL Zu).length ≤ N := Nat.le_trans (dd_sub (fun z hz => dd_mem.mpr (hu z hz))) hN
  have u4 : ε * (ddL Zu).length ≤ ε * N := Nat.mul_le_mul_left _ u3
  rw [List.length_append, List.length_append, List.length_append, List.length_append, List.length_map]
  generalize ((ddL Zu).flatMap (unL t E)).length = u at *
  generalize (ddL Zx).length = x at *
  generalize (ddL Za).length = z at *
  have a1 : M * x ≤ M * Zx.length := Nat.mul_le_mul_left M x2
  have a2 : K * z ≤ K * Za.length := Nat.mul_le_mul_left K z2
  have a3 : K * z + 10 * z = 2 * M * z := by rw [← Nat.add_mul, hK]
  have a4 : 2 * M * z = M * z + M * z := by rw [Nat.mul_assoc, Nat.two_mul]
  simp only [Nat.mul_add, Nat.add_mul] at h u1 ⊢
  omega
theorem lstu_mem {L Zx Za Zu : List Nat} {s : Nat} (h : s ∈ (L ++ Zu.flatMap (unL t E)) ++ (ddL Zx ++ (ddL Za ++ (ddL Za).map notT))) : s ∈ (L ++ (ddL Zu).flatMap (unL t E)) ++ (ddL Zx ++ (ddL Za ++ (ddL Za).map notT)) := by
  rcases List.mem_append.mp h with q | q
  · rcases List.mem_append.mp q with w | w
    · exact List.mem_append_left _ (List.mem_append_left _ w)
    · obtain ⟨z, z1, z2⟩ := List.mem_flatMap.mp w
      exact List.mem_append_left _ (List.mem_append_right _ (List.mem_flatMap.mpr ⟨z, dd_mem.mpr z1, z2⟩))
  · exact List.mem_append_right _ q
end CNZ
