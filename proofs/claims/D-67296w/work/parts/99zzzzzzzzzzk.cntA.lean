/-! counting: a put below binders, long units with two leaves without doubles -/
def AtE0 (M : Nat) (Sh : List Nat) (s : Nat) : Prop := (8 ≤ kd s → kd s ≤ 14 → 3 ≤ lf s → 2 * (dQ s).length + 12 ≤ M * lf s) ∧ (4 ≤ kd s → kd s ≤ 14 → lf s = 1 → imL s ∈ Sh)
theorem AtE0_hi {M s : Nat} {Sh : List Nat} (h : 15 ≤ kd s) : AtE0 M Sh s := ⟨fun _ q => by omega, fun _ q => by omega⟩
theorem AtE0.p {M A : Nat} {Sh : List Nat} (ho : okT A) (h : Alls (AtE0 M Sh) A) : Alls (AtP (szT A) (szT A) Sh) A := fun s hs => by
  refine ⟨fun h8 h14 => ?_, (h s hs).2⟩
  have os := sub_ok A ho hs
  have h1 := sz_dQ os (by omega)
  have h2 := sz_subT A ho hs
  exact ⟨by omega, fun _ => by omega⟩
/-- the nodes of a unit, by its code -/
def unL (t : Nat) (E : Nat → Nat) (z : Nat) : List Nat := nwT t E (kd z) (pa z 0) :: (dQ (pa z 0)).map (nwT t E (kd z))
def cst (M z : Nat) : Nat := M * ((dQ (pa z 0)).length + 3) - 10
section CNU
variable {t : Nat} {E : Nat → Nat} {χ : Prop} {M K : Nat} {Sh : List Nat}
def FqU (M K : Nat) (χ : Prop) (Sh : List Nat) (t : Nat) (E : Nat → Nat) (e b cr : Nat) : Prop := ∃ L Zx Za Zu : List Nat, CovB χ Sh t E e b (L ++ Zu.flatMap (unL t E)) Zx Za ∧ (∀ z ∈ Zu, z ∈ cdT M b e) ∧ (M + 2) * L.length + K * Za.length + M * Zx.length + (Zu.map (cst M)).sum + cr ≤ M * szT b
theorem FqU.le {e b cr cr' : Nat} (h : FqU M K χ Sh t E e b cr) (hc : cr' ≤ cr) : FqU M K χ Sh t E e b cr' := by
  obtain ⟨L, Zx, Za, Zu, h1, h2, h3⟩ := h
  exact ⟨L, Zx, Za, Zu, h1, h2, by omega⟩
theorem FqU.old {e b cr : Nat} (h : nwT t E e b = odT E e b) (h0 : b ≠ 0) (hc : cr ≤ M) : FqU M K χ Sh t E e b cr := by
  refine ⟨[], [], [], [], CovB.old h, fun z hz => (by cases hz), ?_⟩
  have := sz_fms h0
  have hsz : M * 1 ≤ M * szT b := Nat.mul_le_mul_left M (by omega)
  simp only [List.length_nil, List.map_nil, List.sum_nil]
  omega
/-- two leaves or more -/
theorem covu_two (ht : clT1 t) (hE : clE1 E) {e A : Nat} (hM : 8 ≤ M) (ho : okT A) (h8 : 8 ≤ kd A) (h14 : kd A ≤ 14) (hA : Alls (AtE0 M Sh) A) (h2 : 2 ≤ lf A) : ∃ L Zx Zu : List Nat, CovB χ Sh t E e A (L ++ Zu.flatMap (unL t E)) Zx [] ∧ (∀ z ∈ Zu, z ∈ cdT M A e) ∧ (M + 2) * L.length + M * Zx.length + (Zu.map (cst M)).sum + 10 ≤ M * szT A := by
  have hk : ¬ kd A ≤ 3 := by omega
  obtain ⟨z1, z2, z3⟩ := sz_atm (t := t) (E := E) (e := e) ho hk
  have cov : CovB χ Sh t E e A (nwT t E e A :: (dQ A).map (nwT t E e)) (sgL t E e A) [] := ⟨fun s hs => by
    rcases cov_gen ht hE ho h14 hk hs with w | w | w | w | w
    · exact Or.inl w
    · exact Or.inr (Or.inl w)
    · exact Or.inr (Or.inr (Or.inl (by rw [w]; exact List.mem_cons_self)))
    · exact Or.inr (Or.inr (Or.inl (List.mem_cons_of_mem _ w)))
    · exact Or.inr (Or.inr (Or.inr (Or.inl w))), fun s hs => sg_sh ho h14 (AtE0.p ho hA) hs, ZaQ.nil⟩
  by_cases hp : 2 * (dQ A).length + 12 ≤ M * lf A
  · refine ⟨nwT t E e A :: (dQ A).map (nwT t E e), sgL t E e A, [], by simpa using cov, fun z hz => (by cases hz), ?_⟩
    rw [List.length_cons, List.length_map, List.map_nil, List.sum_nil]
    generalize (dQ A).length = d at *
    generalize (sgL t E e A).length = x at *
    have h5 : M * (1 + d + x + lf A) ≤ M * szT A := Nat.mul_le_mul_left M z1
    have e1 : M * (1 + d + x + lf A) = M + M * d + M * x + M * lf A := by rw [Nat.mul_add, Nat.mul_add, Nat.mul_add, Nat.mul_one]
    have e2 : (M + 2) * (d + 1) = M * d + M + 2 * d + 2 := by rw [Nat.mul_add, Nat.add_mul, Nat.mul_one]; omega
    omega
  · have l2 : lf A = 2 := by
      rcases Nat.lt_or_ge (lf A) 3 with q | q
      · omega
      · exact absurd ((hA A (sub_rf A)).1 h8 h14 q) hp
    rw [l2] at hp
    have e0 : pa (mk e 0 [A]) 0 = A := by unfold pa; rw [ps_mk]; rfl
    have eu : unL t E (mk e 0 [A]) = nwT t E e A :: (dQ A).map (nwT t E e) := by unfold unL; rw [kd_mk, e0]
    refine ⟨[], sgL t E e A, [mk e 0 [A]], by simpa [eu] using cov, fun z hz => ?_, ?_⟩
    · rw [List.mem_singleton.mp hz]
      exact (cd_lo h14).mpr ⟨⟨h8, h14, l2, by omega⟩, rfl⟩
    · have ec : cst M (mk e 0 [A]) = M * ((dQ A).length + 3) - 10 := by unfold cst; rw [e0]
      rw [List.map_cons, List.map_nil, List.sum_cons, List.sum_nil, ec, List.length_nil]
      generalize (dQ A).length = d at *
      generalize (sgL t E e A).length = x at *
      rw [l2] at z1
      have h5 : M * (1 + d + x + 2) ≤ M * szT A := Nat.mul_le_mul_left M z1
      have e1 : M * (1 + d + x + 2) = M * (d + 3) + M * x := by rw [← Nat.mul_add]; congr 1; omega
      have e3 : M * 3 ≤ M * (d + 3) := Nat.mul_le_mul_left M (by omega)
      omega
end CNU
