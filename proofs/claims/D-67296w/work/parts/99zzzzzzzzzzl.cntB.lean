/-! counting: a put below binders, long units with two leaves without doubles (formulas) -/
section CNV
variable {t : Nat} {E : Nat → Nat} {χ : Prop} {M K : Nat} {Sh : List Nat}
theorem atu (ht : clT1 t) (hE : clE1 E) {e A : Nat} (hM : 8 ≤ M) (hK : K + 10 = 2 * M) (ho : okT A) (h9 : 9 ≤ kd A) (h14 : kd A ≤ 14) (hA : Alls (AtE0 M Sh) A) (hc : nwT t E e A ≠ odT E e A) : FqU M K χ Sh t E e A 10 := by
  have hk : ¬ kd A ≤ 3 := by omega
  obtain ⟨z1, z2, z3⟩ := sz_atm (t := t) (E := E) (e := e) ho hk
  have l1 := ch_1 ho h14 hc
  have hP := AtE0.p ho hA
  by_cases hz : isZ A
  · have hsz : M * 2 ≤ M * szT A := Nat.mul_le_mul_left M (by have := hz.1; have := hz.2; omega)
    refine ⟨[], [], [nwT t E e A], [], (cov_z (χ := χ) ht hE ho h9 h14 hP hz hc).b, fun z hz => (by cases hz), ?_⟩
    simp only [List.length_cons, List.length_nil, List.map_nil, List.sum_nil]; omega
  rcases Nat.lt_or_ge (lf A) 2 with w | w
  · have e1 : lf A = 1 := by omega
    have cs := (cov_s (χ := χ) (e := e) ht hE ho (by omega) h14 hP e1).b
    refine ⟨[], sgL t E e A, [nwT t E e A], [], ⟨fun s hs => ?_, cs.2.1, fun s hs => ?_⟩, fun z hz => (by cases hz), ?_⟩
    · rcases cs.1 s hs with q | q | q | q | q | q
      · exact Or.inl q
      · exact Or.inr (Or.inl q)
      · exact Or.inr (Or.inr (Or.inr (Or.inr (Or.inl ⟨_, List.mem_cons_self, Or.inl (List.mem_singleton.mp q)⟩))))
      · exact Or.inr (Or.inr (Or.inr (Or.inl q)))
      · exact absurd q (fun ⟨_, z, _⟩ => by cases z)
      · exact Or.inr (Or.inr (Or.inr (Or.inr (Or.inr q))))
    · rw [List.mem_singleton.mp hs]
      exact ⟨imL A, (hA A (sub_rf A)).2 (by omega) h14 e1, by rw [kd_imL hk]; exact h9, nw_one ho h14 e1 hc⟩
    have hsz : M * ((sgL t E e A).length + 2) ≤ M * szT A := Nat.mul_le_mul_left M (by omega)
    rw [Nat.mul_add] at hsz
    simp only [List.length_cons, List.length_nil, List.map_nil, List.sum_nil]
    omega
  · obtain ⟨L, Zx, Zu, c1, c2, c3⟩ := covu_two (χ := χ) (t := t) (E := E) (e := e) ht hE hM ho (by omega) h14 hA w
    exact ⟨L, Zx, [], Zu, c1, c2, by simp only [List.length_nil]; omega⟩
theorem tyu (ht : clT1 t) (hE : clE1 E) {e y : Nat} (hM : 8 ≤ M) (ho : okT y) (h8 : kd y = 8) (hA : Alls (AtE0 M Sh) y) : ∃ L Zx Zu : List Nat, CovB χ Sh t E e y (L ++ Zu.flatMap (unL t E)) Zx [] ∧ (∀ z ∈ Zu, z ∈ cdT M y e) ∧ (M + 2) * L.length + M * Zx.length + (Zu.map (cst M)).sum + 4 ≤ M * szT y := by
  have hk : ¬ kd y ≤ 3 := by omega
  obtain ⟨z1, z2, z3⟩ := sz_atm (t := t) (E := E) (e := e) ho hk
  have hP := AtE0.p ho hA
  by_cases hc : nwT t E e y = odT E e y
  · have hsz : M * 1 ≤ M * szT y := Nat.mul_le_mul_left M (by omega)
    exact ⟨[], [], [], CovB.old hc, fun z hz => (by cases hz), by simp only [List.length_nil, List.map_nil, List.sum_nil]; omega⟩
  · have l1 := ch_1 ho (by omega) hc
    rcases Nat.lt_or_ge (lf y) 2 with w | w
    · have e1 : lf y = 1 := by omega
      refine ⟨[], nwT t E e y :: sgL t E e y, [], ⟨fun s hs => ?_, fun s hs => ?_, ZaQ.nil⟩, fun z hz => (by cases hz), ?_⟩
      · exact (cov_s (χ := χ) ht hE (e := e) ho (by omega) (by omega) hP e1).1 s hs |>.imp id (fun q => q.imp id (fun q => q.elim (fun w => Or.inr (Or.inl (by rw [List.mem_singleton.mp w]; exact List.mem_cons_self))) (fun q => q.elim (fun w => Or.inr (Or.inl (List.mem_cons_of_mem _ w))) (fun w => Or.inr (Or.inr w)))))
      · rcases List.mem_cons.mp hs with q | q
        · rw [q]
          exact ⟨imL y, (hA y (sub_rf y)).2 (by omega) (by omega) e1, by rw [kd_imL hk]; omega, nw_one ho (by omega) e1 hc⟩
        · exact sg_sh ho (by omega) hP q
      · have hsz : M * ((sgL t E e y).length + 2) ≤ M * szT y := Nat.mul_le_mul_left M (by omega)
        rw [Nat.mul_add] at hsz
        rw [List.length_cons, List.length_nil, Nat.mul_add, List.map_nil, List.sum_nil]
        omega
    · obtain ⟨L, Zx, Zu, c1, c2, c3⟩ := covu_two (χ := χ) (t := t) (E := E) (e := e) ht hE hM ho (by omega) (by omega) hA w
      exact ⟨L, Zx, Zu, c1, c2, by omega⟩
theorem app_u {L1 L2 U1 U2 : List Nat} {s : Nat} (h : s ∈ L1 ++ U1.flatMap (unL t E) ∨ s ∈ L2 ++ U2.flatMap (unL t E)) : s ∈ (L1 ++ L2) ++ (U1 ++ U2).flatMap (unL t E) := by
  rw [List.flatMap_append]
  rcases h with q | q <;> rcases List.mem_append.mp q with w | w
  · exact List.mem_append_left _ (List.mem_append_left _ w)
  · exact List.mem_append_right _ (List.mem_append_left _ w)
  · exact List.mem_append_left _ (List.mem_append_right _ w)
  · exact List.mem_append_right _ (List.mem_append_right _ w)
theorem covu_li {e cP : Nat} (hM : cP ≤ M) : ∀ {l : List Nat}, (∀ p ∈ l, nwT t E e p ≠ odT E e p → FqU M K χ Sh t E e p cP) → (∀ p ∈ l, p ≠ 0) → ∃ L Zx Za Zu : List Nat, (∀ p ∈ l, CovB χ Sh t E e p (L ++ Zu.flatMap (unL t E)) Zx Za) ∧ (ZxP Sh t Zx ∧ ZaQ Sh t Za) ∧ (∀ z ∈ Zu, ∃ p ∈ l, z ∈ cdT M p e) ∧ (M + 2) * L.length + K * Za.length + M * Zx.length + (Zu.map (cst M)).sum + cP * l.length ≤ M * (l.map szT).sum
  | [], _, _ => ⟨[], [], [], [], (fun p hp => by cases hp), ⟨ZxP.nil, ZaQ.nil⟩, (fun z hz => by cases hz), by simp⟩
  | p :: l, h, h0 => by
    obtain ⟨L, Zx, Za, Zu, a1, ⟨a2, a3⟩, a5, a4⟩ := covu_li hM (l := l) (fun q hq => h q (List.mem_cons_of_mem _ hq)) (fun q hq => h0 q (List.mem_cons_of_mem _ hq))
    have hp : FqU M K χ Sh t E e p cP := by
      by_cases hc : nwT t E e p = odT E e p
      · exact FqU.old hc (h0 p List.mem_cons_self) hM
      · exact h p List.mem_cons_self hc
    obtain ⟨L1, Zx1, Za1, Zu1, b1, b2, b3⟩ := hp
    have c4 := b1.2.1.ap a2
    have c5 := b1.2.2.ap a3
    refine ⟨L1 ++ L, Zx1 ++ Zx, Za1 ++ Za, Zu1 ++ Zu, fun q hq => ?_, ⟨c4, c5⟩, fun z hz => ?_, ?_⟩
    · rcases List.mem_cons.mp hq with w | w
      · rw [w]
        exact b1.mono (fun s hs => app_u (Or.inl hs)) (fun s hs => List.mem_append_left _ hs) (fun s hs => List.mem_append_left _ hs) c4 c5
      · exact (a1 q w).mono (fun s hs => app_u (Or.inr hs)) (fun s hs => List.mem_append_right _ hs) (fun s hs => List.mem_append_right _ hs) c4 c5
    · rcases List.mem_append.mp hz with w | w
      · exact ⟨p, List.mem_cons_self, b2 z w⟩
      · obtain ⟨q, q1, q2⟩ := a5 z w
        exact ⟨q, List.mem_cons_of_mem _ q1, q2⟩
    · simp only [List.map_cons, List.sum_cons, List.length_append, List.length_cons, Nat.mul_add, List.map_append, List.sum_append]
      omega
end CNV
