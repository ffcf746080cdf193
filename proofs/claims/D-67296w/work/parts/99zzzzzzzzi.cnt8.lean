/-! counting: what a put makes anew, by one condition on atoms and types alone; below binders (no NOTs asked for) -/
/-- an atom or a type with two leaves or more pays for its inner forms by its leaves; what has one leaf has a known shape -/
def AtE (M : Nat) (Sh : List Nat) (s : Nat) : Prop := (8 ≤ kd s → kd s ≤ 14 → 2 ≤ lf s → 2 * (dQ s).length + 12 ≤ M * lf s) ∧ (4 ≤ kd s → kd s ≤ 14 → lf s = 1 → imL s ∈ Sh)
theorem AtE_hi {M s : Nat} {Sh : List Nat} (h : 15 ≤ kd s) : AtE M Sh s := ⟨fun _ q => by omega, fun _ q => by omega⟩
theorem AtE.p {M A : Nat} {Sh : List Nat} (ho : okT A) (h : Alls (AtE M Sh) A) : Alls (AtP (szT A) (szT A) Sh) A := fun s hs => by
  refine ⟨fun h8 h14 => ?_, (h s hs).2⟩
  have os := sub_ok A ho hs
  have h1 := sz_dQ os (by omega)
  have h2 := sz_subT A ho hs
  exact ⟨by omega, fun _ => by omega⟩
section CNT
variable {t : Nat} {E : Nat → Nat} {χ : Prop} {M K : Nat} {Sh : List Nat}
/-- one-leaf atoms, by their shapes -/
def ZaQ (Sh : List Nat) (t : Nat) (Za : List Nat) : Prop := ∀ s ∈ Za, ∃ h ∈ Sh, 9 ≤ kd h ∧ s = sbT (fun _ _ => t) 0 h
theorem ZaQ.ap {A B : List Nat} (h1 : ZaQ Sh t A) (h2 : ZaQ Sh t B) : ZaQ Sh t (A ++ B) := fun s hs => (List.mem_append.mp hs).elim (h1 s) (h2 s)
theorem ZaQ.nil : ZaQ Sh t [] := fun s hs => by cases hs
theorem ZaP.q {Za : List Nat} (h : ZaP Sh t Za) : ZaQ Sh t Za := fun s hs => by
  obtain ⟨q, q1, q2, _, q4⟩ := h s hs
  exact ⟨q, q1, q2, q4⟩
/-- what has come to be: old, or in what was put, or in the lists, or in a closed term (left out) -/
def CovB (χ : Prop) (Sh : List Nat) (t : Nat) (E : Nat → Nat) (e b : Nat) (L Zx Za : List Nat) : Prop := (∀ s, subT s (nwT t E e b) → subT s (odT E e b) ∨ subT s t ∨ s ∈ L ∨ s ∈ Zx ∨ (∃ z ∈ Za, s = z ∨ s = notT z) ∨ (χ ∧ ∃ r, subT r (nwT t E e b) ∧ isTm r ∧ loT r = 0 ∧ subT s r)) ∧ ZxP Sh t Zx ∧ ZaQ Sh t Za
theorem Cov.b {e b : Nat} {L Zx Za : List Nat} (h : Cov χ Sh t E e b L Zx Za) : CovB χ Sh t E e b L Zx Za := ⟨h.1, h.2.2.1, ZaP.q h.2.2.2⟩
theorem ZxP.nil : ZxP Sh t [] := fun s hs => by cases hs
theorem CovB.old {e b : Nat} (h : nwT t E e b = odT E e b) : CovB χ Sh t E e b [] [] [] := ⟨fun s hs => Or.inl (by rw [← h]; exact hs), ZxP.nil, ZaQ.nil⟩
theorem CovB.mono {e b : Nat} {L L' Zx Zx' Za Za' : List Nat} (h : CovB χ Sh t E e b L Zx Za) (h1 : ∀ s ∈ L, s ∈ L') (h2 : ∀ s ∈ Zx, s ∈ Zx') (h3 : ∀ s ∈ Za, s ∈ Za') (h4 : ZxP Sh t Zx') (h5 : ZaQ Sh t Za') : CovB χ Sh t E e b L' Zx' Za' := by
  refine ⟨fun s hs => ?_, h4, h5⟩
  rcases h.1 s hs with q | q | q | q | ⟨z, q1, q2⟩ | q
  · exact Or.inl q
  · exact Or.inr (Or.inl q)
  · exact Or.inr (Or.inr (Or.inl (h1 s q)))
  · exact Or.inr (Or.inr (Or.inr (Or.inl (h2 s q))))
  · exact Or.inr (Or.inr (Or.inr (Or.inr (Or.inl ⟨z, h3 z q1, q2⟩))))
  · exact Or.inr (Or.inr (Or.inr (Or.inr (Or.inr q))))
/-- with lists so short that cr is left over -/
def FqB (M K : Nat) (χ : Prop) (Sh : List Nat) (t : Nat) (E : Nat → Nat) (e b cr : Nat) : Prop := ∃ L Zx Za, CovB χ Sh t E e b L Zx Za ∧ (M + 2) * L.length + K * Za.length + M * Zx.length + cr ≤ M * szT b
theorem FqB.le {e b cr cr' : Nat} (h : FqB M K χ Sh t E e b cr) (hc : cr' ≤ cr) : FqB M K χ Sh t E e b cr' := by
  obtain ⟨L, Zx, Za, h1, h2⟩ := h
  exact ⟨L, Zx, Za, h1, by omega⟩
theorem FqB.old {e b cr : Nat} (h : nwT t E e b = odT E e b) (h0 : b ≠ 0) (hc : cr ≤ M) : FqB M K χ Sh t E e b cr := by
  refine ⟨[], [], [], CovB.old h, ?_⟩
  have := sz_fms h0
  have hsz : M * 1 ≤ M * szT b := Nat.mul_le_mul_left M (by omega)
  simp only [List.length_nil]
  omega
/-- two leaves or more -/
theorem covb_two (ht : clT1 t) (hE : clE1 E) {e A : Nat} (ho : okT A) (h8 : 8 ≤ kd A) (h14 : kd A ≤ 14) (hA : Alls (AtE M Sh) A) (h2 : 2 ≤ lf A) : ∃ L Zx, CovB χ Sh t E e A L Zx [] ∧ (M + 2) * L.length + M * Zx.length + 10 ≤ M * szT A := by
  have hk : ¬ kd A ≤ 3 := by omega
  obtain ⟨z1, z2, z3⟩ := sz_atm (t := t) (E := E) (e := e) ho hk
  have a1 := (hA A (sub_rf A)).1 h8 h14 h2
  refine ⟨nwT t E e A :: (dQ A).map (nwT t E e), sgL t E e A, ⟨fun s hs => ?_, fun s hs => sg_sh ho h14 (AtE.p ho hA) hs, ZaQ.nil⟩, ?_⟩
  · rcases cov_gen ht hE ho h14 hk hs with w | w | w | w | w
    · exact Or.inl w
    · exact Or.inr (Or.inl w)
    · exact Or.inr (Or.inr (Or.inl (by rw [w]; exact List.mem_cons_self)))
    · exact Or.inr (Or.inr (Or.inl (List.mem_cons_of_mem _ w)))
    · exact Or.inr (Or.inr (Or.inr (Or.inl w)))
  · rw [List.length_cons, List.length_map]
    generalize (dQ A).length = d at *
    generalize (sgL t E e A).length = x at *
    have h5 : M * (1 + d + x + lf A) ≤ M * szT A := Nat.mul_le_mul_left M z1
    have e1 : M * (1 + d + x + lf A) = M + M * d + M * x + M * lf A := by rw [Nat.mul_add, Nat.mul_add, Nat.mul_add, Nat.mul_one]
    have e2 : (M + 2) * (d + 1) = M * d + M + 2 * d + 2 := by rw [Nat.mul_add, Nat.add_mul, Nat.mul_one]; omega
    omega
theorem atb (ht : clT1 t) (hE : clE1 E) {e A : Nat} (hM : 8 ≤ M) (hK : K + 12 = 2 * M) (ho : okT A) (h9 : 9 ≤ kd A) (h14 : kd A ≤ 14) (hA : Alls (AtE M Sh) A) (hc : nwT t E e A ≠ odT E e A) : FqB M K χ Sh t E e A 10 := by
  have hk : ¬ kd A ≤ 3 := by omega
  obtain ⟨z1, z2, z3⟩ := sz_atm (t := t) (E := E) (e := e) ho hk
  have l1 := ch_1 ho h14 hc
  have hP := AtE.p ho hA
  by_cases hz : isZ A
  · have hsz : M * 2 ≤ M * szT A := Nat.mul_le_mul_left M (by have := hz.1; have := hz.2; omega)
    refine ⟨[], [], [nwT t E e A], (cov_z (χ := χ) ht hE ho h9 h14 hP hz hc).b, ?_⟩
    simp only [List.length_cons, List.length_nil]; omega
  rcases Nat.lt_or_ge (lf A) 2 with w | w
  · have e1 : lf A = 1 := by omega
    have cs := (cov_s (χ := χ) (e := e) ht hE ho (by omega) h14 hP e1).b
    refine ⟨[], sgL t E e A, [nwT t E e A], ⟨fun s hs => ?_, cs.2.1, fun s hs => ?_⟩, ?_⟩
    · rcases cs.1 s hs with q | q | q | q | q | q
      · exact Or.inl q
      · exact Or.inr (Or.inl q)
      · exact Or.inr (Or.inr (Or.inr (Or.inr (Or.inl ⟨_, List.mem_cons_self, Or.inl (List.mem_singleton.mp q)⟩))))
      · exact Or.inr (Or.inr (Or.inr (Or.inl q)))
      · exact absurd q (fun ⟨_, z, _⟩ => by cases z)
      · exact Or.inr (Or.inr (Or.inr (Or.inr (Or.inr q))))
    · rw [List.mem_singleton.mp hs]
      exact ⟨imL A, (hA A (sub_rf A)).2 (by omega) h14 e1, by rw [kd_imL hk]; exact h9, nw_one ho h14 e1 hc⟩
    have hsz : M * ((sgL t E e A).length + 2) ≤ M * szT A := Nat.mul_le_mul_left M (by omega)
    rw [Nat.mul_add] at hsz
    simp only [List.length_cons, List.length_nil]
    omega
  · obtain ⟨L, Zx, c1, c2⟩ := covb_two (χ := χ) (t := t) (E := E) (e := e) ht hE ho (by omega) h14 hA w
    exact ⟨L, Zx, [], c1, by simp only [List.length_nil]; omega⟩
/-- a type -/
theorem tyb (ht : clT1 t) (hE : clE1 E) {e y : Nat} (hM : 8 ≤ M) (ho : okT y) (h8 : kd y = 8) (hA : Alls (AtE M Sh) y) : ∃ L Zx, CovB χ Sh t E e y L Zx [] ∧ (M + 2) * L.length + M * Zx.length + 4 ≤ M * szT y := by
  have hk : ¬ kd y ≤ 3 := by omega
  obtain ⟨z1, z2, z3⟩ := sz_atm (t := t) (E := E) (e := e) ho hk
  have hP := AtE.p ho hA
  by_cases hc : nwT t E e y = odT E e y
  · have hsz : M * 1 ≤ M * szT y := Nat.mul_le_mul_left M (by omega)
    exact ⟨[], [], CovB.old hc, by simp only [List.length_nil]; omega⟩
  · have l1 := ch_1 ho (by omega) hc
    rcases Nat.lt_or_ge (lf y) 2 with w | w
    · have e1 : lf y = 1 := by omega
      refine ⟨[], nwT t E e y :: sgL t E e y, ⟨fun s hs => ?_, fun s hs => ?_, ZaQ.nil⟩, ?_⟩
      · exact (cov_s (χ := χ) ht hE (e := e) ho (by omega) (by omega) hP e1).1 s hs |>.imp id (fun q => q.imp id (fun q => q.elim (fun w => Or.inr (Or.inl (by rw [List.mem_singleton.mp w]; exact List.mem_cons_self))) (fun q => q.elim (fun w => Or.inr (Or.inl (List.mem_cons_of_mem _ w))) (fun w => Or.inr (Or.inr w)))))
      · rcases List.mem_cons.mp hs with q | q
        · rw [q]
          exact ⟨imL y, (hA y (sub_rf y)).2 (by omega) (by omega) e1, by rw [kd_imL hk]; omega, nw_one ho (by omega) e1 hc⟩
        · exact sg_sh ho (by omega) hP q
      · have hsz : M * ((sgL t E e y).length + 2) ≤ M * szT y := Nat.mul_le_mul_left M (by omega)
        rw [Nat.mul_add] at hsz
        rw [List.length_cons, List.length_nil, Nat.mul_add]
        omega
    · obtain ⟨L, Zx, c1, c2⟩ := covb_two (χ := χ) (t := t) (E := E) (e := e) ht hE ho (by omega) (by omega) hA w
      exact ⟨L, Zx, c1, by omega⟩
/-- what is below a NOT changes with it -/
theorem nw_not {e b f : Nat} (h16 : kd b = 16) (hp : ps b = [f]) (f0 : f ≠ 0) (h : nwT t E e f = odT E e f) : nwT t E e b = odT E e b := by
  have h0 : ∀ c ∈ ps b, c ≠ 0 := fun c hc => by rw [hp, List.mem_singleton] at hc; rw [hc]; exact f0
  have hk : ¬ kd b ≤ 3 := by omega
  have e1 : ∀ g d, sbT g d b = mk (kd b) (wh b) [sbT g d f] := fun g d => by
    have h1 := (sb_kd (g := g) (d := d) hk).2.2
    have h2 := ps_map (g := g) (d := d) (Or.inl h16) h0
    rw [sbT_eq, if_neg hk, ← h1, h2, hp]
    rfl
  unfold nwT odT at h ⊢
  rw [e1, e1, h]
theorem covb_li {e cP : Nat} (hM : cP ≤ M) : ∀ {l : List Nat}, (∀ p ∈ l, nwT t E e p ≠ odT E e p → FqB M K χ Sh t E e p cP) → (∀ p ∈ l, p ≠ 0) → ∃ L Zx Za, (∀ p ∈ l, CovB χ Sh t E e p L Zx Za) ∧ (ZxP Sh t Zx ∧ ZaQ Sh t Za) ∧ (M + 2) * L.length + K * Za.length + M * Zx.length + cP * l.length ≤ M * (l.map szT).sum
  | [], _, _ => ⟨[], [], [], (fun p hp => by cases hp), ⟨ZxP.nil, ZaQ.nil⟩, by simp⟩
  | p :: l, h, h0 => by
    obtain ⟨L, Zx, Za, a1, ⟨a2, a3⟩, a4⟩ := covb_li hM (l := l) (fun q hq => h q (List.mem_cons_of_mem _ hq)) (fun q hq => h0 q (List.mem_cons_of_mem _ hq))
    have hp : FqB M K χ Sh t E e p cP := by
      by_cases hc : nwT t E e p = odT E e p
      · exact FqB.old hc (h0 p List.mem_cons_self) hM
      · exact h p List.mem_cons_self hc
    obtain ⟨L1, Zx1, Za1, b1, b3⟩ := hp
    have c4 := b1.2.1.ap a2
    have c5 := b1.2.2.ap a3
    refine ⟨L1 ++ L, Zx1 ++ Zx, Za1 ++ Za, fun q hq => ?_, ⟨c4, c5⟩, ?_⟩
    · rcases List.mem_cons.mp hq with w | w
      · rw [w]
        exact b1.mono (fun s hs => List.mem_append_left _ hs) (fun s hs => List.mem_append_left _ hs) (fun s hs => List.mem_append_left _ hs) c4 c5
      · exact (a1 q w).mono (fun s hs => List.mem_append_right _ hs) (fun s hs => List.mem_append_right _ hs) (fun s hs => List.mem_append_right _ hs) c4 c5
    · simp only [List.map_cons, List.sum_cons, List.length_append, List.length_cons, Nat.mul_add]
      omega
/-- a part in the whole -/
theorem covb_in (ht : clT1 t) (hE : clE1 E) {e b p : Nat} {L Zx Za : List Nat} (hk : ¬ kd b ≤ 3) (h18 : kd b ≠ 18) (hp : p ∈ fms b) (h : CovB χ Sh t E e p L Zx Za) {s : Nat} (hs : subT s (nwT t E e p)) : subT s (odT E e b) ∨ subT s t ∨ s ∈ L ∨ s ∈ Zx ∨ (∃ z ∈ Za, s = z ∨ s = notT z) ∨ (χ ∧ ∃ r, subT r (nwT t E e b) ∧ isTm r ∧ loT r = 0 ∧ subT s r) := by
  have m1 : nwT t E e p ∈ fms (nwT t E e b) := by
    unfold nwT
    rw [fms_sbn (gv_0 (clE1.c ht hE)) hk h18]
    exact List.mem_map.mpr ⟨p, hp, rfl⟩
  have m2 : odT E e p ∈ fms (odT E e b) := by
    unfold odT
    rw [fms_sbn (gv_0 hE) hk h18]
    exact List.mem_map.mpr ⟨p, hp, rfl⟩
  rcases h.1 s hs with q | q | q | q | q | ⟨q, r, r1, r2⟩
  · exact Or.inl (sub_c m2 q)
  · exact Or.inr (Or.inl q)
  · exact Or.inr (Or.inr (Or.inl q))
  · exact Or.inr (Or.inr (Or.inr (Or.inl q)))
  · exact Or.inr (Or.inr (Or.inr (Or.inr (Or.inl q))))
  · exact Or.inr (Or.inr (Or.inr (Or.inr (Or.inr ⟨q, r, sub_c m1 r1, r2⟩))))
/-- a node on top of its parts -/
theorem CovB.node (ht : clT1 t) (hE : clE1 E) {e b : Nat} {L Zx Za : List Nat} (hk : ¬ kd b ≤ 3) (h18 : kd b ≠ 18) (hP : ∀ p ∈ fms b, CovB χ Sh t E e p L Zx Za) (hx : ZxP Sh t Zx) (ha : ZaQ Sh t Za) : CovB χ Sh t E e b (nwT t E e b :: L) Zx Za := by
  refine ⟨fun s hs => ?_, hx, ha⟩
  rw [subT_eq] at hs
  rcases hs with q | ⟨c, hc', q⟩
  · exact Or.inr (Or.inr (Or.inl (by rw [q]; exact List.mem_cons_self)))
  · have : c ∈ (fms b).map (nwT t E e) := by
      unfold nwT at hc'
      rw [fms_sbn (gv_0 (clE1.c ht hE)) hk h18] at hc'
      exact hc'
    obtain ⟨p, hp, e1⟩ := List.mem_map.mp this
    rw [← e1] at q
    rcases covb_in ht hE hk h18 hp (hP p hp) q with w | w | w | w
    · exact Or.inl w
    · exact Or.inr (Or.inl w)
    · exact Or.inr (Or.inr (Or.inl (List.mem_cons_of_mem _ w)))
    · exact Or.inr (Or.inr (Or.inr w))
theorem CovB.all (ht : clT1 t) (hE : clE1 E) {e b y f : Nat} {Ly Lf Xy Xf Zf : List Nat} (k18 : kd b = 18) (hp : ps b = [y, f]) (y0 : y ≠ 0) (f0 : f ≠ 0) (hy : CovB χ Sh t E e y Ly Xy []) (hf : CovB χ Sh t E (e + 1) f Lf Xf Zf) : CovB χ Sh t E e b (nwT t E e b :: (Ly ++ Lf)) (Xy ++ Xf) Zf := by
  obtain ⟨fn, -⟩ := fms_all (d := e) (gv_0 (clE1.c ht hE)) k18 hp y0 f0
  obtain ⟨fo, -⟩ := fms_all (d := e + 1) (gv_0 hE) k18 hp y0 f0
  have fn : fms (nwT t E e b) = [nwT t E e y, nwT t E (e + 1) f] := fn
  have fo : fms (odT E e b) = [odT E e y, odT E (e + 1) f] := fo
  have mny : nwT t E e y ∈ fms (nwT t E e b) := by rw [fn]; exact List.mem_cons_self
  have mnf : nwT t E (e + 1) f ∈ fms (nwT t E e b) := by rw [fn]; exact List.mem_cons_of_mem _ List.mem_cons_self
  have moy : odT E e y ∈ fms (odT E e b) := by rw [fo]; exact List.mem_cons_self
  have mof : odT E (e + 1) f ∈ fms (odT E e b) := by rw [fo]; exact List.mem_cons_of_mem _ List.mem_cons_self
  refine ⟨fun s hs => ?_, hy.2.1.ap hf.2.1, hf.2.2⟩
  rw [subT_eq] at hs
  rcases hs with q | ⟨c, hc', q⟩
  · exact Or.inr (Or.inr (Or.inl (by rw [q]; exact List.mem_cons_self)))
  · rw [fn] at hc'
    rcases List.mem_cons.mp hc' with w | w
    · rw [w] at q
      rcases hy.1 s q with z | z | z | z | ⟨_, z, _⟩ | ⟨z, r, r1, r2⟩
      · exact Or.inl (sub_c moy z)
      · exact Or.inr (Or.inl z)
      · exact Or.inr (Or.inr (Or.inl (List.mem_cons_of_mem _ (List.mem_append_left _ z))))
      · exact Or.inr (Or.inr (Or.inr (Or.inl (List.mem_append_left _ z))))
      · cases z
      · exact Or.inr (Or.inr (Or.inr (Or.inr (Or.inr ⟨z, r, sub_c mny r1, r2⟩))))
    · rw [List.mem_singleton.mp w] at q
      rcases hf.1 s q with z | z | z | z | z | ⟨z, r, r1, r2⟩
      · exact Or.inl (sub_c mof z)
      · exact Or.inr (Or.inl z)
      · exact Or.inr (Or.inr (Or.inl (List.mem_cons_of_mem _ (List.mem_append_right _ z))))
      · exact Or.inr (Or.inr (Or.inr (Or.inl (List.mem_append_right _ z))))
      · exact Or.inr (Or.inr (Or.inr (Or.inr (Or.inl z))))
      · exact Or.inr (Or.inr (Or.inr (Or.inr (Or.inr ⟨z, r, sub_c mnf r1, r2⟩))))
/-- THE COUNT below binders -/
theorem covb_fo (ht : clT1 t) (hE : clE1 E) (hM : 8 ≤ M) (hK : K + 12 = 2 * M) : ∀ (b : Nat), okT b → isFo b → Alls (AtE M Sh) b → ∀ e, nwT t E e b ≠ odT E e b → (kd b ≠ 16 → FqB M K χ Sh t E e b 10) ∧ FqB M K χ Sh t E e b 8 := by
  intro b
  induction b using Nat.strongRecOn with
  | ind b ih =>
    intro ho hf hA e hc
    have b0 := okT_0 ho
    by_cases k14 : kd b ≤ 14
    · have h := atb (χ := χ) (e := e) ht hE hM hK ho (by unfold isFo at hf; omega) k14 hA hc
      exact ⟨fun _ => h, h.le (by omega)⟩
    by_cases k16 : kd b = 16
    · obtain ⟨f, hp, ff, kf, mf⟩ := ps_not1 ho k16
      have of := ho.c mf
      have f0 := okT_0 of
      have F : FqB M K χ Sh t E e f 10 := by
        by_cases hcf : nwT t E e f = odT E e f
        · exact absurd (nw_not k16 hp f0 hcf) hc
        · exact (ih f (fms_lt mf) of ff (hA.sub (sub_c mf (sub_rf f))) e hcf).1 kf
      obtain ⟨L, Zx, Za, c1, c2⟩ := F
      have fb : fms b = [f] := by
        unfold fms
        rw [if_neg (by omega), hp]
        simp [f0]
      have hs1 : szT b = 1 + szT f := by rw [sz_pl b0 (by omega), hp]; simp
      refine ⟨fun q => absurd k16 q, nwT t E e b :: L, Zx, Za, CovB.node ht hE (by omega) (by omega) (fun p hp' => by rw [fb, List.mem_singleton] at hp'; rw [hp']; exact c1) c1.2.1 c1.2.2, ?_⟩
      rw [List.length_cons, hs1]
      simp only [Nat.mul_add, Nat.mul_one]
      omega
    have main : FqB M K χ Sh t E e b 10 := by
      by_cases k17 : kd b = 17
      · have hl : 2 ≤ (ps b).length ∧ ∀ f ∈ ps b, isFo f := by
          rcases ho.n.2 with q | q | q | q | q | q | q | q | q | q | q | q | q | q <;> first | omega | exact ⟨q.2.2.1, fun p hp => (q.2.2.2 p hp).1⟩
        have mf : ∀ p ∈ ps b, p ∈ fms b := fun p hp => fms_mem hp (by omega) (isFo_pos (hl.2 p hp))
        obtain ⟨L, Zx, Za, a1, ⟨a2, a3⟩, a4⟩ := covb_li (χ := χ) (Sh := Sh) (t := t) (E := E) (K := K) (cP := 8) (e := e) (M := M) (by omega) (l := ps b) (fun p hp hcp => (ih p (fms_lt (mf p hp)) (ho.c (mf p hp)) (hl.2 p hp) (hA.sub (sub_c (mf p hp) (sub_rf p))) e hcp).2) (fun p hp => isFo_pos (hl.2 p hp))
        refine ⟨nwT t E e b :: L, Zx, Za, CovB.node ht hE (by omega) (by omega) (fun p hp => a1 p (fms_ps hp).1) a2 a3, ?_⟩
        rw [List.length_cons, sz_pl b0 (by omega)]
        simp only [Nat.mul_add, Nat.mul_one]
        have : 8 * 2 ≤ 8 * (ps b).length := Nat.mul_le_mul_left 8 hl.1
        omega
      · have k18 : kd b = 18 := by unfold isFo at hf; omega
        obtain ⟨y, f, hp, y8, ff, my, mf⟩ := ps_all1 ho k18
        have oy := ho.c my
        have of := ho.c mf
        obtain ⟨Ly, Xy, y1, y2⟩ := tyb (χ := χ) (e := e) ht hE hM oy y8 (hA.sub (sub_c my (sub_rf y)))
        have B : FqB M K χ Sh t E (e + 1) f 8 := by
          by_cases hcf : nwT t E (e + 1) f = odT E (e + 1) f
          · exact FqB.old hcf (okT_0 of) (by omega)
          · exact (ih f (fms_lt mf) of ff (hA.sub (sub_c mf (sub_rf f))) (e + 1) hcf).2
        obtain ⟨Lf, Xf, Zf, f1, f2⟩ := B
        refine ⟨_, _, _, CovB.all ht hE k18 hp (okT_0 oy) (okT_0 of) y1 f1, ?_⟩
        rw [sz_pl b0 (by omega), hp]
        simp only [List.map_cons, List.map_nil, List.sum_cons, List.sum_nil, List.length_append, List.length_cons, Nat.mul_add, Nat.mul_one, Nat.mul_zero]
        omega
    exact ⟨fun _ => main, main.le (by omega)⟩
end CNT
