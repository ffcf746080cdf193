/-! counting: what a put makes anew in a formula -/
theorem lo_ally {b y f : Nat} (h18 : kd b = 18) (hp : ps b = [y, f]) : loT y ≤ loT b := by
  rw [loT_eq b]
  unfold loS loX
  rw [if_neg (by omega), if_neg (by omega), if_pos h18, hp]
  simp
  omega
theorem fms_all {g : Nat → Nat → Nat} {d b y f : Nat} (hg : gN0 g) (h18 : kd b = 18) (hp : ps b = [y, f]) (y0 : y ≠ 0) (f0 : f ≠ 0) : fms (sbT g d b) = [sbT g d y, sbT g (d + 1) f] ∧ ps (sbT g d b) = [sbT g d y, sbT g (d + 1) f] := by
  obtain ⟨k1, k2, k3⟩ := sb_kd (g := g) (d := d) (t := b) (by omega)
  have e1 : ps (sbT g d b) = [sbT g d y, sbT g (d + 1) f] := by
    rw [k3, hp]
    unfold chm
    rw [if_neg (by omega), if_pos h18]
    show [zf (sbT g d) y, zf (sbT g (d + 1)) f] = _
    unfold zf
    rw [if_neg y0, if_neg f0]
  refine ⟨?_, e1⟩
  unfold fms
  rw [k1, if_neg (by omega), e1]
  have a := sb_nz (e := d) hg y0
  have b' := sb_nz (e := d + 1) hg f0
  simp [a, b']
theorem ps_map {g : Nat → Nat → Nat} {d b : Nat} (h : kd b = 16 ∨ kd b = 17) (h0 : ∀ c ∈ ps b, c ≠ 0) : ps (sbT g d b) = (ps b).map (sbT g d) := by
  obtain ⟨k1, k2, k3⟩ := sb_kd (g := g) (d := d) (t := b) (by omega)
  rw [k3]
  unfold chm
  rw [if_neg (by omega), if_neg (by omega)]
  exact List.map_congr_left (fun c hc => by unfold zf; rw [if_neg (h0 c hc)])
theorem sz_pl {b : Nat} (h0 : b ≠ 0) (h8 : kd b ≠ 8) : szT b = 1 + ((ps b).map szT).sum := by
  rw [szT_ex h0]
  unfold exp1
  rw [if_neg h8]
section CNT
variable {t : Nat} {E : Nat → Nat} {χ : Prop} {n N M K cA cP : Nat} {Sh : List Nat}
theorem Cov.mono {e b : Nat} {L L' Zx Zx' Za Za' : List Nat} (h : Cov χ Sh t E e b L Zx Za) (h1 : ∀ s ∈ L, s ∈ L') (h2 : ∀ s ∈ Zx, s ∈ Zx') (h3 : ∀ s ∈ Za, s ∈ Za') (h4 : ∀ s ∈ Zx', ∃ h ∈ Sh, kd h ≤ 8 ∧ s = sbT (fun _ _ => t) 0 h) (h5 : ∀ s ∈ Za', ∃ h ∈ Sh, 9 ≤ kd h ∧ (iL h).length = 1 ∧ s = sbT (fun _ _ => t) 0 h) : Cov χ Sh t E e b L' Zx' Za' := by
  refine ⟨fun s hs => ?_, fun hχ s p hs k hp l0 k16 => ?_, h4, h5⟩
  · rcases h.1 s hs with q | q | q | q | ⟨z, q1, q2⟩ | q
    · exact Or.inl q
    · exact Or.inr (Or.inl q)
    · exact Or.inr (Or.inr (Or.inl (h1 s q)))
    · exact Or.inr (Or.inr (Or.inr (Or.inl (h2 s q))))
    · exact Or.inr (Or.inr (Or.inr (Or.inr (Or.inl ⟨z, h3 z q1, q2⟩))))
    · exact Or.inr (Or.inr (Or.inr (Or.inr (Or.inr q))))
  · rcases h.2.1 hχ s p hs k hp l0 k16 with q | q | q
    · exact Or.inl q
    · exact Or.inr (Or.inl (h1 _ q))
    · exact Or.inr (Or.inr (h3 _ q))
/-- closed, and what is closed is left out: the atom or type alone -/
theorem cov_cl (ht : clT1 t) (hE : clE1 E) {e A : Nat} (ho : okT A) (h8 : 8 ≤ kd A) (h14 : kd A ≤ 14) (q1 : χ) (q2 : loT (nwT t E e A) = 0) : Cov χ Sh t E e A [nwT t E e A] [] [] := by
  have hk : ¬ kd A ≤ 3 := by omega
  refine ⟨fun s hs => ?_, fun _ s p hs k _ _ _ => absurd k (no17 ht hE ho h14 hk hs), (fun s hs => by cases hs), (fun s hs => by cases hs)⟩
  rw [subT_eq] at hs
  rcases hs with w | ⟨c, hc, w⟩
  · exact Or.inr (Or.inr (Or.inl (by rw [w]; exact List.mem_cons_self)))
  · have on := okT_nw ht hE (e := e) ho
    have kn := kd_nw ht hE (e := e) hk
    have l0 : loT c = 0 := by have := lo_part on.n (by omega) hc; omega
    have tm : isTm c := atp_tm on (by omega) (by omega) hc
    exact Or.inr (Or.inr (Or.inr (Or.inr (Or.inr ⟨q1, c, sub_c hc (sub_rf c), tm, l0, w⟩))))
/-- one leaf alone -/
theorem cov_z (ht : clT1 t) (hE : clE1 E) {e A : Nat} (ho : okT A) (h9 : 9 ≤ kd A) (h14 : kd A ≤ 14) (hA : Alls (AtP n N Sh) A) (hz : isZ A) (hc : nwT t E e A ≠ odT E e A) : Cov χ Sh t E e A [] [] [nwT t E e A] := by
  have hk : ¬ kd A ≤ 3 := by omega
  have h3 : (iL A).length = 1 + ((fms A).flatMap iL).length := by rw [iL_eq, if_neg hk, List.length_cons]; omega
  have h4 : (fms A).flatMap iL = [] := List.length_eq_zero_iff.mp (by have := hz.2; omega)
  refine ⟨fun s hs => ?_, fun _ s p hs k _ _ _ => absurd k (no17 ht hE ho h14 hk hs), (fun s hs => by cases hs), fun s hs => ?_⟩
  · rcases cov_gen ht hE ho h14 hk hs with w | w | w | w | w
    · exact Or.inl w
    · exact Or.inr (Or.inl w)
    · exact Or.inr (Or.inr (Or.inr (Or.inr (Or.inl ⟨_, List.mem_cons_self, Or.inl w⟩))))
    · exfalso
      unfold dQ at w
      rw [h4] at w
      cases w
    · exfalso
      unfold sgL at w
      rw [h4] at w
      cases w
  · rw [List.mem_singleton.mp hs]
    refine ⟨imL A, (hA A (sub_rf A)).2 (by omega) h14 hz.1, by rw [kd_imL hk]; exact h9, ?_, nw_one ho h14 hz.1 hc⟩
    have := (iL_sbf (e := 0) (g := fun _ _ => mk 3 0 []) (fun l _ _ => ⟨by rw [kd_mk]; decide, fun z => by have z : mk 3 0 [] = 0 := z; have := kd_mk 3 0 []; rw [z, kd0] at this; omega⟩) A ho h14).1
    unfold imL
    rw [this, List.length_map]
    exact hz.2
/-- one leaf, and inner forms -/
theorem cov_s (ht : clT1 t) (hE : clE1 E) {e A : Nat} (ho : okT A) (h8 : 8 ≤ kd A) (h14 : kd A ≤ 14) (hA : Alls (AtP n N Sh) A) (h1 : lf A = 1) : Cov χ Sh t E e A [nwT t E e A] (sgL t E e A) [] := by
  have hk : ¬ kd A ≤ 3 := by omega
  refine ⟨fun s hs => ?_, fun _ s p hs k _ _ _ => absurd k (no17 ht hE ho h14 hk hs), fun s hs => sg_sh ho h14 hA hs, (fun s hs => by cases hs)⟩
  rcases cov_gen ht hE ho h14 hk hs with w | w | w | w | w
  · exact Or.inl w
  · exact Or.inr (Or.inl w)
  · exact Or.inr (Or.inr (Or.inl (by rw [w]; exact List.mem_cons_self)))
  · exfalso
    obtain ⟨q, hq, _⟩ := List.mem_map.mp w
    obtain ⟨⟨c, hc, h2, _⟩, h3⟩ := (dQ_mem ho).mp hq
    have := lf_sub A ho (sub_c hc h2)
    omega
  · exact Or.inr (Or.inr (Or.inr (Or.inl w)))
theorem lo_lf0 {g : Nat → Nat → Nat} {e : Nat} (hg : gN0 g) : ∀ (A : Nat), okT A → kd A ≤ 14 → (∀ c ∈ lvT A, loT (g e c) = 0) → loT (sbT g e A) = 0 := by
  intro A
  induction A using Nat.strongRecOn with
  | ind A ih =>
    intro ho h14 h
    by_cases hk : kd A ≤ 3
    · rw [sbT_eq, if_pos hk]
      exact h A (by rw [lvT_eq, if_pos hk]; exact List.mem_cons_self)
    · have k1 := (sb_kd (g := g) (d := e) hk).1
      refine lo_mk0 (by omega) (fun c hc => ?_)
      rw [fms_sbn hg hk (by omega)] at hc
      obtain ⟨q, hq, e1⟩ := List.mem_map.mp hc
      rw [← e1]
      exact ih q (fms_lt hq) (ho.c hq) (by have := kd_14 ho.n h14 hq; omega) (fun l hl => h l (lv_part ho.n hq l hl))
theorem lo_one (ht : clT1 t) (hE : clE1 E) {e A : Nat} (ho : okT A) (h14 : kd A ≤ 14) (h1 : lf A = 1) (hc : nwT t E e A ≠ odT E e A) : loT (nwT t E e A) = 0 := by
  obtain ⟨l, hl, h2⟩ := ch_lf ho h14 hc
  refine lo_lf0 (gv_0 (clE1.c ht hE)) A ho h14 (fun c hc => ?_)
  have : c = l := by
    unfold lf at h1
    obtain ⟨a, ha⟩ := List.length_eq_one_iff.mp h1
    rw [ha] at hl hc
    rw [List.mem_singleton.mp hl, List.mem_singleton.mp hc]
  rw [this, gv_t h2]
  exact ht.2.2
/-- what is left over: by whether what is closed is left out -/
def CrK (χ : Prop) (cA cP : Nat) : Prop := (χ ∧ cA = 14 ∧ cP = 8) ∨ (¬ χ ∧ cA = 10 ∧ cP = 6)
/-- a formula that changes: the lists, and how long they are -/
def Fq (M K : Nat) (χ : Prop) (Sh : List Nat) (t : Nat) (E : Nat → Nat) (e b cr : Nat) : Prop := ∃ L Zx Za, Cov χ Sh t E e b L Zx Za ∧ (M + 2) * L.length + K * Za.length + M * Zx.length + cr ≤ M * szT b
def Pq (M K : Nat) (χ : Prop) (Sh : List Nat) (t : Nat) (E : Nat → Nat) (e b cP : Nat) : Prop := ∃ L Zx Za, Cov χ Sh t E e b L Zx Za ∧ (χ → loT (nwT t E e b) = 0 → kd b ≠ 16 → notT (nwT t E e b) ∈ L ∨ nwT t E e b ∈ Za) ∧ (M + 2) * L.length + K * Za.length + M * Zx.length + cP ≤ M * szT b
theorem Fq.p {e b cr : Nat} (h : Fq M K χ Sh t E e b cr) (hc : cP ≤ cr) (hx : χ → loT (nwT t E e b) = 0 → kd b = 16) : Pq M K χ Sh t E e b cP := by
  obtain ⟨L, Zx, Za, h1, h2⟩ := h
  exact ⟨L, Zx, Za, h1, fun a b c => absurd (hx a b) c, by omega⟩
theorem at_fq (ht : clT1 t) (hE : clE1 E) {e A : Nat} (hM : MOK M n N) (hK : K + 12 = 2 * M) (hcr : CrK χ cA cP) (ho : okT A) (h9 : 9 ≤ kd A) (h14 : kd A ≤ 14) (hA : Alls (AtP n N Sh) A) (hc : nwT t E e A ≠ odT E e A) : ((isZ A ∧ Fq M K χ Sh t E e A (cA - 2)) ∨ Fq M K χ Sh t E e A cA) ∧ Pq M K χ Sh t E e A cP := by
  have hk : ¬ kd A ≤ 3 := by omega
  obtain ⟨z1, z2, z3⟩ := sz_atm (t := t) (E := E) (e := e) ho hk
  have l1 := ch_1 ho h14 hc
  have hM' := hM
  obtain ⟨m1, m2, m3⟩ := hM
  have hc14 : cA ≤ 14 ∧ cP ≤ 8 ∧ cP ≤ cA ∧ 2 ≤ cA := by unfold CrK at hcr; omega
  -- closed, and left out
  have P3 : 3 ≤ szT A → χ → loT (nwT t E e A) = 0 → Pq M K χ Sh t E e A cP := fun h3 q1 q2 => by
    have hsz : M * 3 ≤ M * szT A := Nat.mul_le_mul_left M h3
    refine ⟨[nwT t E e A, notT (nwT t E e A)], [], [], (cov_cl (Sh := Sh) ht hE ho (by omega) h14 q1 q2).mono (fun s hs => by rw [List.mem_singleton.mp hs]; exact List.mem_cons_self) (fun _ h => h) (fun _ h => h) (fun s hs => by cases hs) (fun s hs => by cases hs), fun _ _ _ => Or.inl (by simp), ?_⟩
    simp only [List.length_cons, List.length_nil]
    omega
  by_cases hz : isZ A
  · have cz := cov_z (χ := χ) ht hE ho h9 h14 hA hz hc
    have hsz : M * 2 ≤ M * szT A := Nat.mul_le_mul_left M (by have := hz.1; have := hz.2; omega)
    refine ⟨Or.inl ⟨hz, [], [], [nwT t E e A], cz, ?_⟩, [], [], [nwT t E e A], cz, fun _ _ _ => Or.inr List.mem_cons_self, ?_⟩
    · simp only [List.length_cons, List.length_nil]; omega
    · simp only [List.length_cons, List.length_nil]; omega
  · rcases Nat.lt_or_ge (lf A) 2 with w | w
    · have e1 : lf A = 1 := by omega
      have i2 : 2 ≤ (iL A).length := by
        rcases Nat.lt_or_ge (iL A).length 2 with q | q
        · exact absurd ⟨e1, by omega⟩ hz
        · exact q
      have hlo := lo_one ht hE ho h14 e1 hc
      rcases hcr with ⟨q1, q2, q3⟩ | ⟨q1, q2, q3⟩
      · have hsz : M * 3 ≤ M * szT A := Nat.mul_le_mul_left M (by omega)
        refine ⟨Or.inr ⟨_, _, _, cov_cl (Sh := Sh) ht hE ho (by omega) h14 q1 hlo, ?_⟩, P3 (by omega) q1 hlo⟩
        simp only [List.length_cons, List.length_nil]
        omega
      · have F : Fq M K χ Sh t E e A cA := by
          refine ⟨_, _, _, cov_s ht hE ho (by omega) h14 hA e1, ?_⟩
          have hsz : M * ((sgL t E e A).length + 2) ≤ M * szT A := Nat.mul_le_mul_left M (by omega)
          rw [Nat.mul_add] at hsz
          simp only [List.length_cons, List.length_nil]
          omega
        exact ⟨Or.inr F, F.p (by omega) (fun a => absurd a q1)⟩
    · obtain ⟨L, Zx, c1, c2, c3⟩ := cov_two (χ := χ) (t := t) (E := E) (e := e) ht hE ho (by omega) h14 hA hM' w
      have F : Fq M K χ Sh t E e A cA := ⟨L, Zx, [], c1, by simp only [List.length_nil]; omega⟩
      refine ⟨Or.inr F, ?_⟩
      rcases Classical.em (χ ∧ loT (nwT t E e A) = 0) with ⟨q1, q2⟩ | q
      · exact P3 (by omega) q1 q2
      · exact F.p (by omega) (fun a b => absurd ⟨a, b⟩ q)
/-- a type -/
theorem ty_fq (ht : clT1 t) (hE : clE1 E) {e y : Nat} (hM : MOK M n N) (ho : okT y) (h8 : kd y = 8) (hA : Alls (AtP n N Sh) y) : ∃ L Zx, Cov χ Sh t E e y L Zx [] ∧ (M + 2) * L.length + M * Zx.length + 8 ≤ M * szT y ∧ (χ → loT (nwT t E e y) = 0 → ∃ L Zx, Cov χ Sh t E e y L Zx [] ∧ (M + 2) * L.length + M * Zx.length + M ≤ M * szT y) := by
  have hk : ¬ kd y ≤ 3 := by omega
  obtain ⟨z1, z2, z3⟩ := sz_atm (t := t) (E := E) (e := e) ho hk
  have hM' := hM
  obtain ⟨m1, m2, m3⟩ := hM
  by_cases hc : nwT t E e y = odT E e y
  · have c0 := Cov.old (χ := χ) (Sh := Sh) hc
    have hsz : M * 1 ≤ M * szT y := Nat.mul_le_mul_left M (by omega)
    exact ⟨[], [], c0, by simp only [List.length_nil]; omega, fun _ _ => ⟨[], [], c0, by simp only [List.length_nil]; omega⟩⟩
  · have l1 := ch_1 ho (by omega) hc
    rcases Nat.lt_or_ge (lf y) 2 with w | w
    · have e1 : lf y = 1 := by omega
      have c1 : Cov χ Sh t E e y [] (nwT t E e y :: sgL t E e y) [] := by
        have c0 := cov_s (χ := χ) ht hE (e := e) ho (by omega) (by omega) hA e1
        refine ⟨fun s hs => ?_, fun _ s p hs k _ _ _ => absurd k (no17 ht hE ho (by omega) hk hs), fun s hs => ?_, (fun s hs => by cases hs)⟩
        · exact c0.1 s hs |>.imp id (fun q => q.imp id (fun q => q.elim (fun w => Or.inr (Or.inl (by rw [List.mem_singleton.mp w]; exact List.mem_cons_self))) (fun q => q.elim (fun w => Or.inr (Or.inl (List.mem_cons_of_mem _ w))) (fun w => Or.inr (Or.inr w)))))
        · rcases List.mem_cons.mp hs with q | q
          · rw [q]
            exact ⟨imL y, (hA y (sub_rf y)).2 (by omega) (by omega) e1, by rw [kd_imL hk]; omega, nw_one ho (by omega) e1 hc⟩
          · exact c0.2.2.1 s q
      have hsz : M * ((sgL t E e y).length + 2) ≤ M * szT y := Nat.mul_le_mul_left M (by omega)
      rw [Nat.mul_add] at hsz
      have hb : (M + 2) * ([] : List Nat).length + M * (nwT t E e y :: sgL t E e y).length + M ≤ M * szT y := by
        rw [List.length_cons, List.length_nil, Nat.mul_add]
        omega
      exact ⟨_, _, c1, by omega, fun _ _ => ⟨_, _, c1, hb⟩⟩
    · obtain ⟨L, Zx, c1, c2, c3⟩ := cov_two (χ := χ) (t := t) (E := E) (e := e) ht hE ho (by omega) (by omega) hA hM' w
      refine ⟨L, Zx, c1, by omega, fun q1 q2 => ⟨_, _, cov_cl (Sh := Sh) ht hE ho (by omega) (by omega) q1 q2, ?_⟩⟩
      have hsz : M * 3 ≤ M * szT y := Nat.mul_le_mul_left M (by omega)
      simp only [List.length_cons, List.length_nil]
      omega
end CNT
