/-! counting: what a put makes anew in an atom or a type -/
theorem atp_tm {X c : Nat} (ho : okT X) (h8 : 8 ≤ kd X) (h14 : kd X ≤ 14) (hc : c ∈ fms X) : isTm c := by
  obtain ⟨i, i1, i2, i3⟩ := fms_at.mp hc
  have hm := List.mem_of_getElem? i2
  rcases ho.n.2 with q | q | q | q | q | q | q | q | q | q | q | q | q | q <;> try omega
  · obtain ⟨_, a, js, q1, q2, _⟩ := q
    have i0 : i = 0 := i1.resolve_left (fun w => w (by omega))
    rw [i0, q1] at i2
    have e : a = c := Option.some.inj i2
    rcases q2 with z | z
    · rw [← e, z] at i3; exact absurd rfl i3
    · rw [← e]; exact z
  · rw [q.2.2] at hm; cases hm
  · obtain ⟨_, _, a, b, q1, q2, q3⟩ := q
    rw [q1] at hm
    rcases List.mem_cons.mp hm with z | z
    · rw [z]; exact q2
    · rw [List.mem_singleton.mp z]; exact q3
  · exact q.2.2 c hm
  · obtain ⟨_, a, q1, q2⟩ := q
    rw [q1, List.mem_singleton] at hm
    rw [hm]; exact q2
  · obtain ⟨_, a, b, q1, q2, q3⟩ := q
    rw [q1] at hm
    rcases List.mem_cons.mp hm with z | z
    · rcases q2 with w | w
      · rw [z, w] at i3; exact absurd rfl i3
      · rw [z]; exact w
    · rw [List.mem_singleton.mp z]; exact q3
section CNT
variable {t : Nat} {E : Nat → Nat}
theorem gOn_gv (hE : clE1 E) {b : Nat} (ho : okT b) : gOn (gv E) b := fun c hc d => by
  obtain ⟨o, k3, tm⟩ := lv_ok b ho c hc
  unfold gv
  split
  · exact ⟨(hE _).2.1, (hE _).1⟩
  · exact ⟨tm, o⟩
theorem okT_nw (ht : clT1 t) (hE : clE1 E) {e b : Nat} (ho : okT b) : okT (nwT t E e b) := okT_sb b ho (gOn_gv (clE1.c ht hE) ho) e
theorem okT_od (hE : clE1 E) {e b : Nat} (ho : okT b) : okT (odT E e b) := okT_sb b ho (gOn_gv hE ho) (e + 1)
theorem kd_sub14 {b s : Nat} (ho : okT b) (h : kd b ≤ 14) (hs : subT s b) : kd s ≤ 14 := by
  rw [subT_eq] at hs
  rcases hs with q | ⟨c, hc, q⟩
  · rw [q]; exact h
  · have k1 := kd_14 ho.n h hc
    rw [subT_eq] at q
    rcases q with w | ⟨z, hz, w⟩
    · rw [w]; omega
    · have := kd_sub8 (ho.c hc) k1 hz w
      omega
theorem kd_nw (ht : clT1 t) (hE : clE1 E) {e b : Nat} (hk : ¬ kd b ≤ 3) : kd (nwT t E e b) = kd b := (sb_kd hk).1
/-- inner forms with one leaf that change -/
def sgL (t : Nat) (E : Nat → Nat) (e A : Nat) : List Nat := (((fms A).flatMap iL).filter (fun q => decide (lf q = 1 ∧ nwT t E e q ≠ odT E e q))).map (nwT t E e)
theorem sg_mem {e A s : Nat} (ho : okT A) : s ∈ sgL t E e A ↔ ∃ q, (∃ c ∈ fms A, subT q c ∧ ¬ kd q ≤ 3) ∧ lf q = 1 ∧ nwT t E e q ≠ odT E e q ∧ s = nwT t E e q := by
  unfold sgL
  rw [List.mem_map]
  constructor
  · rintro ⟨q, h1, h2⟩
    obtain ⟨h3, h4⟩ := List.mem_filter.mp h1
    obtain ⟨c, hc, h5⟩ := List.mem_flatMap.mp h3
    have h6 : lf q = 1 ∧ nwT t E e q ≠ odT E e q := by simpa using h4
    exact ⟨q, ⟨c, hc, (iL_mem c (ho.c hc) q).mp h5⟩, h6.1, h6.2, h2.symm⟩
  · rintro ⟨q, ⟨c, hc, h5⟩, h1, h2, h3⟩
    exact ⟨q, List.mem_filter.mpr ⟨List.mem_flatMap.mpr ⟨c, hc, (iL_mem c (ho.c hc) q).mpr h5⟩, by simpa using ⟨h1, h2⟩⟩, h3.symm⟩
theorem flt2_le {p q : Nat → Bool} (h : ∀ s, p s = true → q s = false) : ∀ (l : List Nat), (l.filter p).length + (l.filter q).length ≤ l.length
  | [] => Nat.le_refl _
  | a :: l => by
    have ih := flt2_le h l
    rw [List.filter_cons, List.filter_cons, List.length_cons]
    by_cases ha : p a = true
    · rw [if_pos ha, if_neg (by rw [h a ha]; decide), List.length_cons]; omega
    · rw [if_neg ha]
      split
      · rw [List.length_cons]; omega
      · omega
/-- size of an atom or type: itself, inner forms with more leaves, with one, leaves -/
theorem sz_atm {e A : Nat} (ho : okT A) (hk : ¬ kd A ≤ 3) : 1 + (dQ A).length + (sgL t E e A).length + lf A ≤ szT A ∧ 1 + (sgL t E e A).length ≤ (iL A).length ∧ (iL A).length + lf A ≤ szT A := by
  have h1 := sz_il A ho
  have h2 := dd_le (((fms A).flatMap iL).filter (fun s => decide (2 ≤ lf s)))
  have h3 : (iL A).length = 1 + ((fms A).flatMap iL).length := by rw [iL_eq, if_neg hk, List.length_cons]; omega
  have h4 := flt2_le (p := fun s => decide (2 ≤ lf s)) (q := fun q => decide (lf q = 1 ∧ nwT t E e q ≠ odT E e q)) (fun s hs => by
    have hs : 2 ≤ lf s := by simpa using hs
    have : ¬ (lf s = 1 ∧ nwT t E e s ≠ odT E e s) := fun w => by omega
    simp only [decide_eq_false_iff_not]
    exact this) ((fms A).flatMap iL)
  have h5 : (sgL t E e A).length = (((fms A).flatMap iL).filter (fun q => decide (lf q = 1 ∧ nwT t E e q ≠ odT E e q))).length := by unfold sgL; rw [List.length_map]
  unfold dQ
  refine ⟨by omega, by omega, h1⟩
/-- all that an atom or a type becomes: old, or in what is put, or itself, or inner forms that change -/
theorem cov_gen (ht : clT1 t) (hE : clE1 E) {e A : Nat} (ho : okT A) (h14 : kd A ≤ 14) (hk : ¬ kd A ≤ 3) {s : Nat} (hs : subT s (nwT t E e A)) : subT s (odT E e A) ∨ subT s t ∨ s = nwT t E e A ∨ s ∈ (dQ A).map (nwT t E e) ∨ s ∈ sgL t E e A := by
  rcases sub_sbf (gv_0 (clE1.c ht hE)) A ho h14 hs with ⟨c, hc, q⟩ | ⟨q, h1, h2, h3⟩
  · by_cases hv : kd c = 2 ∧ wh c = e
    · rw [gv_t hv] at q; exact Or.inr (Or.inl q)
    · left
      rw [gv_c hv] at q
      have h1 := sub_img (e := e + 1) (gv_0 hE) A ho h14 (lv_is A hc)
      have h2 : sbT (gv E) (e + 1) c = gv E (e + 1) c := by rw [sbT_eq, if_pos (lv_ok A ho c hc).2.1]
      rw [h2] at h1
      exact sub_tr _ q h1
  · by_cases hc : nwT t E e q = odT E e q
    · left
      have h4 : s = odT E e q := by rw [h3]; exact hc
      rw [h4]
      exact sub_img (e := e + 1) (gv_0 hE) A ho h14 h1
    · rw [subT_eq] at h1
      rcases h1 with w | ⟨c, hc', w⟩
      · exact Or.inr (Or.inr (Or.inl (by rw [h3, w]; rfl)))
      · have oq := sub_ok c (ho.c hc') w
        have k14 := kd_sub14 ho h14 (sub_c hc' w)
        have l1 := ch_1 oq k14 hc
        rcases Nat.lt_or_ge (lf q) 2 with z | z
        · exact Or.inr (Or.inr (Or.inr (Or.inr ((sg_mem ho).mpr ⟨q, ⟨c, hc', w, h2⟩, by omega, hc, h3⟩))))
        · exact Or.inr (Or.inr (Or.inr (Or.inl (List.mem_map.mpr ⟨q, (dQ_mem ho).mpr ⟨⟨c, hc', w, h2⟩, z⟩, h3.symm⟩))))
theorem kd_imL {q : Nat} (hk : ¬ kd q ≤ 3) : kd (imL q) = kd q := (sb_kd hk).1
/-- shapes of what has one leaf -/
theorem sg_sh {n N : Nat} {Sh : List Nat} {e A : Nat} (ho : okT A) (h14 : kd A ≤ 14) (hA : Alls (AtP n N Sh) A) {s : Nat} (hs : s ∈ sgL t E e A) : ∃ h ∈ Sh, kd h ≤ 8 ∧ s = sbT (fun _ _ => t) 0 h := by
  obtain ⟨q, ⟨c, hc, h1, h2⟩, h3, h4, h5⟩ := (sg_mem ho).mp hs
  have oq := sub_ok c (ho.c hc) h1
  have k8 : kd q ≤ 8 := by
    have k1 := kd_14 ho.n h14 hc
    have h1' := h1
    rw [subT_eq] at h1'
    rcases h1' with w | ⟨z, hz, w⟩
    · rw [w]; exact k1
    · exact kd_sub8 (ho.c hc) k1 hz w
  refine ⟨imL q, (hA q (sub_c hc h1)).2 (by omega) (by omega) h3, by rw [kd_imL h2]; exact k8, ?_⟩
  rw [h5]
  exact nw_one oq (by omega) h3 h4
/-- what has come to be: all of it is old, or in what was put, or in the lists, or (if what is closed is left out) in a closed term; and so NOT of the parts of an AND -/
def Cov (χ : Prop) (Sh : List Nat) (t : Nat) (E : Nat → Nat) (e b : Nat) (L Zx Za : List Nat) : Prop := (∀ s, subT s (nwT t E e b) → subT s (odT E e b) ∨ subT s t ∨ s ∈ L ∨ s ∈ Zx ∨ (∃ z ∈ Za, s = z ∨ s = notT z) ∨ (χ ∧ ∃ r, subT r (nwT t E e b) ∧ isTm r ∧ loT r = 0 ∧ subT s r)) ∧ (χ → ∀ s p, subT s (nwT t E e b) → kd s = 17 → p ∈ ps s → loT p = 0 → kd p ≠ 16 → (∃ s', subT s' (odT E e b) ∧ kd s' = 17 ∧ p ∈ ps s') ∨ notT p ∈ L ∨ p ∈ Za) ∧ (∀ s ∈ Zx, ∃ h ∈ Sh, kd h ≤ 8 ∧ s = sbT (fun _ _ => t) 0 h) ∧ ∀ s ∈ Za, ∃ h ∈ Sh, 9 ≤ kd h ∧ (iL h).length = 1 ∧ s = sbT (fun _ _ => t) 0 h
theorem Cov.old {χ : Prop} {Sh : List Nat} {e b : Nat} (h : nwT t E e b = odT E e b) : Cov χ Sh t E e b [] [] [] := ⟨fun s hs => Or.inl (by rw [← h]; exact hs), fun _ s p hs k hp _ _ => Or.inl ⟨s, by rw [← h]; exact hs, k, hp⟩, (fun s hs => by cases hs), (fun s hs => by cases hs)⟩
/-- no AND within -/
theorem no17 (ht : clT1 t) (hE : clE1 E) {e A s : Nat} (ho : okT A) (h14 : kd A ≤ 14) (hk : ¬ kd A ≤ 3) (hs : subT s (nwT t E e A)) : kd s ≠ 17 := fun q => by
  have := kd_sub14 (okT_nw ht hE (e := e) ho) (by rw [kd_nw ht hE hk]; exact h14) hs
  omega
/-- the condition on M -/
def MOK (M n N : Nat) : Prop := 12 ≤ M ∧ N + 8 ≤ M ∧ n + 8 ≤ 2 * M
def isZ (A : Nat) : Prop := lf A = 1 ∧ (iL A).length = 1
/-- an atom or a type with two leaves or more that changes -/
theorem cov_two (ht : clT1 t) (hE : clE1 E) {χ : Prop} {n N M : Nat} {Sh : List Nat} {e A : Nat} (ho : okT A) (h8 : 8 ≤ kd A) (h14 : kd A ≤ 14) (hA : Alls (AtP n N Sh) A) (hM : MOK M n N) (h2 : 2 ≤ lf A) : ∃ L Zx, Cov χ Sh t E e A L Zx [] ∧ (M + 2) * L.length + M * Zx.length + 14 ≤ M * szT A ∧ (χ → loT (nwT t E e A) = 0 → L.length = 1 ∧ Zx = [] ∧ 3 ≤ szT A) := by
  have hk : ¬ kd A ≤ 3 := by omega
  obtain ⟨z1, z2, z3⟩ := sz_atm (t := t) (E := E) (e := e) ho hk
  obtain ⟨a1, a2⟩ := (hA A (sub_rf A)).1 h8 h14
  obtain ⟨m1, m2, m3⟩ := hM
  rcases Classical.em (χ ∧ loT (nwT t E e A) = 0) with ⟨q1, q2⟩ | q
  · refine ⟨[nwT t E e A], [], ⟨fun s hs => ?_, fun _ s p hs k _ _ _ => absurd k (no17 ht hE ho h14 hk hs), (fun s hs => by cases hs), (fun s hs => by cases hs)⟩, ?_, fun _ _ => ⟨rfl, rfl, by omega⟩⟩
    · have hs0 := hs
      rw [subT_eq] at hs
      rcases hs with w | ⟨c, hc, w⟩
      · exact Or.inr (Or.inr (Or.inl (by rw [w]; exact List.mem_cons_self)))
      · have on := okT_nw ht hE (e := e) ho
        have kn := kd_nw ht hE (e := e) hk
        have k8 := kd_14 on.n (by omega) hc
        have l0 : loT c = 0 := by have := lo_part on.n (by omega) hc; omega
        have tm : isTm c := atp_tm on (by omega) (by omega) hc
        exact Or.inr (Or.inr (Or.inr (Or.inr (Or.inr ⟨q1, c, sub_c hc (sub_rf c), tm, l0, w⟩))))
    · simp only [List.length_cons, List.length_nil]
      have : M * 3 ≤ M * szT A := Nat.mul_le_mul_left M (by omega)
      omega
  · refine ⟨nwT t E e A :: (dQ A).map (nwT t E e), sgL t E e A, ⟨fun s hs => ?_, fun _ s p hs k _ _ _ => absurd k (no17 ht hE ho h14 hk hs), fun s hs => sg_sh ho h14 hA hs, (fun s hs => by cases hs)⟩, ?_, fun a b => absurd ⟨a, b⟩ q⟩
    · rcases cov_gen ht hE ho h14 hk hs with w | w | w | w | w
      · exact Or.inl w
      · exact Or.inr (Or.inl w)
      · exact Or.inr (Or.inr (Or.inl (by rw [w]; exact List.mem_cons_self)))
      · exact Or.inr (Or.inr (Or.inl (List.mem_cons_of_mem _ w)))
      · exact Or.inr (Or.inr (Or.inr (Or.inl w)))
    · rw [List.length_cons, List.length_map]
      generalize (dQ A).length = d at *
      generalize (sgL t E e A).length = x at *
      have h5 : M * (1 + d + x + lf A) ≤ M * szT A := Nat.mul_le_mul_left M z1
      have h6 : 2 * d + 16 ≤ M * lf A := by
        rcases Nat.lt_or_ge 3 (lf A) with w | w
        · have : M * 4 ≤ M * lf A := Nat.mul_le_mul_left M w
          omega
        · have := a2 w
          have : M * 2 ≤ M * lf A := Nat.mul_le_mul_left M h2
          omega
      have e1 : M * (1 + d + x + lf A) = M + M * d + M * x + M * lf A := by rw [Nat.mul_add, Nat.mul_add, Nat.mul_add, Nat.mul_one]
      have e2 : (M + 2) * (d + 1) = M * d + M + 2 * d + 2 := by rw [Nat.mul_add, Nat.add_mul, Nat.mul_one]; omega
      omega
end CNT
