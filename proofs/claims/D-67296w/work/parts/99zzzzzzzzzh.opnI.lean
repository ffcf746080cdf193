/-! openings: the premises together -/
def E0 : Nat → Nat := fun _ => mk 4 0 []
theorem clT1_f0 : clT1 (mk 4 0 []) := by
  have k : kd (mk 4 0 []) = 4 := kd_mk _ _ _
  have w : wh (mk 4 0 []) = 0 := wh_mk _ _ _
  have p : ps (mk 4 0 []) = [] := ps_mk _ _ _
  have o : okT (mk 4 0 []) := by
    rw [okT_eq]
    refine ⟨⟨by rw [k, w, p], Or.inr (Or.inr (Or.inr (Or.inl ⟨k, by rw [p]; simp, fun c hc => by rw [p] at hc; cases hc⟩)))⟩, fun c hc => ?_⟩
    have := (fms_ps hc).1
    rw [p] at this
    cases this
  refine ⟨o, ?_, ?_⟩
  · unfold isTm; rw [k]; decide
  · exact lo_mk0 (by rw [k]; decide) (fun c hc => by rw [fms_nil] at hc; cases hc)
theorem clE0 : clE1 E0 := fun _ => clT1_f0
theorem csE0 {r m : Nat} : ¬ csP (E0 r) m := fun ⟨l, h, _⟩ => by
  unfold E0 at h
  rw [lvT_eq, if_neg (by rw [kd_mk]; decide), fms_nil] at h
  cases h
theorem cs_of {z m : Nat} (ho : okT z) (h : subT (mk 1 m []) z) : csP z m := ⟨mk 1 m [], lv_in z ho h (by rw [lvT_eq, if_pos (by rw [kd_mk]; decide)]; exact List.mem_cons_self), kd_mk _ _ _, wh_mk _ _ _⟩
/-- a premise of one case: of how many opened constants its leaves speak -/
noncomputable def kz (p : Nat) : Nat := if kaT p true ≤ 1 then kpT p true else 0
noncomputable def nz (p : Nat) : Nat := if kaT p true ≤ 1 ∧ 1 ≤ kpT p true then 1 else 0
/-- what is known of a premise -/
def PrK (n c0 p : Nat) : Prop := okT p ∧ isFo p ∧ loT p = 0 ∧ htT p < n ∧ ∀ m, csP p m → ∃ i, i < c0 ∧ m = 2 * i
theorem prem_K {n c0 : Nat} : ∀ (l : List Nat) (c : Nat), c0 ≤ c → (∀ p ∈ l, PrK n c0 p) → ∀ y ∈ prodL (tqL (tqF n) l c).1, ∃ D Z : List Nat, (D.Nodup ∧ D.length = (l.map kz).sum ∧ ∀ d ∈ D, (∃ z ∈ y, csP z (2 * d)) ∧ c ≤ d) ∧ Z.Nodup ∧ Z.length = (l.map nz).sum ∧ ∀ z ∈ Z, z ∈ y ∧ ∃ d, c ≤ d ∧ csP z (2 * d)
  | [], c, _, _, y, _ => ⟨[], [], ⟨List.nodup_nil, rfl, fun d hd => by cases hd⟩, List.nodup_nil, rfl, fun d hd => by cases hd⟩
  | p :: l, c, h0, h, y, hy => by
    obtain ⟨ho, hf, hlo, hh, hcs⟩ := h p List.mem_cons_self
    have ep : opn true (sbT (gv E0) 0 p) = p := by rw [opn_t, gv_cl p ho 0 (by omega)]
    have tN := tq_cnt n p true E0 c ho hf clE0
    unfold TqN at tN
    rw [ep] at tN
    have e2 := (tN hh).1.1
    obtain ⟨y', h1, h2⟩ := List.mem_flatMap.mp (show y ∈ (prodL (tqL (tqF n) l (tqF n p c).2).1).flatMap (fun y => (tqF n p c).1.map (fun x => x ++ y)) from hy)
    obtain ⟨x, h3, h4⟩ := List.mem_map.mp h2
    obtain ⟨D', Z', ⟨d1, d2, d3⟩, z1, z2, z3⟩ := prem_K l (tqF n p c).2 (by omega) (fun q hq => h q (List.mem_cons_of_mem _ hq)) y' h1
    rw [e2] at d3 z3
    have iny : ∀ z, z ∈ y' → z ∈ y := fun z hz => by rw [← h4]; exact List.mem_append_right _ hz
    by_cases ka : kaT p true ≤ 1
    · have hno : nNo p true := by
        refine ⟨fun q => (by cases q.2), fun q => ?_⟩
        obtain ⟨n', en⟩ : ∃ n', n = n' + 1 := ⟨n - 1, by omega⟩
        rw [en, tq_no q.1 c] at h3
        cases h3
      have tK := tq_K n p true E0 c ho hf clE0
      unfold TqK at tK
      rw [ep] at tK
      obtain ⟨L, l1, _, D, l3, l4, l5⟩ := tK hh ka hno
      rw [l1] at h3
      have ex : x = L := List.mem_singleton.mp h3
      have inx : ∀ z, z ∈ L → z ∈ y := fun z hz => by rw [← h4, ex]; exact List.mem_append_left _ hz
      have okz : ∀ z ∈ L, okT z := fun z hz => by
        have tR := tq_R (P := fun _ => True) (B := szT p) (fun _ _ => trivial) n p true E0 c ho hf clE0
        unfold TqR at tR
        rw [ep, opn_t] at tR
        exact (tR hh (fun _ _ => trivial) (Nat.le_refl _) L (by rw [l1]; exact List.mem_cons_self) z hz).ok.1
      have kzp : kz p = kpT p true := by unfold kz; rw [if_pos ka]
      have Dn : (D ++ D').Nodup := List.nodup_append.mpr ⟨l3, d1, fun a ha b hb e => by
        have q1 := (l5 a ha).2
        have q2 := (d3 b hb).2
        omega⟩
      have Dl : (D ++ D').length = ((p :: l).map kz).sum := by rw [List.length_append, l4, d2, List.map_cons, List.sum_cons, kzp]
      have Dm : ∀ d ∈ D ++ D', (∃ z ∈ y, csP z (2 * d)) ∧ c ≤ d := fun d hd => by
        rcases List.mem_append.mp hd with q | q
        · obtain ⟨⟨z, q1, q2⟩, q3, _⟩ := l5 d q
          exact ⟨⟨z, inx z q1, cs_of (okz z q1) q2⟩, q3⟩
        · obtain ⟨⟨z, q1, q2⟩, q3⟩ := d3 d q
          exact ⟨⟨z, iny z q1, q2⟩, by omega⟩
      have Zm' : ∀ z ∈ Z', z ∈ y ∧ ∃ d, c ≤ d ∧ csP z (2 * d) := fun z hz => by
        obtain ⟨q1, d, q2, q3⟩ := z3 z hz
        exact ⟨iny z q1, d, by omega, q3⟩
      by_cases kp : 1 ≤ kpT p true
      · have nzp : nz p = 1 := by unfold nz; rw [if_pos ⟨ka, kp⟩]
        cases D with
        | nil => simp at l4; omega
        | cons a D0 =>
          obtain ⟨⟨z, q1, q2⟩, q3, q4⟩ := l5 a List.mem_cons_self
          refine ⟨(a :: D0) ++ D', z :: Z', ⟨Dn, Dl, Dm⟩, List.nodup_cons.mpr ⟨fun hz => ?_, z1⟩, ?_, fun w hw => ?_⟩
          · obtain ⟨_, d, w2, w3⟩ := z3 z hz
            have tC := tq_C n p true E0 c ho hf clE0
            unfold TqC at tC
            rw [ep] at tC
            rcases tC hh L (by rw [l1]; exact List.mem_cons_self) z q1 _ w3 with r | ⟨r, r1⟩ | ⟨d', r1, r2, r3⟩
            · obtain ⟨i, i1, i2⟩ := hcs _ r
              omega
            · exact csE0 r1
            · omega
          · rw [List.length_cons, z2, List.map_cons, List.sum_cons, nzp]; omega
          · rcases List.mem_cons.mp hw with r | r
            · rw [r]; exact ⟨inx z q1, a, q3, cs_of (okz z q1) q2⟩
            · exact Zm' w r
      · have nzp : nz p = 0 := by unfold nz; rw [if_neg (fun q => kp q.2)]
        exact ⟨D ++ D', Z', ⟨Dn, Dl, Dm⟩, z1, by rw [z2, List.map_cons, List.sum_cons, nzp]; omega, Zm'⟩
    · have kzp : kz p = 0 := by unfold kz; rw [if_neg ka]
      have nzp : nz p = 0 := by unfold nz; rw [if_neg (fun q => ka q.1)]
      refine ⟨D', Z', ⟨d1, by rw [d2, List.map_cons, List.sum_cons, kzp]; omega, fun d hd => ?_⟩, z1, by rw [z2, List.map_cons, List.sum_cons, nzp]; omega, fun z hz => ?_⟩
      · obtain ⟨⟨z, q1, q2⟩, q3⟩ := d3 d hd
        exact ⟨⟨z, iny z q1, q2⟩, by omega⟩
      · obtain ⟨q1, d, q2, q3⟩ := z3 z hz
        exact ⟨iny z q1, d, by omega, q3⟩
/-- few premises have more than one case -/
theorem prN1_two : ∀ (l : List Nat), (∀ x ∈ l, 1 ≤ x) → 2 ^ (l.filter (fun x => decide (2 ≤ x))).length ≤ prN1 l
  | [], _ => Nat.le_refl 1
  | a :: l, h => by
    have ih := prN1_two l (fun x hx => h x (List.mem_cons_of_mem _ hx))
    have ha := h a List.mem_cons_self
    have e : prN1 (a :: l) = a * prN1 l := rfl
    rw [e, List.filter_cons]
    by_cases q : 2 ≤ a
    · rw [if_pos (by simpa using q), List.length_cons, Nat.pow_succ, Nat.mul_comm]
      exact Nat.mul_le_mul q ih
    · rw [if_neg (by simpa using q)]
      have : a = 1 := by omega
      rw [this, Nat.one_mul]
      exact ih
theorem prem_Q {n c0 c : Nat} {l : List Nat} (h : ∀ p ∈ l, PrK n c0 p) (hn : noT ∉ l) (h40 : (prodL (tqL (tqF n) l c).1).length ≤ 40) : (l.filter (fun p => decide (2 ≤ kaT p true))).length ≤ 5 := by
  have ee : l.map (fun p => opn true (sbT (gv E0) 0 p)) = l := by
    have : l.map (fun p => opn true (sbT (gv E0) 0 p)) = l.map id := List.map_congr_left (fun p hp => by rw [opn_t, gv_cl p (h p hp).1 0 (by have := (h p hp).2.2.1; omega)]; rfl)
    rw [this, List.map_id]
  obtain ⟨-, -, l3⟩ := tqL_cnt (n := n) (pol := true) (E := E0) (l := l) (c := c) (fun p hp c' => tq_cnt n p true E0 c' (h p hp).1 (h p hp).2.1 clE0) (fun p hp => by rw [opn_t, gv_cl p (h p hp).1 0 (by have := (h p hp).2.2.1; omega)]; exact (h p hp).2.2.2.1)
  rw [ee] at l3
  rw [prodL_le2, l3 (fun p hp => ⟨fun q => (by cases q.2), fun q => hn (by rw [← q.1]; exact hp)⟩)] at h40
  have h1 := prN1_two (l.map (fun p => kaT p true)) (fun x hx => by
    obtain ⟨p, hp, e⟩ := List.mem_map.mp hx
    rw [← e]; exact ka_pos p (h p hp).1 (h p hp).2.1 true)
  have e3 : ((l.map (fun p => kaT p true)).filter (fun x => decide (2 ≤ x))).length = (l.filter (fun p => decide (2 ≤ kaT p true))).length := by
    rw [List.filter_map, List.length_map]; rfl
  rw [e3] at h1
  rcases Nat.lt_or_ge 5 (l.filter (fun p => decide (2 ≤ kaT p true))).length with q | q
  · exfalso
    have : 2 ^ 6 ≤ 2 ^ (l.filter (fun p => decide (2 ≤ kaT p true))).length := Nat.pow_le_pow_right (by decide) q
    omega
  · exact q
