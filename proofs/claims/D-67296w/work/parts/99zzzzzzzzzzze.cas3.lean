/-! a case of a check: its formulas are what kept formulas have become; few trees -/
theorem tqL_get {F : Nat → Nat → List (List Nat) × Nat} : ∀ {l : List Nat} {c : Nat} {A : List (List Nat)}, A ∈ (tqL F l c).1 → ∃ p ∈ l, ∃ c', A = (F p c').1
  | [], _, _, h => by cases h
  | p :: l, c, A, h => by
    have h : A ∈ (F p c).1 :: (tqL F l (F p c).2).1 := h
    rcases List.mem_cons.mp h with q | q
    · exact ⟨p, List.mem_cons_self, c, q⟩
    · obtain ⟨p', h1, c', h2⟩ := tqL_get q
      exact ⟨p', List.mem_cons_of_mem _ h1, c', h2⟩
/-- a premise, as it was kept -/
def PrU (M U : Nat) (P : Nat → Prop) (B n p : Nat) : Prop := okT p ∧ isFo p ∧ loT p = 0 ∧ htT p < n ∧ AlN M U P p ∧ nz0 p ≤ B
theorem prem_U {M U B n c : Nat} {P : Nat → Prop} (hP : ∀ s, 15 ≤ kd s → P s) {l : List Nat} (h : ∀ p ∈ l, PrU M U P B n p) {y : List Nat} (hy : y ∈ prodL (tqL (tqF n) l c).1) : ∀ z ∈ y, kd z = 18 → RepU M U P B z ∧ (RepU M U P (B - 2) z ∨ z ∈ l) := fun z hz h18 => by
  obtain ⟨A, a1, x, a2, a3⟩ := prodL_in hy hz
  obtain ⟨p, hp, c', e⟩ := tqL_get a1
  rw [e] at a2
  obtain ⟨p1, p2, p3, p4, p5, p6⟩ := h p hp
  have eg : sbT (gv E0) 0 p = p := gv_cl p p1 0 (by omega)
  have h1 := tq_U (M := M) (N := U) (P := P) (B := B) hP n p true E0 c' p1 p2 clE0
  have h2 := tq_G (M := M) (N := U) (P := P) (B := B) hP n p true E0 c' p1 p2 clE0
  unfold TqU at h1
  unfold TqG at h2
  rw [opn_t, eg] at h1 h2
  refine ⟨h1 p4 p5 p6 x a2 z a3 h18, (h2 p4 p5 p6 x a2 z a3 h18).imp id (fun q => by rw [q]; exact hp)⟩
/-- the parts of ANDs of size one -/
theorem leafless {W : Wd} {N : Nat → Prop} {f s p : Nat} (hf : frW W N f) (hs : subT s f) (k : kd s = 17) (hp : p ∈ ps s) (h1 : szT p = 1) (h10 : wnP W ≤ 10) : notT p ∈ (List.range 10).map (fun i => notT (mk 12 i [])) := by
  have os := sub_ok f hf.1 hs
  have hq : isFo p ∧ p ≠ yesT := by
    rcases os.n.2 with q | q | q | q | q | q | q | q | q | q | q | q | q | q <;> first | omega | exact ⟨(q.2.2.2 p hp).1, (q.2.2.2 p hp).2.2.1⟩
  have mp : p ∈ fms s := fms_mem hp (by omega) (isFo_pos hq.1)
  have op := os.c mp
  have hz := sz_fms (okT_0 op)
  have em : fms p = [] := by
    cases e : fms p with
    | nil => rfl
    | cons a l =>
      have ha : a ∈ fms p := by rw [e]; exact List.mem_cons_self
      have := sz_fms (okT_0 (op.c ha))
      have := le_sum_mem (f := szT) ha
      omega
  have tm : ∀ b ∈ ps p, kd p ≠ 8 → isTm b → False := fun b hb h8 ht => by
    have : b ∈ fms p := fms_mem hb h8 (isTm_pos ht)
    rw [em] at this; cases this
  have fo : ∀ b ∈ ps p, kd p ≠ 8 → isFo b → False := fun b hb h8 ht => by
    have : b ∈ fms p := fms_mem hb h8 (isFo_pos ht)
    rw [em] at this; cases this
  have k12 : kd p = 12 ∧ ps p = [] := by
    have hfo := hq.1
    unfold isFo at hfo
    rcases op.n.2 with q | q | q | q | q | q | q | q | q | q | q | q | q | q <;> first | omega | skip
    · exact absurd (yes_of op q.1) hq.2
    · obtain ⟨_, _, a, b, e, ha, hb⟩ := q
      exact (tm a (by rw [e]; exact List.mem_cons_self) (by omega) ha).elim
    · refine ⟨q.1, ?_⟩
      cases e : ps p with
      | nil => rfl
      | cons a l => exact (tm a (by rw [e]; exact List.mem_cons_self) (by omega) (q.2.2 a (by rw [e]; exact List.mem_cons_self))).elim
    · obtain ⟨_, a, e, ha⟩ := q
      exact (tm a (by rw [e]; exact List.mem_cons_self) (by omega) ha).elim
    · obtain ⟨_, a, b, e, _, hb⟩ := q
      exact (tm b (by rw [e]; simp) (by omega) hb).elim
    · obtain ⟨_, _, a, e, ha, _⟩ := q
      exact (fo a (by rw [e]; exact List.mem_cons_self) (by omega) ha).elim
    · cases e : ps p with
      | nil => rw [e] at q; simp at q
      | cons a l => exact (fo a (by rw [e]; exact List.mem_cons_self) (by omega) (q.2.2.2 a (by rw [e]; exact List.mem_cons_self)).1).elim
    · obtain ⟨_, _, a, b, e, _, hb, _⟩ := q
      exact (fo b (by rw [e]; simp) (by omega) hb).elim
  have hw := (hf.2 p (sub_tr f (sub_c mp (sub_rf p)) hs)).2.2.2.1 k12.1
  have ep := op.n.1
  rw [k12.1, k12.2] at ep
  refine List.mem_map.mpr ⟨wh p, List.mem_range.mpr (by omega), ?_⟩
  rw [← ep]
section CASE
variable {W : Wd} {N : Nat → Prop} {X : Nat → Prop} {Fo : List Nat} {M B U ε Bq n c0 : Nat} {Sh NL LX Ps y : List Nat}
/-- few trees in a case -/
theorem lim_case {r : Nat} {H C : List Nat} (hM : 8 ≤ M) (hB : 7 ≤ B) (hF : ∀ f ∈ Fo, okT f) (hKp : ∀ f ∈ Fo, kd f ≤ 8 → KpT Fo f) (hW : WOK W N) (hG : WGK W N) (hc : ∀ f, wcT W (2 * f + 1) = pa (pa f 0) 0) (h10 : wnP W ≤ 10) (hKO : KOK W N Bq (fun f => f ∈ y) (fun _ => False)) (hPs : ∀ p ∈ Ps, PrU M U (AtV M ε Sh) B n p) (hy : y ∈ prodL (tqL (tqF n) Ps c0).1) (hKf : ∀ f ∈ y, LfK f) (hNF : ∀ f ∈ Fo, ∀ z, subT z f → z ∈ NL) (hX : ∀ z, X z → z ∈ NL ∨ z ∈ LX) (hKs : ∀ f ∈ y, ∀ z, subT z f → z ∈ NL ∨ z ∈ LX) (hr : rch W (aS (fun f => f ∈ y)) (fun f => f ∈ y) r) (H1 : H.length ≤ 101) (H2 : ∀ t ∈ H, fH (facS W (stg W (aS (fun f => f ∈ y)) (fun f => f ∈ y) r).1 (stg W (aS (fun f => f ∈ y)) (fun f => f ∈ y) r).2) t) (C1 : C.Nodup) (C2 : ∀ g ∈ C, comS W (aS (fun f => f ∈ y)) (stg W (aS (fun f => f ∈ y)) (fun f => f ∈ y) r).1 (stg W (aS (fun f => f ∈ y)) (fun f => f ∈ y) r).2 g ∧ ¬ (stg W (aS (fun f => f ∈ y)) (fun f => f ∈ y) r).1 g) (C3 : (∀ L : List Nat, L.Nodup → (∀ f ∈ L, (stg W (aS (fun f => f ∈ y)) (fun f => f ∈ y) r).1 f) → L.length + C.length ≤ 401) ∨ C.length ≤ 1) (C4 : C = [] ∨ (¬ manyS (facS W (stg W (aS (fun f => f ∈ y)) (fun f => f ∈ y) r).1 (stg W (aS (fun f => f ∈ y)) (fun f => f ∈ y) r).2) ∧ ¬ conS (facS W (stg W (aS (fun f => f ∈ y)) (fun f => f ∈ y) r).1 (stg W (aS (fun f => f ∈ y)) (fun f => f ∈ y) r).2) (stg W (aS (fun f => f ∈ y)) (fun f => f ∈ y) r).1)) : ∃ (LL : List Nat) (g c : Nat), (∀ z, z ∈ NL ∨ Xc (xf (X2F W Fo (aS (fun f => f ∈ y)) (fun f => f ∈ y) X) H) C z → z ∈ LL) ∧ ((ddL y).length + g + c ≤ 401 ∨ (g = 0 ∧ c ≤ 1)) ∧ (1 ≤ g + c → ¬ manyS (facS W (fun f => f ∈ y) (fun _ => False))) ∧ (M + 2) * LL.length ≤ (M + 2) * (NL.length + LX.length + 516 + (ddL y).length + g + 203 * (lcF Fo).length) + (g + c) * CpU M (B - 2) ε U Sh + 100 * (Ps.filter (fun p => decide (kd p = 18))).length * (2 * M) := by
  have hU := prem_U (fun s => AtV_up (s := s)) hPs hy
  have lv18 : ∀ f ∈ y, Liv f → kd f = 18 := fun f hf q => by
    obtain ⟨l1, l2⟩ := hKf f hf
    rcases q with w | w | w
    · exact absurd w l1
    · exact w
    · exact absurd w l2
  have hOK := stg_ok hKO hW hG hc
  have hA : ∀ t, aS (fun f => f ∈ y) t → clT1 t ∧ ∃ f, f ∈ y ∧ subT t f := fun t ⟨f, f1, f2, f3, f4⟩ => ⟨⟨sub_ok f (hKO f f1).1.1 f2, f3, f4⟩, f, f1, f2⟩
  obtain ⟨LL, g, c, l1, l2, l3, l4⟩ := lim_covU (W := W) (A := aS (fun f => f ∈ y)) (K0 := fun f => f ∈ y) (X := X) (Fo := Fo) (M := M) (B := B) (N := U) (ε := ε) (Sh := Sh) (NL := NL) (LX := LX) (K0l := ddL y) (Z1 := (List.range 10).map (fun i => notT (mk 12 i []))) (Lg := Ps.filter (fun p => decide (kd p = 18))) hM hB hF hKp (fun f hf => ⟨⟨(hKO f hf).1.1, (hKO f hf).2.2.1⟩, fun q => (hU f hf (lv18 f hf q)).1⟩) hKf hA (fun r f _ hf => (((hOK r).1 f hf).2.1).1) (fun r t _ ht => by
    have := stg_hand hKO hW hG hc r t ht
    exact ⟨this.1.1, this.2.1⟩) hNF hX hKs ⟨dd_nd y, fun f => dd_mem.symm⟩ (fun r f s p _ hf hs k hp h1 => leafless ((hOK r).1 f hf).1 (subN_T f hs) k hp h1 h10) (fun f hf hq hn => List.mem_filter.mpr ⟨(hU f hf (lv18 f hf (isQ_liv hq))).2.resolve_left hn, by
    have := lv18 f hf (isQ_liv hq)
    simpa using this⟩) hr H1 H2 C1 C2 C3 C4
  refine ⟨LL, g, c, l1, l2, l3, ?_⟩
  rw [List.length_map, List.length_range] at l4
  have e : NL.length + LX.length + 506 + (ddL y).length + g + 10 + 203 * (lcF Fo).length = NL.length + LX.length + 516 + (ddL y).length + g + 203 * (lcF Fo).length := by omega
  rw [e] at l4
  exact l4
end CASE
