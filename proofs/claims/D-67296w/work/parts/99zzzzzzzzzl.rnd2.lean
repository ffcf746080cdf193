/-! rounds: all that the known formulas of a case are made of -/
theorem list_cov {P : Nat → List Nat → Prop} {a b : Nat} : ∀ (N : List Nat), (∀ g ∈ N, ∃ Y : List Nat, a * Y.length ≤ b ∧ P g Y) → ∃ Z : List Nat, a * Z.length ≤ N.length * b ∧ ∀ g ∈ N, ∃ Y, P g Y ∧ ∀ z ∈ Y, z ∈ Z
  | [], _ => ⟨[], by simp, fun g hg => by cases hg⟩
  | g :: N, h => by
    obtain ⟨Z, z1, z2⟩ := list_cov N (fun q hq => h q (List.mem_cons_of_mem _ hq))
    obtain ⟨Y, y1, y2⟩ := h g List.mem_cons_self
    refine ⟨Y ++ Z, ?_, fun q hq => ?_⟩
    · rw [List.length_append, Nat.mul_add, List.length_cons, Nat.add_mul, Nat.one_mul]
      omega
    · rcases List.mem_cons.mp hq with w | w
      · rw [w]; exact ⟨Y, y2, fun z hz => List.mem_append_left _ hz⟩
      · obtain ⟨Y', a1, a2⟩ := z2 q w
        exact ⟨Y', a1, fun z hz => List.mem_append_right _ (a2 z hz)⟩
section CVS
variable {W : Wd} {A K0 : Nat → Prop} {M B : Nat} {Sh : List Nat}
/-- in a term at hand, or a constant of a round -/
def HzS (W : Wd) (A K0 : Nat → Prop) (r : Nat) (z : Nat) : Prop := (∃ q t, q ≤ r ∧ ¬ manyS (facS W (stg W A K0 q).1 (stg W A K0 q).2) ∧ fH (facS W (stg W A K0 q).1 (stg W A K0 q).2) t ∧ subT z t) ∨ ∃ q f, q < r ∧ (stg W A K0 q).1 f ∧ kd f = 16 ∧ kd (pa f 0) = 18 ∧ z = mk 1 (2 * f + 1) []
theorem HzS.up {r z : Nat} (h : HzS W A K0 r z) : HzS W A K0 (r + 1) z := h.imp (fun ⟨q, t, a, b⟩ => ⟨q, t, by omega, b⟩) (fun ⟨q, f, a, b⟩ => ⟨q, f, by omega, b⟩)
def CpS (M B : Nat) (Sh : List Nat) : Nat := M * (B - 2) + 16 * nYs Sh + 2 * nXs Sh + 2
/-- a list for all that is known at a stage -/
def CvS (W : Wd) (A K0 : Nat → Prop) (M B : Nat) (Sh : List Nat) (r : Nat) (Y G : List Nat) : Prop := (G.Nodup ∧ (∀ g ∈ G, (stg W A K0 r).1 g ∧ ¬ K0 g) ∧ ∀ g, (stg W A K0 r).1 g → K0 g ∨ g ∈ G) ∧ (M + 2) * Y.length ≤ G.length * CpS M B Sh ∧ (∀ g, (stg W A K0 r).1 g → ∀ z, subT z g → (∃ f, K0 f ∧ subT z f) ∨ z ∈ Y ∨ HzS W A K0 r z) ∧ (¬ manyS (facS W (stg W A K0 r).1 (stg W A K0 r).2) → ∀ g, (stg W A K0 r).1 g → ∀ s p, subN s g → kd s = 17 → p ∈ ps s → kd p ≠ 16 → notT p ∈ Y ∨ szT p = 1 ∨ ∃ f, K0 f ∧ subN s f)
theorem stg_O : ∀ {r f : Nat}, (stg W A K0 r).2 f → ∃ q, q < r ∧ (stg W A K0 q).1 f ∧ kd f = 16 ∧ kd (pa f 0) = 18
  | 0, f, h => absurd h id
  | r + 1, f, h => by
    rcases h with q | q
    · obtain ⟨p, a, b⟩ := stg_O q
      exact ⟨p, by omega, b⟩
    · exact ⟨r, by omega, q⟩
theorem CvS.of (hM : 8 ≤ M) (hB : 4 ≤ B) (hK : ∀ f, K0 f → Rep (AtE M Sh) B f) (hA : ∀ t, A t → clT1 t ∧ ∃ f, K0 f ∧ subT t f) (hlo : ∀ r f, rch W A K0 r → (stg W A K0 r).1 f → loT f = 0) : ∀ r, rch W A K0 r → ∃ Y G, CvS W A K0 M B Sh r Y G
  | 0, _ => ⟨[], [], ⟨List.nodup_nil, (fun g hg => by cases hg), fun g hg => Or.inl hg⟩, by simp, fun g hg z hz => Or.inl ⟨g, hg, hz⟩, fun _ g hg s p hs _ _ _ => Or.inr (Or.inr ⟨g, hg, hs⟩)⟩
  | r + 1, hr => by
    have hr0 := rch_le hr (by omega : r ≤ r + 1)
    obtain ⟨Y, G, ⟨g1, g2, g3⟩, c1, c2, c3⟩ := CvS.of hM hB hK hA hlo r hr0
    have hnm : ¬ manyS (facS W (stg W A K0 r).1 (stg W A K0 r).2) := (hr r (by omega)).1
    have hTc : ∀ t, Tof A (stg W A K0 r).2 t → clT1 t := fun t ht => by
      rcases ht with w | ⟨f, _, w⟩
      · exact (hA t w).1
      · rw [w]; exact clT1_const _
    have hRep := stg_rep (P := AtE M Sh) (fun s h => AtE_hi h) (B := B) (W := W) (A := A) hK (fun t ht => (hA t ht).1)
    obtain ⟨L, l1, l2, _⟩ := enum_of (rch_400 hr)
    let N := L.filter (fun g => !(@decide ((stg W A K0 r).1 g) (Classical.propDecidable _)))
    have hN : ∀ g, g ∈ N ↔ (stg W A K0 (r + 1)).1 g ∧ ¬ (stg W A K0 r).1 g := fun g => by
      rw [List.mem_filter, l2 g]
      simp
    have Nn : N.Nodup := l1.filter _
    -- what each of them brings
    have each : ∀ g ∈ N, ∃ Yg : List Nat, (M + 2) * Yg.length ≤ CpS M B Sh ∧ ((∀ z, subT z g → (∃ f, K0 f ∧ subT z f) ∨ z ∈ Y ∨ z ∈ Yg ∨ HzS W A K0 (r + 1) z) ∧ (¬ manyS (facS W (stg W A K0 (r + 1)).1 (stg W A K0 (r + 1)).2) → ∀ s p, subN s g → kd s = 17 → p ∈ ps s → kd p ≠ 16 → notT p ∈ Yg ∨ notT p ∈ Y ∨ szT p = 1 ∨ ∃ f, K0 f ∧ subN s f)) := fun g hg => by
      obtain ⟨hg1, hg2⟩ := (hN g).mp hg
      obtain ⟨f, hf, hcm⟩ : comS W A (stg W A K0 r).1 (stg W A K0 r).2 g := hg1.resolve_left hg2
      have fin : ∀ z, subT z f → (∃ f, K0 f ∧ subT z f) ∨ z ∈ Y ∨ HzS W A K0 (r + 1) z := fun z hz => (c2 f hf z hz).imp id (fun q => q.imp id HzS.up)
      have tin : ∀ z t, Tof A (stg W A K0 r).2 t → subT z t → (∃ f, K0 f ∧ subT z f) ∨ HzS W A K0 (r + 1) z := fun z t ht hz => by
        rcases ht with w | ⟨f', w1, w2⟩
        · obtain ⟨_, f', a, b⟩ := hA t w
          exact Or.inl ⟨f', a, sub_tr f' hz b⟩
        · rw [w2] at hz
          obtain ⟨q, q1, q2⟩ := stg_O w1
          exact Or.inr (Or.inr ⟨q, f', by omega, q2.1, q2.2.1, q2.2.2, sub_const hz⟩)
      have con : ∀ z, z = mk 1 (2 * f + 1) [] → kd f = 16 ∧ kd (pa f 0) = 18 → HzS W A K0 (r + 1) z := fun z hz hk => Or.inr ⟨r, f, by omega, hf, hk.1, hk.2, hz⟩
      by_cases hm : manyS (facS W (stg W A K0 (r + 1)).1 (stg W A K0 (r + 1)).2)
      · obtain ⟨Yg, y1, y2⟩ := com_cov hM hB (hRep r f hf).ok.1 (fun _ => hRep r f hf) hTc hcm
        refine ⟨Yg, y1, fun z hz => ?_, fun q => absurd hm q⟩
        rcases y2 z hz with q | q | ⟨t, t1, t2⟩ | ⟨q, qk⟩
        · exact (fin z q).imp id (fun w => w.imp id Or.inr)
        · exact Or.inr (Or.inr (Or.inl q))
        · exact (tin z t t1 t2).imp id (fun w => Or.inr (Or.inr w))
        · exact Or.inr (Or.inr (Or.inr (con z q qk)))
      · obtain ⟨Yg, y1, y2, y3⟩ := com_covN hM hB (hRep r f hf).ok.1 (fun _ => hRep r f hf) hTc (hlo (r + 1) g hr hg1) hcm
        refine ⟨Yg, y1, fun z hz => ?_, fun _ s p hs q1 q2 q3 => ?_⟩
        · rcases y2 z hz with q | q | ⟨t, t1, t2⟩ | ⟨q, qk⟩ | ⟨r', r1, r2, r3, r4⟩
          · exact (fin z q).imp id (fun w => w.imp id Or.inr)
          · exact Or.inr (Or.inr (Or.inl q))
          · exact (tin z t t1 t2).imp id (fun w => Or.inr (Or.inr w))
          · exact Or.inr (Or.inr (Or.inr (con z q qk)))
          · exact Or.inr (Or.inr (Or.inr (Or.inl ⟨r + 1, r', Nat.le_refl _, hm, (Der_clo W _ _).1.1 g hg1 r' r1 r2 r3, r4⟩)))
        · rcases y3 s p hs q1 q2 q3 with q | q | q
          · exact Or.inl q
          · exact Or.inr (Or.inr (Or.inl q))
          · rcases c3 hnm f hf s p q q1 q2 q3 with w | w | w
            · exact Or.inr (Or.inl w)
            · exact Or.inr (Or.inr (Or.inl w))
            · exact Or.inr (Or.inr (Or.inr w))
    obtain ⟨Z, z1, z2⟩ := list_cov N each
    refine ⟨Y ++ Z, G ++ N, ⟨List.nodup_append.mpr ⟨g1, Nn, fun x hx y hy e => ((hN y).mp hy).2 (by rw [← e]; exact (g2 x hx).1)⟩, fun g hg => ?_, fun g hg => ?_⟩, ?_, fun g hg z hz => ?_, fun hm g hg s p hs q1 q2 q3 => ?_⟩
    · rcases List.mem_append.mp hg with w | w
      · exact ⟨stg_up (g2 g w).1, (g2 g w).2⟩
      · exact ⟨((hN g).mp w).1, fun q => ((hN g).mp w).2 (stg_0 q)⟩
    · by_cases w : (stg W A K0 r).1 g
      · exact (g3 g w).imp id (List.mem_append_left _)
      · exact Or.inr (List.mem_append_right _ ((hN g).mpr ⟨hg, w⟩))
    · rw [List.length_append, List.length_append, Nat.mul_add, Nat.add_mul G.length]
      omega
    · by_cases w : (stg W A K0 r).1 g
      · rcases c2 g w z hz with q | q | q
        · exact Or.inl q
        · exact Or.inr (Or.inl (List.mem_append_left _ q))
        · exact Or.inr (Or.inr q.up)
      · obtain ⟨Yg, ⟨a1, _⟩, a2⟩ := z2 g ((hN g).mpr ⟨hg, w⟩)
        rcases a1 z hz with q | q | q | q
        · exact Or.inl q
        · exact Or.inr (Or.inl (List.mem_append_left _ q))
        · exact Or.inr (Or.inl (List.mem_append_right _ (a2 z q)))
        · exact Or.inr (Or.inr q)
    · by_cases w : (stg W A K0 r).1 g
      · rcases c3 hnm g w s p hs q1 q2 q3 with q | q
        · exact Or.inl (List.mem_append_left _ q)
        · exact Or.inr q
      · obtain ⟨Yg, ⟨_, a1⟩, a2⟩ := z2 g ((hN g).mpr ⟨hg, w⟩)
        rcases a1 hm s p hs q1 q2 q3 with q | q | q
        · exact Or.inl (List.mem_append_right _ (a2 _ q))
        · exact Or.inl (List.mem_append_left _ q)
        · exact Or.inr q
end CVS
