/-! rounds: the cover, with what comes of the premises themselves apart -/
theorem stg_Ole {W : Wd} {A K0 : Nat → Prop} {r q f : Nat} (hq : r ≤ q) (h : (stg W A K0 r).2 f) : (stg W A K0 q).2 f := by
  induction hq with
  | refl => exact h
  | step _ ih => exact Or.inl ih
section CVT
variable {W : Wd} {A K0 : Nat → Prop} {M B : Nat} {Sh : List Nat}
/-- it comes of something great that was there at the start -/
def BgS (W : Wd) (A K0 : Nat → Prop) (M B : Nat) (Sh : List Nat) (r g : Nat) : Prop := ∃ q f, q < r ∧ K0 f ∧ (isQ f ∧ ¬ Rep (AtE M Sh) (B - 2) f) ∧ cmF (facS W (stg W A K0 q).1 (stg W A K0 q).2) (stg W A K0 q).1 (Tof A (stg W A K0 q).2) (stg W A K0 q).2 f g
def CvT (W : Wd) (A K0 : Nat → Prop) (M B : Nat) (Sh : List Nat) (r : Nat) (Y G Gb : List Nat) : Prop := (G.Nodup ∧ (∀ g ∈ G, (stg W A K0 r).1 g ∧ ¬ K0 g) ∧ ∀ g, (stg W A K0 r).1 g → K0 g ∨ g ∈ G) ∧ (Gb.Nodup ∧ (∀ g ∈ Gb, g ∈ G) ∧ ∀ g ∈ Gb, BgS W A K0 M B Sh r g) ∧ (M + 2) * Y.length ≤ G.length * CpS M (B - 2) Sh + Gb.length * (2 * M) ∧ (∀ g, (stg W A K0 r).1 g → ∀ z, subT z g → (∃ f, K0 f ∧ subT z f) ∨ z ∈ Y ∨ HzS W A K0 r z) ∧ (∀ q, q ≤ r → ¬ manyS (facS W (stg W A K0 q).1 (stg W A K0 q).2) → ∀ g, (stg W A K0 q).1 g → ∀ s p, subN s g → kd s = 17 → p ∈ ps s → kd p ≠ 16 → notT p ∈ Y ∨ szT p = 1 ∨ ∃ f, K0 f ∧ subN s f)
theorem CvT.of (hM : 8 ≤ M) (hB : 6 ≤ B) (hK : ∀ f, K0 f → Rep (AtE M Sh) B f) (hA : ∀ t, A t → clT1 t ∧ ∃ f, K0 f ∧ subT t f) (hlo : ∀ r f, rch W A K0 r → (stg W A K0 r).1 f → loT f = 0) : ∀ r, rch W A K0 r → ∃ Y G Gb, CvT W A K0 M B Sh r Y G Gb
  | 0, _ => ⟨[], [], [], ⟨List.nodup_nil, (fun g hg => by cases hg), fun g hg => Or.inl hg⟩, ⟨List.nodup_nil, (fun g hg => by cases hg), fun g hg => by cases hg⟩, by simp, fun g hg z hz => Or.inl ⟨g, hg, hz⟩, fun q hq _ g hg s p hs _ _ _ => Or.inr (Or.inr ⟨g, by rw [show q = 0 by omega] at hg; exact hg, hs⟩)⟩
  | r + 1, hr => by
    have hr0 := rch_le hr (by omega : r ≤ r + 1)
    obtain ⟨Y, G, Gb, ⟨g1, g2, g3⟩, ⟨b1, b2, b3⟩, c1, c2, c3⟩ := CvT.of hM hB hK hA hlo r hr0
    have hnm : ¬ manyS (facS W (stg W A K0 r).1 (stg W A K0 r).2) := (hr r (by omega)).1
    have hTc : ∀ t, Tof A (stg W A K0 r).2 t → clT1 t := fun t ht => by
      rcases ht with w | ⟨f, _, w⟩
      · exact (hA t w).1
      · rw [w]; exact clT1_const _
    have hRep := stg_rep2 (P := AtE M Sh) (fun s h => AtE_hi h) (B := B) (W := W) (A := A) hK (fun t ht => (hA t ht).1)
    have hRok : ∀ r f, (stg W A K0 r).1 f → okT f := fun r f h => (stg_rep (P := AtE M Sh) (fun s h => AtE_hi h) (B := B) (W := W) (A := A) hK (fun t ht => (hA t ht).1) r f h).ok.1
    obtain ⟨L, l1, l2, _⟩ := enum_of (rch_400 hr)
    let N := L.filter (fun g => !(@decide ((stg W A K0 r).1 g) (Classical.propDecidable _)))
    have hN : ∀ g, g ∈ N ↔ (stg W A K0 (r + 1)).1 g ∧ ¬ (stg W A K0 r).1 g := fun g => by
      rw [List.mem_filter, l2 g]
      simp
    have Nn : N.Nodup := l1.filter _
    -- what each of them brings
    have each : ∀ (B' : Nat) (g : Nat), 4 ≤ B' → g ∈ N → (∃ f, (stg W A K0 r).1 f ∧ cmF (facS W (stg W A K0 r).1 (stg W A K0 r).2) (stg W A K0 r).1 (Tof A (stg W A K0 r).2) (stg W A K0 r).2 f g ∧ (isQ f → Rep (AtE M Sh) B' f)) → ∃ Yg : List Nat, (M + 2) * Yg.length ≤ CpS M B' Sh ∧ ((∀ z, subT z g → (∃ f, K0 f ∧ subT z f) ∨ z ∈ Y ∨ z ∈ Yg ∨ HzS W A K0 (r + 1) z) ∧ (¬ manyS (facS W (stg W A K0 (r + 1)).1 (stg W A K0 (r + 1)).2) → ∀ s p, subN s g → kd s = 17 → p ∈ ps s → kd p ≠ 16 → notT p ∈ Yg ∨ notT p ∈ Y ∨ szT p = 1 ∨ ∃ f, K0 f ∧ subN s f)) := fun B' g hB' hg ⟨f, hf, hcm, hRf⟩ => by
      obtain ⟨hg1, hg2⟩ := (hN g).mp hg
      have fin : ∀ z, subT z f → (∃ f, K0 f ∧ subT z f) ∨ z ∈ Y ∨ HzS W A K0 (r + 1) z := fun z hz => (c2 f hf z hz).imp id (fun q => q.imp id HzS.up)
      have tin : ∀ z t, Tof A (stg W A K0 r).2 t → subT z t → (∃ f, K0 f ∧ subT z f) ∨ HzS W A K0 (r + 1) z := fun z t ht hz => by
        rcases ht with w | ⟨f', w1, w2⟩
        · obtain ⟨_, f', a, b⟩ := hA t w
          exact Or.inl ⟨f', a, sub_tr f' hz b⟩
        · rw [w2] at hz
          obtain ⟨q, q1, q2⟩ := stg_O w1
          exact Or.inr (Or.inr ⟨q, f', by omega, q2.1, q2.2.1, q2.2.2, sub_const hz⟩)
      have con : ∀ z, z = mk 1 (2 * f + 1) [] → kd f = 16 ∧ kd (pa f 0) = 18 → HzS W A K0 (r + 1) z := fun z hz hk => Or.inr ⟨r, f, by omega, hf, hk.1, hk.2, hz⟩
      by_cases hm : manyS (facS W (stg W A K0 (r + 1)).1 (stg W A K0 (r + 1)).2)
      · obtain ⟨Yg, y1, y2⟩ := com_cov hM hB' (hRok r f hf) hRf hTc hcm
        refine ⟨Yg, y1, fun z hz => ?_, fun q => absurd hm q⟩
        rcases y2 z hz with q | q | ⟨t, t1, t2⟩ | ⟨q, qk⟩
        · exact (fin z q).imp id (fun w => w.imp id Or.inr)
        · exact Or.inr (Or.inr (Or.inl q))
        · exact (tin z t t1 t2).imp id (fun w => Or.inr (Or.inr w))
        · exact Or.inr (Or.inr (Or.inr (con z q qk)))
      · obtain ⟨Yg, y1, y2, y3⟩ := com_covN hM hB' (hRok r f hf) hRf hTc (hlo (r + 1) g hr hg1) hcm
        refine ⟨Yg, y1, fun z hz => ?_, fun _ s p hs q1 q2 q3 => ?_⟩
        · rcases y2 z hz with q | q | ⟨t, t1, t2⟩ | ⟨q, qk⟩ | ⟨r', r1, r2, r3, r4⟩
          · exact (fin z q).imp id (fun w => w.imp id Or.inr)
          · exact Or.inr (Or.inr (Or.inl q))
          · exact (tin z t t1 t2).imp id (fun w => Or.inr (Or.inr w))
          · exact Or.inr (Or.inr (Or.inr (con z q qk)))
          · exact Or.inr (Or.inr (Or.inr (Or.inl ⟨r + 1, r', Nat.le_refl _, hm, (Der_clo W _ _).1.1 g hg1 r' r1 r2 r3, r4⟩)))
        · rcases y3 s p hs q1 q2 q3 with q | q | q
          · exact Or.inl q
          · exact Or.inr (Or.inr (Or.inl q))
          · rcases c3 r (Nat.le_refl _) hnm f hf s p q q1 q2 q3 with w | w | w
            · exact Or.inr (Or.inl w)
            · exact Or.inr (Or.inr (Or.inl w))
            · exact Or.inr (Or.inr (Or.inr w))
    -- those that come of what is small
    let Sm : Nat → Prop := fun g => ∃ f, (stg W A K0 r).1 f ∧ cmF (facS W (stg W A K0 r).1 (stg W A K0 r).2) (stg W A K0 r).1 (Tof A (stg W A K0 r).2) (stg W A K0 r).2 f g ∧ (isQ f → Rep (AtE M Sh) (B - 2) f)
    let N1 := N.filter (fun g => @decide (Sm g) (Classical.propDecidable _))
    let N2 := N.filter (fun g => !(@decide (Sm g) (Classical.propDecidable _)))
    have hN1 : ∀ g, g ∈ N1 ↔ g ∈ N ∧ Sm g := fun g => by rw [List.mem_filter]; simp
    have hN2 : ∀ g, g ∈ N2 ↔ g ∈ N ∧ ¬ Sm g := fun g => by rw [List.mem_filter]; simp
    have N2n : N2.Nodup := Nn.filter _
    have lenN : N1.length + N2.length = N.length := by
      have := (sum_split (f := fun _ => 0) (p := fun g => @decide (Sm g) (Classical.propDecidable _)) N).2
      exact this.symm
    have big : ∀ g ∈ N2, ∃ f, K0 f ∧ (isQ f ∧ ¬ Rep (AtE M Sh) (B - 2) f) ∧ cmF (facS W (stg W A K0 r).1 (stg W A K0 r).2) (stg W A K0 r).1 (Tof A (stg W A K0 r).2) (stg W A K0 r).2 f g := fun g hg => by
      obtain ⟨h1, h2⟩ := (hN2 g).mp hg
      obtain ⟨hg1, hg2⟩ := (hN g).mp h1
      obtain ⟨f, hf, hcm⟩ : comS W A (stg W A K0 r).1 (stg W A K0 r).2 g := hg1.resolve_left hg2
      rcases hRep r f hf with w | w
      · refine ⟨f, w, ?_, hcm⟩
        by_cases q : isQ f
        · exact ⟨q, fun q' => h2 ⟨f, hf, hcm, fun _ => q'⟩⟩
        · exact absurd ⟨f, hf, hcm, fun q' => absurd q' q⟩ h2
      · exact absurd ⟨f, hf, hcm, fun _ => w⟩ h2
    obtain ⟨Z1, z11, z12⟩ := list_cov N1 (fun g hg => each (B - 2) g (by omega) ((hN1 g).mp hg).1 ((hN1 g).mp hg).2)
    obtain ⟨Z2, z21, z22⟩ := list_cov N2 (fun g hg => by
      obtain ⟨f, w1, w2, w3⟩ := big g hg
      exact each B g (by omega) ((hN2 g).mp hg).1 ⟨f, stg_0 w1, w3, fun _ => hK f w1⟩)
    have eCp : CpS M B Sh = CpS M (B - 2) Sh + 2 * M := by
      unfold CpS
      have : M * (B - 2) = M * (B - 2 - 2) + 2 * M := by
        rw [show B - 2 = B - 2 - 2 + 2 by omega, Nat.mul_add]
        simp
        omega
      omega
    have z2 : ∀ g ∈ N, ∃ Yg, ((∀ z, subT z g → (∃ f, K0 f ∧ subT z f) ∨ z ∈ Y ∨ z ∈ Yg ∨ HzS W A K0 (r + 1) z) ∧ (¬ manyS (facS W (stg W A K0 (r + 1)).1 (stg W A K0 (r + 1)).2) → ∀ s p, subN s g → kd s = 17 → p ∈ ps s → kd p ≠ 16 → notT p ∈ Yg ∨ notT p ∈ Y ∨ szT p = 1 ∨ ∃ f, K0 f ∧ subN s f)) ∧ ∀ z ∈ Yg, z ∈ Z1 ++ Z2 := fun g hg => by
      by_cases q : Sm g
      · obtain ⟨Yg, a1, a2⟩ := z12 g ((hN1 g).mpr ⟨hg, q⟩)
        exact ⟨Yg, a1, fun z hz => List.mem_append_left _ (a2 z hz)⟩
      · obtain ⟨Yg, a1, a2⟩ := z22 g ((hN2 g).mpr ⟨hg, q⟩)
        exact ⟨Yg, a1, fun z hz => List.mem_append_right _ (a2 z hz)⟩
    refine ⟨Y ++ (Z1 ++ Z2), G ++ N, Gb ++ N2, ⟨List.nodup_append.mpr ⟨g1, Nn, fun x hx y hy e => ((hN y).mp hy).2 (by rw [← e]; exact (g2 x hx).1)⟩, fun g hg => ?_, fun g hg => ?_⟩, ⟨List.nodup_append.mpr ⟨b1, N2n, fun x hx y hy e => ((hN y).mp ((hN2 y).mp hy).1).2 (by rw [← e]; exact (g2 x (b2 x hx)).1)⟩, fun g hg => ?_, fun g hg => ?_⟩, ?_, fun g hg z hz => ?_, fun q hq hm g hg s p hs q1 q2 q3 => ?_⟩
    · rcases List.mem_append.mp hg with w | w
      · exact ⟨stg_up (g2 g w).1, (g2 g w).2⟩
      · exact ⟨((hN g).mp w).1, fun q => ((hN g).mp w).2 (stg_0 q)⟩
    · by_cases w : (stg W A K0 r).1 g
      · exact (g3 g w).imp id (List.mem_append_left _)
      · exact Or.inr (List.mem_append_right _ ((hN g).mpr ⟨hg, w⟩))
    · rcases List.mem_append.mp hg with w | w
      · exact List.mem_append_left _ (b2 g w)
      · exact List.mem_append_right _ ((hN2 g).mp w).1
    · rcases List.mem_append.mp hg with w | w
      · obtain ⟨q, f, a1, a2⟩ := b3 g w
        exact ⟨q, f, by omega, a2⟩
      · obtain ⟨f, w1, w2, w3⟩ := big g w
        exact ⟨r, f, by omega, w1, w2, w3⟩
    · rw [List.length_append, List.length_append, List.length_append, List.length_append, Nat.mul_add, Nat.mul_add, Nat.add_mul G.length, Nat.add_mul Gb.length, ← lenN, Nat.add_mul N1.length]
      rw [eCp, Nat.mul_add] at z21
      omega
    · by_cases w : (stg W A K0 r).1 g
      · rcases c2 g w z hz with q | q | q
        · exact Or.inl q
        · exact Or.inr (Or.inl (List.mem_append_left _ q))
        · exact Or.inr (Or.inr q.up)
      · obtain ⟨Yg, ⟨a1, _⟩, a2⟩ := z2 g ((hN g).mpr ⟨hg, w⟩)
        rcases a1 z hz with q | q | q | q
        · exact Or.inl q
        · exact Or.inr (Or.inl (List.mem_append_left _ q))
        · exact Or.inr (Or.inl (List.mem_append_right _ (a2 z q)))
        · exact Or.inr (Or.inr q)
    · by_cases hqr : q ≤ r
      · rcases c3 q hqr hm g hg s p hs q1 q2 q3 with w | w
        · exact Or.inl (List.mem_append_left _ w)
        · exact Or.inr w
      rw [show q = r + 1 by omega] at hm hg
      by_cases w : (stg W A K0 r).1 g
      · rcases c3 r (Nat.le_refl _) hnm g w s p hs q1 q2 q3 with q | q
        · exact Or.inl (List.mem_append_left _ q)
        · exact Or.inr q
      · obtain ⟨Yg, ⟨_, a1⟩, a2⟩ := z2 g ((hN g).mpr ⟨hg, w⟩)
        rcases a1 hm s p hs q1 q2 q3 with q | q | q
        · exact Or.inl (List.mem_append_right _ (a2 _ q))
        · exact Or.inl (List.mem_append_left _ q)
        · exact Or.inr q
/-- few come of the great ones: one for each term at hand -/
theorem Bg_few {R : Nat} (hr : rch W A K0 (R + 1)) (hA : ∀ t, A t → clT1 t ∧ ∃ f, K0 f ∧ subT t f) {L : List Nat} (hL : ∀ f, K0 f → isQ f → ¬ Rep (AtE M Sh) (B - 2) f → f ∈ L) {Gb : List Nat} (hn : Gb.Nodup) (hG : ∀ g ∈ Gb, BgS W A K0 M B Sh (R + 1) g) : Gb.length ≤ 100 * L.length := by
  have hnm : ¬ manyS (facS W (stg W A K0 R).1 (stg W A K0 R).2) := (hr R (by omega)).1
  -- the terms at hand at the last stage that goes on
  obtain ⟨H, h1, h2, h3⟩ := enum_of (S := fun t => fH (facS W (stg W A K0 R).1 (stg W A K0 R).2) t) (n := 100) (fun l a b => by
    rcases Nat.lt_or_ge 100 l.length with q | q
    · exact absurd ⟨l.take 101, a.sublist (List.take_sublist _ _), by rw [List.length_take]; omega, fun t ht => b t (List.mem_of_mem_take ht)⟩ hnm
    · exact q)
  have hT : ∀ q t, q ≤ R → Tof A (stg W A K0 q).2 t → t ∈ H := fun q t hq ht => by
    rw [h2]
    rcases ht with w | ⟨f, w1, w2⟩
    · obtain ⟨c, f, a, b⟩ := hA t w
      exact (Der_clo W _ _).1.1 f (stg_0 a) t b c.2.1 c.2.2
    · refine (Der_clo W _ _).1.2.1 t ⟨f, ?_, w2⟩
      exact stg_Ole hq w1
  let out : Nat → List Nat := fun f => if kd f = 18 then H.map (fun t => sbT (putg t) 0 (pa f 1)) else [notT (sbT (putg (mk 1 (2 * f + 1) [])) 0 (pa (pa f 0) 1))]
  by_cases hz : L = []
  · cases Gb with
    | nil => exact Nat.zero_le _
    | cons g Gb =>
      obtain ⟨q, f, _, b1, ⟨b2, b3⟩, _⟩ := hG g List.mem_cons_self
      have := hL f b1 b2 b3
      rw [hz] at this
      cases this
  have hout : ∀ f, (out f).length ≤ max H.length 1 := fun f => by
    show (if kd f = 18 then H.map (fun t => sbT (putg t) 0 (pa f 1)) else [notT (sbT (putg (mk 1 (2 * f + 1) [])) 0 (pa (pa f 0) 1))]).length ≤ _
    split
    · rw [List.length_map]; omega
    · simp; omega
  have h4 : Gb.length ≤ (L.flatMap out).length := nd_lenL _ _ hn (fun g hg => by
    obtain ⟨q, f, b0, b1, ⟨b2, b3⟩, b4⟩ := hG g hg
    refine List.mem_flatMap.mpr ⟨f, hL f b1 b2 b3, ?_⟩
    show g ∈ (if kd f = 18 then H.map (fun t => sbT (putg t) 0 (pa f 1)) else [notT (sbT (putg (mk 1 (2 * f + 1) [])) 0 (pa (pa f 0) 1))])
    rcases b4 with ⟨k17, _⟩ | ⟨k18, t, ht, _, _, eg⟩ | ⟨k16, k17, _⟩ | ⟨k16, k18, _, eg⟩
    · unfold isQ at b2; omega
    · rw [if_pos k18]
      exact List.mem_map.mpr ⟨t, hT q t (by omega) ht, eg.symm⟩
    · unfold isQ at b2; omega
    · rw [if_neg (by omega)]
      exact List.mem_singleton.mpr eg)
  have h5 : (L.flatMap out).length ≤ max H.length 1 * L.length := by
    rw [List.length_flatMap]
    exact sum_le_c (fun f _ => hout f)
  have h6 : max H.length 1 * L.length ≤ 100 * L.length := Nat.mul_le_mul_right _ (by omega)
  omega
end CVT
