/-! few trees in a case: all that its stages may make, in one list -/
/-- what a known formula makes by itself -/
def exQ (f : Nat) : List Nat := if kd f = 14 then [mk 8 (wh f) [pa f 0]] else if kd f = 16 ∧ kd (pa f 0) = 18 then [sbT (putg (mk 1 (2 * f + 1) [])) 0 (pa (pa f 0) 1)] else []
theorem exQ_1 (f : Nat) : (exQ f).length ≤ 1 := by
  unfold exQ
  split
  · simp
  · split
    · simp
    · simp
theorem fmX_le {n : Nat} {f : Nat → List Nat} : ∀ (l : List Nat), (∀ a ∈ l, (f a).length ≤ n) → (l.flatMap f).length ≤ n * l.length
  | [], _ => by simp
  | a :: l, h => by
    have h1 := fmX_le l (fun b hb => h b (List.mem_cons_of_mem _ hb))
    have h2 := h a List.mem_cons_self
    rw [List.flatMap_cons, List.length_append, List.length_cons, Nat.mul_add]
    omega
theorem split_gr (P : Nat → Prop) : ∀ C : List Nat, C.Nodup → ∃ C1 C2 : List Nat, C1.Nodup ∧ (∀ g ∈ C1, g ∈ C ∧ P g) ∧ (∀ g ∈ C2, g ∈ C ∧ ¬ P g) ∧ C1.length + C2.length = C.length ∧ ∀ g ∈ C, g ∈ C1 ∨ g ∈ C2
  | [], _ => ⟨[], [], List.nodup_nil, (fun g hg => by cases hg), (fun g hg => by cases hg), rfl, fun g hg => by cases hg⟩
  | a :: C, h => by
    obtain ⟨n1, n2⟩ := List.nodup_cons.mp h
    obtain ⟨C1, C2, h1, h2, h3, h4, h5⟩ := split_gr P C n2
    by_cases q : P a
    · refine ⟨a :: C1, C2, List.nodup_cons.mpr ⟨fun w => n1 (h2 a w).1, h1⟩, fun g hg => ?_, fun g hg => ⟨List.mem_cons_of_mem _ (h3 g hg).1, (h3 g hg).2⟩, by rw [List.length_cons, List.length_cons]; omega, fun g hg => ?_⟩
      · rcases List.mem_cons.mp hg with w | w
        · rw [w]; exact ⟨List.mem_cons_self, q⟩
        · exact ⟨List.mem_cons_of_mem _ (h2 g w).1, (h2 g w).2⟩
      · rcases List.mem_cons.mp hg with w | w
        · rw [w]; exact Or.inl List.mem_cons_self
        · exact (h5 g w).imp (List.mem_cons_of_mem _) id
    · refine ⟨C1, a :: C2, h1, fun g hg => ⟨List.mem_cons_of_mem _ (h2 g hg).1, (h2 g hg).2⟩, fun g hg => ?_, by rw [List.length_cons, List.length_cons]; omega, fun g hg => ?_⟩
      · rcases List.mem_cons.mp hg with w | w
        · rw [w]; exact ⟨List.mem_cons_self, q⟩
        · exact ⟨List.mem_cons_of_mem _ (h3 g w).1, (h3 g w).2⟩
      · rcases List.mem_cons.mp hg with w | w
        · rw [w]; exact Or.inr List.mem_cons_self
        · exact (h5 g w).imp id (List.mem_cons_of_mem _)
/-- no AND outside binders in a leaf -/
theorem LfK.no {f s : Nat} (ho : okT f) (hf : isFo f) (h : LfK f) (hs : subN s f) (k17 : kd s = 17) : False := by
  have at0 : ∀ g, okT g → kd g ≤ 14 → subN s g → False := fun g og k14 hq => by
    have := kd_sub14 og k14 (subN_T g hq)
    omega
  have hs' := hs
  rw [subN_eq] at hs'
  rcases hs' with q | ⟨n18, c, hc, q⟩
  · rw [q] at k17; exact h.1 k17
  · by_cases k14 : kd f ≤ 14
    · exact at0 f ho k14 hs
    · have k16 : kd f = 16 := by have := h.1; unfold isFo at hf; omega
      obtain ⟨g, hp, fg, kg, mg⟩ := ps_not1 ho k16
      have pa0 : pa f 0 = g := by unfold pa; rw [hp]; rfl
      have ec : c = g := by
        have := (fms_ps hc).1
        rw [hp, List.mem_singleton] at this
        exact this
      rw [ec] at q
      have hg := h.2
      rw [pa0] at hg
      have h17 : kd g ≠ 17 := fun e => hg ⟨k16, Or.inl e⟩
      have h18 : kd g ≠ 18 := fun e => hg ⟨k16, Or.inr e⟩
      exact at0 g (ho.c mg) (by unfold isFo at fg; omega) q
section LIMB
variable {W : Wd} {A K0 X : Nat → Prop} {Fo : List Nat} {M B : Nat} {Sh NL LX K0l Z1 Lg : List Nat}
/-- few come of the great ones, up to a stage that is not many -/
theorem Bg_few2 {R : Nat} (hnm : ¬ manyS (facS W (stg W A K0 R).1 (stg W A K0 R).2)) (hA : ∀ t, A t → clT1 t ∧ ∃ f, K0 f ∧ subT t f) {L : List Nat} (hL : ∀ f, K0 f → isQ f → ¬ Rep (AtE M Sh) (B - 2) f → f ∈ L) {Gb : List Nat} (hn : Gb.Nodup) (hG : ∀ g ∈ Gb, ∃ q f, q ≤ R ∧ K0 f ∧ (isQ f ∧ ¬ Rep (AtE M Sh) (B - 2) f) ∧ cmF (facS W (stg W A K0 q).1 (stg W A K0 q).2) (stg W A K0 q).1 (Tof A (stg W A K0 q).2) (stg W A K0 q).2 f g) : Gb.length ≤ 100 * L.length := by
  obtain ⟨H, h1, h2, h3⟩ := not_many hnm
  have hT : ∀ q t, q ≤ R → Tof A (stg W A K0 q).2 t → t ∈ H := fun q t hq ht => by
    rw [h2]
    rcases ht with w | ⟨f, w1, w2⟩
    · obtain ⟨c, f, a, b⟩ := hA t w
      exact (Der_clo W _ _).1.1 f (stg_0 a) t b c.2.1 c.2.2
    · refine (Der_clo W _ _).1.2.1 t ⟨f, ?_, w2⟩
      exact stg_Ole hq w1
  let out : Nat → List Nat := fun f => if kd f = 18 then H.map (fun t => sbT (putg t) 0 (pa f 1)) else [notT (sbT (putg (mk 1 (2 * f + 1) [])) 0 (pa (pa f 0) 1))]
  have hout : ∀ f, (out f).length ≤ 100 := fun f => by
    show (if kd f = 18 then H.map (fun t => sbT (putg t) 0 (pa f 1)) else [notT (sbT (putg (mk 1 (2 * f + 1) [])) 0 (pa (pa f 0) 1))]).length ≤ _
    split
    · rw [List.length_map]; omega
    · simp
  have h4 : Gb.length ≤ (L.flatMap out).length := nd_lenL _ _ hn (fun g hg => by
    obtain ⟨q, f, b0, b1, ⟨b2, b3⟩, b4⟩ := hG g hg
    refine List.mem_flatMap.mpr ⟨f, hL f b1 b2 b3, ?_⟩
    show g ∈ (if kd f = 18 then H.map (fun t => sbT (putg t) 0 (pa f 1)) else [notT (sbT (putg (mk 1 (2 * f + 1) [])) 0 (pa (pa f 0) 1))])
    rcases b4 with ⟨k17, _⟩ | ⟨k18, t, ht, _, _, eg⟩ | ⟨k16, k17, _⟩ | ⟨k16, k18, _, eg⟩
    · unfold isQ at b2; omega
    · rw [if_pos k18]
      exact List.mem_map.mpr ⟨t, hT q t (by omega) ht, eg.symm⟩
    · unfold isQ at b2; omega
    · rw [if_neg (by omega)]
      exact List.mem_singleton.mpr eg)
  have h5 := fmX_le (n := 100) (f := out) L (fun f _ => hout f)
  omega
theorem lim_cov {r : Nat} {H C : List Nat} (hM : 8 ≤ M) (hB : 7 ≤ B) (hF : ∀ f ∈ Fo, okT f) (hKp : ∀ f ∈ Fo, kd f ≤ 8 → KpT Fo f) (hK : ∀ f, K0 f → Rep (AtE M Sh) B f) (hKf : ∀ f, K0 f → LfK f) (hA : ∀ t, A t → clT1 t ∧ ∃ f, K0 f ∧ subT t f) (hlo : ∀ r f, rch W A K0 r → (stg W A K0 r).1 f → loT f = 0) (hO : ∀ r t, rch W A K0 r → fH (facS W (stg W A K0 r).1 (stg W A K0 r).2) t → okT t ∧ isTm t) (hNF : ∀ f ∈ Fo, ∀ z, subT z f → z ∈ NL) (hX : ∀ z, X z → z ∈ LX) (hKs : ∀ f, K0 f → ∀ z, subT z f → z ∈ NL ∨ z ∈ LX) (hKl : K0l.Nodup ∧ ∀ f, K0 f ↔ f ∈ K0l) (hZ : ∀ r f s p, rch W A K0 r → (stg W A K0 r).1 f → subN s f → kd s = 17 → p ∈ ps s → szT p = 1 → notT p ∈ Z1) (hL : ∀ f, K0 f → isQ f → ¬ Rep (AtE M Sh) (B - 2) f → f ∈ Lg) (hr : rch W A K0 r) (H1 : H.length ≤ 101) (H2 : ∀ t ∈ H, fH (facS W (stg W A K0 r).1 (stg W A K0 r).2) t) (C1 : C.Nodup) (C2 : ∀ g ∈ C, comS W A (stg W A K0 r).1 (stg W A K0 r).2 g ∧ ¬ (stg W A K0 r).1 g) (C3 : (∀ L : List Nat, L.Nodup → (∀ f ∈ L, (stg W A K0 r).1 f) → L.length + C.length ≤ 401) ∨ C.length ≤ 1) (C4 : C = [] ∨ (¬ manyS (facS W (stg W A K0 r).1 (stg W A K0 r).2) ∧ ¬ conS (facS W (stg W A K0 r).1 (stg W A K0 r).2) (stg W A K0 r).1)) : ∃ (LL : List Nat) (g c : Nat), (∀ z, z ∈ NL ∨ Xc (xf (X2F W Fo A K0 X) H) C z → z ∈ LL) ∧ (K0l.length + g + c ≤ 401 ∨ (g = 0 ∧ c ≤ 1)) ∧ (M + 2) * LL.length ≤ (M + 2) * (NL.length + LX.length + 506 + K0l.length + g + Z1.length + 203 * (lcF Fo).length) + (g + c) * CpS M (B - 2) Sh + 100 * Lg.length * (2 * M) := by
  obtain ⟨R, hR, hmax⟩ := rch_max (W := W) (A := A) (K0 := K0)
  have hrR := hmax r hr
  have hA1 : ∀ t, A t → clT1 t := fun t h => (hA t h).1
  obtain ⟨Y, G, Gb, ⟨G1, G2, G3⟩, ⟨B1, B2, B3⟩, Yl, Ys, Yn, Yc⟩ := CvQ.of hM hB hK hA hlo R hR
  have kR : ∀ f, (stg W A K0 R).1 f → f ∈ K0l ++ G := fun f hf => List.mem_append.mpr ((G3 f hf).imp (hKl.2 f).mp id)
  have hnd : (K0l ++ G).Nodup := List.nodup_append.mpr ⟨hKl.1, G1, fun a ha b hb e => (G2 b hb).2 (by rw [← e]; exact (hKl.2 a).mpr ha)⟩
  have hmem : ∀ f ∈ K0l ++ G, (stg W A K0 R).1 f := fun f hf => (List.mem_append.mp hf).elim (fun q => stg_0 ((hKl.2 f).mpr q)) (fun q => (G2 f q).1)
  have f400 : K0l.length + G.length ≤ 400 ∨ (R = 0 ∧ G = []) := by
    rcases Nat.eq_zero_or_pos R with e | e
    · refine Or.inr ⟨e, ?_⟩
      cases hG : G with
      | nil => rfl
      | cons g G' =>
        exfalso
        have := G2 g (by rw [hG]; exact List.mem_cons_self)
        rw [e] at this
        exact this.2 this.1
    · obtain ⟨R', e'⟩ : ∃ R', R = R' + 1 := ⟨R - 1, by omega⟩
      rw [e'] at hR hmem
      have := rch_400 hR (K0l ++ G) hnd hmem
      rw [List.length_append] at this
      exact Or.inl this
  have hGb : Gb.length ≤ 100 * Lg.length := by
    rcases Nat.eq_zero_or_pos R with e | e
    · cases hG : Gb with
      | nil => exact Nat.zero_le _
      | cons g G' =>
        exfalso
        obtain ⟨q, f, q1, _⟩ := B3 g (by rw [hG]; exact List.mem_cons_self)
        omega
    · obtain ⟨R', e'⟩ : ∃ R', R = R' + 1 := ⟨R - 1, by omega⟩
      rw [e'] at hR B3
      exact Bg_few hR hA hL B1 B3
  have hz : ∃ Zh : List Nat, Zh.length ≤ 200 ∧ ∀ z, HzS W A K0 R z → z ∈ Zh ∨ ∃ q f, q < R ∧ (stg W A K0 q).1 f ∧ kd f = 16 ∧ kd (pa f 0) = 18 ∧ z = mk 1 (2 * f + 1) [] := by
    by_cases hm : manyS (facS W (stg W A K0 R).1 (stg W A K0 R).2)
    · rcases Nat.eq_zero_or_pos R with e | e
      · refine ⟨[], by simp, fun z h => ?_⟩
        rcases h with ⟨q, t, q1, q2, _⟩ | ⟨q, f, q1, _⟩
        · have e2 : q = R := by omega
          rw [e2] at q2
          exact absurd hm q2
        · omega
      · obtain ⟨R', e'⟩ : ∃ R', R = R' + 1 := ⟨R - 1, by omega⟩
        rw [e'] at hR hm ⊢
        obtain ⟨Z, z1, z2⟩ := hz_covM hR (fun t => hO R' t (rch_le hR (by omega))) hm
        refine ⟨Z, z1, fun z h => (z2 z h).imp id (fun ⟨f, f1, f2, f3, f4, f5⟩ => ⟨R', f, by omega, f1, f3, f4, f5⟩)⟩
    · obtain ⟨Z, z1, z2⟩ := hz_cov (fun t => hO R t hR) hm
      exact ⟨Z, z1, fun z h => Or.inl (z2 z h)⟩
  obtain ⟨Zh, Zl, Zc⟩ := hz
  obtain ⟨bs, hbs⟩ : ∃ bs : List Nat, bs = NL ++ (LX ++ (Y ++ (Zh ++ ((K0l ++ G).flatMap exQ ++ Z1)))) := ⟨_, rfl⟩
  have m1 : ∀ z, z ∈ NL → z ∈ bs := fun z h => by rw [hbs]; exact List.mem_append_left _ h
  have m2 : ∀ z, z ∈ LX → z ∈ bs := fun z h => by rw [hbs]; exact List.mem_append_right _ (List.mem_append_left _ h)
  have m3 : ∀ z, z ∈ Y → z ∈ bs := fun z h => by rw [hbs]; exact List.mem_append_right _ (List.mem_append_right _ (List.mem_append_left _ h))
  have m4 : ∀ z, z ∈ Zh → z ∈ bs := fun z h => by rw [hbs]; exact List.mem_append_right _ (List.mem_append_right _ (List.mem_append_right _ (List.mem_append_left _ h)))
  have m5 : ∀ z f, (stg W A K0 R).1 f → z ∈ exQ f → z ∈ bs := fun z f hf h => by rw [hbs]; exact List.mem_append_right _ (List.mem_append_right _ (List.mem_append_right _ (List.mem_append_right _ (List.mem_append_left _ (List.mem_flatMap.mpr ⟨f, kR f hf, h⟩)))))
  have m6 : ∀ z, z ∈ Z1 → z ∈ bs := fun z h => by rw [hbs]; exact List.mem_append_right _ (List.mem_append_right _ (List.mem_append_right _ (List.mem_append_right _ (List.mem_append_right _ h))))
  have cY : ∀ q f, q ≤ R → ¬ manyS (facS W (stg W A K0 q).1 (stg W A K0 q).2) → (stg W A K0 q).1 f → kd f = 16 → kd (pa f 0) = 18 → mk 1 (2 * f + 1) [] ∈ bs := fun q f hq hm hf k16 k18 => m3 _ (Yc q hq hm f hf (fun h0 => (hKf f h0).2 ⟨k16, Or.inr k18⟩) k16 k18)
  have mh : ∀ z, HzS W A K0 R z → z ∈ bs := fun z h => (Zc z h).elim (m4 z) (fun ⟨q, f, q1, f1, f2, f3, f4⟩ => by rw [f4]; exact cY q f (by omega) (hR q q1).1 f1 f2 f3)
  have kn : ∀ g, (stg W A K0 R).1 g → ∀ z, subT z g → z ∈ bs := fun g hg z hz => by
    rcases Ys g hg z hz with ⟨f, f1, f2⟩ | q | q
    · exact (hKs f f1 z f2).elim (m1 z) (m2 z)
    · exact m3 z q
    · exact mh z q
  -- what the stages ask for
  have nd : ∀ q z, rch W A K0 q → NdR W Fo A (stg W A K0 q).1 (stg W A K0 q).2 z → z ∈ bs := fun q z hq h => by
    have hqR := hmax q hq
    rcases h with ⟨f, f1, f2, e⟩ | ⟨hm, f, s, p, f1, hs, k17, hp, e⟩ | ⟨hm, hc, f, f1, k16, k18, ho, e⟩ | ⟨hm, hc, hv, g, g1, g2, hz⟩
    · refine m5 z f (stg_le hqR f1) ?_
      unfold exQ
      rw [if_pos f2, e]
      exact List.mem_cons_self
    · by_cases k16 : kd p = 16
      · have of := (stg_rep AtE_up hK hA1 q f f1).ok.1
        have hsub := subN_T f hs
        have os := sub_ok f of hsub
        have mp : p ∈ fms s := fms_mem hp (by omega) (fun e => by rw [e, kd0] at k16; omega)
        obtain ⟨g', e', _, _, mg'⟩ := ps_not1 (os.c mp) k16
        have en : notT p = g' := by
          unfold notT
          rw [if_pos k16, e']
          rfl
        refine kn f (stg_le hqR f1) z ?_
        rw [e, en]
        exact sub_tr f (sub_c mp (sub_c mg' (sub_rf _))) hsub
      · rw [e]
        rcases Yn q hqR hm f f1 s p hs k17 hp k16 with w | w | ⟨f0, w1, w2⟩
        · exact m3 _ w
        · exact m6 _ (hZ q f s p hq f1 hs k17 hp w)
        · obtain ⟨o, fo⟩ := (hK f0 w1).ok
          exact (LfK.no o fo (hKf f0 w1) w2 k17).elim
    · rcases e with e | e
      · rw [e]; exact cY q f hqR hm f1 k16 k18
      · refine m5 z f (stg_le hqR f1) ?_
        unfold exQ
        rw [if_neg (by omega), if_pos ⟨k16, k18⟩, e]
        exact List.mem_cons_self
    · have hq1 : rch W A K0 (q + 1) := fun j hj => by
        rcases Nat.lt_or_ge j q with w | w
        · exact hq j w
        · rw [show j = q by omega]; exact ⟨hm, hc, ⟨g, g1, g2⟩, hv⟩
      exact kn g (stg_le (hmax _ hq1) (Or.inr g1)) z hz
  -- typing
  have ty : ∃ LT : List Nat, LT.length ≤ 203 * (lcF Fo).length + 306 ∧ (∀ z, X20 Fo z → z ∈ bs ∨ z ∈ LT) ∧ ∀ t ∈ H, ∀ z, X22 W Fo t z → z ∈ bs ∨ z ∈ LT := by
    by_cases hm : manyS (facS W (stg W A K0 R).1 (stg W A K0 R).2)
    · refine ⟨0 :: ((lcF Fo).map (sbT (locg 0 0) 0) ++ tyL Fo H H), ?_, fun z h => ?_, fun t ht z h => ?_⟩
      · rw [List.length_cons, List.length_append, List.length_map, tyL_len]
        have : H.length * (lcF Fo).length ≤ 101 * (lcF Fo).length := Nat.mul_le_mul_right _ H1
        omega
      · rcases X20.cov hF hKp h with ⟨f, f1, f2⟩ | q | q
        · exact Or.inl (m1 z (hNF f f1 z f2))
        · rw [q]; exact Or.inr List.mem_cons_self
        · exact Or.inr (List.mem_cons_of_mem _ (List.mem_append_left _ q))
      · rcases X22.cov (T := H) hF hKp (fun _ q => q) ht h with ⟨f, f1, f2⟩ | q
        · exact Or.inl (m1 z (hNF f f1 z f2))
        · exact Or.inr (List.mem_cons_of_mem _ (List.mem_append_right _ q))
    · obtain ⟨E, e1, e2, e3⟩ := not_many hm
      refine ⟨0 :: tyI Fo E, ?_, fun z h => ?_, fun t ht z h => ?_⟩
      · rw [List.length_cons, tyI_len]
        have : (2 * E.length + 1) * (lcF Fo).length ≤ 201 * (lcF Fo).length := Nat.mul_le_mul_right _ (by omega)
        omega
      · rcases X20.cov hF hKp h with ⟨f, f1, f2⟩ | q | q
        · exact Or.inl (m1 z (hNF f f1 z f2))
        · rw [q]; exact Or.inr List.mem_cons_self
        · exact Or.inr (List.mem_cons_of_mem _ (List.mem_append_right _ (List.mem_flatMap.mpr ⟨0, List.mem_cons_self, q⟩)))
      · rcases X22.covS hF hKp (fun t => hO R t hR) e2 (hand_up hrR (H2 t ht)) h with ⟨f, f1, f2⟩ | q | ⟨t', q1, q2⟩ | q
        · exact Or.inl (m1 z (hNF f f1 z f2))
        · rw [q]; exact Or.inr List.mem_cons_self
        · exact Or.inl (mh z (Or.inl ⟨R, t', Nat.le_refl _, hm, q1, q2⟩))
        · exact Or.inr (List.mem_cons_of_mem _ q)
  -- what comes at the last stage
  have cm : ∃ (ZC : List Nat) (c : Nat), (K0l.length + G.length + c ≤ 401 ∨ (G.length = 0 ∧ c ≤ 1)) ∧ (∀ g ∈ C, ∀ z, subT z g → z ∈ bs ∨ z ∈ ZC) ∧ (M + 2) * (Y.length + ZC.length) ≤ (G.length + c) * CpS M (B - 2) Sh + 100 * Lg.length * (2 * M) := by
    have hb2 : Gb.length * (2 * M) ≤ 100 * Lg.length * (2 * M) := Nat.mul_le_mul_right _ hGb
    have no : (∀ g ∈ C, ∀ z, subT z g → z ∈ bs) → ∃ (ZC : List Nat) (c : Nat), (K0l.length + G.length + c ≤ 401 ∨ (G.length = 0 ∧ c ≤ 1)) ∧ (∀ g ∈ C, ∀ z, subT z g → z ∈ bs ∨ z ∈ ZC) ∧ (M + 2) * (Y.length + ZC.length) ≤ (G.length + c) * CpS M (B - 2) Sh + 100 * Lg.length * (2 * M) := fun h => by
      refine ⟨[], 0, f400.imp (fun q => by omega) (fun q => ⟨by rw [q.2]; rfl, by omega⟩), fun g hg z hz => Or.inl (h g hg z hz), ?_⟩
      simp only [List.length_nil, Nat.add_zero]
      omega
    rcases Nat.lt_or_ge r R with hlt | hge
    · exact no (fun g hg z hz => kn g (stg_le (show r + 1 ≤ R by omega) (Or.inr (C2 g hg).1)) z hz)
    · rcases C4 with c0 | ⟨c5, _⟩
      · exact no (fun g hg => by rw [c0] at hg; cases hg)
      · have er : r = R := by omega
        rw [er] at c5 C2 C3
        -- the source of what comes
        have src : ∀ f g, (stg W A K0 R).1 f → cmF (facS W (stg W A K0 R).1 (stg W A K0 R).2) (stg W A K0 R).1 (Tof A (stg W A K0 R).2) (stg W A K0 R).2 f g → ∀ (B' : Nat), 4 ≤ B' → (isQ f → Rep (AtE M Sh) B' f) → ∃ Y' : List Nat, (M + 2) * Y'.length ≤ CpS M B' Sh ∧ ∀ z, subT z g → z ∈ bs ∨ z ∈ Y' := fun f g hf hc B' hB' hRq => by
          have of := (stg_rep AtE_up hK hA1 R f hf).ok.1
          obtain ⟨Y', y1, y2⟩ := com_cov (Sh := Sh) hM hB' of hRq (fun t ht => by
            rcases ht with w | ⟨f', _, w⟩
            · exact hA1 t w
            · rw [w]; exact clT1_const _) hc
          refine ⟨Y', y1, fun z hz => ?_⟩
          rcases y2 z hz with q | q | ⟨t, ht, q⟩ | ⟨q, k16, k18⟩
          · exact Or.inl (kn f hf z q)
          · exact Or.inr q
          · rcases ht with w | ⟨f', w1, w⟩
            · obtain ⟨_, f0, a, b⟩ := hA t w
              exact Or.inl ((hKs f0 a z (sub_tr f0 q b)).elim (m1 z) (m2 z))
            · rw [w] at q
              rw [sub_const q]
              obtain ⟨q', a1, a2, a3, a4⟩ := stg_O w1
              exact Or.inl (cY q' f' (by omega) (hR q' a1).1 a2 a3 a4)
          · rw [q]
            exact Or.inl (cY R f (Nat.le_refl _) c5 hf k16 k18)
        obtain ⟨Cg, Cs, d1, d2, d3, d4, d5⟩ := split_gr (fun g => ∃ f, K0 f ∧ (isQ f ∧ ¬ Rep (AtE M Sh) (B - 2) f) ∧ cmF (facS W (stg W A K0 R).1 (stg W A K0 R).2) (stg W A K0 R).1 (Tof A (stg W A K0 R).2) (stg W A K0 R).2 f g) C C1
        obtain ⟨Zg, zg1, zg2⟩ := list_cov (P := fun g Y' => ∀ z, subT z g → z ∈ bs ∨ z ∈ Y') (a := M + 2) (b := CpS M B Sh) Cg (fun g hg => by
          obtain ⟨_, f, b1, b2, b3⟩ := d2 g hg
          exact src f g (stg_0 b1) b3 B (by omega) (fun _ => hK f b1))
        obtain ⟨Zs, zs1, zs2⟩ := list_cov (P := fun g Y' => ∀ z, subT z g → z ∈ bs ∨ z ∈ Y') (a := M + 2) (b := CpS M (B - 2) Sh) Cs (fun g hg => by
          obtain ⟨hg1, hg2⟩ := d3 g hg
          obtain ⟨f, b1, b3⟩ := (C2 g hg1).1
          refine src f g b1 b3 (B - 2) (by omega) (fun hq => ?_)
          rcases stg_rep2 AtE_up hK hA1 R f b1 with w | w
          · exact Classical.byContradiction (fun z => hg2 ⟨f, w, ⟨hq, z⟩, b3⟩)
          · exact w)
        have hgr : (Gb ++ Cg).length ≤ 100 * Lg.length := Bg_few2 c5 hA hL (List.nodup_append.mpr ⟨B1, d1, fun a ha b hb e => by
          have h1 := (G2 a (B2 a ha)).1
          rw [e] at h1
          exact (C2 b (d2 b hb).1).2 h1⟩) (fun g hg => by
          rcases List.mem_append.mp hg with w | w
          · obtain ⟨q, f, b0, b⟩ := B3 g w
            exact ⟨q, f, by omega, b⟩
          · obtain ⟨_, f, b1, b2, b3⟩ := d2 g w
            exact ⟨R, f, Nat.le_refl _, b1, b2, b3⟩)
        rw [List.length_append] at hgr
        have hgr2 : (Gb.length + Cg.length) * (2 * M) ≤ 100 * Lg.length * (2 * M) := Nat.mul_le_mul_right _ hgr
        refine ⟨Zg ++ Zs, C.length, ?_, fun g hg z hz => ?_, ?_⟩
        · rcases C3 with q | q
          · have := q (K0l ++ G) hnd hmem
            rw [List.length_append] at this
            exact Or.inl this
          · exact f400.imp (fun w => by omega) (fun w => ⟨by rw [w.2]; rfl, q⟩)
        · rcases d5 g hg with w | w
          · obtain ⟨Y', y1, y2⟩ := zg2 g w
            exact (y1 z hz).imp id (fun v => List.mem_append_left _ (y2 z v))
          · obtain ⟨Y', y1, y2⟩ := zs2 g w
            exact (y1 z hz).imp id (fun v => List.mem_append_right _ (y2 z v))
        · have eB : CpS M B Sh = CpS M (B - 2) Sh + 2 * M := by
            unfold CpS
            have : M * (B - 2) = M * (B - 2 - 2) + 2 * M := by
              rw [show B - 2 = (B - 2 - 2) + 2 by omega, Nat.mul_add, Nat.mul_comm M 2]
              rfl
            omega
          rw [eB, Nat.mul_add] at zg1
          rw [← d4, List.length_append]
          simp only [Nat.mul_add, Nat.add_mul] at *
          omega
  obtain ⟨LT, t1, t2, t3⟩ := ty
  obtain ⟨ZC, c, c1, c2, c3⟩ := cm
  refine ⟨bs ++ (LT ++ ZC), G.length, c, fun z hz => ?_, c1, ?_⟩
  · rcases hz with w | w
    · exact List.mem_append_left _ (m1 z w)
    · rcases w with w | ⟨g, g1, g2⟩
      · rcases w with w | ⟨t, ht, w⟩
        · rcases w with w | w | ⟨q, q1, q2⟩
          · exact List.mem_append_left _ (m2 z (hX z w))
          · rcases t2 z w with v | v
            · exact List.mem_append_left _ v
            · exact List.mem_append_right _ (List.mem_append_left _ v)
          · exact List.mem_append_left _ (nd q z q1 q2)
        · rcases t3 t ht z w with v | v
          · exact List.mem_append_left _ v
          · exact List.mem_append_right _ (List.mem_append_left _ v)
      · rcases c2 g g1 z g2 with v | v
        · exact List.mem_append_left _ v
        · exact List.mem_append_right _ (List.mem_append_right _ v)
  · have l1 : ((K0l ++ G).flatMap exQ).length ≤ K0l.length + G.length := by
      have h1 := fmX_le (n := 1) (f := exQ) (K0l ++ G) (fun f _ => exQ_1 f)
      rw [List.length_append] at h1
      omega
    have l2 : bs.length = NL.length + (LX.length + (Y.length + (Zh.length + (((K0l ++ G).flatMap exQ).length + Z1.length)))) := by
      rw [hbs]
      simp only [List.length_append]
    rw [List.length_append, List.length_append, l2]
    have l3 : (M + 2) * (NL.length + (LX.length + (Y.length + (Zh.length + (((K0l ++ G).flatMap exQ).length + Z1.length)))) + (LT.length + ZC.length)) ≤ (M + 2) * ((NL.length + LX.length + 506 + K0l.length + G.length + Z1.length + 203 * (lcF Fo).length) + (Y.length + ZC.length)) := Nat.mul_le_mul_left _ (by omega)
    have l4 := Nat.mul_add (M + 2) (NL.length + LX.length + 506 + K0l.length + G.length + Z1.length + 203 * (lcF Fo).length) (Y.length + ZC.length)
    omega
end LIMB
