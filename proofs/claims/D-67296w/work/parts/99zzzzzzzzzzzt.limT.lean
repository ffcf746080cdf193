/-! few trees in a case of the model: what is made and not kept is one at a time -/
/-- made of a known ALL or NOT ALL -/
def cmG (T : Nat → Prop) (f g : Nat) : Prop := (kd f = 18 ∧ ∃ t, T t ∧ g = sbT (putg t) 0 (pa f 1)) ∨ (kd f = 16 ∧ kd (pa f 0) = 18 ∧ g = notT (sbT (putg (mk 1 (2 * f + 1) [])) 0 (pa (pa f 0) 1)))
theorem cm_G {F : Fs} {K T O : Nat → Prop} {f g : Nat} (hq : isQ f) (h : cmF F K T O f g) : cmG T f g := by
  rcases h with ⟨k17, _⟩ | ⟨k18, t, ht, _, _, eg⟩ | ⟨k16, k17, _⟩ | ⟨k16, k18, _, eg⟩
  · unfold isQ at hq; omega
  · exact Or.inl ⟨k18, t, ht, eg⟩
  · unfold isQ at hq; omega
  · exact Or.inr ⟨k16, k18, eg⟩
theorem mk_G {F : Fs} {K T O : Nat → Prop} {g : Nat} (h : mkF F K T O g) : ∃ f, K f ∧ cmG T f g := by
  obtain ⟨f, hf, q⟩ := h
  refine ⟨f, hf, ?_⟩
  rcases q with ⟨k18, t, ht, _, eg⟩ | ⟨k16, k18, _, eg⟩
  · exact Or.inl ⟨k18, t, ht, eg⟩
  · exact Or.inr ⟨k16, k18, eg⟩
section COMG
variable {M N ε B f g : Nat} {Sh : List Nat} {T : Nat → Prop}
theorem com_covG (hM : 8 ≤ M) (hB : 4 ≤ B) (of : okT f) (hRq : isQ f → RepU M N (AtV M ε Sh) B f) (hT : ∀ t, T t → clT1 t) (h : cmG T f g) : ∃ Y : List Nat, (M + 2) * Y.length ≤ M * (B - 2) + ε * N + 14 * nYs Sh + 2 * nXs Sh + 2 ∧ ∀ z, subT z g → subT z f ∨ z ∈ Y ∨ (∃ t, T t ∧ subT z t) ∨ (z = mk 1 (2 * f + 1) [] ∧ kd f = 16 ∧ kd (pa f 0) = 18) := by
  rcases h with ⟨k18, t, ht, eg⟩ | ⟨k16, k18, eg⟩
  · obtain ⟨Y, y1, y2⟩ := RepU.all2u hM (hRq (Or.inl k18)) k18 (hT t ht)
    obtain ⟨y, b, hp, _, _, _, mb⟩ := ps_all1 of k18
    have e1 : pa f 1 = b := by unfold pa; rw [hp]; rfl
    refine ⟨Y, by omega, fun z hz => ?_⟩
    rw [eg] at hz
    rcases y2 z hz with q | q | q
    · rw [e1] at q; exact Or.inl (sub_c mb q)
    · exact Or.inr (Or.inr (Or.inl ⟨t, ht, q⟩))
    · exact Or.inr (Or.inl q)
  · obtain ⟨F', E, ⟨o', f', k', z', A'⟩, hE, e'⟩ := (hRq (Or.inr ⟨k16, k18⟩)).nt k16
    have R1 : RepU M N (AtV M ε Sh) (B - 1) (pa f 0) := ⟨F', E, ⟨o', f', by omega, A'⟩, hE, e'⟩
    obtain ⟨Y, y1, y2⟩ := RepU.all2u hM R1 k18 (clT1_const (2 * f + 1))
    obtain ⟨a, hpa, fa, _, ma⟩ := ps_not1 of k16
    have ea : pa f 0 = a := by unfold pa; rw [hpa]; rfl
    have oa := of.c ma
    rw [ea] at k18 y2 eg R1
    obtain ⟨y, b, hp, _, fb, _, mb⟩ := ps_all1 oa k18
    have e1 : pa a 1 = b := by unfold pa; rw [hp]; rfl
    have oput : okT (sbT (putg (mk 1 (2 * f + 1) [])) 0 (pa a 1)) := (R1.inst k18 (clT1_const (2 * f + 1))).rep.ok.1
    refine ⟨g :: Y, ?_, fun z hz => ?_⟩
    · have e3 : M * (B - 1 - 2) + M = M * (B - 2) := by
        rw [show B - 2 = B - 1 - 2 + 1 by omega, Nat.mul_add, Nat.mul_one]
      rw [List.length_cons, Nat.mul_add]
      omega
    · have hz0 := hz
      rw [eg] at hz
      rcases sub_ntX oput hz with q | q
      · exact Or.inr (Or.inl (by rw [q, ← eg]; exact List.mem_cons_self))
      · rcases y2 z q with w | w | w
        · rw [e1] at w; exact Or.inl (sub_c ma (sub_c mb w))
        · exact Or.inr (Or.inr (Or.inr ⟨sub_const w, k16, by rw [ea]; exact k18⟩))
        · exact Or.inr (Or.inl (List.mem_cons_of_mem _ w))
end COMG
section LIMT
variable {W : Wd} {A K0 X : Nat → Prop} {Fo : List Nat} {M B N ε : Nat} {Sh NL LX K0l Z1 Lg : List Nat}
theorem Bg_few2G {R : Nat} (hnm : ¬ manyS (facS W (stg W A K0 R).1 (stg W A K0 R).2)) (hA : ∀ t, A t → clT1 t ∧ ∃ f, K0 f ∧ subT t f) {L : List Nat} (hL : ∀ f, K0 f → isQ f → ¬ RepU M N (AtV M ε Sh) (B - 2) f → f ∈ L) {Gb : List Nat} (hn : Gb.Nodup) (hG : ∀ g ∈ Gb, ∃ q f, q ≤ R ∧ K0 f ∧ (isQ f ∧ ¬ RepU M N (AtV M ε Sh) (B - 2) f) ∧ cmG (Tof A (stg W A K0 q).2) f g) : Gb.length ≤ 100 * L.length := by
  obtain ⟨H, h1, h2, h3⟩ := not_many hnm
  have hT : ∀ q t, q ≤ R → Tof A (stg W A K0 q).2 t → t ∈ H := fun q t hq ht => by
    rw [h2]
    rcases ht with w | ⟨f, w1, w2⟩
    · obtain ⟨c, f, a, b⟩ := hA t w
      exact (Der_clo W _ _).1.1 f (stg_0 a) t b c.2.1 c.2.2
    · refine (Der_clo W _ _).1.2.1 t ⟨f, ?_, w2⟩
      exact stg_Ole hq w1
  let out : Nat → List Nat := fun f => if kd f = 18 then H.map (fun t => sbT (putg t) 0 (pa f 1)) else [notT (sbT (putg (mk 1 (2 * f + 1) [])) 0 (pa (pa f 0) 1))]
  have hout : ∀ f, (out f).length ≤ 100 := fun f => by
    show (if kd f = 18 then H.map (fun t => sbT (putg t) 0 (pa f 1)) else [notT (sbT (putg (mk 1 (2 * f + 1) [])) 0 (pa (pa f 0) 1))]).length ≤ _
    split
    · rw [List.length_map]; omega
    · simp
  have h4 : Gb.length ≤ (L.flatMap out).length := nd_lenL _ _ hn (fun g hg => by
    obtain ⟨q, f, b0, b1, ⟨b2, b3⟩, b4⟩ := hG g hg
    refine List.mem_flatMap.mpr ⟨f, hL f b1 b2 b3, ?_⟩
    show g ∈ (if kd f = 18 then H.map (fun t => sbT (putg t) 0 (pa f 1)) else [notT (sbT (putg (mk 1 (2 * f + 1) [])) 0 (pa (pa f 0) 1))])
    rcases b4 with ⟨k18, t, ht, eg⟩ | ⟨k16, k18, eg⟩
    · rw [if_pos k18]
      exact List.mem_map.mpr ⟨t, hT q t (by omega) ht, eg.symm⟩
    · rw [if_neg (by omega)]
      exact List.mem_singleton.mpr eg)
  have h5 := fmX_le (n := 100) (f := out) L (fun f _ => hout f)
  omega
theorem lim_covT {κ1 κ2 g0 : Nat} (hκ : 401 ≤ κ1 ∧ 400 + κ2 ≤ κ1) {r : Nat} {H C : List Nat} (hM : 8 ≤ M) (hB : 7 ≤ B) (hF : ∀ f ∈ Fo, okT f) (hKp : ∀ f ∈ Fo, kd f ≤ 8 → KpT Fo f) (hK : ∀ f, K0 f → (okT f ∧ isFo f) ∧ (Liv f → RepU M N (AtV M ε Sh) B f)) (hKf : ∀ f, K0 f → LfK f) (hA : ∀ t, A t → clT1 t ∧ ∃ f, K0 f ∧ subT t f) (hlo : ∀ r f, rch W A K0 r → (stg W A K0 r).1 f → loT f = 0) (hO : ∀ r t, rch W A K0 r → fH (facS W (stg W A K0 r).1 (stg W A K0 r).2) t → okT t ∧ isTm t) (hNF : ∀ f ∈ Fo, ∀ z, subT z f → z ∈ NL) (hX : ∀ z, X z → z ∈ NL ∨ z ∈ LX) (hKs : ∀ f, K0 f → ∀ z, subT z f → z ∈ NL ∨ z ∈ LX) (hKl : K0l.Nodup ∧ ∀ f, K0 f ↔ f ∈ K0l) (hZ : ∀ r f s p, rch W A K0 r → (stg W A K0 r).1 f → subN s f → kd s = 17 → p ∈ ps s → szT p = 1 → notT p ∈ Z1) (hL : ∀ f, K0 f → isQ f → ¬ RepU M N (AtV M ε Sh) (B - 2) f → f ∈ Lg) (hr : rch W A K0 r) (H1 : H.length ≤ 101) (H2 : ∀ t ∈ H, fH (facS W (stg W A K0 r).1 (stg W A K0 r).2) t) (C1 : C.Nodup) (C2 : ∀ g ∈ C, (comS W A (stg W A K0 r).1 (stg W A K0 r).2 g ∨ g = g0) ∧ (∃ f, (stg W A K0 r).1 f ∧ cmG (Tof A (stg W A K0 r).2) f g) ∧ ¬ (stg W A K0 r).1 g) (C3 : (∀ L : List Nat, L.Nodup → (∀ f ∈ L, (stg W A K0 r).1 f) → L.length + C.length ≤ κ1) ∨ C.length ≤ κ2) (C4 : C = [] ∨ (¬ manyS (facS W (stg W A K0 r).1 (stg W A K0 r).2) ∧ ¬ conS (facS W (stg W A K0 r).1 (stg W A K0 r).2) (stg W A K0 r).1)) : ∃ (LL : List Nat) (g c : Nat), (∀ z, z ∈ NL ∨ Xc (xf (X2F W Fo A K0 X) H) C z → z ∈ LL) ∧ (K0l.length + g + c ≤ κ1 ∨ (g = 0 ∧ c ≤ κ2)) ∧ (1 ≤ g + c → ¬ manyS (facS W (stg W A K0 0).1 (stg W A K0 0).2)) ∧ (M + 2) * LL.length ≤ (M + 2) * (NL.length + LX.length + 506 + K0l.length + g + Z1.length + 203 * (lcF Fo).length) + (g + c) * CpU M (B - 2) ε N Sh + 100 * Lg.length * (2 * M) + 2 * M := by
  obtain ⟨R, hR, hmax⟩ := rch_max (W := W) (A := A) (K0 := K0)
  have hrR := hmax r hr
  have hA1 : ∀ t, A t → clT1 t := fun t h => (hA t h).1
  obtain ⟨Y, G, Gb, ⟨G1, G2, G3⟩, ⟨B1, B2, B3⟩, Yl, Ys, Yn, Yc⟩ := CvU.of hM hB hK hA hlo R hR
  have kR : ∀ f, (stg W A K0 R).1 f → f ∈ K0l ++ G := fun f hf => List.mem_append.mpr ((G3 f hf).imp (hKl.2 f).mp id)
  have hnd : (K0l ++ G).Nodup := List.nodup_append.mpr ⟨hKl.1, G1, fun a ha b hb e => (G2 b hb).2 (by rw [← e]; exact (hKl.2 a).mpr ha)⟩
  have hmem : ∀ f ∈ K0l ++ G, (stg W A K0 R).1 f := fun f hf => (List.mem_append.mp hf).elim (fun q => stg_0 ((hKl.2 f).mpr q)) (fun q => (G2 f q).1)
  have f400 : K0l.length + G.length ≤ 400 ∨ (R = 0 ∧ G = []) := by
    rcases Nat.eq_zero_or_pos R with e | e
    · refine Or.inr ⟨e, ?_⟩
      cases hG : G with
      | nil => rfl
      | cons g G' =>
        exfalso
        have := G2 g (by rw [hG]; exact List.mem_cons_self)
        rw [e] at this
        exact this.2 this.1
    · obtain ⟨R', e'⟩ : ∃ R', R = R' + 1 := ⟨R - 1, by omega⟩
      rw [e'] at hR hmem
      have := rch_400 hR (K0l ++ G) hnd hmem
      rw [List.length_append] at this
      exact Or.inl this
  have hGb : Gb.length ≤ 100 * Lg.length := by
    rcases Nat.eq_zero_or_pos R with e | e
    · cases hG : Gb with
      | nil => exact Nat.zero_le _
      | cons g G' =>
        exfalso
        obtain ⟨q, f, q1, _⟩ := B3 g (by rw [hG]; exact List.mem_cons_self)
        omega
    · obtain ⟨R', e'⟩ : ∃ R', R = R' + 1 := ⟨R - 1, by omega⟩
      rw [e'] at hR B3
      exact Bg_fewU hR hA hL B1 B3
  have hz : ∃ Zh : List Nat, Zh.length ≤ 200 ∧ ∀ z, HzS W A K0 R z → z ∈ Zh ∨ ∃ q f, q < R ∧ (stg W A K0 q).1 f ∧ kd f = 16 ∧ kd (pa f 0) = 18 ∧ z = mk 1 (2 * f + 1) [] := by
    by_cases hm : manyS (facS W (stg W A K0 R).1 (stg W A K0 R).2)
    · rcases Nat.eq_zero_or_pos R with e | e
      · refine ⟨[], by simp, fun z h => ?_⟩
        rcases h with ⟨q, t, q1, q2, _⟩ | ⟨q, f, q1, _⟩
        · have e2 : q = R := by omega
          rw [e2] at q2
          exact absurd hm q2
        · omega
      · obtain ⟨R', e'⟩ : ∃ R', R = R' + 1 := ⟨R - 1, by omega⟩
        rw [e'] at hR hm ⊢
        obtain ⟨Z, z1, z2⟩ := hz_covM hR (fun t => hO R' t (rch_le hR (by omega))) hm
        refine ⟨Z, z1, fun z h => (z2 z h).imp id (fun ⟨f, f1, f2, f3, f4, f5⟩ => ⟨R', f, by omega, f1, f3, f4, f5⟩)⟩
    · obtain ⟨Z, z1, z2⟩ := hz_cov (fun t => hO R t hR) hm
      exact ⟨Z, z1, fun z h => Or.inl (z2 z h)⟩
  obtain ⟨Zh, Zl, Zc⟩ := hz
  obtain ⟨bs, hbs⟩ : ∃ bs : List Nat, bs = NL ++ (LX ++ (Y ++ (Zh ++ ((K0l ++ G).flatMap exQ ++ Z1)))) := ⟨_, rfl⟩
  have m1 : ∀ z, z ∈ NL → z ∈ bs := fun z h => by rw [hbs]; exact List.mem_append_left _ h
  have m2 : ∀ z, z ∈ LX → z ∈ bs := fun z h => by rw [hbs]; exact List.mem_append_right _ (List.mem_append_left _ h)
  have m3 : ∀ z, z ∈ Y → z ∈ bs := fun z h => by rw [hbs]; exact List.mem_append_right _ (List.mem_append_right _ (List.mem_append_left _ h))
  have m4 : ∀ z, z ∈ Zh → z ∈ bs := fun z h => by rw [hbs]; exact List.mem_append_right _ (List.mem_append_right _ (List.mem_append_right _ (List.mem_append_left _ h)))
  have m5 : ∀ z f, (stg W A K0 R).1 f → z ∈ exQ f → z ∈ bs := fun z f hf h => by rw [hbs]; exact List.mem_append_right _ (List.mem_append_right _ (List.mem_append_right _ (List.mem_append_right _ (List.mem_append_left _ (List.mem_flatMap.mpr ⟨f, kR f hf, h⟩)))))
  have m6 : ∀ z, z ∈ Z1 → z ∈ bs := fun z h => by rw [hbs]; exact List.mem_append_right _ (List.mem_append_right _ (List.mem_append_right _ (List.mem_append_right _ (List.mem_append_right _ h))))
  have cY : ∀ q f, q ≤ R → ¬ manyS (facS W (stg W A K0 q).1 (stg W A K0 q).2) → (stg W A K0 q).1 f → kd f = 16 → kd (pa f 0) = 18 → mk 1 (2 * f + 1) [] ∈ bs := fun q f hq hm hf k16 k18 => m3 _ (Yc q hq hm f hf (fun h0 => (hKf f h0).2 ⟨k16, Or.inr k18⟩) k16 k18)
  have mh : ∀ z, HzS W A K0 R z → z ∈ bs := fun z h => (Zc z h).elim (m4 z) (fun ⟨q, f, q1, f1, f2, f3, f4⟩ => by rw [f4]; exact cY q f (by omega) (hR q q1).1 f1 f2 f3)
  have kn : ∀ g, (stg W A K0 R).1 g → ∀ z, subT z g → z ∈ bs := fun g hg z hz => by
    rcases Ys g hg z hz with ⟨f, f1, f2⟩ | q | q
    · exact (hKs f f1 z f2).elim (m1 z) (m2 z)
    · exact m3 z q
    · exact mh z q
  -- what the stages ask for
  have nd : ∀ q z, rch W A K0 q → NdR W Fo A (stg W A K0 q).1 (stg W A K0 q).2 z → z ∈ bs := fun q z hq h => by
    have hqR := hmax q hq
    rcases h with ⟨f, f1, f2, e⟩ | ⟨hm, f, s, p, f1, hs, k17, hp, e⟩ | ⟨hm, hc, f, f1, k16, k18, ho, e⟩ | ⟨hm, hc, hv, g, g1, g2, hz⟩
    · refine m5 z f (stg_le hqR f1) ?_
      unfold exQ
      rw [if_pos f2, e]
      exact List.mem_cons_self
    · by_cases k16 : kd p = 16
      · have of := (stg_okN AtV_up hK hA1 q f f1).1
        have hsub := subN_T f hs
        have os := sub_ok f of hsub
        have mp : p ∈ fms s := fms_mem hp (by omega) (fun e => by rw [e, kd0] at k16; omega)
        obtain ⟨g', e', _, _, mg'⟩ := ps_not1 (os.c mp) k16
        have en : notT p = g' := by
          unfold notT
          rw [if_pos k16, e']
          rfl
        refine kn f (stg_le hqR f1) z ?_
        rw [e, en]
        exact sub_tr f (sub_c mp (sub_c mg' (sub_rf _))) hsub
      · rw [e]
        rcases Yn q hqR hm f f1 s p hs k17 hp k16 with w | w | ⟨f0, w1, w2⟩
        · exact m3 _ w
        · exact m6 _ (hZ q f s p hq f1 hs k17 hp w)
        · obtain ⟨o, fo⟩ := (hK f0 w1).1
          exact (LfK.no o fo (hKf f0 w1) w2 k17).elim
    · rcases e with e | e
      · rw [e]; exact cY q f hqR hm f1 k16 k18
      · refine m5 z f (stg_le hqR f1) ?_
        unfold exQ
        rw [if_neg (by omega), if_pos ⟨k16, k18⟩, e]
        exact List.mem_cons_self
    · have hq1 : rch W A K0 (q + 1) := fun j hj => by
        rcases Nat.lt_or_ge j q with w | w
        · exact hq j w
        · rw [show j = q by omega]; exact ⟨hm, hc, ⟨g, g1, g2⟩, hv⟩
      exact kn g (stg_le (hmax _ hq1) (Or.inr g1)) z hz
  -- typing
  have ty : ∃ LT : List Nat, LT.length ≤ 203 * (lcF Fo).length + 306 ∧ (∀ z, X20 Fo z → z ∈ bs ∨ z ∈ LT) ∧ ∀ t ∈ H, ∀ z, X22 W Fo t z → z ∈ bs ∨ z ∈ LT := by
    by_cases hm : manyS (facS W (stg W A K0 R).1 (stg W A K0 R).2)
    · refine ⟨0 :: ((lcF Fo).map (sbT (locg 0 0) 0) ++ tyL Fo H H), ?_, fun z h => ?_, fun t ht z h => ?_⟩
      · rw [List.length_cons, List.length_append, List.length_map, tyL_len]
        have : H.length * (lcF Fo).length ≤ 101 * (lcF Fo).length := Nat.mul_le_mul_right _ H1
        omega
      · rcases X20.cov hF hKp h with ⟨f, f1, f2⟩ | q | q
        · exact Or.inl (m1 z (hNF f f1 z f2))
        · rw [q]; exact Or.inr List.mem_cons_self
        · exact Or.inr (List.mem_cons_of_mem _ (List.mem_append_left _ q))
      · rcases X22.cov (T := H) hF hKp (fun _ q => q) ht h with ⟨f, f1, f2⟩ | q
        · exact Or.inl (m1 z (hNF f f1 z f2))
        · exact Or.inr (List.mem_cons_of_mem _ (List.mem_append_right _ q))
    · obtain ⟨E, e1, e2, e3⟩ := not_many hm
      refine ⟨0 :: tyI Fo E, ?_, fun z h => ?_, fun t ht z h => ?_⟩
      · rw [List.length_cons, tyI_len]
        have : (2 * E.length + 1) * (lcF Fo).length ≤ 201 * (lcF Fo).length := Nat.mul_le_mul_right _ (by omega)
        omega
      · rcases X20.cov hF hKp h with ⟨f, f1, f2⟩ | q | q
        · exact Or.inl (m1 z (hNF f f1 z f2))
        · rw [q]; exact Or.inr List.mem_cons_self
        · exact Or.inr (List.mem_cons_of_mem _ (List.mem_append_right _ (List.mem_flatMap.mpr ⟨0, List.mem_cons_self, q⟩)))
      · rcases X22.covS hF hKp (fun t => hO R t hR) e2 (hand_up hrR (H2 t ht)) h with ⟨f, f1, f2⟩ | q | ⟨t', q1, q2⟩ | q
        · exact Or.inl (m1 z (hNF f f1 z f2))
        · rw [q]; exact Or.inr List.mem_cons_self
        · exact Or.inl (mh z (Or.inl ⟨R, t', Nat.le_refl _, hm, q1, q2⟩))
        · exact Or.inr (List.mem_cons_of_mem _ q)
  -- what comes at the last stage
  have cm : ∃ (ZC : List Nat) (c : Nat), (c = 0 ∨ ¬ manyS (facS W (stg W A K0 R).1 (stg W A K0 R).2) ∨ 0 < R) ∧ (K0l.length + G.length + c ≤ κ1 ∨ (G.length = 0 ∧ c ≤ κ2)) ∧ (∀ g ∈ C, ∀ z, subT z g → z ∈ bs ∨ z ∈ ZC) ∧ (M + 2) * (Y.length + ZC.length) ≤ (G.length + c) * CpU M (B - 2) ε N Sh + 100 * Lg.length * (2 * M) + 2 * M := by
    have hb2 : Gb.length * (2 * M) ≤ 100 * Lg.length * (2 * M) := Nat.mul_le_mul_right _ hGb
    have eB0 := CpU_2 (M := M) (ε := ε) (N := N) (Sh := Sh) (show 4 ≤ B by omega)
    have no : (∀ g ∈ C, ∀ z, subT z g → z ∈ bs) → ∃ (ZC : List Nat) (c : Nat), (c = 0 ∨ ¬ manyS (facS W (stg W A K0 R).1 (stg W A K0 R).2) ∨ 0 < R) ∧ (K0l.length + G.length + c ≤ κ1 ∨ (G.length = 0 ∧ c ≤ κ2)) ∧ (∀ g ∈ C, ∀ z, subT z g → z ∈ bs ∨ z ∈ ZC) ∧ (M + 2) * (Y.length + ZC.length) ≤ (G.length + c) * CpU M (B - 2) ε N Sh + 100 * Lg.length * (2 * M) + 2 * M := fun h => by
      refine ⟨[], 0, Or.inl rfl, f400.imp (fun q => by omega) (fun q => ⟨by rw [q.2]; rfl, by omega⟩), fun g hg z hz => Or.inl (h g hg z hz), ?_⟩
      simp only [List.length_nil, Nat.add_zero]
      omega
    -- the source of what is made
    have src : ∀ q, q ≤ R → ¬ manyS (facS W (stg W A K0 q).1 (stg W A K0 q).2) → ∀ f g, (stg W A K0 q).1 f → cmG (Tof A (stg W A K0 q).2) f g → ∀ (B' : Nat), 4 ≤ B' → (isQ f → RepU M N (AtV M ε Sh) B' f) → ∃ Y' : List Nat, (M + 2) * Y'.length ≤ CpU M B' ε N Sh ∧ ∀ z, subT z g → z ∈ bs ∨ z ∈ Y' := fun q hq hnm f g hf hc B' hB' hRq => by
      have of := (stg_okN AtV_up hK hA1 q f hf).1
      obtain ⟨Y', y1, y2⟩ := com_covG (Sh := Sh) hM hB' of hRq (fun t ht => by
        rcases ht with w | ⟨f', _, w⟩
        · exact hA1 t w
        · rw [w]; exact clT1_const _) hc
      refine ⟨Y', y1, fun z hz => ?_⟩
      rcases y2 z hz with w | w | ⟨t, ht, w⟩ | ⟨w, k16, k18⟩
      · exact Or.inl (kn f (stg_le hq hf) z w)
      · exact Or.inr w
      · rcases ht with v | ⟨f', v1, v⟩
        · obtain ⟨_, f0, a, b⟩ := hA t v
          exact Or.inl ((hKs f0 a z (sub_tr f0 w b)).elim (m1 z) (m2 z))
        · rw [v] at w
          rw [sub_const w]
          obtain ⟨q', a1, a2, a3, a4⟩ := stg_O v1
          exact Or.inl (cY q' f' (by omega) (hR q' (by omega)).1 a2 a3 a4)
      · rw [w]
        exact Or.inl (cY q f hq hnm hf k16 k18)
    rcases C4 with c0 | ⟨c5, _⟩
    · exact no (fun g hg => by rw [c0] at hg; cases hg)
    · rcases Nat.lt_or_ge r R with hlt | hge
      · by_cases hx : g0 ∈ C ∧ ¬ comS W A (stg W A K0 r).1 (stg W A K0 r).2 g0
        · obtain ⟨_, ⟨f, f1, f2⟩, f3⟩ := C2 g0 hx.1
          obtain ⟨Y', y1, y2⟩ := src r (by omega) c5 f g0 f1 f2 B (by omega) (fun hq => by
            rcases stg_repN2 AtV_up hK hA1 r f f1 with w | w
            · exact (hK f w).2 (isQ_liv hq)
            · obtain ⟨F1, E1, ⟨a1, a2, a3, a4⟩, a5, a6⟩ := w
              exact ⟨F1, E1, ⟨a1, a2, by omega, a4⟩, a5, a6⟩)
          refine ⟨Y', 1, Or.inr (Or.inr (by omega)), Or.inl ?_, fun g hg z hz => ?_, ?_⟩
          · rcases f400 with w | w
            · omega
            · omega
          · by_cases e : g = g0
            · rw [e] at hz; exact y2 z hz
            · exact Or.inl (kn g (stg_le (show r + 1 ≤ R by omega) (Or.inr ((C2 g hg).1.resolve_right e))) z hz)
          · rw [eB0] at y1
            simp only [Nat.mul_add, Nat.add_mul, Nat.one_mul] at *
            omega
        · exact no (fun g hg z hz => kn g (stg_le (show r + 1 ≤ R by omega) (Or.inr ((C2 g hg).1.elim id (fun e => Classical.byContradiction (fun w => hx ⟨by rw [← e]; exact hg, by rw [← e]; exact w⟩))))) z hz)
      · have er : r = R := by omega
        rw [er] at c5 C2 C3
        obtain ⟨Cg, Cs, d1, d2, d3, d4, d5⟩ := split_gr (fun g => ∃ f, K0 f ∧ (isQ f ∧ ¬ RepU M N (AtV M ε Sh) (B - 2) f) ∧ cmG (Tof A (stg W A K0 R).2) f g) C C1
        obtain ⟨Zg, zg1, zg2⟩ := list_cov (P := fun g Y' => ∀ z, subT z g → z ∈ bs ∨ z ∈ Y') (a := M + 2) (b := CpU M B ε N Sh) Cg (fun g hg => by
          obtain ⟨_, f, b1, b2, b3⟩ := d2 g hg
          exact src R (Nat.le_refl _) c5 f g (stg_0 b1) b3 B (by omega) (fun hq => (hK f b1).2 (isQ_liv hq)))
        obtain ⟨Zs, zs1, zs2⟩ := list_cov (P := fun g Y' => ∀ z, subT z g → z ∈ bs ∨ z ∈ Y') (a := M + 2) (b := CpU M (B - 2) ε N Sh) Cs (fun g hg => by
          obtain ⟨hg1, hg2⟩ := d3 g hg
          obtain ⟨f, b1, b3⟩ := (C2 g hg1).2.1
          refine src R (Nat.le_refl _) c5 f g b1 b3 (B - 2) (by omega) (fun hq => ?_)
          rcases stg_repN2 AtV_up hK hA1 R f b1 with w | w
          · exact Classical.byContradiction (fun z => hg2 ⟨f, w, ⟨hq, z⟩, b3⟩)
          · exact w)
        have hgr : (Gb ++ Cg).length ≤ 100 * Lg.length := Bg_few2G c5 hA hL (List.nodup_append.mpr ⟨B1, d1, fun a ha b hb e => by
          have h1 := (G2 a (B2 a ha)).1
          rw [e] at h1
          exact (C2 b (d2 b hb).1).2.2 h1⟩) (fun g hg => by
          rcases List.mem_append.mp hg with w | w
          · obtain ⟨q, f, b0, b1, b2, b3⟩ := B3 g w
            exact ⟨q, f, by omega, b1, b2, cm_G b2.1 b3⟩
          · obtain ⟨_, f, b1, b2, b3⟩ := d2 g w
            exact ⟨R, f, Nat.le_refl _, b1, b2, b3⟩)
        rw [List.length_append] at hgr
        have hgr2 : (Gb.length + Cg.length) * (2 * M) ≤ 100 * Lg.length * (2 * M) := Nat.mul_le_mul_right _ hgr
        refine ⟨Zg ++ Zs, C.length, Or.inr (Or.inl c5), ?_, fun g hg z hz => ?_, ?_⟩
        · rcases C3 with q | q
          · have := q (K0l ++ G) hnd hmem
            rw [List.length_append] at this
            exact Or.inl this
          · exact f400.imp (fun w => by omega) (fun w => ⟨by rw [w.2]; rfl, q⟩)
        · rcases d5 g hg with w | w
          · obtain ⟨Y', y1, y2⟩ := zg2 g w
            exact (y1 z hz).imp id (fun v => List.mem_append_left _ (y2 z v))
          · obtain ⟨Y', y1, y2⟩ := zs2 g w
            exact (y1 z hz).imp id (fun v => List.mem_append_right _ (y2 z v))
        · have eB := CpU_2 (M := M) (ε := ε) (N := N) (Sh := Sh) (show 4 ≤ B by omega)
          rw [eB, Nat.mul_add] at zg1
          rw [← d4, List.length_append]
          simp only [Nat.mul_add, Nat.add_mul] at *
          omega
  obtain ⟨LT, t1, t2, t3⟩ := ty
  obtain ⟨ZC, c, c0, c1, c2, c3⟩ := cm
  refine ⟨bs ++ (LT ++ ZC), G.length, c, fun z hz => ?_, c1, fun hgc hm => ?_, ?_⟩
  · rcases hz with w | w
    · exact List.mem_append_left _ (m1 z w)
    · rcases w with w | ⟨g, g1, g2⟩
      · rcases w with w | ⟨t, ht, w⟩
        · rcases w with w | w | ⟨q, q1, q2⟩
          · exact List.mem_append_left _ ((hX z w).elim (m1 z) (m2 z))
          · rcases t2 z w with v | v
            · exact List.mem_append_left _ v
            · exact List.mem_append_right _ (List.mem_append_left _ v)
          · exact List.mem_append_left _ (nd q z q1 q2)
        · rcases t3 t ht z w with v | v
          · exact List.mem_append_left _ v
          · exact List.mem_append_right _ (List.mem_append_left _ v)
      · rcases c2 g g1 z g2 with v | v
        · exact List.mem_append_left _ v
        · exact List.mem_append_right _ (List.mem_append_right _ v)
  · rcases Nat.eq_zero_or_pos R with e | e
    · rcases c0 with e0 | e0 | e0
      · rcases f400 with w | w
        · have hg : 0 < G.length := by omega
          obtain ⟨g, hg⟩ := List.exists_mem_of_length_pos hg
          have := G2 g hg
          rw [e] at this
          exact this.2 this.1
        · rw [w.2, e0] at hgc
          simp at hgc
      · rw [e] at e0; exact e0 hm
      · omega
    · exact (hR 0 e).1 hm
  · have l1 : ((K0l ++ G).flatMap exQ).length ≤ K0l.length + G.length := by
      have h1 := fmX_le (n := 1) (f := exQ) (K0l ++ G) (fun f _ => exQ_1 f)
      rw [List.length_append] at h1
      omega
    have l2 : bs.length = NL.length + (LX.length + (Y.length + (Zh.length + (((K0l ++ G).flatMap exQ).length + Z1.length)))) := by
      rw [hbs]
      simp only [List.length_append]
    rw [List.length_append, List.length_append, l2]
    have l3 : (M + 2) * (NL.length + (LX.length + (Y.length + (Zh.length + (((K0l ++ G).flatMap exQ).length + Z1.length)))) + (LT.length + ZC.length)) ≤ (M + 2) * ((NL.length + LX.length + 506 + K0l.length + G.length + Z1.length + 203 * (lcF Fo).length) + (Y.length + ZC.length)) := Nat.mul_le_mul_left _ (by omega)
    have l4 := Nat.mul_add (M + 2) (NL.length + LX.length + 506 + K0l.length + G.length + Z1.length + 203 * (lcF Fo).length) (Y.length + ZC.length)
    omega
end LIMT
