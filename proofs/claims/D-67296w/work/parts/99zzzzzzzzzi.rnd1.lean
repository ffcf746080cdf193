/-! rounds: few formulas are known, so they can be listed; what one of them brings -/
theorem enum_of {S : Nat → Prop} {n : Nat} (h : ∀ L : List Nat, L.Nodup → (∀ x ∈ L, S x) → L.length ≤ n) : ∃ L : List Nat, L.Nodup ∧ (∀ x, x ∈ L ↔ S x) ∧ L.length ≤ n := by
  have key : ∀ (m : Nat) (L : List Nat), L.Nodup → (∀ x ∈ L, S x) → n ≤ L.length + m → ∃ L' : List Nat, L'.Nodup ∧ ∀ x, x ∈ L' ↔ S x := by
    intro m
    induction m with
    | zero =>
      intro L hn hs hm
      refine ⟨L, hn, fun x => ⟨hs x, fun hx => ?_⟩⟩
      by_cases q : x ∈ L
      · exact q
      · exfalso
        have := h (x :: L) (List.nodup_cons.mpr ⟨q, hn⟩) (fun y hy => by
          rcases List.mem_cons.mp hy with w | w
          · rw [w]; exact hx
          · exact hs y w)
        rw [List.length_cons] at this
        omega
    | succ m ih =>
      intro L hn hs hm
      by_cases q : ∀ x, S x → x ∈ L
      · exact ⟨L, hn, fun x => ⟨hs x, q x⟩⟩
      · obtain ⟨x, hx⟩ := Classical.not_forall.mp q
        obtain ⟨h1, h2⟩ := Classical.not_imp.mp hx
        exact ih (x :: L) (List.nodup_cons.mpr ⟨h2, hn⟩) (fun y hy => by
          rcases List.mem_cons.mp hy with w | w
          · rw [w]; exact h1
          · exact hs y w) (by rw [List.length_cons]; omega)
  obtain ⟨L, a, b⟩ := key n [] List.nodup_nil (fun x hx => by cases hx) (by omega)
  exact ⟨L, a, b, h L a (fun x hx => (b x).mp hx)⟩
section STG
variable {W : Wd} {A K0 : Nat → Prop}
theorem stg_up {r f : Nat} (h : (stg W A K0 r).1 f) : (stg W A K0 (r + 1)).1 f := Or.inl h
theorem stg_le {r q f : Nat} (hq : r ≤ q) (h : (stg W A K0 r).1 f) : (stg W A K0 q).1 f := by
  induction hq with
  | refl => exact h
  | step _ ih => exact stg_up ih
theorem stg_0 {r f : Nat} (h : K0 f) : (stg W A K0 r).1 f := stg_le (r := 0) (Nat.zero_le r) h
theorem rch_le {r q : Nat} (h : rch W A K0 r) (hq : q ≤ r) : rch W A K0 q := fun p hp => h p (by omega)
theorem rch_400 {r : Nat} (h : rch W A K0 (r + 1)) : ∀ L : List Nat, L.Nodup → (∀ f ∈ L, (stg W A K0 (r + 1)).1 f) → L.length ≤ 400 := fun L hn hL => by
  have hc := (h r (by omega)).2.2.2
  rcases Nat.lt_or_ge 400 L.length with q | q
  · exact absurd ⟨L.take 401, hn.sublist (List.take_sublist _ _), by rw [List.length_take]; omega, fun t ht => hL t (List.mem_of_mem_take ht)⟩ hc
  · exact q
theorem rch_len : ∀ {r : Nat}, rch W A K0 r → ∃ L : List Nat, L.Nodup ∧ L.length = r ∧ ∀ f ∈ L, (stg W A K0 r).1 f
  | 0, _ => ⟨[], List.nodup_nil, rfl, fun f hf => by cases hf⟩
  | r + 1, h => by
    obtain ⟨L, a, b, c⟩ := rch_len (rch_le h (by omega : r ≤ r + 1))
    obtain ⟨g, g1, g2⟩ := (h r (by omega)).2.2.1
    refine ⟨g :: L, List.nodup_cons.mpr ⟨fun q => g2 (c g q), a⟩, by rw [List.length_cons, b], fun f hf => ?_⟩
    rcases List.mem_cons.mp hf with w | w
    · rw [w]; exact Or.inr g1
    · exact stg_up (c f w)
/-- the last stage -/
theorem rch_max : ∃ R, rch W A K0 R ∧ ∀ r, rch W A K0 r → r ≤ R := by
  have hb : ∀ r, rch W A K0 r → r ≤ 400 := fun r h => by
    cases r with
    | zero => omega
    | succ r =>
      obtain ⟨L, a, b, c⟩ := rch_len h
      have := rch_400 h L a c
      omega
  have key : ∀ m r, rch W A K0 r → 400 ≤ r + m → ∃ R, rch W A K0 R ∧ ∀ r, rch W A K0 r → r ≤ R := by
    intro m
    induction m with
    | zero => exact fun r h hm => ⟨r, h, fun q hq => by have := hb q hq; omega⟩
    | succ m ih =>
      intro r h hm
      by_cases q : rch W A K0 (r + 1)
      · exact ih (r + 1) q (by omega)
      · exact ⟨r, h, fun p hp => by
          rcases Nat.lt_or_ge r p with w | w
          · exact absurd (rch_le hp w) q
          · exact w⟩
  exact key 400 0 (fun q hq => by omega) (by omega)
end STG
section COV
variable {M B : Nat} {Sh : List Nat} {F : Fs} {K T O : Nat → Prop} {f g : Nat}
theorem AtE_up : ∀ s, 15 ≤ kd s → AtE M Sh s := fun _ h => AtE_hi h
theorem sub_ntX {z p : Nat} (ho : okT p) (h : subT z (notT p)) : z = notT p ∨ subT z p := by
  by_cases h16 : kd p = 16
  · obtain ⟨q, hp, _, _, mq⟩ := ps_not1 ho h16
    have e : notT p = q := by unfold notT; rw [if_pos h16, hp]; rfl
    rw [e] at h
    exact Or.inr (sub_c mq h)
  · have e : notT p = mk 16 0 [p] := by unfold notT; rw [if_neg h16]
    rw [e] at h ⊢
    rw [subT_eq] at h
    rcases h with w | ⟨c, hc, w⟩
    · exact Or.inl w
    · have := (fms_ps hc).1
      rw [ps_mk, List.mem_singleton] at this
      rw [this] at w
      exact Or.inr w
theorem lo_ntX {p : Nat} (ho : okT p) (hf : isFo p) (h : loT (notT p) = 0) : loT p = 0 := by
  by_cases h16 : kd p = 16
  · obtain ⟨q, hp, _, _, mq⟩ := ps_not1 ho h16
    have e : notT p = q := by unfold notT; rw [if_pos h16, hp]; rfl
    rw [e] at h
    refine lo_mk0 (by omega) (fun c hc => ?_)
    have := (fms_ps hc).1
    rw [hp, List.mem_singleton] at this
    rw [this]; exact h
  · have e : notT p = mk 16 0 [p] := by unfold notT; rw [if_neg h16]
    have on := (okT_not ho hf).1
    have h2 := lo_part on.n (by rw [e, kd_mk]; decide) (c := p) (by rw [e]; exact fms_mem (by rw [ps_mk]; exact List.mem_cons_self) (by rw [kd_mk]; decide) (okT_0 ho))
    omega
/-- terms below a NOT stand below what is denied -/
theorem sub_notT_tm {p r : Nat} (ho : okT p) (hf : isFo p) (h : subT r p) (tr : isTm r) : subT r (notT p) := by
  by_cases h16 : kd p = 16
  · obtain ⟨q, hp, _, _, mq⟩ := ps_not1 ho h16
    have e : notT p = q := by unfold notT; rw [if_pos h16, hp]; rfl
    rw [e]
    rw [subT_eq] at h
    rcases h with w | ⟨c, hc, w⟩
    · rw [w] at tr; unfold isTm at tr; omega
    · have := (fms_ps hc).1
      rw [hp, List.mem_singleton] at this
      rw [← this]; exact w
  · have e : notT p = mk 16 0 [p] := by unfold notT; rw [if_neg h16]
    rw [e]
    exact sub_c (fms_mem (by rw [ps_mk]; exact List.mem_cons_self) (by rw [kd_mk]; decide) (okT_0 ho)) h
/-- an ALL, or a NOT ALL -/
def isQ (f : Nat) : Prop := kd f = 18 ∨ (kd f = 16 ∧ kd (pa f 0) = 18)
/-- a coming of the last round, and what is new in it -/
theorem com_cov (hM : 8 ≤ M) (hB : 4 ≤ B) (of : okT f) (hRq : isQ f → Rep (AtE M Sh) B f) (hT : ∀ t, T t → clT1 t) (h : cmF F K T O f g) : ∃ Y : List Nat, (M + 2) * Y.length ≤ M * (B - 2) + 16 * nYs Sh + 2 * nXs Sh + 2 ∧ ∀ z, subT z g → subT z f ∨ z ∈ Y ∨ (∃ t, T t ∧ subT z t) ∨ (z = mk 1 (2 * f + 1) [] ∧ kd f = 16 ∧ kd (pa f 0) = 18) := by
  rcases h with ⟨k17, hg⟩ | ⟨k18, t, ht, _, _, eg⟩ | ⟨k16, k17, p, hp, eg⟩ | ⟨k16, k18, _, eg⟩
  · refine ⟨[], by simp, fun z hz => Or.inl ?_⟩
    have hl : isFo g := by
      rcases of.n.2 with q | q | q | q | q | q | q | q | q | q | q | q | q | q <;> first | omega | exact (q.2.2.2 g hg).1
    exact sub_c (fms_mem hg (by omega) (isFo_pos hl)) hz
  · obtain ⟨Y, y1, y2⟩ := Rep.all2 hM (hRq (Or.inl k18)) k18 (hT t ht)
    obtain ⟨y, b, hp, _, _, _, mb⟩ := ps_all1 of k18
    have e1 : pa f 1 = b := by unfold pa; rw [hp]; rfl
    refine ⟨Y, by omega, fun z hz => ?_⟩
    rw [eg] at hz
    rcases y2 z hz with q | q | q
    · rw [e1] at q; exact Or.inl (sub_c mb q)
    · exact Or.inr (Or.inr (Or.inl ⟨t, ht, q⟩))
    · exact Or.inr (Or.inl q)
  · have hpm := oL_mem hp
    obtain ⟨a, hpa, fa, _, ma⟩ := ps_not1 of k16
    have ea : pa f 0 = a := by unfold pa; rw [hpa]; rfl
    rw [ea] at hpm k17
    have oa := of.c ma
    have fp : isFo p := by
      rcases oa.n.2 with q | q | q | q | q | q | q | q | q | q | q | q | q | q <;> first | omega | exact (q.2.2.2 p hpm).1
    have mp : p ∈ fms a := fms_mem hpm (by omega) (isFo_pos fp)
    refine ⟨[notT p], ?_, fun z hz => ?_⟩
    · have : M * 2 ≤ M * (B - 2) := Nat.mul_le_mul_left M (by omega)
      simp only [List.length_cons, List.length_nil]
      omega
    · rw [eg] at hz
      rcases sub_ntX (oa.c mp) hz with q | q
      · exact Or.inr (Or.inl (by rw [q]; exact List.mem_cons_self))
      · exact Or.inl (sub_c ma (sub_c mp q))
  · obtain ⟨F', E, ⟨o', f', k', z', A'⟩, hE, e'⟩ := (hRq (Or.inr ⟨k16, k18⟩)).nt k16
    have R1 : Rep (AtE M Sh) (B - 1) (pa f 0) := ⟨F', E, ⟨o', f', by omega, A'⟩, hE, e'⟩
    obtain ⟨Y, y1, y2⟩ := Rep.all2 hM R1 k18 (clT1_const (2 * f + 1))
    obtain ⟨a, hpa, fa, _, ma⟩ := ps_not1 of k16
    have ea : pa f 0 = a := by unfold pa; rw [hpa]; rfl
    have oa := of.c ma
    rw [ea] at k18 y2 eg R1
    obtain ⟨y, b, hp, _, fb, _, mb⟩ := ps_all1 oa k18
    have e1 : pa a 1 = b := by unfold pa; rw [hp]; rfl
    have oput : okT (sbT (putg (mk 1 (2 * f + 1) [])) 0 (pa a 1)) := (R1.inst k18 (clT1_const (2 * f + 1))).ok.1
    refine ⟨g :: Y, ?_, fun z hz => ?_⟩
    · have e3 : M * (B - 1 - 2) + M = M * (B - 2) := by
        rw [show B - 2 = B - 1 - 2 + 1 by omega, Nat.mul_add, Nat.mul_one]
      rw [List.length_cons, Nat.mul_add]
      omega
    · have hz0 := hz
      rw [eg] at hz
      rcases sub_ntX oput hz with q | q
      · exact Or.inr (Or.inl (by rw [q, ← eg]; exact List.mem_cons_self))
      · rcases y2 z q with w | w | w
        · rw [e1] at w; exact Or.inl (sub_c ma (sub_c mb w))
        · exact Or.inr (Or.inr (Or.inr ⟨sub_const w, k16, by rw [ea]; exact k18⟩))
        · exact Or.inr (Or.inl (List.mem_cons_of_mem _ w))
/-- a coming of a round before: closed terms are at hand, NOT of the parts of ANDs is asked for -/
theorem com_covN (hM : 8 ≤ M) (hB : 4 ≤ B) (of : okT f) (hRq : isQ f → Rep (AtE M Sh) B f) (hT : ∀ t, T t → clT1 t) (hlo : loT g = 0) (h : cmF F K T O f g) : ∃ Y : List Nat, (M + 2) * Y.length ≤ M * (B - 2) + 16 * nYs Sh + 2 * nXs Sh + 2 ∧ (∀ z, subT z g → subT z f ∨ z ∈ Y ∨ (∃ t, T t ∧ subT z t) ∨ (z = mk 1 (2 * f + 1) [] ∧ kd f = 16 ∧ kd (pa f 0) = 18) ∨ ∃ r, subT r g ∧ isTm r ∧ loT r = 0 ∧ subT z r) ∧ ∀ s p, subN s g → kd s = 17 → p ∈ ps s → kd p ≠ 16 → notT p ∈ Y ∨ szT p = 1 ∨ subN s f := by
  rcases h with ⟨k17, hg⟩ | ⟨k18, t, ht, _, _, eg⟩ | ⟨k16, k17, p, hp, eg⟩ | ⟨k16, k18, _, eg⟩
  · have hl : isFo g := by
      rcases of.n.2 with q | q | q | q | q | q | q | q | q | q | q | q | q | q <;> first | omega | exact (q.2.2.2 g hg).1
    have mg : g ∈ fms f := fms_mem hg (by omega) (isFo_pos hl)
    exact ⟨[], by simp, fun z hz => Or.inl (sub_c mg hz), fun s p hs _ _ _ => Or.inr (Or.inr (subN_c (by omega) mg hs))⟩
  · obtain ⟨Y, y1, y2, y3⟩ := Rep.allN hM (hRq (Or.inl k18)) k18 (hT t ht) (by rw [← eg]; exact hlo)
    obtain ⟨y, b, hp, _, _, _, mb⟩ := ps_all1 of k18
    have e1 : pa f 1 = b := by unfold pa; rw [hp]; rfl
    rw [← eg] at y2 y3
    refine ⟨Y, by omega, fun z hz => ?_, fun s p hs q1 q2 q3 => (y3 s p hs q1 q2 q3).imp id Or.inl⟩
    rcases y2 z hz with q | q | q | q
    · rw [e1] at q; exact Or.inl (sub_c mb q)
    · exact Or.inr (Or.inr (Or.inl ⟨t, ht, q⟩))
    · exact Or.inr (Or.inl q)
    · exact Or.inr (Or.inr (Or.inr (Or.inr q)))
  · have hpm := oL_mem hp
    obtain ⟨a, hpa, fa, _, ma⟩ := ps_not1 of k16
    have ea : pa f 0 = a := by unfold pa; rw [hpa]; rfl
    rw [ea] at hpm k17
    have oa := of.c ma
    have fp : isFo p := by
      rcases oa.n.2 with q | q | q | q | q | q | q | q | q | q | q | q | q | q <;> first | omega | exact (q.2.2.2 p hpm).1
    have mp : p ∈ fms a := fms_mem hpm (by omega) (isFo_pos fp)
    refine ⟨[notT p], ?_, fun z hz => ?_, fun s q hs q1 _ _ => Or.inr (Or.inr ?_)⟩
    · have : M * 2 ≤ M * (B - 2) := Nat.mul_le_mul_left M (by omega)
      simp only [List.length_cons, List.length_nil]
      omega
    · rw [eg] at hz
      rcases sub_ntX (oa.c mp) hz with q | q
      · exact Or.inr (Or.inl (by rw [q]; exact List.mem_cons_self))
      · exact Or.inl (sub_c ma (sub_c mp q))
    · rw [eg] at hs
      exact subN_c (by omega) ma (subN_c (by omega) mp (subN_not (oa.c mp) hs q1))
  · obtain ⟨F', E, ⟨o', f', k', z', A'⟩, hE, e'⟩ := (hRq (Or.inr ⟨k16, k18⟩)).nt k16
    have R1 : Rep (AtE M Sh) (B - 1) (pa f 0) := ⟨F', E, ⟨o', f', by omega, A'⟩, hE, e'⟩
    obtain ⟨a, hpa, fa, _, ma⟩ := ps_not1 of k16
    have ea : pa f 0 = a := by unfold pa; rw [hpa]; rfl
    have oa := of.c ma
    rw [ea] at k18 eg R1
    have oput : okT (sbT (putg (mk 1 (2 * f + 1) [])) 0 (pa a 1)) := (R1.inst k18 (clT1_const (2 * f + 1))).ok.1
    have fput : isFo (sbT (putg (mk 1 (2 * f + 1) [])) 0 (pa a 1)) := (R1.inst k18 (clT1_const (2 * f + 1))).ok.2
    have lput : loT (sbT (putg (mk 1 (2 * f + 1) [])) 0 (pa a 1)) = 0 := by
      rw [eg] at hlo
      exact lo_ntX oput fput hlo
    obtain ⟨Y, y1, y2, y3⟩ := Rep.allN hM R1 k18 (clT1_const (2 * f + 1)) lput
    obtain ⟨y, b, hp, _, fb, _, mb⟩ := ps_all1 oa k18
    have e1 : pa a 1 = b := by unfold pa; rw [hp]; rfl
    have gin : ∀ r, subT r (sbT (putg (mk 1 (2 * f + 1) [])) 0 (pa a 1)) → isTm r → subT r g := fun r hr tr => by
      rw [eg]
      exact sub_notT_tm oput fput hr tr
    refine ⟨g :: Y, ?_, fun z hz => ?_, fun s p hs q1 q2 q3 => ?_⟩
    · have e3 : M * (B - 1 - 2) + M = M * (B - 2) := by
        rw [show B - 2 = B - 1 - 2 + 1 by omega, Nat.mul_add, Nat.mul_one]
      rw [List.length_cons, Nat.mul_add]
      omega
    · rw [eg] at hz
      rcases sub_ntX oput hz with q | q
      · exact Or.inr (Or.inl (by rw [q, ← eg]; exact List.mem_cons_self))
      · rcases y2 z q with w | w | w | ⟨r, r1, r2, r3, r4⟩
        · rw [e1] at w; exact Or.inl (sub_c ma (sub_c mb w))
        · exact Or.inr (Or.inr (Or.inr (Or.inl ⟨sub_const w, k16, by rw [ea]; exact k18⟩)))
        · exact Or.inr (Or.inl (List.mem_cons_of_mem _ w))
        · exact Or.inr (Or.inr (Or.inr (Or.inr ⟨r, gin r r1 r2, r2, r3, r4⟩)))
    · rw [eg] at hs
      exact (y3 s p (subN_not oput hs q1) q1 q2 q3).imp (List.mem_cons_of_mem _) Or.inl
end COV
