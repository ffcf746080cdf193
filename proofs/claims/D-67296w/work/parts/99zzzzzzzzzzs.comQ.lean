/-! comings that are ALLs or NOT ALLs: one node less -/
/-- an ALL or a NOT ALL -/
def nq (b : Nat) : Nat := if kd b = 18 ∨ (kd b = 16 ∧ kd (pa b 0) = 18) then 1 else 0
theorem nq_1 (b : Nat) : nq b ≤ 1 := by
  unfold nq
  split <;> omega
theorem nq_t {b : Nat} (h : isQ b) : nq b = 1 := if_pos h
theorem nq_f {b : Nat} (h : ¬ isQ b) : nq b = 0 := if_neg h
theorem nq_le {a b : Nat} (h : isQ a → isQ b) : nq a ≤ nq b := by
  by_cases q : isQ a
  · rw [nq_t q, nq_t (h q)]; exact Nat.le_refl _
  · rw [nq_f q]; exact Nat.zero_le _
theorem isQ_nt {i : Nat} (ho : okT i) (h : isQ (notT i)) : isQ i := by
  by_cases k16 : kd i = 16
  · obtain ⟨g, hp, fg, kg, mg⟩ := ps_not1 ho k16
    have pa0 : pa i 0 = g := by unfold pa; rw [hp]; rfl
    have en : notT i = g := by
      unfold notT
      rw [if_pos k16, hp]
      rfl
    rw [en] at h
    refine Or.inr ⟨k16, ?_⟩
    rw [pa0]
    rcases h with q | q
    · exact q
    · exact absurd q.1 kg
  · have en : notT i = mk 16 0 [i] := by unfold notT; rw [if_neg k16]
    rw [en] at h
    rcases h with q | q
    · rw [kd_mk] at q; omega
    · have : pa (mk 16 0 [i]) 0 = i := by unfold pa; rw [ps_mk]; rfl
      rw [this] at q
      exact Or.inl q.2
section CNT
variable {t : Nat} {E : Nat → Nat} {M K : Nat} {Sh : List Nat}
theorem isQ_nw (ht : clT1 t) (hE : clE1 E) {e b : Nat} (ho : okT b) (hf : isFo b) (h : isQ (nwT t E e b)) : isQ b := by
  have hk : ¬ kd b ≤ 3 := by unfold isFo at hf; omega
  have kn := kd_nw ht hE (e := e) hk
  rcases h with q | ⟨q1, q2⟩
  · rw [kn] at q; exact Or.inl q
  · rw [kn] at q1
    obtain ⟨f, hp, ff, kf, mf⟩ := ps_not1 ho q1
    have pn : ps (nwT t E e b) = (ps b).map (nwT t E e) := ps_map (Or.inl q1) (fun c hc => by rw [hp, List.mem_singleton] at hc; rw [hc]; exact isFo_pos ff)
    have p1 : pa (nwT t E e b) 0 = nwT t E e f := by unfold pa; rw [pn, hp]; rfl
    have p2 : pa b 0 = f := by unfold pa; rw [hp]; rfl
    rw [p1, kd_nw ht hE (by unfold isFo at ff; omega)] at q2
    exact Or.inr ⟨q1, by rw [p2]; exact q2⟩
/-- an ALL outside binders leaves more over -/
theorem topq_all (ht : clT1 t) (hE : clE1 E) (hM : 8 ≤ M) (hK : K + 12 = 2 * M) (e : Nat) {b : Nat} (ho : okT b) (hA : Alls (AtE M Sh) b) (hlo : loT (nwT t E e b) = 0) (k18 : kd b = 18) : TopQ M K Sh t E e b (M + 6) := by
  have b0 := okT_0 ho
  have kn := kd_nw ht hE (e := e) (b := b) (by omega)
  obtain ⟨y, f, hp, y8, ff, my, mf⟩ := ps_all1 ho k18
  have oy := ho.c my
  have of := ho.c mf
  have nt : ∀ L Za, NtC t E e b L Za := fun L Za s p hs k17' => by
    rw [subN_eq] at hs
    rcases hs with q | q
    · rw [q, kn] at k17'; omega
    · exact absurd (by rw [kn]; exact k18) q.1
  have hsz : szT b = 1 + (szT y + szT f) := by rw [sz_pl b0 (by omega), hp]; simp
  have sy := sz_fms (okT_0 oy)
  have sf := sz_fms (okT_0 of)
  by_cases hc : nwT t E e b = odT E e b
  · have h3 : M * 3 ≤ M * szT b := Nat.mul_le_mul_left M (by omega)
    exact ⟨[], [], [], CovB.old hc, nt _ _, by simp only [List.length_nil]; omega⟩
  · obtain ⟨-, pn⟩ := fms_all (d := e) (gv_0 (clE1.c ht hE)) k18 hp (okT_0 oy) (okT_0 of)
    have pn : ps (nwT t E e b) = [nwT t E e y, nwT t E (e + 1) f] := pn
    have ly : loT (nwT t E e y) = 0 := by have := lo_ally (by rw [kn]; exact k18) pn; omega
    obtain ⟨Ly, Xy, y1, y2⟩ := tyc ht hE hM oy y8 (hA.sub (sub_c my (sub_rf y))) ly
    have B : FqB M K True Sh t E (e + 1) f 8 := by
      by_cases hcf : nwT t E (e + 1) f = odT E (e + 1) f
      · exact FqB.old hcf (okT_0 of) (by omega)
      · exact (covb_fo ht hE hM hK f of ff (hA.sub (sub_c mf (sub_rf f))) (e + 1) hcf).2
    obtain ⟨Lf, Xf, Zf, f1, f2⟩ := B
    have cb := CovB.all ht hE k18 hp (okT_0 oy) (okT_0 of) y1 f1
    refine ⟨_, _, _, cb, nt _ _, ?_⟩
    rw [hsz]
    simp only [List.length_append, List.length_cons, Nat.mul_add, Nat.mul_one]
    omega
theorem topq_q (ht : clT1 t) (hE : clE1 E) (hM : 8 ≤ M) (hK : K + 12 = 2 * M) (e : Nat) {b : Nat} (ho : okT b) (hA : Alls (AtE M Sh) b) (hlo : loT (nwT t E e b) = 0) (hq : isQ b) : TopQ M K Sh t E e b (M + 4) := by
  rcases hq with k18 | ⟨k16, k18⟩
  · exact (topq_all ht hE hM hK e ho hA hlo k18).le (by omega)
  · have b0 := okT_0 ho
    have hk : ¬ kd b ≤ 3 := by omega
    have kn := kd_nw ht hE (e := e) hk
    obtain ⟨f, hp, ff, kf, mf⟩ := ps_not1 ho k16
    have pa0 : pa b 0 = f := by unfold pa; rw [hp]; rfl
    rw [pa0] at k18
    have of := ho.c mf
    have f0 := okT_0 of
    have fb : fms b = [f] := by
      unfold fms
      rw [if_neg (by omega), hp]
      simp [f0]
    have fn : fms (nwT t E e b) = [nwT t E e f] := by
      unfold nwT
      rw [fms_sbn (gv_0 (clE1.c ht hE)) hk (by omega), fb]; rfl
    have on := okT_nw ht hE (e := e) ho
    have lf0 : loT (nwT t E e f) = 0 := by
      have := lo_part on.n (by omega) (c := nwT t E e f) (by rw [fn]; exact List.mem_cons_self)
      omega
    obtain ⟨L, Zx, Za, c1, c2, c3⟩ := topq_all ht hE hM hK e of (hA.sub (sub_c mf (sub_rf f))) lf0 k18
    have hs1 : szT b = 1 + szT f := by rw [sz_pl b0 (by omega), hp]; simp
    have cb := CovB.node (L := L) (Zx := Zx) (Za := Za) ht hE hk (by omega) (fun p hp' => by rw [fb, List.mem_singleton] at hp'; rw [hp']; exact c1) c1.2.1 c1.2.2
    have nb : NtC t E e b (nwT t E e b :: L) Za := fun s p hs k17 hps k16' => by
      rw [subN_eq] at hs
      rcases hs with q | ⟨_, c, hc', q⟩
      · rw [q, kn] at k17; omega
      · rw [fn, List.mem_singleton] at hc'
        rw [hc'] at q
        exact (c2 s p q k17 hps k16').imp (List.mem_cons_of_mem _) id
    refine ⟨_, _, _, cb, nb, ?_⟩
    rw [List.length_cons, hs1]
    simp only [Nat.mul_add, Nat.mul_one]
    omega
/-- with NOT of the parts of ANDs outside binders; closed terms left out; an ALL or NOT ALL makes one less -/
theorem evtq_cnt (ht : clT1 t) (hE : clE1 E) (hM : 8 ≤ M) {b : Nat} (ho : okT b) (hf : isFo b) (hA : Alls (AtE M Sh) b) (e : Nat) (hlo : loT (nwT t E e b) = 0) : ∃ Y : List Nat, (M + 2) * (Y.length + nq b) ≤ M * szT b + 16 * nYs Sh + 2 * nXs Sh ∧ (∀ s, subT s (nwT t E e b) → subT s (odT E e b) ∨ subT s t ∨ s ∈ Y ∨ ∃ r, subT r (nwT t E e b) ∧ isTm r ∧ loT r = 0 ∧ subT s r) ∧ ∀ s p, subN s (nwT t E e b) → kd s = 17 → p ∈ ps s → kd p ≠ 16 → notT p ∈ Y ∨ szT p = 1 := by
  by_cases hq : isQ b
  · obtain ⟨K, hK⟩ : ∃ K, K + 12 = 2 * M := ⟨2 * M - 12, by omega⟩
    obtain ⟨L, Zx, Za, c1, c2, c3⟩ := topq_q ht hE hM hK e ho hA hlo hq
    have hl := lst_len (L := 0 :: L) (cr := 0) hM hK c1.2.1 c1.2.2 (by rw [List.length_cons, Nat.mul_add]; omega : (M + 2) * (0 :: L).length + K * Za.length + M * Zx.length + 0 ≤ M * szT b)
    refine ⟨L ++ (ddL Zx ++ (ddL Za ++ (ddL Za).map notT)), ?_, fun s hs => (lst_cov c1 hs).imp id (fun q => q.imp id (fun q => q.imp id (fun z => z.2))), fun s p hs k17 hps k16 => ?_⟩
    · rw [nq_t hq]
      have e1 : (0 :: L ++ (ddL Zx ++ (ddL Za ++ (ddL Za).map notT))).length = (L ++ (ddL Zx ++ (ddL Za ++ (ddL Za).map notT))).length + 1 := rfl
      rw [e1] at hl
      exact hl
    · rcases c2 s p hs k17 hps k16 with q | q | q
      · exact Or.inl (List.mem_append_left _ q)
      · exact Or.inl (List.mem_append_right _ (List.mem_append_right _ (List.mem_append_right _ (List.mem_map.mpr ⟨p, dd_mem.mpr q, rfl⟩))))
      · exact Or.inr q
  · rw [nq_f hq]
    exact evt_cnt ht hE hM ho hf hA e hlo
theorem Rep.allNq {B f t : Nat} (hM : 8 ≤ M) (h : Rep (AtE M Sh) B f) (h18 : kd f = 18) (ht : clT1 t) (hlo : loT (sbT (putg t) 0 (pa f 1)) = 0) : ∃ Y : List Nat, (M + 2) * (Y.length + nq (sbT (putg t) 0 (pa f 1))) ≤ M * (B - 2) + 16 * nYs Sh + 2 * nXs Sh ∧ (∀ s, subT s (sbT (putg t) 0 (pa f 1)) → subT s (pa f 1) ∨ subT s t ∨ s ∈ Y ∨ ∃ r, subT r (sbT (putg t) 0 (pa f 1)) ∧ isTm r ∧ loT r = 0 ∧ subT s r) ∧ ∀ s p, subN s (sbT (putg t) 0 (pa f 1)) → kd s = 17 → p ∈ ps s → kd p ≠ 16 → notT p ∈ Y ∨ szT p = 1 := by
  obtain ⟨F, E, ⟨ho, hf, hz, hA⟩, hE, e⟩ := h
  have hk : ¬ kd F ≤ 3 := by unfold isFo at hf; omega
  have k1 := (sb_kd (g := gv E) (d := 0) hk).1
  have kF : kd F = 18 := by rw [e, k1] at h18; exact h18
  obtain ⟨y, b, hp, y8, fb, my, mb⟩ := ps_all1 ho kF
  have ob := ho.c mb
  have e1 : pa f 1 = odT E 0 b := by
    have := (fms_all (d := 0) (gv_0 hE) kF hp (okT_0 (ho.c my)) (okT_0 ob)).2
    unfold pa
    rw [e, this]
    rfl
  have e2 : sbT (putg t) 0 (pa f 1) = nwT t E 0 b := by rw [e1]; exact put_gv hE b ob 0
  have hs : 2 + szT b ≤ szT F := by
    rw [sz_pl (okT_0 ho) (by omega), hp]
    have := sz_fms (okT_0 (ho.c my))
    simp
    omega
  rw [e2] at hlo
  obtain ⟨Y, y1, y2⟩ := evtq_cnt ht hE hM ob fb (hA.sub (sub_c mb (sub_rf b))) 0 hlo
  have hn : nq (nwT t E 0 b) ≤ nq b := nq_le (isQ_nw ht hE ob fb)
  refine ⟨Y, ?_, ?_⟩
  · have h1 : M * szT b ≤ M * (B - 2) := Nat.mul_le_mul_left M (by omega)
    have h2 : (M + 2) * (Y.length + nq (nwT t E 0 b)) ≤ (M + 2) * (Y.length + nq b) := Nat.mul_le_mul_left _ (by omega)
    rw [e2]
    omega
  · rw [e2, e1]
    exact y2
end CNT
section COV
variable {M B : Nat} {Sh : List Nat} {F : Fs} {K T O : Nat → Prop} {f g : Nat}
theorem com_covNq (hM : 8 ≤ M) (hB : 5 ≤ B) (of : okT f) (hRq : isQ f → Rep (AtE M Sh) B f) (hT : ∀ t, T t → clT1 t) (hlo : loT g = 0) (h : cmF F K T O f g) : ∃ Y : List Nat, (M + 2) * (Y.length + nq g) ≤ M * (B - 2) + 16 * nYs Sh + 2 * nXs Sh + 2 ∧ (∀ z, subT z g → subT z f ∨ z ∈ Y ∨ (∃ t, T t ∧ subT z t) ∨ (z = mk 1 (2 * f + 1) [] ∧ kd f = 16 ∧ kd (pa f 0) = 18) ∨ ∃ r, subT r g ∧ isTm r ∧ loT r = 0 ∧ subT z r) ∧ ∀ s p, subN s g → kd s = 17 → p ∈ ps s → kd p ≠ 16 → notT p ∈ Y ∨ szT p = 1 ∨ subN s f := by
  rcases h with ⟨k17, hg⟩ | ⟨k18, t, ht, _, _, eg⟩ | ⟨k16, k17, p, hp, eg⟩ | ⟨k16, k18, _, eg⟩
  · have hl : isFo g := by
      rcases of.n.2 with q | q | q | q | q | q | q | q | q | q | q | q | q | q <;> first | omega | exact (q.2.2.2 g hg).1
    have mg : g ∈ fms f := fms_mem hg (by omega) (isFo_pos hl)
    have hb1 : M * 3 ≤ M * (B - 2) := Nat.mul_le_mul_left M (by omega)
    have hb2 : (M + 2) * nq g ≤ (M + 2) * 1 := Nat.mul_le_mul_left _ (nq_1 g)
    exact ⟨[], by rw [List.length_nil, Nat.zero_add]; omega, fun z hz => Or.inl (sub_c mg hz), fun s p hs _ _ _ => Or.inr (Or.inr (subN_c (by omega) mg hs))⟩
  · obtain ⟨Y, y1, y2, y3⟩ := Rep.allNq hM (hRq (Or.inl k18)) k18 (hT t ht) (by rw [← eg]; exact hlo)
    obtain ⟨y, b, hp, _, _, _, mb⟩ := ps_all1 of k18
    have e1 : pa f 1 = b := by unfold pa; rw [hp]; rfl
    rw [← eg] at y1 y2 y3
    refine ⟨Y, by omega, fun z hz => ?_, fun s p hs q1 q2 q3 => (y3 s p hs q1 q2 q3).imp id Or.inl⟩
    rcases y2 z hz with q | q | q | q
    · rw [e1] at q; exact Or.inl (sub_c mb q)
    · exact Or.inr (Or.inr (Or.inl ⟨t, ht, q⟩))
    · exact Or.inr (Or.inl q)
    · exact Or.inr (Or.inr (Or.inr (Or.inr q)))
  · have hpm := oL_mem hp
    obtain ⟨a, hpa, fa, _, ma⟩ := ps_not1 of k16
    have ea : pa f 0 = a := by unfold pa; rw [hpa]; rfl
    rw [ea] at hpm k17
    have oa := of.c ma
    have fp : isFo p := by
      rcases oa.n.2 with q | q | q | q | q | q | q | q | q | q | q | q | q | q <;> first | omega | exact (q.2.2.2 p hpm).1
    have mp : p ∈ fms a := fms_mem hpm (by omega) (isFo_pos fp)
    refine ⟨[notT p], ?_, fun z hz => ?_, fun s q hs q1 _ _ => Or.inr (Or.inr ?_)⟩
    · have hb1 : M * 3 ≤ M * (B - 2) := Nat.mul_le_mul_left M (by omega)
      have hb2 : (M + 2) * ([notT p].length + nq g) ≤ (M + 2) * 2 := Nat.mul_le_mul_left _ (by have := nq_1 g; simp only [List.length_cons, List.length_nil]; omega)
      omega
    · rw [eg] at hz
      rcases sub_ntX (oa.c mp) hz with q | q
      · exact Or.inr (Or.inl (by rw [q]; exact List.mem_cons_self))
      · exact Or.inl (sub_c ma (sub_c mp q))
    · rw [eg] at hs
      exact subN_c (by omega) ma (subN_c (by omega) mp (subN_not (oa.c mp) hs q1))
  · obtain ⟨F', E, ⟨o', f', k', z', A'⟩, hE, e'⟩ := (hRq (Or.inr ⟨k16, k18⟩)).nt k16
    have R1 : Rep (AtE M Sh) (B - 1) (pa f 0) := ⟨F', E, ⟨o', f', by omega, A'⟩, hE, e'⟩
    obtain ⟨a, hpa, fa, _, ma⟩ := ps_not1 of k16
    have ea : pa f 0 = a := by unfold pa; rw [hpa]; rfl
    have oa := of.c ma
    rw [ea] at k18 eg R1
    have oput : okT (sbT (putg (mk 1 (2 * f + 1) [])) 0 (pa a 1)) := (R1.inst k18 (clT1_const (2 * f + 1))).ok.1
    have fput : isFo (sbT (putg (mk 1 (2 * f + 1) [])) 0 (pa a 1)) := (R1.inst k18 (clT1_const (2 * f + 1))).ok.2
    have lput : loT (sbT (putg (mk 1 (2 * f + 1) [])) 0 (pa a 1)) = 0 := by
      rw [eg] at hlo
      exact lo_ntX oput fput hlo
    obtain ⟨Y, y1, y2, y3⟩ := Rep.allNq hM R1 k18 (clT1_const (2 * f + 1)) lput
    obtain ⟨y, b, hp, _, fb, _, mb⟩ := ps_all1 oa k18
    have e1 : pa a 1 = b := by unfold pa; rw [hp]; rfl
    have gin : ∀ r, subT r (sbT (putg (mk 1 (2 * f + 1) [])) 0 (pa a 1)) → isTm r → subT r g := fun r hr tr => by
      rw [eg]
      exact sub_notT_tm oput fput hr tr
    refine ⟨g :: Y, ?_, fun z hz => ?_, fun s p hs q1 q2 q3 => ?_⟩
    · have e3 : M * (B - 1 - 2) + M = M * (B - 2) := by
        rw [show B - 2 = B - 1 - 2 + 1 by omega, Nat.mul_add, Nat.mul_one]
      have hn : nq g ≤ nq (sbT (putg (mk 1 (2 * f + 1) [])) 0 (pa a 1)) := nq_le (fun q => isQ_nt oput (by rw [← eg]; exact q))
      have h2 : (M + 2) * (Y.length + 1 + nq g) ≤ (M + 2) * (Y.length + nq (sbT (putg (mk 1 (2 * f + 1) [])) 0 (pa a 1))) + (M + 2) := by
        have := Nat.mul_le_mul_left (M + 2) (show Y.length + 1 + nq g ≤ (Y.length + nq (sbT (putg (mk 1 (2 * f + 1) [])) 0 (pa a 1))) + 1 by omega)
        rw [Nat.mul_add (M + 2) _ 1, Nat.mul_one] at this
        exact this
      rw [List.length_cons]
      omega
    · rw [eg] at hz
      rcases sub_ntX oput hz with q | q
      · exact Or.inr (Or.inl (by rw [q, ← eg]; exact List.mem_cons_self))
      · rcases y2 z q with w | w | w | ⟨r, r1, r2, r3, r4⟩
        · rw [e1] at w; exact Or.inl (sub_c ma (sub_c mb w))
        · exact Or.inr (Or.inr (Or.inr (Or.inl ⟨sub_const w, k16, by rw [ea]; exact k18⟩)))
        · exact Or.inr (Or.inl (List.mem_cons_of_mem _ w))
        · exact Or.inr (Or.inr (Or.inr (Or.inr ⟨r, gin r r1 r2, r2, r3, r4⟩)))
    · rw [eg] at hs
      exact (y3 s p (subN_not oput hs q1) q1 q2 q3).imp (List.mem_cons_of_mem _) Or.inl
end COV
section CVT
variable {W : Wd} {A K0 : Nat → Prop} {M B : Nat} {Sh : List Nat}
def CvQ (W : Wd) (A K0 : Nat → Prop) (M B : Nat) (Sh : List Nat) (r : Nat) (Y G Gb : List Nat) : Prop := (G.Nodup ∧ (∀ g ∈ G, (stg W A K0 r).1 g ∧ ¬ K0 g) ∧ ∀ g, (stg W A K0 r).1 g → K0 g ∨ g ∈ G) ∧ (Gb.Nodup ∧ (∀ g ∈ Gb, g ∈ G) ∧ ∀ g ∈ Gb, BgS W A K0 M B Sh r g) ∧ (M + 2) * Y.length ≤ G.length * CpS M (B - 2) Sh + Gb.length * (2 * M) ∧ (∀ g, (stg W A K0 r).1 g → ∀ z, subT z g → (∃ f, K0 f ∧ subT z f) ∨ z ∈ Y ∨ HzS W A K0 r z) ∧ (∀ q, q ≤ r → ¬ manyS (facS W (stg W A K0 q).1 (stg W A K0 q).2) → ∀ g, (stg W A K0 q).1 g → ∀ s p, subN s g → kd s = 17 → p ∈ ps s → kd p ≠ 16 → notT p ∈ Y ∨ szT p = 1 ∨ ∃ f, K0 f ∧ subN s f) ∧ (∀ q, q ≤ r → ¬ manyS (facS W (stg W A K0 q).1 (stg W A K0 q).2) → ∀ g, (stg W A K0 q).1 g → ¬ K0 g → kd g = 16 → kd (pa g 0) = 18 → mk 1 (2 * g + 1) [] ∈ Y)
theorem CvQ.of (hM : 8 ≤ M) (hB : 7 ≤ B) (hK : ∀ f, K0 f → Rep (AtE M Sh) B f) (hA : ∀ t, A t → clT1 t ∧ ∃ f, K0 f ∧ subT t f) (hlo : ∀ r f, rch W A K0 r → (stg W A K0 r).1 f → loT f = 0) : ∀ r, rch W A K0 r → ∃ Y G Gb, CvQ W A K0 M B Sh r Y G Gb
  | 0, _ => ⟨[], [], [], ⟨List.nodup_nil, (fun g hg => by cases hg), fun g hg => Or.inl hg⟩, ⟨List.nodup_nil, (fun g hg => by cases hg), fun g hg => by cases hg⟩, by simp, fun g hg z hz => Or.inl ⟨g, hg, hz⟩, fun q hq _ g hg s p hs _ _ _ => Or.inr (Or.inr ⟨g, by rw [show q = 0 by omega] at hg; exact hg, hs⟩), fun q hq _ g hg h0 => absurd (by rw [show q = 0 by omega] at hg; exact hg) h0⟩
  | r + 1, hr => by
    have hr0 := rch_le hr (by omega : r ≤ r + 1)
    obtain ⟨Y, G, Gb, ⟨g1, g2, g3⟩, ⟨b1, b2, b3⟩, c1, c2, c3, c4⟩ := CvQ.of hM hB hK hA hlo r hr0
    have hnm : ¬ manyS (facS W (stg W A K0 r).1 (stg W A K0 r).2) := (hr r (by omega)).1
    have hTc : ∀ t, Tof A (stg W A K0 r).2 t → clT1 t := fun t ht => by
      rcases ht with w | ⟨f, _, w⟩
      · exact (hA t w).1
      · rw [w]; exact clT1_const _
    have hRep := stg_rep2 (P := AtE M Sh) (fun s h => AtE_hi h) (B := B) (W := W) (A := A) hK (fun t ht => (hA t ht).1)
    have hRok : ∀ r f, (stg W A K0 r).1 f → okT f := fun r f h => (stg_rep (P := AtE M Sh) (fun s h => AtE_hi h) (B := B) (W := W) (A := A) hK (fun t ht => (hA t ht).1) r f h).ok.1
    obtain ⟨L, l1, l2, _⟩ := enum_of (rch_400 hr)
    let N := L.filter (fun g => !(@decide ((stg W A K0 r).1 g) (Classical.propDecidable _)))
    have hN : ∀ g, g ∈ N ↔ (stg W A K0 (r + 1)).1 g ∧ ¬ (stg W A K0 r).1 g := fun g => by
      rw [List.mem_filter, l2 g]
      simp
    have Nn : N.Nodup := l1.filter _
    -- what each of them brings
    have each : ∀ (B' : Nat) (g : Nat), 5 ≤ B' → g ∈ N → (∃ f, (stg W A K0 r).1 f ∧ cmF (facS W (stg W A K0 r).1 (stg W A K0 r).2) (stg W A K0 r).1 (Tof A (stg W A K0 r).2) (stg W A K0 r).2 f g ∧ (isQ f → Rep (AtE M Sh) B' f)) → ∃ Yg : List Nat, (M + 2) * Yg.length ≤ CpS M B' Sh ∧ ((∀ z, subT z g → (∃ f, K0 f ∧ subT z f) ∨ z ∈ Y ∨ z ∈ Yg ∨ HzS W A K0 (r + 1) z) ∧ (¬ manyS (facS W (stg W A K0 (r + 1)).1 (stg W A K0 (r + 1)).2) → ∀ s p, subN s g → kd s = 17 → p ∈ ps s → kd p ≠ 16 → notT p ∈ Yg ∨ notT p ∈ Y ∨ szT p = 1 ∨ ∃ f, K0 f ∧ subN s f) ∧ (¬ manyS (facS W (stg W A K0 (r + 1)).1 (stg W A K0 (r + 1)).2) → kd g = 16 → kd (pa g 0) = 18 → mk 1 (2 * g + 1) [] ∈ Yg)) := fun B' g hB' hg ⟨f, hf, hcm, hRf⟩ => by
      obtain ⟨hg1, hg2⟩ := (hN g).mp hg
      have fin : ∀ z, subT z f → (∃ f, K0 f ∧ subT z f) ∨ z ∈ Y ∨ HzS W A K0 (r + 1) z := fun z hz => (c2 f hf z hz).imp id (fun q => q.imp id HzS.up)
      have tin : ∀ z t, Tof A (stg W A K0 r).2 t → subT z t → (∃ f, K0 f ∧ subT z f) ∨ HzS W A K0 (r + 1) z := fun z t ht hz => by
        rcases ht with w | ⟨f', w1, w2⟩
        · obtain ⟨_, f', a, b⟩ := hA t w
          exact Or.inl ⟨f', a, sub_tr f' hz b⟩
        · rw [w2] at hz
          obtain ⟨q, q1, q2⟩ := stg_O w1
          exact Or.inr (Or.inr ⟨q, f', by omega, q2.1, q2.2.1, q2.2.2, sub_const hz⟩)
      have con : ∀ z, z = mk 1 (2 * f + 1) [] → kd f = 16 ∧ kd (pa f 0) = 18 → HzS W A K0 (r + 1) z := fun z hz hk => Or.inr ⟨r, f, by omega, hf, hk.1, hk.2, hz⟩
      by_cases hm : manyS (facS W (stg W A K0 (r + 1)).1 (stg W A K0 (r + 1)).2)
      · obtain ⟨Yg, y1, y2⟩ := com_cov hM (by omega) (hRok r f hf) hRf hTc hcm
        refine ⟨Yg, y1, fun z hz => ?_, fun q => absurd hm q, fun q => absurd hm q⟩
        rcases y2 z hz with q | q | ⟨t, t1, t2⟩ | ⟨q, qk⟩
        · exact (fin z q).imp id (fun w => w.imp id Or.inr)
        · exact Or.inr (Or.inr (Or.inl q))
        · exact (tin z t t1 t2).imp id (fun w => Or.inr (Or.inr w))
        · exact Or.inr (Or.inr (Or.inr (con z q qk)))
      · obtain ⟨Y0, y1, y2, y3⟩ := com_covNq hM hB' (hRok r f hf) hRf hTc (hlo (r + 1) g hr hg1) hcm
        have hY : ∃ Yg : List Nat, Yg.length ≤ Y0.length + nq g ∧ (∀ z ∈ Y0, z ∈ Yg) ∧ (kd g = 16 → kd (pa g 0) = 18 → mk 1 (2 * g + 1) [] ∈ Yg) := by
          by_cases hq : isQ g
          · exact ⟨mk 1 (2 * g + 1) [] :: Y0, by rw [nq_t hq, List.length_cons]; exact Nat.le_refl _, fun z h => List.mem_cons_of_mem _ h, fun _ _ => List.mem_cons_self⟩
          · exact ⟨Y0, Nat.le_add_right _ _, fun _ h => h, fun a b => absurd (Or.inr ⟨a, b⟩) hq⟩
        obtain ⟨Yg, yl, yi, yc⟩ := hY
        have y1' : (M + 2) * Yg.length ≤ CpS M B' Sh := Nat.le_trans (Nat.mul_le_mul_left _ yl) y1
        refine ⟨Yg, y1', fun z hz => ?_, fun _ s p hs q1 q2 q3 => ?_, fun _ => yc⟩
        · rcases y2 z hz with q | q | ⟨t, t1, t2⟩ | ⟨q, qk⟩ | ⟨r', r1, r2, r3, r4⟩
          · exact (fin z q).imp id (fun w => w.imp id Or.inr)
          · exact Or.inr (Or.inr (Or.inl (yi z q)))
          · exact (tin z t t1 t2).imp id (fun w => Or.inr (Or.inr w))
          · exact Or.inr (Or.inr (Or.inr (con z q qk)))
          · exact Or.inr (Or.inr (Or.inr (Or.inl ⟨r + 1, r', Nat.le_refl _, hm, (Der_clo W _ _).1.1 g hg1 r' r1 r2 r3, r4⟩)))
        · rcases y3 s p hs q1 q2 q3 with q | q | q
          · exact Or.inl (yi _ q)
          · exact Or.inr (Or.inr (Or.inl q))
          · rcases c3 r (Nat.le_refl _) hnm f hf s p q q1 q2 q3 with w | w | w
            · exact Or.inr (Or.inl w)
            · exact Or.inr (Or.inr (Or.inl w))
            · exact Or.inr (Or.inr (Or.inr w))
    -- those that come of what is small
    let Sm : Nat → Prop := fun g => ∃ f, (stg W A K0 r).1 f ∧ cmF (facS W (stg W A K0 r).1 (stg W A K0 r).2) (stg W A K0 r).1 (Tof A (stg W A K0 r).2) (stg W A K0 r).2 f g ∧ (isQ f → Rep (AtE M Sh) (B - 2) f)
    let N1 := N.filter (fun g => @decide (Sm g) (Classical.propDecidable _))
    let N2 := N.filter (fun g => !(@decide (Sm g) (Classical.propDecidable _)))
    have hN1 : ∀ g, g ∈ N1 ↔ g ∈ N ∧ Sm g := fun g => by rw [List.mem_filter]; simp
    have hN2 : ∀ g, g ∈ N2 ↔ g ∈ N ∧ ¬ Sm g := fun g => by rw [List.mem_filter]; simp
    have N2n : N2.Nodup := Nn.filter _
    have lenN : N1.length + N2.length = N.length := by
      have := (sum_split (f := fun _ => 0) (p := fun g => @decide (Sm g) (Classical.propDecidable _)) N).2
      exact this.symm
    have big : ∀ g ∈ N2, ∃ f, K0 f ∧ (isQ f ∧ ¬ Rep (AtE M Sh) (B - 2) f) ∧ cmF (facS W (stg W A K0 r).1 (stg W A K0 r).2) (stg W A K0 r).1 (Tof A (stg W A K0 r).2) (stg W A K0 r).2 f g := fun g hg => by
      obtain ⟨h1, h2⟩ := (hN2 g).mp hg
      obtain ⟨hg1, hg2⟩ := (hN g).mp h1
      obtain ⟨f, hf, hcm⟩ : comS W A (stg W A K0 r).1 (stg W A K0 r).2 g := hg1.resolve_left hg2
      rcases hRep r f hf with w | w
      · refine ⟨f, w, ?_, hcm⟩
        by_cases q : isQ f
        · exact ⟨q, fun q' => h2 ⟨f, hf, hcm, fun _ => q'⟩⟩
        · exact absurd ⟨f, hf, hcm, fun q' => absurd q' q⟩ h2
      · exact absurd ⟨f, hf, hcm, fun _ => w⟩ h2
    obtain ⟨Z1, z11, z12⟩ := list_cov N1 (fun g hg => each (B - 2) g (by omega) ((hN1 g).mp hg).1 ((hN1 g).mp hg).2)
    obtain ⟨Z2, z21, z22⟩ := list_cov N2 (fun g hg => by
      obtain ⟨f, w1, w2, w3⟩ := big g hg
      exact each B g (by omega) ((hN2 g).mp hg).1 ⟨f, stg_0 w1, w3, fun _ => hK f w1⟩)
    have eCp : CpS M B Sh = CpS M (B - 2) Sh + 2 * M := by
      unfold CpS
      have : M * (B - 2) = M * (B - 2 - 2) + 2 * M := by
        rw [show B - 2 = B - 2 - 2 + 2 by omega, Nat.mul_add]
        simp
        omega
      omega
    have z2 : ∀ g ∈ N, ∃ Yg, ((∀ z, subT z g → (∃ f, K0 f ∧ subT z f) ∨ z ∈ Y ∨ z ∈ Yg ∨ HzS W A K0 (r + 1) z) ∧ (¬ manyS (facS W (stg W A K0 (r + 1)).1 (stg W A K0 (r + 1)).2) → ∀ s p, subN s g → kd s = 17 → p ∈ ps s → kd p ≠ 16 → notT p ∈ Yg ∨ notT p ∈ Y ∨ szT p = 1 ∨ ∃ f, K0 f ∧ subN s f) ∧ (¬ manyS (facS W (stg W A K0 (r + 1)).1 (stg W A K0 (r + 1)).2) → kd g = 16 → kd (pa g 0) = 18 → mk 1 (2 * g + 1) [] ∈ Yg)) ∧ ∀ z ∈ Yg, z ∈ Z1 ++ Z2 := fun g hg => by
      by_cases q : Sm g
      · obtain ⟨Yg, a1, a2⟩ := z12 g ((hN1 g).mpr ⟨hg, q⟩)
        exact ⟨Yg, a1, fun z hz => List.mem_append_left _ (a2 z hz)⟩
      · obtain ⟨Yg, a1, a2⟩ := z22 g ((hN2 g).mpr ⟨hg, q⟩)
        exact ⟨Yg, a1, fun z hz => List.mem_append_right _ (a2 z hz)⟩
    refine ⟨Y ++ (Z1 ++ Z2), G ++ N, Gb ++ N2, ⟨List.nodup_append.mpr ⟨g1, Nn, fun x hx y hy e => ((hN y).mp hy).2 (by rw [← e]; exact (g2 x hx).1)⟩, fun g hg => ?_, fun g hg => ?_⟩, ⟨List.nodup_append.mpr ⟨b1, N2n, fun x hx y hy e => ((hN y).mp ((hN2 y).mp hy).1).2 (by rw [← e]; exact (g2 x (b2 x hx)).1)⟩, fun g hg => ?_, fun g hg => ?_⟩, ?_, fun g hg z hz => ?_, fun q hq hm g hg s p hs q1 q2 q3 => ?_, fun q hq hm g hg h0 k16 k18 => ?_⟩
    · rcases List.mem_append.mp hg with w | w
      · exact ⟨stg_up (g2 g w).1, (g2 g w).2⟩
      · exact ⟨((hN g).mp w).1, fun q => ((hN g).mp w).2 (stg_0 q)⟩
    · by_cases w : (stg W A K0 r).1 g
      · exact (g3 g w).imp id (List.mem_append_left _)
      · exact Or.inr (List.mem_append_right _ ((hN g).mpr ⟨hg, w⟩))
    · rcases List.mem_append.mp hg with w | w
      · exact List.mem_append_left _ (b2 g w)
      · exact List.mem_append_right _ ((hN2 g).mp w).1
    · rcases List.mem_append.mp hg with w | w
      · obtain ⟨q, f, a1, a2⟩ := b3 g w
        exact ⟨q, f, by omega, a2⟩
      · obtain ⟨f, w1, w2, w3⟩ := big g w
        exact ⟨r, f, by omega, w1, w2, w3⟩
    · rw [List.length_append, List.length_append, List.length_append, List.length_append, Nat.mul_add, Nat.mul_add, Nat.add_mul G.length, Nat.add_mul Gb.length, ← lenN, Nat.add_mul N1.length]
      rw [eCp, Nat.mul_add] at z21
      omega
    · by_cases w : (stg W A K0 r).1 g
      · rcases c2 g w z hz with q | q | q
        · exact Or.inl q
        · exact Or.inr (Or.inl (List.mem_append_left _ q))
        · exact Or.inr (Or.inr q.up)
      · obtain ⟨Yg, ⟨a1, _⟩, a2⟩ := z2 g ((hN g).mpr ⟨hg, w⟩)
        rcases a1 z hz with q | q | q | q
        · exact Or.inl q
        · exact Or.inr (Or.inl (List.mem_append_left _ q))
        · exact Or.inr (Or.inl (List.mem_append_right _ (a2 z q)))
        · exact Or.inr (Or.inr q)
    · by_cases hqr : q ≤ r
      · rcases c3 q hqr hm g hg s p hs q1 q2 q3 with w | w
        · exact Or.inl (List.mem_append_left _ w)
        · exact Or.inr w
      rw [show q = r + 1 by omega] at hm hg
      by_cases w : (stg W A K0 r).1 g
      · rcases c3 r (Nat.le_refl _) hnm g w s p hs q1 q2 q3 with q | q
        · exact Or.inl (List.mem_append_left _ q)
        · exact Or.inr q
      · obtain ⟨Yg, ⟨_, a1, _⟩, a2⟩ := z2 g ((hN g).mpr ⟨hg, w⟩)
        rcases a1 hm s p hs q1 q2 q3 with q | q | q
        · exact Or.inl (List.mem_append_right _ (a2 _ q))
        · exact Or.inl (List.mem_append_left _ q)
        · exact Or.inr q
    · by_cases hqr : q ≤ r
      · exact List.mem_append_left _ (c4 q hqr hm g hg h0 k16 k18)
      rw [show q = r + 1 by omega] at hm hg
      by_cases w : (stg W A K0 r).1 g
      · exact List.mem_append_left _ (c4 r (Nat.le_refl _) hnm g w h0 k16 k18)
      · obtain ⟨Yg, ⟨_, _, a1⟩, a2⟩ := z2 g ((hN g).mpr ⟨hg, w⟩)
        exact List.mem_append_right _ (a2 _ (a1 hm k16 k18))
end CVT
