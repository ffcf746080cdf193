/-! what is known in a case: a part of a kept formula, with closed terms for the binders around -/
theorem put_gv {t : Nat} {E : Nat → Nat} (hE : clE1 E) : ∀ (b : Nat), okT b → ∀ d, sbT (putg t) d (sbT (gv E) (d + 1) b) = nwT t E d b := by
  intro b
  induction b using Nat.strongRecOn with
  | ind b ih =>
    intro ho d
    unfold nwT
    by_cases hk : kd b ≤ 3
    · rw [sbT_eq (gv E), if_pos hk, sbT_eq (gv (cE t E)), if_pos hk]
      by_cases h2 : kd b = 2 ∧ d + 1 ≤ wh b
      · have e1 : gv E (d + 1) b = E (wh b - (d + 1)) := by unfold gv; rw [if_pos h2]
        have e2 : gv (cE t E) d b = E (wh b - (d + 1)) := by rw [gv_c (fun q => by have := h2.2; omega), e1]
        rw [e1, e2]
        exact sb_id _ (hE _).1 d (by rw [(hE _).2.2]; exact Nat.zero_le _)
      · have e1 : gv E (d + 1) b = b := by unfold gv; rw [if_neg h2]
        rw [e1, sbT_eq, if_pos hk]
        by_cases h3 : kd b = 2 ∧ wh b = d
        · rw [gv_t h3]
          unfold putg
          rw [if_pos h3]
        · rw [gv_c h3, e1]
          unfold putg
          rw [if_neg h3]
    · obtain ⟨k1, k2, k3⟩ := sb_kd (g := gv E) (d := d + 1) hk
      rw [sbT_eq, if_neg (by omega), sbT_eq (gv (cE t E)), if_neg hk, k1, k2, k3]
      congr 1
      have hz : ∀ c ∈ ps b, (kd b = 8 → c ∈ (ps b).take 1) → ∀ d', zf (sbT (putg t) d') (zf (sbT (gv E) (d' + 1)) c) = zf (sbT (gv (cE t E)) d') c := fun c hc h8 d' => by
        by_cases c0 : c = 0
        · rw [c0]; rfl
        · have hf : c ∈ fms b := by
            unfold fms
            refine List.mem_filter.mpr ⟨?_, by simpa using c0⟩
            split
            · rename_i q; exact h8 q
            · exact hc
          have e1 : zf (sbT (gv E) (d' + 1)) c = sbT (gv E) (d' + 1) c := by unfold zf; rw [if_neg c0]
          have e2 : zf (sbT (gv (cE t E)) d') c = sbT (gv (cE t E)) d' c := by unfold zf; rw [if_neg c0]
          rw [e1, e2]
          unfold zf
          rw [if_neg (sb_nz (gv_0 hE) c0)]
          exact ih c (fms_lt hf) (ho.c hf) d'
      unfold chm
      by_cases h8 : kd b = 8
      · rw [if_pos h8, if_pos h8, if_pos h8]
        have e1 : (((ps b).take 1).map (zf (sbT (gv E) (d + 1))) ++ (ps b).drop 1).take 1 = ((ps b).take 1).map (zf (sbT (gv E) (d + 1))) := by
          cases ps b with
          | nil => rfl
          | cons a l => simp
        have e2 : (((ps b).take 1).map (zf (sbT (gv E) (d + 1))) ++ (ps b).drop 1).drop 1 = (ps b).drop 1 := by
          cases ps b with
          | nil => rfl
          | cons a l => simp
        rw [e1, e2, List.map_map]
        congr 1
        exact List.map_congr_left (fun c hc => hz c (List.mem_of_mem_take hc) (fun _ => hc) d)
      · rw [if_neg h8, if_neg h8, if_neg h8]
        by_cases h18 : kd b = 18
        · rw [if_pos h18, if_pos h18, if_pos h18]
          have e1 : (((ps b).take 1).map (zf (sbT (gv E) (d + 1))) ++ ((ps b).drop 1).map (zf (sbT (gv E) (d + 1 + 1)))).take 1 = ((ps b).take 1).map (zf (sbT (gv E) (d + 1))) := by
            cases ps b with
            | nil => rfl
            | cons a l => simp
          have e2 : (((ps b).take 1).map (zf (sbT (gv E) (d + 1))) ++ ((ps b).drop 1).map (zf (sbT (gv E) (d + 1 + 1)))).drop 1 = ((ps b).drop 1).map (zf (sbT (gv E) (d + 1 + 1))) := by
            cases ps b with
            | nil => rfl
            | cons a l => simp
          rw [e1, e2, List.map_map, List.map_map]
          congr 1
          · exact List.map_congr_left (fun c hc => hz c (List.mem_of_mem_take hc) (fun q => absurd q h8) d)
          · exact List.map_congr_left (fun c hc => hz c (List.mem_of_mem_drop hc) (fun q => absurd q h8) (d + 1))
        · rw [if_neg h18, if_neg h18, if_neg h18, List.map_map]
          exact List.map_congr_left (fun c hc => hz c hc (fun q => absurd q h8) d)
theorem sb_notT {g : Nat → Nat → Nat} {d f : Nat} (hg : gOn g f) (ho : okT f) (hf : isFo f) : sbT g d (notT f) = notT (sbT g d f) := by
  have hk : ¬ kd f ≤ 3 := by unfold isFo at hf; omega
  have k1 := (sb_kd (g := g) (d := d) hk).1
  unfold notT
  by_cases h16 : kd f = 16
  · obtain ⟨q, e, fq, _, _⟩ := ps_not1 ho h16
    rw [if_pos h16, if_pos (by omega), ps_map (Or.inl h16) (fun c hc => by rw [e, List.mem_singleton] at hc; rw [hc]; exact isFo_pos fq), e]
    rfl
  · rw [if_neg h16, if_neg (by omega), sbT_eq, if_neg (by rw [kd_mk]; decide), kd_mk, wh_mk, ps_mk]
    unfold chm
    rw [if_neg (by decide), if_neg (by decide)]
    show mk 16 0 [zf (sbT g d) f] = _
    unfold zf
    rw [if_neg (isFo_pos hf)]
/-- a part of a kept formula, closed by terms -/
def Rep (P : Nat → Prop) (B f : Nat) : Prop := ∃ F E, (okT F ∧ isFo F ∧ szT F ≤ B ∧ Alls P F) ∧ clE1 E ∧ f = sbT (gv E) 0 F
theorem Rep.and {P : Nat → Prop} {B f g : Nat} (h : Rep P B f) (h17 : kd f = 17) (hg : g ∈ ps f) : Rep P B g := by
  obtain ⟨F, E, ⟨ho, hf, hz, hA⟩, hE, e⟩ := h
  have hk : ¬ kd F ≤ 3 := by unfold isFo at hf; omega
  have k1 := (sb_kd (g := gv E) (d := 0) hk).1
  have kF : kd F = 17 := by rw [e, k1] at h17; exact h17
  have hl : ∀ p ∈ ps F, isFo p := by
    rcases ho.n.2 with q | q | q | q | q | q | q | q | q | q | q | q | q | q <;> first | omega | exact fun p hp => (q.2.2.2 p hp).1
  rw [e, ps_map (Or.inr kF) (fun c hc => isFo_pos (hl c hc))] at hg
  obtain ⟨p, hp, e1⟩ := List.mem_map.mp hg
  have mf : p ∈ fms F := fms_mem hp (by omega) (isFo_pos (hl p hp))
  have := sz_fms (okT_0 ho)
  have h2 := le_sum_mem (f := szT) mf
  exact ⟨p, E, ⟨ho.c mf, hl p hp, by omega, hA.sub (sub_c mf (sub_rf p))⟩, hE, e1.symm⟩
theorem Rep.not {P : Nat → Prop} (hP : ∀ s, 15 ≤ kd s → P s) {B f : Nat} (h : Rep P B f) : Rep P (B + 1) (notT f) := by
  obtain ⟨F, E, ⟨ho, hf, hz, hA⟩, hE, e⟩ := h
  refine ⟨notT F, E, ⟨(okT_not ho hf).1, (okT_not ho hf).2, ?_, Alls.not hP ho hA⟩, hE, ?_⟩
  · have := szT_not ho
    omega
  · rw [sb_notT (gOn_gv hE ho) ho hf, ← e]
/-- an instance, and what is new in it -/
theorem Rep.all {n N M cA cP : Nat} {Sh : List Nat} {χ : Prop} {B f t : Nat} (hM : MOK M n N) (hcr : CrK χ cA cP) (h : Rep (AtP n N Sh) B f) (h18 : kd f = 18) (ht : clT1 t) : Rep (AtP n N Sh) (B - 2) (sbT (putg t) 0 (pa f 1)) ∧ ∃ Y : List Nat, (M + 2) * Y.length ≤ M * (B - 2) + 16 * nZs Sh + 2 * nXs Sh ∧ (∀ s, subT s (sbT (putg t) 0 (pa f 1)) → subT s (pa f 1) ∨ subT s t ∨ s ∈ Y ∨ (χ ∧ ∃ r, subT r (sbT (putg t) 0 (pa f 1)) ∧ isTm r ∧ loT r = 0 ∧ subT s r)) ∧ (χ → ∀ s p, subT s (sbT (putg t) 0 (pa f 1)) → kd s = 17 → p ∈ ps s → loT p = 0 → kd p ≠ 16 → (∃ s', subT s' (pa f 1) ∧ kd s' = 17 ∧ p ∈ ps s') ∨ notT p ∈ Y) := by
  obtain ⟨F, E, ⟨ho, hf, hz, hA⟩, hE, e⟩ := h
  have hk : ¬ kd F ≤ 3 := by unfold isFo at hf; omega
  have k1 := (sb_kd (g := gv E) (d := 0) hk).1
  have kF : kd F = 18 := by rw [e, k1] at h18; exact h18
  obtain ⟨y, b, hp, y8, fb, my, mb⟩ := ps_all1 ho kF
  have ob := ho.c mb
  have e1 : pa f 1 = odT E 0 b := by
    have := (fms_all (d := 0) (gv_0 hE) kF hp (okT_0 (ho.c my)) (okT_0 ob)).2
    unfold pa
    rw [e, this]
    rfl
  have e2 : sbT (putg t) 0 (pa f 1) = nwT t E 0 b := by rw [e1]; exact put_gv hE b ob 0
  have hs : 2 + szT b ≤ szT F := by
    rw [sz_pl (okT_0 ho) (by omega), hp]
    have := sz_fms (okT_0 (ho.c my))
    simp
    omega
  have Ab := hA.sub (sub_c mb (sub_rf b))
  obtain ⟨Y, y1, y2⟩ := ev_cnt (χ := χ) ht hE hM hcr ob fb Ab 0
  refine ⟨⟨b, cE t E, ⟨ob, fb, by omega, Ab⟩, clE1.c ht hE, e2⟩, Y, ?_, ?_⟩
  · have : M * szT b ≤ M * (B - 2) := Nat.mul_le_mul_left M (by omega)
    omega
  · rw [e2, e1]
    exact y2
