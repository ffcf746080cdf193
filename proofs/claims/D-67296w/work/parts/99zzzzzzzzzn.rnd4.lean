/-! rounds: but for the premises themselves what is known is smaller by two -/
theorem two_sum {l : List Nat} {f : Nat → Nat} (h : ∀ c ∈ l, 1 ≤ f c) (hl : 2 ≤ l.length) {p : Nat} (hp : p ∈ l) : f p + 1 ≤ (l.map f).sum := by
  obtain ⟨a, b, e⟩ := List.append_of_mem hp
  have hc : ∀ (l : List Nat), (∀ c ∈ l, 1 ≤ f c) → l.length ≤ (l.map f).sum := fun l => by
    induction l with
    | nil => exact fun _ => Nat.le_refl _
    | cons a l ih =>
      intro h
      have := h a List.mem_cons_self
      have := ih (fun c hc => h c (List.mem_cons_of_mem _ hc))
      simp only [List.map_cons, List.sum_cons, List.length_cons]
      omega
  have ha := hc a (fun c q => h c (by rw [e]; exact List.mem_append_left _ q))
  have hb := hc b (fun c q => h c (by rw [e]; exact List.mem_append_right _ (List.mem_cons_of_mem _ q)))
  rw [e] at hl ⊢
  simp only [List.map_append, List.sum_append, List.map_cons, List.sum_cons, List.length_append, List.length_cons] at hl ⊢
  omega
theorem Rep.com2 {P : Nat → Prop} (hP : ∀ s, 15 ≤ kd s → P s) {B f g : Nat} {F : Fs} {K T O : Nat → Prop} (h : Rep P B f) (hT : ∀ t, T t → clT1 t) (hc : cmF F K T O f g) : Rep P (B - 2) g := by
  obtain ⟨F0, E, ⟨ho, hf, hz, hA⟩, hE, e⟩ := h
  have hk : ¬ kd F0 ≤ 3 := by unfold isFo at hf; omega
  have k1 := (sb_kd (g := gv E) (d := 0) hk).1
  have hR : Rep P (szT F0) f := ⟨F0, E, ⟨ho, hf, Nat.le_refl _, hA⟩, hE, e⟩
  have up : ∀ {b x : Nat}, Rep P b x → b ≤ B - 2 → Rep P (B - 2) x := fun {b x} ⟨F1, E1, ⟨a1, a2, a3, a4⟩, a5, a6⟩ hb => ⟨F1, E1, ⟨a1, a2, by omega, a4⟩, a5, a6⟩
  have sz1 : ∀ {x : Nat}, okT x → 1 ≤ szT x := fun {x} ox => by have := sz_fms (okT_0 ox); omega
  rcases hc with ⟨k17, hg⟩ | ⟨k18, t, ht, _, _, eg⟩ | ⟨k16, k17, p, hp, eg⟩ | ⟨k16, k18, _, eg⟩
  · -- a part of an AND
    have kF : kd F0 = 17 := by rw [e, k1] at k17; exact k17
    have hl : 2 ≤ (ps F0).length ∧ ∀ f ∈ ps F0, isFo f := by
      rcases ho.n.2 with q | q | q | q | q | q | q | q | q | q | q | q | q | q <;> first | omega | exact ⟨q.2.2.1, fun p hp => (q.2.2.2 p hp).1⟩
    have mf : ∀ p ∈ ps F0, p ∈ fms F0 := fun p hp => fms_mem hp (by omega) (isFo_pos (hl.2 p hp))
    have pS : ps f = (ps F0).map (sbT (gv E) 0) := by rw [e]; exact ps_map (Or.inr kF) (fun c hc => isFo_pos (hl.2 c hc))
    rw [pS] at hg
    obtain ⟨p, hp, e2⟩ := List.mem_map.mp hg
    have s1 : szT p + 2 ≤ szT F0 := by
      rw [sz_pl (okT_0 ho) (by omega)]
      have := two_sum (f := szT) (l := ps F0) (fun c hc => sz1 (ho.c (mf c hc))) hl.1 hp
      omega
    exact ⟨p, E, ⟨ho.c (mf p hp), hl.2 p hp, by omega, hA.sub (sub_c (mf p hp) (sub_rf p))⟩, hE, e2.symm⟩
  · have kF : kd F0 = 18 := by rw [e, k1] at k18; exact k18
    obtain ⟨y, b, hp, y8, fb, my, mb⟩ := ps_all1 ho kF
    have ob := ho.c mb
    have e1 : pa f 1 = odT E 0 b := by
      have := (fms_all (d := 0) (gv_0 hE) kF hp (okT_0 (ho.c my)) (okT_0 ob)).2
      unfold pa
      rw [e, this]
      rfl
    have hs : szT F0 = 1 + (szT y + szT b) := by rw [sz_pl (okT_0 ho) (by omega), hp]; simp
    have sy := sz1 (ho.c my)
    exact ⟨b, cE t E, ⟨ob, fb, by omega, hA.sub (sub_c mb (sub_rf b))⟩, clE1.c (hT t ht) hE, by rw [eg, e1]; exact put_gv hE b ob 0⟩
  · have kF : kd F0 = 16 := by rw [e, k1] at k16; exact k16
    obtain ⟨a, hpa, fa, ka, ma⟩ := ps_not1 ho kF
    have oa := ho.c ma
    have ka0 : ¬ kd a ≤ 3 := by unfold isFo at fa; omega
    have pS : ps (sbT (gv E) 0 F0) = [sbT (gv E) 0 a] := by
      rw [ps_map (Or.inl kF) (fun c hc => by rw [hpa, List.mem_singleton] at hc; rw [hc]; exact isFo_pos fa), hpa]; rfl
    have ea : pa f 0 = sbT (gv E) 0 a := by unfold pa; rw [e, pS]; rfl
    have kA : kd a = 17 := by rw [ea, (sb_kd (g := gv E) (d := 0) ka0).1] at k17; exact k17
    have hl : 2 ≤ (ps a).length ∧ ∀ f ∈ ps a, isFo f := by
      rcases oa.n.2 with q | q | q | q | q | q | q | q | q | q | q | q | q | q <;> first | omega | exact ⟨q.2.2.1, fun p hp => (q.2.2.2 p hp).1⟩
    have mf : ∀ p ∈ ps a, p ∈ fms a := fun p hp => fms_mem hp (by omega) (isFo_pos (hl.2 p hp))
    have hpm := oL_mem hp
    rw [ea, ps_map (Or.inr kA) (fun c hc => isFo_pos (hl.2 c hc))] at hpm
    obtain ⟨p', hp', e2⟩ := List.mem_map.mp hpm
    have op := oa.c (mf p' hp')
    have s1 : szT p' + 2 ≤ szT a := by
      rw [sz_pl (okT_0 oa) (by omega)]
      have := two_sum (f := szT) (l := ps a) (fun c hc => sz1 (oa.c (mf c hc))) hl.1 hp'
      omega
    have s2 : szT F0 = 1 + szT a := by rw [sz_pl (okT_0 ho) (by omega), hpa]; simp
    have s3 := sz_not_le op
    refine ⟨notT p', E, ⟨(okT_not op (hl.2 p' hp')).1, (okT_not op (hl.2 p' hp')).2, by omega, Alls.not hP op (hA.sub (sub_c ma (sub_c (mf p' hp') (sub_rf p'))))⟩, hE, ?_⟩
    rw [eg, ← e2, sb_notT (gOn_gv hE op) op (hl.2 p' hp')]
  · have h1 := (hR.nall hP k16 k18 (clT1_const (2 * f + 1)))
    have kF : kd F0 = 16 := by rw [e, k1] at k16; exact k16
    obtain ⟨a, hpa, fa, ka, ma⟩ := ps_not1 ho kF
    have oa := ho.c ma
    have ka0 : ¬ kd a ≤ 3 := by unfold isFo at fa; omega
    have pS : ps (sbT (gv E) 0 F0) = [sbT (gv E) 0 a] := by
      rw [ps_map (Or.inl kF) (fun c hc => by rw [hpa, List.mem_singleton] at hc; rw [hc]; exact isFo_pos fa), hpa]; rfl
    have ea : pa f 0 = sbT (gv E) 0 a := by unfold pa; rw [e, pS]; rfl
    have kA : kd a = 18 := by rw [ea, (sb_kd (g := gv E) (d := 0) ka0).1] at k18; exact k18
    obtain ⟨y, b, hp, y8, fb, my, mb⟩ := ps_all1 oa kA
    have ob := oa.c mb
    have e1 : pa (pa f 0) 1 = odT E 0 b := by
      have := (fms_all (d := 0) (gv_0 hE) kA hp (okT_0 (oa.c my)) (okT_0 ob)).2
      rw [ea]
      unfold pa
      rw [this]
      rfl
    have hs : szT a = 1 + (szT y + szT b) := by rw [sz_pl (okT_0 oa) (by omega), hp]; simp
    have s2 : szT F0 = 1 + szT a := by rw [sz_pl (okT_0 ho) (by omega), hpa]; simp
    have sy := sz1 (oa.c my)
    have s3 := sz_not_le ob
    have ht := clT1_const (2 * f + 1)
    refine ⟨notT b, cE (mk 1 (2 * f + 1) []) E, ⟨(okT_not ob fb).1, (okT_not ob fb).2, by omega, Alls.not hP ob (hA.sub (sub_c ma (sub_c mb (sub_rf b))))⟩, clE1.c ht hE, ?_⟩
    have e3 : sbT (putg (mk 1 (2 * f + 1) [])) 0 (odT E 0 b) = nwT (mk 1 (2 * f + 1) []) E 0 b := put_gv hE b ob 0
    rw [eg, e1, e3, sb_notT (gOn_gv (clE1.c ht hE) ob) ob fb]
    rfl
theorem stg_rep2 {P : Nat → Prop} (hP : ∀ s, 15 ≤ kd s → P s) {B : Nat} {W : Wd} {A K0 : Nat → Prop} (hK : ∀ f, K0 f → Rep P B f) (hA : ∀ t, A t → clT1 t) : ∀ (r f : Nat), (stg W A K0 r).1 f → K0 f ∨ Rep P (B - 2) f
  | 0, f, h => Or.inl h
  | r + 1, f, h => by
    rcases h with q | ⟨f0, q1, q2⟩
    · exact stg_rep2 hP hK hA r f q
    · have hT : ∀ t, Tof A (stg W A K0 r).2 t → clT1 t := fun t ht => by
        rcases ht with w | ⟨_, _, w⟩
        · exact hA t w
        · rw [w]; exact clT1_const _
      right
      rcases stg_rep2 hP hK hA r f0 q1 with w | w
      · exact Rep.com2 hP (hK f0 w) hT q2
      · obtain ⟨F1, E1, ⟨a1, a2, a3, a4⟩, a5, a6⟩ := Rep.com2 hP w hT q2
        exact ⟨F1, E1, ⟨a1, a2, by omega, a4⟩, a5, a6⟩
