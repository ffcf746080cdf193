/-! parts of kept formulas, with the number of their long units -/
/-- one less deep -/
def upr (z : Nat) : Nat := mk (kd z - 1) 0 (ps z)
theorem cd_hs {M : Nat} : ∀ (t : Nat), okT t → (kd t = 8 ∨ isFo t) → ∀ e v, v ∈ cdT M t e → ∃ z ∈ cdT M t (e + 1), v = upr z := by
  intro t
  induction t using Nat.strongRecOn with
  | ind t ih =>
    intro ho hf e z hz
    by_cases k14 : kd t ≤ 14
    · obtain ⟨q1, q2⟩ := (cd_lo k14).mp hz
      refine ⟨mk (e + 1) 0 [t], (cd_lo k14).mpr ⟨q1, rfl⟩, ?_⟩
      unfold upr
      rw [q2, kd_mk, ps_mk]
      rfl
    by_cases k18 : kd t = 18
    · obtain ⟨y, f, hp, y8, ff, my, mf⟩ := ps_all1 ho k18
      rcases (cd_all k18 hp).mp hz with q | q
      · obtain ⟨v, v1, v2⟩ := ih y (fms_lt my) (ho.c my) (Or.inl y8) e z q
        exact ⟨v, (cd_all k18 hp).mpr (Or.inl v1), v2⟩
      · obtain ⟨v, v1, v2⟩ := ih f (fms_lt mf) (ho.c mf) (Or.inr ff) (e + 1) z q
        exact ⟨v, (cd_all k18 hp).mpr (Or.inr v1), v2⟩
    · have hk67 : kd t = 16 ∨ kd t = 17 := by unfold isFo at hf; omega
      obtain ⟨p, hp, q⟩ := (cd_pl hk67).mp hz
      have fp : isFo p := by
        rcases ho.n.2 with q | q | q | q | q | q | q | q | q | q | q | q | q | q <;> first | omega | skip
        · obtain ⟨_, _, g, q3, q4, _⟩ := q
          rw [q3, List.mem_singleton] at hp
          rw [hp]; exact q4
        · exact (q.2.2.2 p hp).1
      have mp : p ∈ fms t := fms_mem hp (by omega) (isFo_pos fp)
      obtain ⟨v, v1, v2⟩ := ih p (fms_lt mp) (ho.c mp) (Or.inr fp) e z q
      exact ⟨v, (cd_pl hk67).mpr ⟨p, hp, v1⟩, v2⟩
theorem nLU_c {M F c : Nat} (ho : okT F) (hf : isFo F) (hc : c ∈ fms F) (fc : isFo c) : nLU M c ≤ nLU M F := by
  unfold nLU
  by_cases k14 : kd F ≤ 14
  · have := kd_14 ho.n k14 hc
    unfold isFo at fc
    omega
  by_cases k18 : kd F = 18
  · obtain ⟨y, f, hp, y8, ff, my, mf⟩ := ps_all1 ho k18
    have ec : c = f := by
      have := (fms_ps hc).1
      rw [hp] at this
      rcases List.mem_cons.mp this with q | q
      · rw [q] at fc; unfold isFo at fc; omega
      · exact List.mem_singleton.mp q
    rw [ec]
    have h1 : (ddL (cdT M f 0)).length ≤ ((ddL (cdT M F 0)).map upr).length := dd_sub (fun v hv => by
      obtain ⟨z, z1, z2⟩ := cd_hs f (ho.c mf) (Or.inr ff) 0 v hv
      exact List.mem_map.mpr ⟨z, dd_mem.mpr ((cd_all k18 hp).mpr (Or.inr z1)), z2.symm⟩)
    rwa [List.length_map] at h1
  · have hk67 : kd F = 16 ∨ kd F = 17 := by unfold isFo at hf; omega
    exact dd_sub (fun v hv => dd_mem.mpr ((cd_pl hk67).mpr ⟨c, (fms_ps hc).1, hv⟩))
theorem nLU_not {M f : Nat} (ho : okT f) : nLU M (notT f) ≤ nLU M f := dd_sub (fun _ hv => dd_mem.mpr (cd_not ho hv))
def AlN (M N : Nat) (P : Nat → Prop) (F : Nat) : Prop := Alls P F ∧ nLU M F ≤ N
theorem AlN.c {M N : Nat} {P : Nat → Prop} {F c : Nat} (h : AlN M N P F) (ho : okT F) (hf : isFo F) (hc : c ∈ fms F) (fc : isFo c) : AlN M N P c := ⟨h.1.sub (sub_c hc (sub_rf c)), Nat.le_trans (nLU_c ho hf hc fc) h.2⟩
theorem AlN.not {M N : Nat} {P : Nat → Prop} (hP : ∀ s, 15 ≤ kd s → P s) {f : Nat} (ho : okT f) (h : AlN M N P f) : AlN M N P (notT f) := ⟨Alls.not hP ho h.1, Nat.le_trans (nLU_not ho) h.2⟩
/-- a part of a kept formula, closed by terms -/
def RepU (M N : Nat) (P : Nat → Prop) (B f : Nat) : Prop := ∃ F E, (okT F ∧ isFo F ∧ szT F ≤ B ∧ AlN M N P F) ∧ clE1 E ∧ f = sbT (gv E) 0 F
section REPU
variable {M N : Nat}
theorem RepU.rep {P : Nat → Prop} {B f : Nat} (h : RepU M N P B f) : Rep P B f := by
  obtain ⟨F, E, ⟨ho, hf, hz, hA⟩, hE, e⟩ := h
  exact ⟨F, E, ⟨ho, hf, hz, hA.1⟩, hE, e⟩
theorem RepU.and {P : Nat → Prop} {B f g : Nat} (h : RepU M N P B f) (h17 : kd f = 17) (hg : g ∈ ps f) : RepU M N P B g := by
  obtain ⟨F, E, ⟨ho, hf, hz, hA⟩, hE, e⟩ := h
  have hk : ¬ kd F ≤ 3 := by unfold isFo at hf; omega
  have k1 := (sb_kd (g := gv E) (d := 0) hk).1
  have kF : kd F = 17 := by rw [e, k1] at h17; exact h17
  have hl : ∀ p ∈ ps F, isFo p := by
    rcases ho.n.2 with q | q | q | q | q | q | q | q | q | q | q | q | q | q <;> first | omega | exact fun p hp => (q.2.2.2 p hp).1
  rw [e, ps_map (Or.inr kF) (fun c hc => isFo_pos (hl c hc))] at hg
  obtain ⟨p, hp, e1⟩ := List.mem_map.mp hg
  have mf : p ∈ fms F := fms_mem hp (by omega) (isFo_pos (hl p hp))
  have := sz_fms (okT_0 ho)
  have h2 := le_sum_mem (f := szT) mf
  exact ⟨p, E, ⟨ho.c mf, hl p hp, by omega, hA.c ho hf mf (hl p hp)⟩, hE, e1.symm⟩
theorem RepU.not {P : Nat → Prop} (hP : ∀ s, 15 ≤ kd s → P s) {B f : Nat} (h : RepU M N P B f) : RepU M N P (B + 1) (notT f) := by
  obtain ⟨F, E, ⟨ho, hf, hz, hA⟩, hE, e⟩ := h
  refine ⟨notT F, E, ⟨(okT_not ho hf).1, (okT_not ho hf).2, ?_, AlN.not hP ho hA⟩, hE, ?_⟩
  · have := szT_not ho
    omega
  · rw [sb_notT (gOn_gv hE ho) ho hf, ← e]
theorem RepU.inst {P : Nat → Prop} {B f t : Nat} (h : RepU M N P B f) (h18 : kd f = 18) (ht : clT1 t) : RepU M N P B (sbT (putg t) 0 (pa f 1)) := by
  obtain ⟨F, E, ⟨ho, hf, hz, hA⟩, hE, e⟩ := h
  have hk : ¬ kd F ≤ 3 := by unfold isFo at hf; omega
  have k1 := (sb_kd (g := gv E) (d := 0) hk).1
  have kF : kd F = 18 := by rw [e, k1] at h18; exact h18
  obtain ⟨y, b, hp, y8, fb, my, mb⟩ := ps_all1 ho kF
  have ob := ho.c mb
  have e1 : pa f 1 = odT E 0 b := by
    have := (fms_all (d := 0) (gv_0 hE) kF hp (okT_0 (ho.c my)) (okT_0 ob)).2
    unfold pa
    rw [e, this]
    rfl
  have := sz_subT F ho (sub_c mb (sub_rf b))
  exact ⟨b, cE t E, ⟨ob, fb, by omega, hA.c ho hf mb fb⟩, clE1.c ht hE, by rw [e1]; exact put_gv hE b ob 0⟩
/-- NOT of something: what is below -/
theorem RepU.nt {P : Nat → Prop} {B f : Nat} (h : RepU M N P B f) (h16 : kd f = 16) : ∃ F E, (okT F ∧ isFo F ∧ kd F ≠ 16 ∧ szT F + 1 ≤ B ∧ AlN M N P F) ∧ clE1 E ∧ pa f 0 = sbT (gv E) 0 F := by
  obtain ⟨F, E, ⟨ho, hf, hz, hA⟩, hE, e⟩ := h
  have hk : ¬ kd F ≤ 3 := by unfold isFo at hf; omega
  have k1 := (sb_kd (g := gv E) (d := 0) hk).1
  have kF : kd F = 16 := by rw [e, k1] at h16; exact h16
  obtain ⟨g, hp, fg, kg, mg⟩ := ps_not1 ho kF
  have pS : ps (sbT (gv E) 0 F) = [sbT (gv E) 0 g] := by
    rw [ps_map (Or.inl kF) (fun c hc => by rw [hp, List.mem_singleton] at hc; rw [hc]; exact isFo_pos fg), hp]; rfl
  have hs : szT F = 1 + szT g := by rw [sz_pl (okT_0 ho) (by omega), hp]; simp
  exact ⟨g, E, ⟨ho.c mg, fg, kg, by omega, hA.c ho hf mg fg⟩, hE, by unfold pa; rw [e, pS]; rfl⟩
theorem RepU.nand {P : Nat → Prop} (hP : ∀ s, 15 ≤ kd s → P s) {B f p : Nat} (h : RepU M N P B f) (h16 : kd f = 16) (h17 : kd (pa f 0) = 17) (hp : p ∈ ps (pa f 0)) : RepU M N P B (notT p) := by
  obtain ⟨F, E, ⟨ho, hf, kF, hz, hA⟩, hE, e⟩ := h.nt h16
  have h1 : RepU M N P (B - 1) (pa f 0) := ⟨F, E, ⟨ho, hf, by omega, hA⟩, hE, e⟩
  have h2 := (h1.and h17 hp).not hP
  rw [show B - 1 + 1 = B by have := sz_fms (okT_0 ho); omega] at h2
  exact h2
theorem RepU.nall {P : Nat → Prop} (hP : ∀ s, 15 ≤ kd s → P s) {B f t : Nat} (h : RepU M N P B f) (h16 : kd f = 16) (h18 : kd (pa f 0) = 18) (ht : clT1 t) : RepU M N P B (notT (sbT (putg t) 0 (pa (pa f 0) 1))) := by
  obtain ⟨F, E, ⟨ho, hf, kF, hz, hA⟩, hE, e⟩ := h.nt h16
  have h1 : RepU M N P (B - 1) (pa f 0) := ⟨F, E, ⟨ho, hf, by omega, hA⟩, hE, e⟩
  have h2 := (h1.inst h18 ht).not hP
  rw [show B - 1 + 1 = B by have := sz_fms (okT_0 ho); omega] at h2
  exact h2
theorem RepU.com {P : Nat → Prop} (hP : ∀ s, 15 ≤ kd s → P s) {B : Nat} {F : Fs} {K T O : Nat → Prop} {g : Nat} (hK : ∀ f, K f → RepU M N P B f) (hT : ∀ t, T t → clT1 t) (h : cmeS F K T O g) : RepU M N P B g := by
  obtain ⟨f, hf, q | ⟨q1, t, q2, _, _, q5⟩ | ⟨q1, q2, p, q3, q4⟩ | ⟨q1, q2, _, q4⟩⟩ := h
  · exact (hK f hf).and q.1 q.2
  · rw [q5]; exact (hK f hf).inst q1 (hT t q2)
  · rw [q4]; exact (hK f hf).nand hP q1 q2 (oL_mem q3)
  · rw [q4]; exact (hK f hf).nall hP q1 q2 (clT1_const _)
theorem stg_repN {P : Nat → Prop} (hP : ∀ s, 15 ≤ kd s → P s) {B : Nat} {W : Wd} {A K0 : Nat → Prop} (hK : ∀ f, K0 f → RepU M N P B f) (hA : ∀ t, A t → clT1 t) : ∀ (r f : Nat), (stg W A K0 r).1 f → RepU M N P B f
  | 0, f, h => hK f h
  | r + 1, f, h => by
    rcases h with q | q
    · exact stg_repN hP hK hA r f q
    · refine RepU.com hP (stg_repN hP hK hA r) (fun t ht => ?_) q
      rcases ht with w | ⟨_, _, w⟩
      · exact hA t w
      · rw [w]; exact clT1_const _
theorem RepU.com2 {P : Nat → Prop} (hP : ∀ s, 15 ≤ kd s → P s) {B f g : Nat} {F : Fs} {K T O : Nat → Prop} (h : RepU M N P B f) (hT : ∀ t, T t → clT1 t) (hc : cmF F K T O f g) : RepU M N P (B - 2) g := by
  obtain ⟨F0, E, ⟨ho, hf, hz, hA⟩, hE, e⟩ := h
  have hk : ¬ kd F0 ≤ 3 := by unfold isFo at hf; omega
  have k1 := (sb_kd (g := gv E) (d := 0) hk).1
  have hR : RepU M N P (szT F0) f := ⟨F0, E, ⟨ho, hf, Nat.le_refl _, hA⟩, hE, e⟩
  have up : ∀ {b x : Nat}, RepU M N P b x → b ≤ B - 2 → RepU M N P (B - 2) x := fun {b x} ⟨F1, E1, ⟨a1, a2, a3, a4⟩, a5, a6⟩ hb => ⟨F1, E1, ⟨a1, a2, by omega, a4⟩, a5, a6⟩
  have sz1 : ∀ {x : Nat}, okT x → 1 ≤ szT x := fun {x} ox => by have := sz_fms (okT_0 ox); omega
  rcases hc with ⟨k17, hg⟩ | ⟨k18, t, ht, _, _, eg⟩ | ⟨k16, k17, p, hp, eg⟩ | ⟨k16, k18, _, eg⟩
  · -- a part of an AND
    have kF : kd F0 = 17 := by rw [e, k1] at k17; exact k17
    have hl : 2 ≤ (ps F0).length ∧ ∀ f ∈ ps F0, isFo f := by
      rcases ho.n.2 with q | q | q | q | q | q | q | q | q | q | q | q | q | q <;> first | omega | exact ⟨q.2.2.1, fun p hp => (q.2.2.2 p hp).1⟩
    have mf : ∀ p ∈ ps F0, p ∈ fms F0 := fun p hp => fms_mem hp (by omega) (isFo_pos (hl.2 p hp))
    have pS : ps f = (ps F0).map (sbT (gv E) 0) := by rw [e]; exact ps_map (Or.inr kF) (fun c hc => isFo_pos (hl.2 c hc))
    rw [pS] at hg
    obtain ⟨p, hp, e2⟩ := List.mem_map.mp hg
    have s1 : szT p + 2 ≤ szT F0 := by
      rw [sz_pl (okT_0 ho) (by omega)]
      have := two_sum (f := szT) (l := ps F0) (fun c hc => sz1 (ho.c (mf c hc))) hl.1 hp
      omega
    exact ⟨p, E, ⟨ho.c (mf p hp), hl.2 p hp, by omega, hA.c ho hf (mf p hp) (hl.2 p hp)⟩, hE, e2.symm⟩
  · have kF : kd F0 = 18 := by rw [e, k1] at k18; exact k18
    obtain ⟨y, b, hp, y8, fb, my, mb⟩ := ps_all1 ho kF
    have ob := ho.c mb
    have e1 : pa f 1 = odT E 0 b := by
      have := (fms_all (d := 0) (gv_0 hE) kF hp (okT_0 (ho.c my)) (okT_0 ob)).2
      unfold pa
      rw [e, this]
      rfl
    have hs : szT F0 = 1 + (szT y + szT b) := by rw [sz_pl (okT_0 ho) (by omega), hp]; simp
    have sy := sz1 (ho.c my)
    exact ⟨b, cE t E, ⟨ob, fb, by omega, hA.c ho hf mb fb⟩, clE1.c (hT t ht) hE, by rw [eg, e1]; exact put_gv hE b ob 0⟩
  · have kF : kd F0 = 16 := by rw [e, k1] at k16; exact k16
    obtain ⟨a, hpa, fa, ka, ma⟩ := ps_not1 ho kF
    have oa := ho.c ma
    have ka0 : ¬ kd a ≤ 3 := by unfold isFo at fa; omega
    have pS : ps (sbT (gv E) 0 F0) = [sbT (gv E) 0 a] := by
      rw [ps_map (Or.inl kF) (fun c hc => by rw [hpa, List.mem_singleton] at hc; rw [hc]; exact isFo_pos fa), hpa]; rfl
    have ea : pa f 0 = sbT (gv E) 0 a := by unfold pa; rw [e, pS]; rfl
    have kA : kd a = 17 := by rw [ea, (sb_kd (g := gv E) (d := 0) ka0).1] at k17; exact k17
    have hl : 2 ≤ (ps a).length ∧ ∀ f ∈ ps a, isFo f := by
      rcases oa.n.2 with q | q | q | q | q | q | q | q | q | q | q | q | q | q <;> first | omega | exact ⟨q.2.2.1, fun p hp => (q.2.2.2 p hp).1⟩
    have mf : ∀ p ∈ ps a, p ∈ fms a := fun p hp => fms_mem hp (by omega) (isFo_pos (hl.2 p hp))
    have hpm := oL_mem hp
    rw [ea, ps_map (Or.inr kA) (fun c hc => isFo_pos (hl.2 c hc))] at hpm
    obtain ⟨p', hp', e2⟩ := List.mem_map.mp hpm
    have op := oa.c (mf p' hp')
    have s1 : szT p' + 2 ≤ szT a := by
      rw [sz_pl (okT_0 oa) (by omega)]
      have := two_sum (f := szT) (l := ps a) (fun c hc => sz1 (oa.c (mf c hc))) hl.1 hp'
      omega
    have s2 : szT F0 = 1 + szT a := by rw [sz_pl (okT_0 ho) (by omega), hpa]; simp
    have s3 := sz_not_le op
    refine ⟨notT p', E, ⟨(okT_not op (hl.2 p' hp')).1, (okT_not op (hl.2 p' hp')).2, by omega, AlN.not hP op ((hA.c ho hf ma fa).c oa fa (mf p' hp') (hl.2 p' hp'))⟩, hE, ?_⟩
    rw [eg, ← e2, sb_notT (gOn_gv hE op) op (hl.2 p' hp')]
  · have h1 := (hR.nall hP k16 k18 (clT1_const (2 * f + 1)))
    have kF : kd F0 = 16 := by rw [e, k1] at k16; exact k16
    obtain ⟨a, hpa, fa, ka, ma⟩ := ps_not1 ho kF
    have oa := ho.c ma
    have ka0 : ¬ kd a ≤ 3 := by unfold isFo at fa; omega
    have pS : ps (sbT (gv E) 0 F0) = [sbT (gv E) 0 a] := by
      rw [ps_map (Or.inl kF) (fun c hc => by rw [hpa, List.mem_singleton] at hc; rw [hc]; exact isFo_pos fa), hpa]; rfl
    have ea : pa f 0 = sbT (gv E) 0 a := by unfold pa; rw [e, pS]; rfl
    have kA : kd a = 18 := by rw [ea, (sb_kd (g := gv E) (d := 0) ka0).1] at k18; exact k18
    obtain ⟨y, b, hp, y8, fb, my, mb⟩ := ps_all1 oa kA
    have ob := oa.c mb
    have e1 : pa (pa f 0) 1 = odT E 0 b := by
      have := (fms_all (d := 0) (gv_0 hE) kA hp (okT_0 (oa.c my)) (okT_0 ob)).2
      rw [ea]
      unfold pa
      rw [this]
      rfl
    have hs : szT a = 1 + (szT y + szT b) := by rw [sz_pl (okT_0 oa) (by omega), hp]; simp
    have s2 : szT F0 = 1 + szT a := by rw [sz_pl (okT_0 ho) (by omega), hpa]; simp
    have sy := sz1 (oa.c my)
    have s3 := sz_not_le ob
    have ht := clT1_const (2 * f + 1)
    refine ⟨notT b, cE (mk 1 (2 * f + 1) []) E, ⟨(okT_not ob fb).1, (okT_not ob fb).2, by omega, AlN.not hP ob ((hA.c ho hf ma fa).c oa fa mb fb)⟩, clE1.c ht hE, ?_⟩
    have e3 : sbT (putg (mk 1 (2 * f + 1) [])) 0 (odT E 0 b) = nwT (mk 1 (2 * f + 1) []) E 0 b := put_gv hE b ob 0
    rw [eg, e1, e3, sb_notT (gOn_gv (clE1.c ht hE) ob) ob fb]
    rfl
/-- a formula that may bring others -/
def Liv (f : Nat) : Prop := kd f = 17 ∨ kd f = 18 ∨ (kd f = 16 ∧ (kd (pa f 0) = 17 ∨ kd (pa f 0) = 18))
theorem cm_liv {F : Fs} {K T O : Nat → Prop} {f g : Nat} (h : cmF F K T O f g) : Liv f := by
  rcases h with ⟨k17, _⟩ | ⟨k18, _⟩ | ⟨k16, k17, _⟩ | ⟨k16, k18, _⟩
  · exact Or.inl k17
  · exact Or.inr (Or.inl k18)
  · exact Or.inr (Or.inr ⟨k16, Or.inl k17⟩)
  · exact Or.inr (Or.inr ⟨k16, Or.inr k18⟩)
theorem isQ_liv {f : Nat} (h : isQ f) : Liv f := h.elim (fun q => Or.inr (Or.inl q)) (fun q => Or.inr (Or.inr ⟨q.1, Or.inr q.2⟩))
theorem stg_repN2 {P : Nat → Prop} (hP : ∀ s, 15 ≤ kd s → P s) {B : Nat} {W : Wd} {A K0 : Nat → Prop} (hK : ∀ f, K0 f → (okT f ∧ isFo f) ∧ (Liv f → RepU M N P B f)) (hA : ∀ t, A t → clT1 t) : ∀ (r f : Nat), (stg W A K0 r).1 f → K0 f ∨ RepU M N P (B - 2) f
  | 0, f, h => Or.inl h
  | r + 1, f, h => by
    rcases h with q | ⟨f0, q1, q2⟩
    · exact stg_repN2 hP hK hA r f q
    · have hT : ∀ t, Tof A (stg W A K0 r).2 t → clT1 t := fun t ht => by
        rcases ht with w | ⟨_, _, w⟩
        · exact hA t w
        · rw [w]; exact clT1_const _
      right
      rcases stg_repN2 hP hK hA r f0 q1 with w | w
      · exact RepU.com2 hP ((hK f0 w).2 (cm_liv q2)) hT q2
      · obtain ⟨F1, E1, ⟨a1, a2, a3, a4⟩, a5, a6⟩ := RepU.com2 hP w hT q2
        exact ⟨F1, E1, ⟨a1, a2, by omega, a4⟩, a5, a6⟩
theorem stg_okN {P : Nat → Prop} (hP : ∀ s, 15 ≤ kd s → P s) {B : Nat} {W : Wd} {A K0 : Nat → Prop} (hK : ∀ f, K0 f → (okT f ∧ isFo f) ∧ (Liv f → RepU M N P B f)) (hA : ∀ t, A t → clT1 t) (r f : Nat) (h : (stg W A K0 r).1 f) : okT f ∧ isFo f :=
  (stg_repN2 hP hK hA r f h).elim (fun q => (hK f q).1) (fun q => q.rep.ok)
end REPU
section CNT
variable {t : Nat} {E : Nat → Nat} {M K : Nat} {Sh : List Nat}
/-- an ALL outside binders leaves more over -/
theorem topu_all (ht : clT1 t) (hE : clE1 E) (hM : 8 ≤ M) (hK : K + 10 = 2 * M) (e : Nat) {b : Nat} (ho : okT b) (hA : Alls (AtE0 M Sh) b) (hlo : loT (nwT t E e b) = 0) (k18 : kd b = 18) : TopV M K Sh t E e b (M + 6) := by
  have b0 := okT_0 ho
  have kn := kd_nw ht hE (e := e) (b := b) (by omega)
  obtain ⟨y, f, hp, y8, ff, my, mf⟩ := ps_all1 ho k18
  have oy := ho.c my
  have of := ho.c mf
  have nt : ∀ L Za, NtC t E e b L Za := fun L Za s p hs k17' => by
    rw [subN_eq] at hs
    rcases hs with q | q
    · rw [q, kn] at k17'; omega
    · exact absurd (by rw [kn]; exact k18) q.1
  have hsz : szT b = 1 + (szT y + szT f) := by rw [sz_pl b0 (by omega), hp]; simp
  have sy := sz_fms (okT_0 oy)
  have sf := sz_fms (okT_0 of)
  by_cases hc : nwT t E e b = odT E e b
  · have h3 : M * 3 ≤ M * szT b := Nat.mul_le_mul_left M (by omega)
    exact ⟨[], [], [], [], CovB.old hc, nt _ _, fun z hz => (by cases hz), by simp only [List.length_nil, List.map_nil, List.sum_nil]; omega⟩
  · obtain ⟨-, pn⟩ := fms_all (d := e) (gv_0 (clE1.c ht hE)) k18 hp (okT_0 oy) (okT_0 of)
    have pn : ps (nwT t E e b) = [nwT t E e y, nwT t E (e + 1) f] := pn
    have ly : loT (nwT t E e y) = 0 := by have := lo_ally (by rw [kn]; exact k18) pn; omega
    obtain ⟨Ly, Xy, y1, y2⟩ := tycu ht hE hM oy y8 (hA.sub (sub_c my (sub_rf y))) ly
    have B : FqU M K True Sh t E (e + 1) f 8 := by
      by_cases hcf : nwT t E (e + 1) f = odT E (e + 1) f
      · exact FqU.old hcf (okT_0 of) (by omega)
      · exact (covu_fo ht hE hM hK f of ff (hA.sub (sub_c mf (sub_rf f))) (e + 1) hcf).2
    obtain ⟨Lf, Xf, Zf, Uf, f1, f3, f2⟩ := B
    have cb0 := CovB.all ht hE k18 hp (okT_0 oy) (okT_0 of) y1 f1
    have cb : CovB True Sh t E e b ((nwT t E e b :: (Ly ++ Lf)) ++ Uf.flatMap (unL t E)) (Xy ++ Xf) Zf := cb0.mono (fun s hs => by
      rcases List.mem_cons.mp hs with q | q
      · rw [q]; exact List.mem_append_left _ List.mem_cons_self
      · rcases List.mem_append.mp q with w | w
        · exact List.mem_append_left _ (List.mem_cons_of_mem _ (List.mem_append_left _ w))
        · rcases List.mem_append.mp w with v | v
          · exact List.mem_append_left _ (List.mem_cons_of_mem _ (List.mem_append_right _ v))
          · exact List.mem_append_right _ v) (fun _ h => h) (fun _ h => h) cb0.2.1 cb0.2.2
    have zb : ∀ z ∈ Uf, z ∈ cdT M b e := fun z hz => (cd_all k18 hp).mpr (Or.inr (f3 z hz))
    refine ⟨nwT t E e b :: (Ly ++ Lf), Xy ++ Xf, Zf, Uf, cb, nt _ _, zb, ?_⟩
    rw [hsz]
    simp only [List.length_append, List.length_cons, Nat.mul_add, Nat.mul_one]
    omega
theorem topu_q (ht : clT1 t) (hE : clE1 E) (hM : 8 ≤ M) (hK : K + 10 = 2 * M) (e : Nat) {b : Nat} (ho : okT b) (hA : Alls (AtE0 M Sh) b) (hlo : loT (nwT t E e b) = 0) (hq : isQ b) : TopV M K Sh t E e b (M + 4) := by
  rcases hq with k18 | ⟨k16, k18⟩
  · exact (topu_all ht hE hM hK e ho hA hlo k18).le (by omega)
  · have b0 := okT_0 ho
    have hk : ¬ kd b ≤ 3 := by omega
    have kn := kd_nw ht hE (e := e) hk
    obtain ⟨f, hp, ff, kf, mf⟩ := ps_not1 ho k16
    have pa0 : pa b 0 = f := by unfold pa; rw [hp]; rfl
    rw [pa0] at k18
    have of := ho.c mf
    have f0 := okT_0 of
    have fb : fms b = [f] := by
      unfold fms
      rw [if_neg (by omega), hp]
      simp [f0]
    have fn : fms (nwT t E e b) = [nwT t E e f] := by
      unfold nwT
      rw [fms_sbn (gv_0 (clE1.c ht hE)) hk (by omega), fb]; rfl
    have on := okT_nw ht hE (e := e) ho
    have lf0 : loT (nwT t E e f) = 0 := by
      have := lo_part on.n (by omega) (c := nwT t E e f) (by rw [fn]; exact List.mem_cons_self)
      omega
    obtain ⟨L, Zx, Za, Zu, c1, c2, c4, c3⟩ := topu_all ht hE hM hK e of (hA.sub (sub_c mf (sub_rf f))) lf0 k18
    have hs1 : szT b = 1 + szT f := by rw [sz_pl b0 (by omega), hp]; simp
    have cb := CovB.node (L := L ++ Zu.flatMap (unL t E)) (Zx := Zx) (Za := Za) ht hE hk (by omega) (fun p hp' => by rw [fb, List.mem_singleton] at hp'; rw [hp']; exact c1) c1.2.1 c1.2.2
    have nb : NtC t E e b (nwT t E e b :: L) Za := fun s p hs k17 hps k16' => by
      rw [subN_eq] at hs
      rcases hs with q | ⟨_, c, hc', q⟩
      · rw [q, kn] at k17; omega
      · rw [fn, List.mem_singleton] at hc'
        rw [hc'] at q
        exact (c2 s p q k17 hps k16').imp (List.mem_cons_of_mem _) id
    have zb : ∀ z ∈ Zu, z ∈ cdT M b e := fun z hz => (cd_pl (Or.inl k16)).mpr ⟨f, by rw [hp]; simp, c4 z hz⟩
    refine ⟨nwT t E e b :: L, Zx, Za, Zu, cb, nb, zb, ?_⟩
    rw [List.length_cons, hs1]
    simp only [Nat.mul_add, Nat.mul_one]
    omega
/-- the same without doubles; an ALL or NOT ALL makes one less -/
theorem evtuq_cnt (ht : clT1 t) (hE : clE1 E) (hM : 8 ≤ M) {b N ε : Nat} (ho : okT b) (hf : isFo b) (hA : Alls (AtE0 M Sh) b) (hε : ∀ z ∈ cdT M b 0, 2 * (dQ (pa z 0)).length + 12 ≤ 2 * M + ε) (hN : nLU M b ≤ N) (hlo : loT (nwT t E 0 b) = 0) : ∃ Y : List Nat, (M + 2) * (Y.length + nq b) ≤ M * szT b + ε * N + 14 * nYs Sh + 2 * nXs Sh ∧ (∀ s, subT s (nwT t E 0 b) → subT s (odT E 0 b) ∨ subT s t ∨ s ∈ Y ∨ ∃ r, subT r (nwT t E 0 b) ∧ isTm r ∧ loT r = 0 ∧ subT s r) ∧ ∀ s p, subN s (nwT t E 0 b) → kd s = 17 → p ∈ ps s → kd p ≠ 16 → notT p ∈ Y ∨ szT p = 1 := by
  by_cases hq : isQ b
  · obtain ⟨K, hK⟩ : ∃ K, K + 10 = 2 * M := ⟨2 * M - 10, by omega⟩
    obtain ⟨L, Zx, Za, Zu, c1, c2, c4, c3⟩ := topu_q ht hE hM hK 0 ho hA hlo hq
    have hl := lstu_len (E := E) (L := 0 :: L) (cr := 0) hM hK c1.2.1 c1.2.2 ho hf c4 hε hN (by rw [List.length_cons, Nat.mul_add]; omega : (M + 2) * (0 :: L).length + K * Za.length + M * Zx.length + (Zu.map (cst M)).sum + 0 ≤ M * szT b)
    refine ⟨(L ++ (ddL Zu).flatMap (unL t E)) ++ (ddL Zx ++ (ddL Za ++ (ddL Za).map notT)), ?_, fun s hs => (lst_cov c1 hs).imp id (fun q => q.imp id (fun q => q.imp (fun w => lstu_mem w) (fun z => z.2))), fun s p hs k17 hps k16 => ?_⟩
    · rw [nq_t hq]
      have e1 : (((0 :: L) ++ (ddL Zu).flatMap (unL t E)) ++ (ddL Zx ++ (ddL Za ++ (ddL Za).map notT))).length = ((L ++ (ddL Zu).flatMap (unL t E)) ++ (ddL Zx ++ (ddL Za ++ (ddL Za).map notT))).length + 1 := rfl
      rw [e1] at hl
      exact hl
    · rcases c2 s p hs k17 hps k16 with q | q | q
      · exact Or.inl (List.mem_append_left _ (List.mem_append_left _ q))
      · exact Or.inl (List.mem_append_right _ (List.mem_append_right _ (List.mem_append_right _ (List.mem_map.mpr ⟨p, dd_mem.mpr q, rfl⟩))))
      · exact Or.inr q
  · rw [nq_f hq]
    exact evtu_cnt ht hE hM ho hf hA hε hN hlo
end CNT
/-- atoms and types: with three leaves they pay, long ones with two lack at most ε -/
def AtV (M ε : Nat) (Sh : List Nat) (s : Nat) : Prop := AtE0 M Sh s ∧ (isLU M s → 2 * (dQ s).length + 12 ≤ 2 * M + ε)
theorem AtV_up {M ε : Nat} {Sh : List Nat} : ∀ s, 15 ≤ kd s → AtV M ε Sh s := fun s h => ⟨AtE0_hi h, fun q => absurd q.2.1 (by omega)⟩
theorem cd_sb {M : Nat} : ∀ (b : Nat), okT b → (kd b = 8 ∨ isFo b) → ∀ e z, z ∈ cdT M b e → subT (pa z 0) b := by
  intro b
  induction b using Nat.strongRecOn with
  | ind b ih =>
    intro ho hf e z hz
    by_cases k14 : kd b ≤ 14
    · obtain ⟨q1, q2⟩ := (cd_lo k14).mp hz
      have e0 : pa z 0 = b := by rw [q2]; unfold pa; rw [ps_mk]; rfl
      rw [e0]; exact sub_rf b
    by_cases k18 : kd b = 18
    · obtain ⟨y, f, hp, y8, ff, my, mf⟩ := ps_all1 ho k18
      rcases (cd_all k18 hp).mp hz with q | q
      · exact sub_c my (ih y (fms_lt my) (ho.c my) (Or.inl y8) e z q)
      · exact sub_c mf (ih f (fms_lt mf) (ho.c mf) (Or.inr ff) (e + 1) z q)
    · have hk67 : kd b = 16 ∨ kd b = 17 := by unfold isFo at hf; omega
      obtain ⟨p, hp, q⟩ := (cd_pl hk67).mp hz
      have fp : isFo p := by
        rcases ho.n.2 with q | q | q | q | q | q | q | q | q | q | q | q | q | q <;> first | omega | skip
        · obtain ⟨_, _, g, q3, q4, _⟩ := q
          rw [q3, List.mem_singleton] at hp
          rw [hp]; exact q4
        · exact (q.2.2.2 p hp).1
      have mp : p ∈ fms b := fms_mem hp (by omega) (isFo_pos fp)
      exact sub_c mp (ih p (fms_lt mp) (ho.c mp) (Or.inr fp) e z q)
theorem AtV.e {M ε : Nat} {Sh : List Nat} {b : Nat} (ho : okT b) (hf : isFo b) (h : Alls (AtV M ε Sh) b) : ∀ z ∈ cdT M b 0, 2 * (dQ (pa z 0)).length + 12 ≤ 2 * M + ε := fun z hz => (h _ (cd_sb b ho (Or.inr hf) 0 z hz)).2 (cd_lu b ho (Or.inr hf) 0 z hz)
theorem AtV.a {M ε : Nat} {Sh : List Nat} {b : Nat} (h : Alls (AtV M ε Sh) b) : Alls (AtE0 M Sh) b := fun s hs => (h s hs).1
section CNT
variable {M N ε : Nat} {Sh : List Nat}
theorem RepU.all2u {B f t : Nat} (hM : 8 ≤ M) (h : RepU M N (AtV M ε Sh) B f) (h18 : kd f = 18) (ht : clT1 t) : ∃ Y : List Nat, (M + 2) * Y.length ≤ M * (B - 2) + ε * N + 14 * nYs Sh + 2 * nXs Sh ∧ ∀ s, subT s (sbT (putg t) 0 (pa f 1)) → subT s (pa f 1) ∨ subT s t ∨ s ∈ Y := by
  obtain ⟨F, E, ⟨ho, hf, hz, hA⟩, hE, e⟩ := h
  have hk : ¬ kd F ≤ 3 := by unfold isFo at hf; omega
  have k1 := (sb_kd (g := gv E) (d := 0) hk).1
  have kF : kd F = 18 := by rw [e, k1] at h18; exact h18
  obtain ⟨y, b, hp, y8, fb, my, mb⟩ := ps_all1 ho kF
  have ob := ho.c mb
  have e1 : pa f 1 = odT E 0 b := by
    have := (fms_all (d := 0) (gv_0 hE) kF hp (okT_0 (ho.c my)) (okT_0 ob)).2
    unfold pa
    rw [e, this]
    rfl
  have e2 : sbT (putg t) 0 (pa f 1) = nwT t E 0 b := by rw [e1]; exact put_gv hE b ob 0
  have hs : 2 + szT b ≤ szT F := by
    rw [sz_pl (okT_0 ho) (by omega), hp]
    have := sz_fms (okT_0 (ho.c my))
    simp
    omega
  obtain ⟨Y, y1, y2⟩ := evbu_cnt ht hE hM ob fb (AtV.a (hA.c ho hf mb fb).1) (AtV.e ob fb (hA.c ho hf mb fb).1) (hA.c ho hf mb fb).2
  refine ⟨Y, ?_, ?_⟩
  · have : M * szT b ≤ M * (B - 2) := Nat.mul_le_mul_left M (by omega)
    omega
  · rw [e2, e1]
    exact y2
theorem RepU.allNuq {B f t : Nat} (hM : 8 ≤ M) (h : RepU M N (AtV M ε Sh) B f) (h18 : kd f = 18) (ht : clT1 t) (hlo : loT (sbT (putg t) 0 (pa f 1)) = 0) : ∃ Y : List Nat, (M + 2) * (Y.length + nq (sbT (putg t) 0 (pa f 1))) ≤ M * (B - 2) + ε * N + 14 * nYs Sh + 2 * nXs Sh ∧ (∀ s, subT s (sbT (putg t) 0 (pa f 1)) → subT s (pa f 1) ∨ subT s t ∨ s ∈ Y ∨ ∃ r, subT r (sbT (putg t) 0 (pa f 1)) ∧ isTm r ∧ loT r = 0 ∧ subT s r) ∧ ∀ s p, subN s (sbT (putg t) 0 (pa f 1)) → kd s = 17 → p ∈ ps s → kd p ≠ 16 → notT p ∈ Y ∨ szT p = 1 := by
  obtain ⟨F, E, ⟨ho, hf, hz, hA⟩, hE, e⟩ := h
  have hk : ¬ kd F ≤ 3 := by unfold isFo at hf; omega
  have k1 := (sb_kd (g := gv E) (d := 0) hk).1
  have kF : kd F = 18 := by rw [e, k1] at h18; exact h18
  obtain ⟨y, b, hp, y8, fb, my, mb⟩ := ps_all1 ho kF
  have ob := ho.c mb
  have e1 : pa f 1 = odT E 0 b := by
    have := (fms_all (d := 0) (gv_0 hE) kF hp (okT_0 (ho.c my)) (okT_0 ob)).2
    unfold pa
    rw [e, this]
    rfl
  have e2 : sbT (putg t) 0 (pa f 1) = nwT t E 0 b := by rw [e1]; exact put_gv hE b ob 0
  have hs : 2 + szT b ≤ szT F := by
    rw [sz_pl (okT_0 ho) (by omega), hp]
    have := sz_fms (okT_0 (ho.c my))
    simp
    omega
  rw [e2] at hlo
  obtain ⟨Y, y1, y2⟩ := evtuq_cnt ht hE hM ob fb (AtV.a (hA.c ho hf mb fb).1) (AtV.e ob fb (hA.c ho hf mb fb).1) (hA.c ho hf mb fb).2 hlo
  have hn : nq (nwT t E 0 b) ≤ nq b := nq_le (isQ_nw ht hE ob fb)
  refine ⟨Y, ?_, ?_⟩
  · have h1 : M * szT b ≤ M * (B - 2) := Nat.mul_le_mul_left M (by omega)
    have h2 : (M + 2) * (Y.length + nq (nwT t E 0 b)) ≤ (M + 2) * (Y.length + nq b) := Nat.mul_le_mul_left _ (by omega)
    rw [e2]
    omega
  · rw [e2, e1]
    exact y2
end CNT
section COV
variable {M N ε B : Nat} {Sh : List Nat} {F : Fs} {K T O : Nat → Prop} {f g : Nat}
theorem com_covU (hM : 8 ≤ M) (hB : 4 ≤ B) (of : okT f) (hRq : isQ f → RepU M N (AtV M ε Sh) B f) (hT : ∀ t, T t → clT1 t) (h : cmF F K T O f g) : ∃ Y : List Nat, (M + 2) * Y.length ≤ M * (B - 2) + ε * N + 14 * nYs Sh + 2 * nXs Sh + 2 ∧ ∀ z, subT z g → subT z f ∨ z ∈ Y ∨ (∃ t, T t ∧ subT z t) ∨ (z = mk 1 (2 * f + 1) [] ∧ kd f = 16 ∧ kd (pa f 0) = 18) := by
  rcases h with ⟨k17, hg⟩ | ⟨k18, t, ht, _, _, eg⟩ | ⟨k16, k17, p, hp, eg⟩ | ⟨k16, k18, _, eg⟩
  · refine ⟨[], by simp, fun z hz => Or.inl ?_⟩
    have hl : isFo g := by
      rcases of.n.2 with q | q | q | q | q | q | q | q | q | q | q | q | q | q <;> first | omega | exact (q.2.2.2 g hg).1
    exact sub_c (fms_mem hg (by omega) (isFo_pos hl)) hz
  · obtain ⟨Y, y1, y2⟩ := RepU.all2u hM (hRq (Or.inl k18)) k18 (hT t ht)
    obtain ⟨y, b, hp, _, _, _, mb⟩ := ps_all1 of k18
    have e1 : pa f 1 = b := by unfold pa; rw [hp]; rfl
    refine ⟨Y, by omega, fun z hz => ?_⟩
    rw [eg] at hz
    rcases y2 z hz with q | q | q
    · rw [e1] at q; exact Or.inl (sub_c mb q)
    · exact Or.inr (Or.inr (Or.inl ⟨t, ht, q⟩))
    · exact Or.inr (Or.inl q)
  · have hpm := oL_mem hp
    obtain ⟨a, hpa, fa, _, ma⟩ := ps_not1 of k16
    have ea : pa f 0 = a := by unfold pa; rw [hpa]; rfl
    rw [ea] at hpm k17
    have oa := of.c ma
    have fp : isFo p := by
      rcases oa.n.2 with q | q | q | q | q | q | q | q | q | q | q | q | q | q <;> first | omega | exact (q.2.2.2 p hpm).1
    have mp : p ∈ fms a := fms_mem hpm (by omega) (isFo_pos fp)
    refine ⟨[notT p], ?_, fun z hz => ?_⟩
    · have : M * 2 ≤ M * (B - 2) := Nat.mul_le_mul_left M (by omega)
      simp only [List.length_cons, List.length_nil]
      omega
    · rw [eg] at hz
      rcases sub_ntX (oa.c mp) hz with q | q
      · exact Or.inr (Or.inl (by rw [q]; exact List.mem_cons_self))
      · exact Or.inl (sub_c ma (sub_c mp q))
  · obtain ⟨F', E, ⟨o', f', k', z', A'⟩, hE, e'⟩ := (hRq (Or.inr ⟨k16, k18⟩)).nt k16
    have R1 : RepU M N (AtV M ε Sh) (B - 1) (pa f 0) := ⟨F', E, ⟨o', f', by omega, A'⟩, hE, e'⟩
    obtain ⟨Y, y1, y2⟩ := RepU.all2u hM R1 k18 (clT1_const (2 * f + 1))
    obtain ⟨a, hpa, fa, _, ma⟩ := ps_not1 of k16
    have ea : pa f 0 = a := by unfold pa; rw [hpa]; rfl
    have oa := of.c ma
    rw [ea] at k18 y2 eg R1
    obtain ⟨y, b, hp, _, fb, _, mb⟩ := ps_all1 oa k18
    have e1 : pa a 1 = b := by unfold pa; rw [hp]; rfl
    have oput : okT (sbT (putg (mk 1 (2 * f + 1) [])) 0 (pa a 1)) := (R1.inst k18 (clT1_const (2 * f + 1))).rep.ok.1
    refine ⟨g :: Y, ?_, fun z hz => ?_⟩
    · have e3 : M * (B - 1 - 2) + M = M * (B - 2) := by
        rw [show B - 2 = B - 1 - 2 + 1 by omega, Nat.mul_add, Nat.mul_one]
      rw [List.length_cons, Nat.mul_add]
      omega
    · have hz0 := hz
      rw [eg] at hz
      rcases sub_ntX oput hz with q | q
      · exact Or.inr (Or.inl (by rw [q, ← eg]; exact List.mem_cons_self))
      · rcases y2 z q with w | w | w
        · rw [e1] at w; exact Or.inl (sub_c ma (sub_c mb w))
        · exact Or.inr (Or.inr (Or.inr ⟨sub_const w, k16, by rw [ea]; exact k18⟩))
        · exact Or.inr (Or.inl (List.mem_cons_of_mem _ w))
theorem com_covNU (hM : 8 ≤ M) (hB : 5 ≤ B) (of : okT f) (hRq : isQ f → RepU M N (AtV M ε Sh) B f) (hT : ∀ t, T t → clT1 t) (hlo : loT g = 0) (h : cmF F K T O f g) : ∃ Y : List Nat, (M + 2) * (Y.length + nq g) ≤ M * (B - 2) + ε * N + 14 * nYs Sh + 2 * nXs Sh + 2 ∧ (∀ z, subT z g → subT z f ∨ z ∈ Y ∨ (∃ t, T t ∧ subT z t) ∨ (z = mk 1 (2 * f + 1) [] ∧ kd f = 16 ∧ kd (pa f 0) = 18) ∨ ∃ r, subT r g ∧ isTm r ∧ loT r = 0 ∧ subT z r) ∧ ∀ s p, subN s g → kd s = 17 → p ∈ ps s → kd p ≠ 16 → notT p ∈ Y ∨ szT p = 1 ∨ subN s f := by
  rcases h with ⟨k17, hg⟩ | ⟨k18, t, ht, _, _, eg⟩ | ⟨k16, k17, p, hp, eg⟩ | ⟨k16, k18, _, eg⟩
  · have hl : isFo g := by
      rcases of.n.2 with q | q | q | q | q | q | q | q | q | q | q | q | q | q <;> first | omega | exact (q.2.2.2 g hg).1
    have mg : g ∈ fms f := fms_mem hg (by omega) (isFo_pos hl)
    have hb1 : M * 3 ≤ M * (B - 2) := Nat.mul_le_mul_left M (by omega)
    have hb2 : (M + 2) * nq g ≤ (M + 2) * 1 := Nat.mul_le_mul_left _ (nq_1 g)
    exact ⟨[], by rw [List.length_nil, Nat.zero_add]; omega, fun z hz => Or.inl (sub_c mg hz), fun s p hs _ _ _ => Or.inr (Or.inr (subN_c (by omega) mg hs))⟩
  · obtain ⟨Y, y1, y2, y3⟩ := RepU.allNuq hM (hRq (Or.inl k18)) k18 (hT t ht) (by rw [← eg]; exact hlo)
    obtain ⟨y, b, hp, _, _, _, mb⟩ := ps_all1 of k18
    have e1 : pa f 1 = b := by unfold pa; rw [hp]; rfl
    rw [← eg] at y1 y2 y3
    refine ⟨Y, by omega, fun z hz => ?_, fun s p hs q1 q2 q3 => (y3 s p hs q1 q2 q3).imp id Or.inl⟩
    rcases y2 z hz with q | q | q | q
    · rw [e1] at q; exact Or.inl (sub_c mb q)
    · exact Or.inr (Or.inr (Or.inl ⟨t, ht, q⟩))
    · exact Or.inr (Or.inl q)
    · exact Or.inr (Or.inr (Or.inr (Or.inr q)))
  · have hpm := oL_mem hp
    obtain ⟨a, hpa, fa, _, ma⟩ := ps_not1 of k16
    have ea : pa f 0 = a := by unfold pa; rw [hpa]; rfl
    rw [ea] at hpm k17
    have oa := of.c ma
    have fp : isFo p := by
      rcases oa.n.2 with q | q | q | q | q | q | q | q | q | q | q | q | q | q <;> first | omega | exact (q.2.2.2 p hpm).1
    have mp : p ∈ fms a := fms_mem hpm (by omega) (isFo_pos fp)
    refine ⟨[notT p], ?_, fun z hz => ?_, fun s q hs q1 _ _ => Or.inr (Or.inr ?_)⟩
    · have hb1 : M * 3 ≤ M * (B - 2) := Nat.mul_le_mul_left M (by omega)
      have hb2 : (M + 2) * ([notT p].length + nq g) ≤ (M + 2) * 2 := Nat.mul_le_mul_left _ (by have := nq_1 g; simp only [List.length_cons, List.length_nil]; omega)
      omega
    · rw [eg] at hz
      rcases sub_ntX (oa.c mp) hz with q | q
      · exact Or.inr (Or.inl (by rw [q]; exact List.mem_cons_self))
      · exact Or.inl (sub_c ma (sub_c mp q))
    · rw [eg] at hs
      exact subN_c (by omega) ma (subN_c (by omega) mp (subN_not (oa.c mp) hs q1))
  · obtain ⟨F', E, ⟨o', f', k', z', A'⟩, hE, e'⟩ := (hRq (Or.inr ⟨k16, k18⟩)).nt k16
    have R1 : RepU M N (AtV M ε Sh) (B - 1) (pa f 0) := ⟨F', E, ⟨o', f', by omega, A'⟩, hE, e'⟩
    obtain ⟨a, hpa, fa, _, ma⟩ := ps_not1 of k16
    have ea : pa f 0 = a := by unfold pa; rw [hpa]; rfl
    have oa := of.c ma
    rw [ea] at k18 eg R1
    have oput : okT (sbT (putg (mk 1 (2 * f + 1) [])) 0 (pa a 1)) := (R1.inst k18 (clT1_const (2 * f + 1))).rep.ok.1
    have fput : isFo (sbT (putg (mk 1 (2 * f + 1) [])) 0 (pa a 1)) := (R1.inst k18 (clT1_const (2 * f + 1))).rep.ok.2
    have lput : loT (sbT (putg (mk 1 (2 * f + 1) [])) 0 (pa a 1)) = 0 := by
      rw [eg] at hlo
      exact lo_ntX oput fput hlo
    obtain ⟨Y, y1, y2, y3⟩ := RepU.allNuq hM R1 k18 (clT1_const (2 * f + 1)) lput
    obtain ⟨y, b, hp, _, fb, _, mb⟩ := ps_all1 oa k18
    have e1 : pa a 1 = b := by unfold pa; rw [hp]; rfl
    have gin : ∀ r, subT r (sbT (putg (mk 1 (2 * f + 1) [])) 0 (pa a 1)) → isTm r → subT r g := fun r hr tr => by
      rw [eg]
      exact sub_notT_tm oput fput hr tr
    refine ⟨g :: Y, ?_, fun z hz => ?_, fun s p hs q1 q2 q3 => ?_⟩
    · have e3 : M * (B - 1 - 2) + M = M * (B - 2) := by
        rw [show B - 2 = B - 1 - 2 + 1 by omega, Nat.mul_add, Nat.mul_one]
      have hn : nq g ≤ nq (sbT (putg (mk 1 (2 * f + 1) [])) 0 (pa a 1)) := nq_le (fun q => isQ_nt oput (by rw [← eg]; exact q))
      have h2 : (M + 2) * (Y.length + 1 + nq g) ≤ (M + 2) * (Y.length + nq (sbT (putg (mk 1 (2 * f + 1) [])) 0 (pa a 1))) + (M + 2) := by
        have := Nat.mul_le_mul_left (M + 2) (show Y.length + 1 + nq g ≤ (Y.length + nq (sbT (putg (mk 1 (2 * f + 1) [])) 0 (pa a 1))) + 1 by omega)
        rw [Nat.mul_add (M + 2) _ 1, Nat.mul_one] at this
        exact this
      rw [List.length_cons]
      omega
    · rw [eg] at hz
      rcases sub_ntX oput hz with q | q
      · exact Or.inr (Or.inl (by rw [q, ← eg]; exact List.mem_cons_self))
      · rcases y2 z q with w | w | w | ⟨r, r1, r2, r3, r4⟩
        · rw [e1] at w; exact Or.inl (sub_c ma (sub_c mb w))
        · exact Or.inr (Or.inr (Or.inr (Or.inl ⟨sub_const w, k16, by rw [ea]; exact k18⟩)))
        · exact Or.inr (Or.inl (List.mem_cons_of_mem _ w))
        · exact Or.inr (Or.inr (Or.inr (Or.inr ⟨r, gin r r1 r2, r2, r3, r4⟩)))
    · rw [eg] at hs
      exact (y3 s p (subN_not oput hs q1) q1 q2 q3).imp (List.mem_cons_of_mem _) Or.inl
end COV
def CpU (M B ε N : Nat) (Sh : List Nat) : Nat := M * (B - 2) + ε * N + 14 * nYs Sh + 2 * nXs Sh + 2
theorem CpU_2 {M B ε N : Nat} {Sh : List Nat} (hB : 4 ≤ B) : CpU M B ε N Sh = CpU M (B - 2) ε N Sh + 2 * M := by
  unfold CpU
  have : M * (B - 2) = M * (B - 2 - 2) + 2 * M := by
    rw [show B - 2 = B - 2 - 2 + 2 by omega, Nat.mul_add]
    simp
    omega
  omega
section CVT
variable {W : Wd} {A K0 : Nat → Prop} {M B Nu ε : Nat} {Sh : List Nat}
/-- it comes of something great that was there at the start -/
def BgU (W : Wd) (A K0 : Nat → Prop) (M B Nu ε : Nat) (Sh : List Nat) (r g : Nat) : Prop := ∃ q f, q < r ∧ K0 f ∧ (isQ f ∧ ¬ RepU M Nu (AtV M ε Sh) (B - 2) f) ∧ cmF (facS W (stg W A K0 q).1 (stg W A K0 q).2) (stg W A K0 q).1 (Tof A (stg W A K0 q).2) (stg W A K0 q).2 f g
def CvU (W : Wd) (A K0 : Nat → Prop) (M B Nu ε : Nat) (Sh : List Nat) (r : Nat) (Y G Gb : List Nat) : Prop := (G.Nodup ∧ (∀ g ∈ G, (stg W A K0 r).1 g ∧ ¬ K0 g) ∧ ∀ g, (stg W A K0 r).1 g → K0 g ∨ g ∈ G) ∧ (Gb.Nodup ∧ (∀ g ∈ Gb, g ∈ G) ∧ ∀ g ∈ Gb, BgU W A K0 M B Nu ε Sh r g) ∧ (M + 2) * Y.length ≤ G.length * CpU M (B - 2) ε Nu Sh + Gb.length * (2 * M) ∧ (∀ g, (stg W A K0 r).1 g → ∀ z, subT z g → (∃ f, K0 f ∧ subT z f) ∨ z ∈ Y ∨ HzS W A K0 r z) ∧ (∀ q, q ≤ r → ¬ manyS (facS W (stg W A K0 q).1 (stg W A K0 q).2) → ∀ g, (stg W A K0 q).1 g → ∀ s p, subN s g → kd s = 17 → p ∈ ps s → kd p ≠ 16 → notT p ∈ Y ∨ szT p = 1 ∨ ∃ f, K0 f ∧ subN s f) ∧ (∀ q, q ≤ r → ¬ manyS (facS W (stg W A K0 q).1 (stg W A K0 q).2) → ∀ g, (stg W A K0 q).1 g → ¬ K0 g → kd g = 16 → kd (pa g 0) = 18 → mk 1 (2 * g + 1) [] ∈ Y)
theorem CvU.of (hM : 8 ≤ M) (hB : 7 ≤ B) (hK : ∀ f, K0 f → (okT f ∧ isFo f) ∧ (Liv f → RepU M Nu (AtV M ε Sh) B f)) (hA : ∀ t, A t → clT1 t ∧ ∃ f, K0 f ∧ subT t f) (hlo : ∀ r f, rch W A K0 r → (stg W A K0 r).1 f → loT f = 0) : ∀ r, rch W A K0 r → ∃ Y G Gb, CvU W A K0 M B Nu ε Sh r Y G Gb
  | 0, _ => ⟨[], [], [], ⟨List.nodup_nil, (fun g hg => by cases hg), fun g hg => Or.inl hg⟩, ⟨List.nodup_nil, (fun g hg => by cases hg), fun g hg => by cases hg⟩, by simp, fun g hg z hz => Or.inl ⟨g, hg, hz⟩, fun q hq _ g hg s p hs _ _ _ => Or.inr (Or.inr ⟨g, by rw [show q = 0 by omega] at hg; exact hg, hs⟩), fun q hq _ g hg h0 => absurd (by rw [show q = 0 by omega] at hg; exact hg) h0⟩
  | r + 1, hr => by
    have hr0 := rch_le hr (by omega : r ≤ r + 1)
    obtain ⟨Y, G, Gb, ⟨g1, g2, g3⟩, ⟨b1, b2, b3⟩, c1, c2, c3, c4⟩ := CvU.of hM hB hK hA hlo r hr0
    have hnm : ¬ manyS (facS W (stg W A K0 r).1 (stg W A K0 r).2) := (hr r (by omega)).1
    have hTc : ∀ t, Tof A (stg W A K0 r).2 t → clT1 t := fun t ht => by
      rcases ht with w | ⟨f, _, w⟩
      · exact (hA t w).1
      · rw [w]; exact clT1_const _
    have hRep := stg_repN2 (M := M) (N := Nu) (P := AtV M ε Sh) AtV_up (B := B) (W := W) (A := A) hK (fun t ht => (hA t ht).1)
    have hRok : ∀ r f, (stg W A K0 r).1 f → okT f := fun r f h => (stg_okN (M := M) (N := Nu) (P := AtV M ε Sh) AtV_up (B := B) (W := W) (A := A) hK (fun t ht => (hA t ht).1) r f h).1
    obtain ⟨L, l1, l2, _⟩ := enum_of (rch_400 hr)
    let N := L.filter (fun g => !(@decide ((stg W A K0 r).1 g) (Classical.propDecidable _)))
    have hN : ∀ g, g ∈ N ↔ (stg W A K0 (r + 1)).1 g ∧ ¬ (stg W A K0 r).1 g := fun g => by
      rw [List.mem_filter, l2 g]
      simp
    have Nn : N.Nodup := l1.filter _
    -- what each of them brings
    have each : ∀ (B' : Nat) (g : Nat), 5 ≤ B' → g ∈ N → (∃ f, (stg W A K0 r).1 f ∧ cmF (facS W (stg W A K0 r).1 (stg W A K0 r).2) (stg W A K0 r).1 (Tof A (stg W A K0 r).2) (stg W A K0 r).2 f g ∧ (isQ f → RepU M Nu (AtV M ε Sh) B' f)) → ∃ Yg : List Nat, (M + 2) * Yg.length ≤ CpU M B' ε Nu Sh ∧ ((∀ z, subT z g → (∃ f, K0 f ∧ subT z f) ∨ z ∈ Y ∨ z ∈ Yg ∨ HzS W A K0 (r + 1) z) ∧ (¬ manyS (facS W (stg W A K0 (r + 1)).1 (stg W A K0 (r + 1)).2) → ∀ s p, subN s g → kd s = 17 → p ∈ ps s → kd p ≠ 16 → notT p ∈ Yg ∨ notT p ∈ Y ∨ szT p = 1 ∨ ∃ f, K0 f ∧ subN s f) ∧ (¬ manyS (facS W (stg W A K0 (r + 1)).1 (stg W A K0 (r + 1)).2) → kd g = 16 → kd (pa g 0) = 18 → mk 1 (2 * g + 1) [] ∈ Yg)) := fun B' g hB' hg ⟨f, hf, hcm, hRf⟩ => by
      obtain ⟨hg1, hg2⟩ := (hN g).mp hg
      have fin : ∀ z, subT z f → (∃ f, K0 f ∧ subT z f) ∨ z ∈ Y ∨ HzS W A K0 (r + 1) z := fun z hz => (c2 f hf z hz).imp id (fun q => q.imp id HzS.up)
      have tin : ∀ z t, Tof A (stg W A K0 r).2 t → subT z t → (∃ f, K0 f ∧ subT z f) ∨ HzS W A K0 (r + 1) z := fun z t ht hz => by
        rcases ht with w | ⟨f', w1, w2⟩
        · obtain ⟨_, f', a, b⟩ := hA t w
          exact Or.inl ⟨f', a, sub_tr f' hz b⟩
        · rw [w2] at hz
          obtain ⟨q, q1, q2⟩ := stg_O w1
          exact Or.inr (Or.inr ⟨q, f', by omega, q2.1, q2.2.1, q2.2.2, sub_const hz⟩)
      have con : ∀ z, z = mk 1 (2 * f + 1) [] → kd f = 16 ∧ kd (pa f 0) = 18 → HzS W A K0 (r + 1) z := fun z hz hk => Or.inr ⟨r, f, by omega, hf, hk.1, hk.2, hz⟩
      by_cases hm : manyS (facS W (stg W A K0 (r + 1)).1 (stg W A K0 (r + 1)).2)
      · obtain ⟨Yg, y1, y2⟩ := com_covU hM (by omega) (hRok r f hf) hRf hTc hcm
        refine ⟨Yg, y1, fun z hz => ?_, fun q => absurd hm q, fun q => absurd hm q⟩
        rcases y2 z hz with q | q | ⟨t, t1, t2⟩ | ⟨q, qk⟩
        · exact (fin z q).imp id (fun w => w.imp id Or.inr)
        · exact Or.inr (Or.inr (Or.inl q))
        · exact (tin z t t1 t2).imp id (fun w => Or.inr (Or.inr w))
        · exact Or.inr (Or.inr (Or.inr (con z q qk)))
      · obtain ⟨Y0, y1, y2, y3⟩ := com_covNU hM hB' (hRok r f hf) hRf hTc (hlo (r + 1) g hr hg1) hcm
        have hY : ∃ Yg : List Nat, Yg.length ≤ Y0.length + nq g ∧ (∀ z ∈ Y0, z ∈ Yg) ∧ (kd g = 16 → kd (pa g 0) = 18 → mk 1 (2 * g + 1) [] ∈ Yg) := by
          by_cases hq : isQ g
          · exact ⟨mk 1 (2 * g + 1) [] :: Y0, by rw [nq_t hq, List.length_cons]; exact Nat.le_refl _, fun z h => List.mem_cons_of_mem _ h, fun _ _ => List.mem_cons_self⟩
          · exact ⟨Y0, Nat.le_add_right _ _, fun _ h => h, fun a b => absurd (Or.inr ⟨a, b⟩) hq⟩
        obtain ⟨Yg, yl, yi, yc⟩ := hY
        have y1' : (M + 2) * Yg.length ≤ CpU M B' ε Nu Sh := Nat.le_trans (Nat.mul_le_mul_left _ yl) y1
        refine ⟨Yg, y1', fun z hz => ?_, fun _ s p hs q1 q2 q3 => ?_, fun _ => yc⟩
        · rcases y2 z hz with q | q | ⟨t, t1, t2⟩ | ⟨q, qk⟩ | ⟨r', r1, r2, r3, r4⟩
          · exact (fin z q).imp id (fun w => w.imp id Or.inr)
          · exact Or.inr (Or.inr (Or.inl (yi z q)))
          · exact (tin z t t1 t2).imp id (fun w => Or.inr (Or.inr w))
          · exact Or.inr (Or.inr (Or.inr (con z q qk)))
          · exact Or.inr (Or.inr (Or.inr (Or.inl ⟨r + 1, r', Nat.le_refl _, hm, (Der_clo W _ _).1.1 g hg1 r' r1 r2 r3, r4⟩)))
        · rcases y3 s p hs q1 q2 q3 with q | q | q
          · exact Or.inl (yi _ q)
          · exact Or.inr (Or.inr (Or.inl q))
          · rcases c3 r (Nat.le_refl _) hnm f hf s p q q1 q2 q3 with w | w | w
            · exact Or.inr (Or.inl w)
            · exact Or.inr (Or.inr (Or.inl w))
            · exact Or.inr (Or.inr (Or.inr w))
    -- those that come of what is small
    let Sm : Nat → Prop := fun g => ∃ f, (stg W A K0 r).1 f ∧ cmF (facS W (stg W A K0 r).1 (stg W A K0 r).2) (stg W A K0 r).1 (Tof A (stg W A K0 r).2) (stg W A K0 r).2 f g ∧ (isQ f → RepU M Nu (AtV M ε Sh) (B - 2) f)
    let N1 := N.filter (fun g => @decide (Sm g) (Classical.propDecidable _))
    let N2 := N.filter (fun g => !(@decide (Sm g) (Classical.propDecidable _)))
    have hN1 : ∀ g, g ∈ N1 ↔ g ∈ N ∧ Sm g := fun g => by rw [List.mem_filter]; simp
    have hN2 : ∀ g, g ∈ N2 ↔ g ∈ N ∧ ¬ Sm g := fun g => by rw [List.mem_filter]; simp
    have N2n : N2.Nodup := Nn.filter _
    have lenN : N1.length + N2.length = N.length := by
      have := (sum_split (f := fun _ => 0) (p := fun g => @decide (Sm g) (Classical.propDecidable _)) N).2
      exact this.symm
    have big : ∀ g ∈ N2, ∃ f, K0 f ∧ (isQ f ∧ ¬ RepU M Nu (AtV M ε Sh) (B - 2) f) ∧ cmF (facS W (stg W A K0 r).1 (stg W A K0 r).2) (stg W A K0 r).1 (Tof A (stg W A K0 r).2) (stg W A K0 r).2 f g := fun g hg => by
      obtain ⟨h1, h2⟩ := (hN2 g).mp hg
      obtain ⟨hg1, hg2⟩ := (hN g).mp h1
      obtain ⟨f, hf, hcm⟩ : comS W A (stg W A K0 r).1 (stg W A K0 r).2 g := hg1.resolve_left hg2
      rcases hRep r f hf with w | w
      · refine ⟨f, w, ?_, hcm⟩
        by_cases q : isQ f
        · exact ⟨q, fun q' => h2 ⟨f, hf, hcm, fun _ => q'⟩⟩
        · exact absurd ⟨f, hf, hcm, fun q' => absurd q' q⟩ h2
      · exact absurd ⟨f, hf, hcm, fun _ => w⟩ h2
    obtain ⟨Z1, z11, z12⟩ := list_cov N1 (fun g hg => each (B - 2) g (by omega) ((hN1 g).mp hg).1 ((hN1 g).mp hg).2)
    obtain ⟨Z2, z21, z22⟩ := list_cov N2 (fun g hg => by
      obtain ⟨f, w1, w2, w3⟩ := big g hg
      exact each B g (by omega) ((hN2 g).mp hg).1 ⟨f, stg_0 w1, w3, fun hq => (hK f w1).2 (isQ_liv hq)⟩)
    have eCp := CpU_2 (M := M) (ε := ε) (N := Nu) (Sh := Sh) (show 4 ≤ B by omega)
    have z2 : ∀ g ∈ N, ∃ Yg, ((∀ z, subT z g → (∃ f, K0 f ∧ subT z f) ∨ z ∈ Y ∨ z ∈ Yg ∨ HzS W A K0 (r + 1) z) ∧ (¬ manyS (facS W (stg W A K0 (r + 1)).1 (stg W A K0 (r + 1)).2) → ∀ s p, subN s g → kd s = 17 → p ∈ ps s → kd p ≠ 16 → notT p ∈ Yg ∨ notT p ∈ Y ∨ szT p = 1 ∨ ∃ f, K0 f ∧ subN s f) ∧ (¬ manyS (facS W (stg W A K0 (r + 1)).1 (stg W A K0 (r + 1)).2) → kd g = 16 → kd (pa g 0) = 18 → mk 1 (2 * g + 1) [] ∈ Yg)) ∧ ∀ z ∈ Yg, z ∈ Z1 ++ Z2 := fun g hg => by
      by_cases q : Sm g
      · obtain ⟨Yg, a1, a2⟩ := z12 g ((hN1 g).mpr ⟨hg, q⟩)
        exact ⟨Yg, a1, fun z hz => List.mem_append_left _ (a2 z hz)⟩
      · obtain ⟨Yg, a1, a2⟩ := z22 g ((hN2 g).mpr ⟨hg, q⟩)
        exact ⟨Yg, a1, fun z hz => List.mem_append_right _ (a2 z hz)⟩
    refine ⟨Y ++ (Z1 ++ Z2), G ++ N, Gb ++ N2, ⟨List.nodup_append.mpr ⟨g1, Nn, fun x hx y hy e => ((hN y).mp hy).2 (by rw [← e]; exact (g2 x hx).1)⟩, fun g hg => ?_, fun g hg => ?_⟩, ⟨List.nodup_append.mpr ⟨b1, N2n, fun x hx y hy e => ((hN y).mp ((hN2 y).mp hy).1).2 (by rw [← e]; exact (g2 x (b2 x hx)).1)⟩, fun g hg => ?_, fun g hg => ?_⟩, ?_, fun g hg z hz => ?_, fun q hq hm g hg s p hs q1 q2 q3 => ?_, fun q hq hm g hg h0 k16 k18 => ?_⟩
    · rcases List.mem_append.mp hg with w | w
      · exact ⟨stg_up (g2 g w).1, (g2 g w).2⟩
      · exact ⟨((hN g).mp w).1, fun q => ((hN g).mp w).2 (stg_0 q)⟩
    · by_cases w : (stg W A K0 r).1 g
      · exact (g3 g w).imp id (List.mem_append_left _)
      · exact Or.inr (List.mem_append_right _ ((hN g).mpr ⟨hg, w⟩))
    · rcases List.mem_append.mp hg with w | w
      · exact List.mem_append_left _ (b2 g w)
      · exact List.mem_append_right _ ((hN2 g).mp w).1
    · rcases List.mem_append.mp hg with w | w
      · obtain ⟨q, f, a1, a2⟩ := b3 g w
        exact ⟨q, f, by omega, a2⟩
      · obtain ⟨f, w1, w2, w3⟩ := big g w
        exact ⟨r, f, by omega, w1, w2, w3⟩
    · rw [List.length_append, List.length_append, List.length_append, List.length_append, Nat.mul_add, Nat.mul_add, Nat.add_mul G.length, Nat.add_mul Gb.length, ← lenN, Nat.add_mul N1.length]
      rw [eCp, Nat.mul_add] at z21
      omega
    · by_cases w : (stg W A K0 r).1 g
      · rcases c2 g w z hz with q | q | q
        · exact Or.inl q
        · exact Or.inr (Or.inl (List.mem_append_left _ q))
        · exact Or.inr (Or.inr q.up)
      · obtain ⟨Yg, ⟨a1, _⟩, a2⟩ := z2 g ((hN g).mpr ⟨hg, w⟩)
        rcases a1 z hz with q | q | q | q
        · exact Or.inl q
        · exact Or.inr (Or.inl (List.mem_append_left _ q))
        · exact Or.inr (Or.inl (List.mem_append_right _ (a2 z q)))
        · exact Or.inr (Or.inr q)
    · by_cases hqr : q ≤ r
      · rcases c3 q hqr hm g hg s p hs q1 q2 q3 with w | w
        · exact Or.inl (List.mem_append_left _ w)
        · exact Or.inr w
      rw [show q = r + 1 by omega] at hm hg
      by_cases w : (stg W A K0 r).1 g
      · rcases c3 r (Nat.le_refl _) hnm g w s p hs q1 q2 q3 with q | q
        · exact Or.inl (List.mem_append_left _ q)
        · exact Or.inr q
      · obtain ⟨Yg, ⟨_, a1, _⟩, a2⟩ := z2 g ((hN g).mpr ⟨hg, w⟩)
        rcases a1 hm s p hs q1 q2 q3 with q | q | q
        · exact Or.inl (List.mem_append_right _ (a2 _ q))
        · exact Or.inl (List.mem_append_left _ q)
        · exact Or.inr q
    · by_cases hqr : q ≤ r
      · exact List.mem_append_left _ (c4 q hqr hm g hg h0 k16 k18)
      rw [show q = r + 1 by omega] at hm hg
      by_cases w : (stg W A K0 r).1 g
      · exact List.mem_append_left _ (c4 r (Nat.le_refl _) hnm g w h0 k16 k18)
      · obtain ⟨Yg, ⟨_, _, a1⟩, a2⟩ := z2 g ((hN g).mpr ⟨hg, w⟩)
        exact List.mem_append_right _ (a2 _ (a1 hm k16 k18))
/-- few come of the great ones: one for each term at hand -/
theorem Bg_fewU {R : Nat} (hr : rch W A K0 (R + 1)) (hA : ∀ t, A t → clT1 t ∧ ∃ f, K0 f ∧ subT t f) {L : List Nat} (hL : ∀ f, K0 f → isQ f → ¬ RepU M Nu (AtV M ε Sh) (B - 2) f → f ∈ L) {Gb : List Nat} (hn : Gb.Nodup) (hG : ∀ g ∈ Gb, BgU W A K0 M B Nu ε Sh (R + 1) g) : Gb.length ≤ 100 * L.length := by
  have hnm : ¬ manyS (facS W (stg W A K0 R).1 (stg W A K0 R).2) := (hr R (by omega)).1
  -- the terms at hand at the last stage that goes on
  obtain ⟨H, h1, h2, h3⟩ := enum_of (S := fun t => fH (facS W (stg W A K0 R).1 (stg W A K0 R).2) t) (n := 100) (fun l a b => by
    rcases Nat.lt_or_ge 100 l.length with q | q
    · exact absurd ⟨l.take 101, a.sublist (List.take_sublist _ _), by rw [List.length_take]; omega, fun t ht => b t (List.mem_of_mem_take ht)⟩ hnm
    · exact q)
  have hT : ∀ q t, q ≤ R → Tof A (stg W A K0 q).2 t → t ∈ H := fun q t hq ht => by
    rw [h2]
    rcases ht with w | ⟨f, w1, w2⟩
    · obtain ⟨c, f, a, b⟩ := hA t w
      exact (Der_clo W _ _).1.1 f (stg_0 a) t b c.2.1 c.2.2
    · refine (Der_clo W _ _).1.2.1 t ⟨f, ?_, w2⟩
      exact stg_Ole hq w1
  let out : Nat → List Nat := fun f => if kd f = 18 then H.map (fun t => sbT (putg t) 0 (pa f 1)) else [notT (sbT (putg (mk 1 (2 * f + 1) [])) 0 (pa (pa f 0) 1))]
  by_cases hz : L = []
  · cases Gb with
    | nil => exact Nat.zero_le _
    | cons g Gb =>
      obtain ⟨q, f, _, b1, ⟨b2, b3⟩, _⟩ := hG g List.mem_cons_self
      have := hL f b1 b2 b3
      rw [hz] at this
      cases this
  have hout : ∀ f, (out f).length ≤ max H.length 1 := fun f => by
    show (if kd f = 18 then H.map (fun t => sbT (putg t) 0 (pa f 1)) else [notT (sbT (putg (mk 1 (2 * f + 1) [])) 0 (pa (pa f 0) 1))]).length ≤ _
    split
    · rw [List.length_map]; omega
    · simp; omega
  have h4 : Gb.length ≤ (L.flatMap out).length := nd_lenL _ _ hn (fun g hg => by
    obtain ⟨q, f, b0, b1, ⟨b2, b3⟩, b4⟩ := hG g hg
    refine List.mem_flatMap.mpr ⟨f, hL f b1 b2 b3, ?_⟩
    show g ∈ (if kd f = 18 then H.map (fun t => sbT (putg t) 0 (pa f 1)) else [notT (sbT (putg (mk 1 (2 * f + 1) [])) 0 (pa (pa f 0) 1))])
    rcases b4 with ⟨k17, _⟩ | ⟨k18, t, ht, _, _, eg⟩ | ⟨k16, k17, _⟩ | ⟨k16, k18, _, eg⟩
    · unfold isQ at b2; omega
    · rw [if_pos k18]
      exact List.mem_map.mpr ⟨t, hT q t (by omega) ht, eg.symm⟩
    · unfold isQ at b2; omega
    · rw [if_neg (by omega)]
      exact List.mem_singleton.mpr eg)
  have h5 : (L.flatMap out).length ≤ max H.length 1 * L.length := by
    rw [List.length_flatMap]
    exact sum_le_c (fun f _ => hout f)
  have h6 : max H.length 1 * L.length ≤ 100 * L.length := Nat.mul_le_mul_right _ (by omega)
  omega
end CVT
