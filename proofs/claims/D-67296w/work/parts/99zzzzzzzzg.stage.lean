/-! a case round by round -/
def stg (W : Wd) (A K0 : Nat → Prop) : Nat → (Nat → Prop) × (Nat → Prop)
  | 0 => (K0, fun _ => False)
  | r + 1 => (nxK W A (stg W A K0 r).1 (stg W A K0 r).2, nxO (stg W A K0 r).1 (stg W A K0 r).2)
/-- the case goes on -/
def Cnd (W : Wd) (A K O : Nat → Prop) : Prop := ¬ manyS (facS W K O) ∧ ¬ conS (facS W K O) K ∧ (∃ g, comS W A K O g ∧ ¬ K g) ∧ ¬ overS (nxK W A K O)
def rch (W : Wd) (A K0 : Nat → Prop) (r : Nat) : Prop := ∀ q, q < r → Cnd W A (stg W A K0 q).1 (stg W A K0 q).2
theorem RfX_of {W : Wd} {A K0 : Nat → Prop} {X : XFm} {ν0 : Nat → Nat} {u0 : Sg} (h : ∀ r, rch W A K0 r → XSt W A X (stg W A K0 r).1 (stg W A K0 r).2 ∧ LimB ν0 u0 (facS W (stg W A K0 r).1 (stg W A K0 r).2) X (stg W A K0 r).1 (comS W A (stg W A K0 r).1 (stg W A K0 r).2)) : ∀ (n r : Nat), rch W A K0 r → RfX W A X ν0 u0 n (stg W A K0 r).1 (stg W A K0 r).2
  | 0, r, hr => ⟨(h r hr).1, (h r hr).2, fun _ _ _ _ => trivial⟩
  | n + 1, r, hr => ⟨(h r hr).1, (h r hr).2, fun a b c d => RfX_of h n (r + 1) (fun q hq => by
    rcases Nat.lt_or_ge q r with w | w
    · exact hr q w
    · rw [show q = r by omega]
      exact ⟨a, b, c, d⟩)⟩
theorem RfTX_of {W : Wd} {A K0 : Nat → Prop} {X : XFm} {ν0 : Nat → Nat} {u0 : Sg} (h : ∀ r, rch W A K0 r → XSo W A X (stg W A K0 r).1 (stg W A K0 r).2 ∧ LimBT ν0 u0 (facS W (stg W A K0 r).1 (stg W A K0 r).2) X (stg W A K0 r).1 (comS W A (stg W A K0 r).1 (stg W A K0 r).2) (mkF (facS W (stg W A K0 r).1 (stg W A K0 r).2) (stg W A K0 r).1 (Tof A (stg W A K0 r).2) (stg W A K0 r).2)) : ∀ (n r : Nat), rch W A K0 r → RfTX W A X ν0 u0 n (stg W A K0 r).1 (stg W A K0 r).2
  | 0, r, hr => ⟨(h r hr).1, (h r hr).2, fun _ _ _ _ => trivial⟩
  | n + 1, r, hr => ⟨(h r hr).1, (h r hr).2, fun a b c d => RfTX_of h n (r + 1) (fun q hq => by
    rcases Nat.lt_or_ge q r with w | w
    · exact hr q w
    · rw [show q = r by omega]
      exact ⟨a, b, c, d⟩)⟩
theorem Rep.inst {P : Nat → Prop} {B f t : Nat} (h : Rep P B f) (h18 : kd f = 18) (ht : clT1 t) : Rep P B (sbT (putg t) 0 (pa f 1)) := by
  obtain ⟨F, E, ⟨ho, hf, hz, hA⟩, hE, e⟩ := h
  have hk : ¬ kd F ≤ 3 := by unfold isFo at hf; omega
  have k1 := (sb_kd (g := gv E) (d := 0) hk).1
  have kF : kd F = 18 := by rw [e, k1] at h18; exact h18
  obtain ⟨y, b, hp, y8, fb, my, mb⟩ := ps_all1 ho kF
  have ob := ho.c mb
  have e1 : pa f 1 = odT E 0 b := by
    have := (fms_all (d := 0) (gv_0 hE) kF hp (okT_0 (ho.c my)) (okT_0 ob)).2
    unfold pa
    rw [e, this]
    rfl
  have := sz_subT F ho (sub_c mb (sub_rf b))
  exact ⟨b, cE t E, ⟨ob, fb, by omega, hA.sub (sub_c mb (sub_rf b))⟩, clE1.c ht hE, by rw [e1]; exact put_gv hE b ob 0⟩
/-- NOT of something: what is below -/
theorem Rep.nt {P : Nat → Prop} {B f : Nat} (h : Rep P B f) (h16 : kd f = 16) : ∃ F E, (okT F ∧ isFo F ∧ kd F ≠ 16 ∧ szT F + 1 ≤ B ∧ Alls P F) ∧ clE1 E ∧ pa f 0 = sbT (gv E) 0 F := by
  obtain ⟨F, E, ⟨ho, hf, hz, hA⟩, hE, e⟩ := h
  have hk : ¬ kd F ≤ 3 := by unfold isFo at hf; omega
  have k1 := (sb_kd (g := gv E) (d := 0) hk).1
  have kF : kd F = 16 := by rw [e, k1] at h16; exact h16
  obtain ⟨g, hp, fg, kg, mg⟩ := ps_not1 ho kF
  have pS : ps (sbT (gv E) 0 F) = [sbT (gv E) 0 g] := by
    rw [ps_map (Or.inl kF) (fun c hc => by rw [hp, List.mem_singleton] at hc; rw [hc]; exact isFo_pos fg), hp]; rfl
  have hs : szT F = 1 + szT g := by rw [sz_pl (okT_0 ho) (by omega), hp]; simp
  exact ⟨g, E, ⟨ho.c mg, fg, kg, by omega, hA.sub (sub_c mg (sub_rf g))⟩, hE, by unfold pa; rw [e, pS]; rfl⟩
theorem Rep.nand {P : Nat → Prop} (hP : ∀ s, 15 ≤ kd s → P s) {B f p : Nat} (h : Rep P B f) (h16 : kd f = 16) (h17 : kd (pa f 0) = 17) (hp : p ∈ ps (pa f 0)) : Rep P B (notT p) := by
  obtain ⟨F, E, ⟨ho, hf, kF, hz, hA⟩, hE, e⟩ := h.nt h16
  have h1 : Rep P (B - 1) (pa f 0) := ⟨F, E, ⟨ho, hf, by omega, hA⟩, hE, e⟩
  have h2 := (h1.and h17 hp).not hP
  rw [show B - 1 + 1 = B by have := sz_fms (okT_0 ho); omega] at h2
  exact h2
theorem Rep.nall {P : Nat → Prop} (hP : ∀ s, 15 ≤ kd s → P s) {B f t : Nat} (h : Rep P B f) (h16 : kd f = 16) (h18 : kd (pa f 0) = 18) (ht : clT1 t) : Rep P B (notT (sbT (putg t) 0 (pa (pa f 0) 1))) := by
  obtain ⟨F, E, ⟨ho, hf, kF, hz, hA⟩, hE, e⟩ := h.nt h16
  have h1 : Rep P (B - 1) (pa f 0) := ⟨F, E, ⟨ho, hf, by omega, hA⟩, hE, e⟩
  have h2 := (h1.inst h18 ht).not hP
  rw [show B - 1 + 1 = B by have := sz_fms (okT_0 ho); omega] at h2
  exact h2
theorem oL_mem {F : Fs} {K : Nat → Prop} {g p : Nat} (h : oL F K g p) : p ∈ ps g := by
  obtain ⟨i, h1, h2, _⟩ := h
  rw [h2]
  exact List.mem_of_getElem? (pa_get h1)
/-- what comes is of that form too -/
theorem Rep.com {P : Nat → Prop} (hP : ∀ s, 15 ≤ kd s → P s) {B : Nat} {F : Fs} {K T O : Nat → Prop} {g : Nat} (hK : ∀ f, K f → Rep P B f) (hT : ∀ t, T t → clT1 t) (h : cmeS F K T O g) : Rep P B g := by
  obtain ⟨f, hf, q | ⟨q1, t, q2, _, _, q5⟩ | ⟨q1, q2, p, q3, q4⟩ | ⟨q1, q2, _, q4⟩⟩ := h
  · exact (hK f hf).and q.1 q.2
  · rw [q5]; exact (hK f hf).inst q1 (hT t q2)
  · rw [q4]; exact (hK f hf).nand hP q1 q2 (oL_mem q3)
  · rw [q4]; exact (hK f hf).nall hP q1 q2 (clT1_const _)
theorem Rep.ok {P : Nat → Prop} {B f : Nat} (h : Rep P B f) : okT f ∧ isFo f := by
  obtain ⟨F, E, ⟨ho, hf, _, _⟩, hE, e⟩ := h
  rw [e]
  exact ⟨okT_sb F ho (gOn_gv hE ho) 0, (sb_fo hf).1⟩
theorem stg_rep {P : Nat → Prop} (hP : ∀ s, 15 ≤ kd s → P s) {B : Nat} {W : Wd} {A K0 : Nat → Prop} (hK : ∀ f, K0 f → Rep P B f) (hA : ∀ t, A t → clT1 t) : ∀ (r f : Nat), (stg W A K0 r).1 f → Rep P B f
  | 0, f, h => hK f h
  | r + 1, f, h => by
    rcases h with q | q
    · exact stg_rep hP hK hA r f q
    · refine Rep.com hP (stg_rep hP hK hA r) (fun t ht => ?_) q
      rcases ht with w | ⟨_, _, w⟩
      · exact hA t w
      · rw [w]; exact clT1_const _
