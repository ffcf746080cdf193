/-! what a case may make: with terms alone; none of it has many parts -/
def X2R (W : Wd) (Fo : List Nat) (A K0 X : Nat → Prop) : XFm := (X21 W Fo A K0 X, fun t z => X22 W Fo t z ∧ okT t ∧ isTm t)
theorem XSt.rs {W : Wd} {Fo : List Nat} {A K0 X K O : Nat → Prop} (h : XSt W A (X2F W Fo A K0 X) K O) (hT : ∀ t, fH (facS W K O) t → okT t ∧ isTm t) : XSt W A (X2R W Fo A K0 X) K O := by
  obtain ⟨h1, h2, h3, h4⟩ := h
  have hc := Der_clo W K (newc O)
  refine ⟨fun t ht => ⟨(h1 t ht).1.mono (fun z q => ⟨q, hT t ht⟩), fun z hz => ⟨fun p0 => ((h1 t ht).2 z hz).1 p0, fun p0 => (((h1 t ht).2 z hz).2 p0).mono (fun z' q => ⟨q, hT _ ((hc.1.2.2.2.1 t ht z hz).2.2 p0)⟩)⟩⟩, fun t ht k g hg hs ho => ?_, fun f hf k => ⟨(h3 f hf k).1, fun z hz => ⟨fun p0 => ((h3 f hf k).2 z hz).1 p0, fun p0 => (((h3 f hf k).2 z hz).2 p0).mono (fun z' q => ⟨q, hT _ ((hc.1.2.2.2.2 f hf k z hz).2.2 p0)⟩)⟩⟩, h4⟩
  obtain ⟨a1, a2, a3⟩ := h2 t ht k g hg hs ho
  exact ⟨fun q => ImT.mono (fun z w => ⟨w, hT t ht⟩) _ _ (a1 q), fun q1 q => ImT.mono (fun z w => ⟨w, hT t ht⟩) _ _ (a2 q1 q), fun q1 q => ImT.mono (fun z w => ⟨w, hT t ht⟩) _ _ (a3 q1 q)⟩
theorem kd_s8 {c s : Nat} (ho : okT c) (h8 : kd c ≤ 8) (h : subT s c) : kd s ≤ 8 := by
  rw [subT_eq] at h
  rcases h with q | ⟨z, hz, q⟩
  · rw [q]; exact h8
  · exact kd_sub8 ho h8 hz q
theorem p5_ok {z : Nat} (ho : okT z) (h17 : kd z = 17 → (ps z).length ≤ 5000) : P5 z := by
  unfold P5
  rcases ho.n.2 with q | q | q | q | q | q | q | q | q | q | q | q | q | q
  · rw [q.2]; exact Nat.zero_le _
  · rw [q.2]; exact Nat.zero_le _
  · rw [q.2.1]; exact Nat.zero_le _
  · have := q.2.1; omega
  · obtain ⟨_, _, y, e, _⟩ := q
    rw [e]; simp
  · obtain ⟨_, a, js, e, _, hl, _⟩ := q
    rw [e, List.length_cons]; omega
  · rw [q.2.2]; exact Nat.zero_le _
  · obtain ⟨_, _, a, b, e, _⟩ := q
    rw [e]; simp
  · have := q.2.1; omega
  · obtain ⟨_, a, e, _⟩ := q
    rw [e]; simp
  · obtain ⟨_, a, b, e, _⟩ := q
    rw [e]; simp
  · obtain ⟨_, _, f, e, _⟩ := q
    rw [e]; simp
  · exact h17 q.1
  · obtain ⟨_, _, y, f, e, _⟩ := q
    rw [e]; simp
theorem szQ_sub : ∀ (g : Nat), okT g → isFo g → ∀ z, subT z g → isFo z → szQ z ≤ szQ g := by
  intro g
  induction g using Nat.strongRecOn with
  | ind g ih =>
    intro ho hf z hz fz
    rw [subT_eq] at hz
    rcases hz with q | ⟨c, hc, q⟩
    · rw [q]; exact Nat.le_refl _
    · have oc := ho.c hc
      by_cases fc : isFo c
      · have h1 := ih c (fms_lt hc) oc fc z q fz
        have h2 := g_c (szQ_ex (isFo_pos hf) (by unfold isFo at hf; omega)) hc
        omega
      · exfalso
        have k8 : kd c ≤ 8 := by
          rcases oc.n.2 with w | w | w | w | w | w | w | w | w | w | w | w | w | w <;> first | omega | (exfalso; apply fc; unfold isFo; omega)
        have := kd_s8 oc k8 q
        unfold isFo at fz
        omega
theorem p5_szQ {g z : Nat} (ho : okT g) (hf : isFo g) (hB : szQ g ≤ 300) (hz : subT z g) : P5 z := by
  have oz := sub_ok g ho hz
  refine p5_ok oz (fun k => ?_)
  have fz : isFo z := by unfold isFo; omega
  have h1 := szQ_sub g ho hf z hz fz
  have h2 : szQ z = exp1 szQ z := szQ_ex (isFo_pos fz) (by omega)
  unfold exp1 at h2
  rw [if_neg (by omega)] at h2
  have hl : ∀ p ∈ ps z, isFo p := by
    rcases oz.n.2 with q | q | q | q | q | q | q | q | q | q | q | q | q | q <;> first | omega | exact fun p hp => (q.2.2.2 p hp).1
  have h3 := sum_pos2 ((ps z).map szQ) (fun x hx => by
    obtain ⟨p, hp, e⟩ := List.mem_map.mp hx
    have fp := hl p hp
    have h4 : szQ p = exp1 szQ p := szQ_ex (isFo_pos fp) (by unfold isFo at fp; omega)
    unfold exp1 at h4
    rw [if_neg (by unfold isFo at fp; omega)] at h4
    omega)
  rw [List.length_map] at h3
  omega
theorem p5_sb {s : Nat} {g : Nat → Nat → Nat} (ho : okT s) (h8 : kd s ≤ 8) (hg : kd s ≤ 3 → P5 (g 0 s)) : P5 (sbT g 0 s) := by
  by_cases k3 : kd s ≤ 3
  · rw [sbT_eq, if_pos k3]; exact hg k3
  · have h := p5_ok ho (fun q => by omega)
    unfold P5 at h ⊢
    rw [(sb_kd (g := g) (d := 0) k3).2.2, chm_len]
    exact h
theorem p5_lf {s : Nat} (ho : okT s) (h : kd s ≤ 3) : P5 s := p5_ok ho (fun q => by omega)
theorem p5_tp {t i : Nat} (ho : okT t) (ht : isTm t) : P5 (pa t i) := by
  have z0 : P5 0 := by unfold P5; rw [ps0]; exact Nat.zero_le _
  by_cases hi : i < (ps t).length
  · by_cases h0 : pa t i = 0
    · rw [h0]; exact z0
    · have hm : pa t i ∈ fms t := fms_at.mpr ⟨i, Or.inl (by unfold isTm at ht; omega), pa_get hi, h0⟩
      exact p5_ok (ho.c hm) (fun q => by
        have := kd_14 ho.n (by unfold isTm at ht; omega) hm
        unfold isTm at ht
        omega)
  · have : pa t i = 0 := by
      unfold pa
      rw [List.getElem?_eq_none (by omega)]
      rfl
    rw [this]; exact z0
section P5R
variable {W : Wd} {N : Nat → Prop} {Fo : List Nat} {K0 X : Nat → Prop} {B : Nat}
theorem p5_rs (hB : B ≤ 300) (hF : ∀ f ∈ Fo, okT f) (hX : ∀ z, X z → P5 z) (hK : ∀ r, KOK W N B (stg W (aS K0) K0 r).1 (stg W (aS K0) K0 r).2) : ∀ H z, xf (X2R W Fo (aS K0) K0 X) H z → P5 z := fun H z hz => by
  have z0 : P5 0 := by unfold P5; rw [ps0]; exact Nat.zero_le _
  have lc : ∀ f s, f ∈ Fo → kd f ≤ 8 → subT s f → okT s ∧ kd s ≤ 8 := fun f s hf k hs => ⟨sub_ok f (hF f hf) hs, kd_s8 (hF f hf) k hs⟩
  have kn : ∀ r f s, (stg W (aS K0) K0 r).1 f → subT s f → P5 s := fun r f s hf hs => by
    obtain ⟨a, _, b, c⟩ := hK r f hf
    exact p5_szQ a.1 b (by omega) hs
  rcases hz with (w | ⟨f, hf, k, s, hs, e⟩ | ⟨r, hr, w⟩) | ⟨t, ht, ⟨f, hf, k, s, hs, e⟩, ot, tt⟩
  · exact hX z w
  · obtain ⟨os, ks⟩ := lc f s hf k hs
    rw [e]
    refine p5_sb os ks (fun k3 => ?_)
    unfold locg
    split
    · split <;> exact z0
    · exact p5_lf os k3
  · rcases w with ⟨f, f1, f2, e⟩ | ⟨hm, f, s, p, f1, hs, k17, hp, e⟩ | ⟨hm, hc, f, f1, k16, k18, ho, e⟩ | ⟨hm, hc, hv, g, g1, g2, hz⟩
    · rw [e]; unfold P5; rw [ps_mk]; simp
    · obtain ⟨a, _, b, c⟩ := hK r f f1
      have hsub := subN_T f hs
      have os := sub_ok f a.1 hsub
      have fp : isFo p := by
        rcases os.n.2 with q | q | q | q | q | q | q | q | q | q | q | q | q | q <;> first | omega | exact (q.2.2.2 p hp).1
      have mp : p ∈ fms s := fms_mem hp (by omega) (isFo_pos fp)
      have op := os.c mp
      rw [e]
      by_cases h16 : kd p = 16
      · obtain ⟨g, hp', fg, kg, mg⟩ := ps_not1 op h16
        have en : notT p = g := by unfold notT; rw [if_pos h16, hp']; rfl
        rw [en]
        exact kn r f g f1 (sub_tr f (sub_c mp (sub_c mg (sub_rf g))) hsub)
      · unfold notT P5
        rw [if_neg h16, ps_mk]
        simp
    · obtain ⟨a, b, c, d⟩ := hK r f f1
      rcases e with e | e
      · rw [e]; unfold P5; rw [ps_mk]; simp
      · obtain ⟨r1, r2, r3⟩ := (eq_len a).2.2 k16
        have og := a.1.c r2
        obtain ⟨ty, bd, e1, py, pb, k8, hbf, my, mb, _⟩ := all_parts og k18
        have hl : (ps (pa (pa f 0) 1)).length ≤ 5000 := by
          have := kn r f (pa (pa f 0) 1) f1 (sub_c r2 (sub_c (by rw [pb]; exact mb) (sub_rf _)))
          exact this
        rw [e]
        unfold P5
        rw [(sb_kd (g := putg (mk 1 (2 * f + 1) [])) (d := 0) (t := pa (pa f 0) 1) (by rw [pb]; unfold isFo at hbf; omega)).2.2, chm_len]
        exact hl
    · exact kn (r + 1) g z (Or.inr g1) hz
  · obtain ⟨os, ks⟩ := lc f s hf k hs
    rcases e with e | e
    · rw [e]
      refine p5_sb os ks (fun k3 => ?_)
      unfold locg
      split
      · split <;> exact p5_tp ot tt
      · exact p5_lf os k3
    · rw [e]
      refine p5_sb os ks (fun k3 => ?_)
      unfold locg
      split
      · split
        · exact p5_ok ot (fun q => by unfold isTm at tt; omega)
        · exact z0
      · exact p5_lf os k3
end P5R
