/-! names in kept formulas: joins -/
theorem NmL.fF {W : Wd} {c f : Nat} (h : fF W (Nm nu2 c) f) : NmL c f := NmL.cl h.1.1.1 h.1.2.1 h.1.1
theorem NmL.yes {c : Nat} : NmL c yesT := by
  refine ⟨[], Nat.zero_le _, fun l hl k1 => ?_, fun j hj => ?_⟩
  · rw [lvT_eq, if_neg (by unfold yesT; rw [kd_mk]; decide)] at hl
    unfold yesT at hl
    rw [fms_nil] at hl
    cases hl
  · obtain ⟨z, hz, _⟩ := (hv_pl (t := yesT) (by unfold yesT; rw [kd_mk]; decide) (by unfold yesT; rw [kd_mk]; decide)).mp hj
    unfold yesT at hz
    rw [fms_nil] at hz
    cases hz
theorem Alls.top {P : Nat → Prop} {f : Nat} (h0 : P f) (h : ∀ c ∈ fms f, Alls P c) : Alls P f := fun s hs => by
  rw [subT_eq] at hs
  rcases hs with e | ⟨c, h1, h2⟩
  · rw [e]; exact h0
  · exact h c h1 s h2
theorem NmA.not {W : Wd} {c f : Nat} (h : fF W (Nm nu2 c) f) (ha : Alls (NmL c) f) : Alls (NmL c) (notT f) := by
  have h0 := NmL.fF (fF_not h).1
  unfold notT at h0 ⊢
  by_cases h16 : kd f = 16
  · rw [if_pos h16] at h0 ⊢
    obtain ⟨g, e, _, _, hg⟩ := ps_not1 h.1.1.1 h16
    rw [e]
    exact ha.sub (sub_c hg (sub_rf g))
  · rw [if_neg h16] at h0 ⊢
    refine Alls.top h0 (fun z hz => ?_)
    have := (fms_ps hz).1
    rw [ps_mk, List.mem_singleton] at this
    rw [this]; exact ha
theorem NmA.and {W : Wd} {c : Nat} {L : List Nat} (h : ∀ f ∈ L, fF W (Nm nu2 c) f ∧ Alls (NmL c) f) : Alls (NmL c) (andT L) := by
  have hfl : ∀ g ∈ L.flatMap flt, Alls (NmL c) g := fun g hg => by
    obtain ⟨f, hf, q⟩ := List.mem_flatMap.mp hg
    rcases flt_in q with e | ⟨e, z⟩
    · rw [e]; exact (h f hf).2
    · have hfo : isFo g := by
        rcases (h f hf).1.1.1.1.n.2 with q | q | q | q | q | q | q | q | q | q | q | q | q | q <;> try omega
        exact (q.2.2.2 g z).1
      exact (h f hf).2.sub (sub_c (fms_mem z (by omega) (isFo_pos hfo)) (sub_rf g))
  have h0 := NmL.fF (fF_and (fun f hf => (h f hf).1)).1
  have yes : Alls (NmL c) yesT := Alls.top NmL.yes (fun z hz => by unfold yesT at hz; rw [fms_nil] at hz; cases hz)
  unfold andT at h0 ⊢
  by_cases hn : noT ∈ L
  · rw [if_pos hn] at h0 ⊢
    refine Alls.top h0 (fun z hz => ?_)
    have := (fms_ps hz).1
    unfold noT at this
    rw [ps_mk, List.mem_singleton] at this
    rw [this]; exact yes
  · rw [if_neg hn] at h0 ⊢
    cases hl : L.flatMap flt with
    | nil => exact yes
    | cons a l =>
      rw [hl] at hfl h0
      cases l with
      | nil => exact hfl a List.mem_cons_self
      | cons b l =>
        refine Alls.top h0 (fun z hz => ?_)
        have := (fms_ps hz).1
        rw [ps_mk] at this
        exact hfl z this
theorem NmA.jn {W : Wd} {c : Nat} {k : Int} {x y : Nat} (hx : fF W (Nm nu2 c) x ∧ Alls (NmL c) x) (hk : k ≠ 0 → fF W (Nm nu2 c) y ∧ Alls (NmL c) y) : Alls (NmL c) (jnT k x y) := by
  unfold jnT
  by_cases k0 : k = 0
  · rw [if_pos k0]; exact NmA.not hx.1 hx.2
  rw [if_neg k0]
  have hY := hk k0
  have two : ∀ {a b : Nat}, fF W (Nm nu2 c) a ∧ Alls (NmL c) a → fF W (Nm nu2 c) b ∧ Alls (NmL c) b → fF W (Nm nu2 c) (andT [a, b]) ∧ Alls (NmL c) (andT [a, b]) := fun {a b} ha hb => by
    have hL : ∀ z ∈ [a, b], fF W (Nm nu2 c) z ∧ Alls (NmL c) z := fun z hz => by
      rcases List.mem_cons.mp hz with q | q
      · rw [q]; exact ha
      · rw [List.mem_singleton.mp q]; exact hb
    exact ⟨(fF_and (fun z hz => (hL z hz).1)).1, NmA.and hL⟩
  have nt : ∀ {a : Nat}, fF W (Nm nu2 c) a ∧ Alls (NmL c) a → fF W (Nm nu2 c) (notT a) ∧ Alls (NmL c) (notT a) := fun {a} ha => ⟨(fF_not ha.1).1, NmA.not ha.1 ha.2⟩
  have im : ∀ {a b : Nat}, fF W (Nm nu2 c) a ∧ Alls (NmL c) a → fF W (Nm nu2 c) b ∧ Alls (NmL c) b → fF W (Nm nu2 c) (impT a b) ∧ Alls (NmL c) (impT a b) := fun {a b} ha hb => nt (two ha (nt hb))
  by_cases k1 : k = 1
  · rw [if_pos k1]; exact (two hx hY).2
  rw [if_neg k1]
  by_cases k2 : k = 2
  · rw [if_pos k2]; exact (nt (two (nt hx) (nt hY))).2
  rw [if_neg k2]
  by_cases k3 : k = 3
  · rw [if_pos k3]; exact (im hx hY).2
  rw [if_neg k3]
  exact (two (im hx hY) (im hY hx)).2
