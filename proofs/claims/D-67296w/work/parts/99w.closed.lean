/-- the terms at hand are closed under parts -/
theorem good_sub {W : Wd} {N : Nat → Prop} {H : List Nat} {M : List (Nat × Nat × Nat)} {J : List (Nat × Nat)} (hH : ∀ t ∈ H, cltm W N t) (hG : ∀ x ∈ H, GoodC W H M J x) : ∀ (n t : Nat), htT t < n → t ∈ H → ∀ s, subT s t → isTm s → s ∈ H := by
  intro n
  induction n with
  | zero => intro t h; omega
  | succ n ih =>
    intro t ht htH s hs hsm
    rw [subT_eq] at hs
    rcases hs with e | ⟨c, c1, c2⟩
    · rw [e]; exact htH
    · have hcl := hH t htH
      have hg := hG t htH
      have hc1 := ht_c c1
      rcases hcl.k with k | k | k
      · have : ps t = [] := by
          rcases hcl.1.1.n.2 with q | q | q | q | q | q | q | q | q | q | q | q | q | q <;> first | omega | exact q.2
        have := (fms_ps c1).1
        simp_all
      · obtain ⟨i, i1, i2, i3⟩ := fms_at.mp c1
        have hi := (List.getElem?_eq_some_iff.mp i2).1
        have e := pa_at i2
        have := hg.1 k i hi
        rw [e] at this
        exact ih c (by omega) this s c2 hsm
      · obtain ⟨t1, t2, t3⟩ := the_part hcl k
        have e : c = pa t 0 := by
          have := (fms_ps c1).1
          rw [t3] at this
          exact List.mem_singleton.mp this
        rw [subT_eq] at c2
        rcases c2 with e2 | ⟨c', d1, d2⟩
        · have := t1.2.1
          rw [e2, e] at hsm
          unfold isTm at hsm
          omega
        · have hc2 := ht_c d1
          rw [e] at d1
          obtain ⟨i, i1, i2, i3⟩ := fms_at.mp d1
          have i0 : i = 0 := i1.resolve_left (fun q => q t1.2.1)
          rw [i0] at i2
          have e3 := pa_at i2
          have := hg.2.1 k (by rw [e3]; exact i3)
          rw [e3] at this
          exact ih c' (by omega) this s d2 hsm
theorem alkS.sy {F : Fs} (hs : ∀ s t, fE F s t → fE F t s) {s t : Nat} (h : alkS F s t) : alkS F t s :=
  h.imp (fun ⟨a, b, c, d, e⟩ => ⟨b, a, c.symm, d.symm, fun i hi => (e i (by omega)).imp Eq.symm (hs _ _)⟩) (fun ⟨a, b, c, d, e⟩ => ⟨b, a, c.symm, d.symm, e.imp Eq.symm (hs _ _)⟩)
/-- when nothing new comes, the lists are closed -/
theorem AllC.clo {W : Wd} {N : Nat → Prop} {Kl : List Nat} {l : Ls} {B : Nat → Prop} (hH : ∀ t ∈ l.1, cltm W N t) (hn : l.1.Nodup) (hG : ∀ x ∈ l.1, GoodC W l.1 l.2.2.1 l.2.2.2 x) (hhk : HKn Kl l.1) (hB : ∀ b, B b → b ∈ l.1) (h : AllC W Kl l) : Clo W (fun f => f ∈ Kl) B (FsO l) := by
  obtain ⟨h1, h2, h3, h4⟩ := h
  have hsy : ∀ s t, fE (FsO l) s t → fE (FsO l) t s := fun s t q => eqL.sy q
  have exx : ∀ {s t}, eqA (FsO l) s t → eqX l.1 l.2.1 s t := fun q => q
  refine ⟨⟨fun f hf s q1 q2 q3 => hhk f hf s q1 q2 q3, hB, fun t ht s q1 q2 => good_sub hH hG (htT t + 1) t (by omega) ht s q1 q2, fun t ht z hz => ?_, fun f hf h14 z hz => ?_⟩, ⟨fun t ht => eqL.rf ht, hsy, fun s t r q1 q2 => eqL.trn hn q1 q2, fun f hf q => (h1 f hf).1 q, fun f hf q => (h1 f hf).2.1 q, fun f hf q1 q2 => (h1 f hf).2.2.1 q1 q2, ?_, ?_⟩, ⟨fun s t hs ht ha => ?_, fun t g ht k4 hg s1 hO ha => ((h3 t ht k4 g hg) hO ha).1 s1, fun t g ht k4 hg s2 hO ha => ((h3 t ht k4 g hg) hO ha).2 s2, fun t g ht hg s0 hadj hof => h4 g hg s0 t ht hadj hof⟩⟩
  · obtain ⟨a, b, e⟩ := (hG t ht).2.2 z hz
    exact ⟨⟨t, _, a, Or.inl rfl, Or.inl rfl⟩, fun j hj => ⟨t, b j hj, Or.inl rfl⟩, e⟩
  · obtain ⟨a, b, e⟩ := (h1 f hf).2.2.2 h14 z hz
    exact ⟨⟨_, _, a, Or.inl rfl, Or.inl rfl⟩, fun j hj => ⟨_, b j hj, Or.inl rfl⟩, e⟩
  · rintro t t' m a a' ⟨t2, a2, q1, q2, q3⟩ e1 e2
    exact ⟨t2, a2, q1, q2.trn hn (exx e1), q3.trn hn (exx e2)⟩
  · rintro t t' j ⟨t2, q1, q2⟩ e1
    exact ⟨t2, q1, q2.trn hn (exx e1)⟩
  · obtain ⟨i, hi⟩ := List.getElem?_of_mem (show s ∈ l.1 from hs)
    obtain ⟨j, hj⟩ := List.getElem?_of_mem (show t ∈ l.1 from ht)
    rcases Nat.lt_trichotomy i j with q | q | q
    · exact hsy _ _ (h2 j i q t s hj hi (ha.sy hsy))
    · rw [q, hj] at hi
      rw [← Option.some.inj hi]
      exact eqL.rf ht
    · exact h2 i j q s t hi hj ha
/-- a closed case in the class says what follows, no more -/
theorem ClE.eq {ν : Nat → Nat} {c : Nat} {W : Wd} {B : Nat → Prop} {Kl : List Nat} {u : Sg} {l : Ls} (hC : CaL ν c W (DerF W (fun f => f ∈ Kl) B) Kl u l) (hg : GdL W u l) (hhk : HKn Kl l.1) (hB : ∀ b, B b → b ∈ l.1) (h : AllC W Kl l) : FsO l = DerF W (fun f => f ∈ Kl) B :=
  Der_eq (AllC.clo (fun t ht => (hC.2.2.2.2.2.1 t ht).1) hC.2.2.1.1.2.2.1 hg.2.2 hhk hB h) (hC.sub (Der_clo _ _ _))
