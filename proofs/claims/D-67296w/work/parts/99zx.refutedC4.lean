theorem RkI.s1 {ν : Nat → Nat} {c : Nat} {W : Wd} {S : Fs} {X : Nat → Prop} {Kl : List Nat} {l : Ls} {Kn Cl Bl Ol : List Nat} {c0 fi : Nat} {ν0 : Nat → Nat} {u0 u : Sg} (h : RkI ν c W S X Kl l Kn Cl Bl Ol c0 fi ν0 u0 u) (hne : Bl ≠ [0]) : RkI ν c W S X Kl l Kn Cl [] Ol c0 fi ν0 u0 (sI u 56 0) := by
  obtain ⟨h1, h2, h3, h4, ⟨h5, h6⟩, h7, h8, h10, h11⟩ := h
  have hs := h1.1.1
  have w : WF FC (sI u 56 0) := wfI h1.2.1 rfl ⟨by omega, by omega⟩
  have g : Gr FC (2 ^ 56) u (sI u 56 0) := Gr_sI (by decide +kernel)
  obtain ⟨e, hU⟩ := g.ux (X := X) hs (by decide +kernel)
  exact ⟨CaP.up h1 hU.ux w g (by decide +kernel), h2.fr hs hU.ux g (by decide +kernel) (by decide +kernel) (by decide +kernel) (by decide +kernel), h3.fr hs hU.ux g (by decide +kernel) (by decide +kernel), ArC.ar ⟨rfl, ⟨Nat.zero_le _, h4.1⟩, fun i f hi => by simp at hi⟩, ⟨h5.fr hs hU.ux g (by decide +kernel) (by decide +kernel), h6⟩, h7.tr (hU.un hs rfl), Or.inr (h8.resolve_left hne), h10, h11⟩
theorem RkI.s2 {ν : Nat → Nat} {c : Nat} {W : Wd} {S : Fs} {X : Nat → Prop} {Kl : List Nat} {l : Ls} {Kn Cl Bl Ol : List Nat} {c0 fi : Nat} {ν0 : Nat → Nat} {u0 u : Sg} (h : RkI ν c W S X Kl l Kn Cl Bl Ol c0 fi ν0 u0 u) : RkI ν c W S X Kl l Kn [] Bl Ol c0 fi ν0 u0 (sI u 54 0) := by
  obtain ⟨h1, h2, h3, h4, ⟨h5, h6⟩, h7, h8, h10, h11⟩ := h
  have hs := h1.1.1
  have w : WF FC (sI u 54 0) := wfI h1.2.1 rfl ⟨by omega, by omega⟩
  have g : Gr FC (2 ^ 54) u (sI u 54 0) := Gr_sI (by decide +kernel)
  obtain ⟨e, hU⟩ := g.ux (X := X) hs (by decide +kernel)
  exact ⟨CaP.up h1 hU.ux w g (by decide +kernel), h2.fr hs hU.ux g (by decide +kernel) (by decide +kernel) (by decide +kernel) (by decide +kernel), ArC.ar ⟨rfl, ⟨Nat.zero_le _, h3.1⟩, fun i f hi => by simp at hi⟩, h4.fr hs hU.ux g (by decide +kernel) (by decide +kernel), ⟨h5.fr hs hU.ux g (by decide +kernel) (by decide +kernel), h6⟩, h7.tr (hU.un hs rfl), h8, h10, h11⟩
theorem bey_many {S : Fs} {H : List Nat} (hn : H.Nodup) (hs : ∀ t ∈ H, fH S t) (h : Bey S H) : manyS S := by
  obtain ⟨h1, z, z1, z2⟩ := h
  refine ⟨z :: H, List.nodup_cons.mpr ⟨z1, hn⟩, by rw [List.length_cons, h1], fun t ht => ?_⟩
  rcases List.mem_cons.mp ht with q | q
  · rw [q]; exact z2
  · exact hs t q
/-- what is so once a case is closed -/
def ClD (W : Wd) (A : Nat → Prop) (fi : Nat) (Kn Ol : List Nat) (u : Sg) (l : Ls) : Prop := FsO l = facS W (fun f => f ∈ Kn) (fun f => f ∈ Ol) ∧ GdL W u l ∧ HKn Kn l.1 ∧ (∀ b, newc (fun f => f ∈ Ol) b → b ∈ l.1) ∧ (∀ t, (∃ i, i < fi ∧ l.1[i]? = some t) ↔ A t) ∧ fi ≤ l.1.length
theorem tT_of {ν : Nat → Nat} {c c0 fi : Nat} {W : Wd} {A : Nat → Prop} {Kn Ol : List Nat} {u : Sg} {l : Ls} (hH : ∀ t ∈ l.1, cltm W (Nm ν c) t) (hN : NmO ν c c0 Ol) (hD : ClD W A fi Kn Ol u l) : tT l fi = Tof A (fun f => f ∈ Ol) := by
  funext t
  refine propext (or_congr (hD.2.2.2.2.1 t) ⟨fun ⟨a, b, c1⟩ => ?_, fun q => ?_⟩)
  · have hc := hH t a
    obtain ⟨i, i1, i2⟩ := (hc.1.2 t (sub_rf t)).1 b
    have hi : c0 ≤ i := Classical.byContradiction (fun z => by have := (hN i i1).1 (by omega); omega)
    obtain ⟨f, f1, f2⟩ := (hN i i1).2 hi
    refine ⟨f, f1, ?_⟩
    have hp : ps t = [] := by
      rcases hc.1.1.n.2 with q | q | q | q | q | q | q | q | q | q | q | q | q | q <;> first | omega | exact q.2
    have := hc.1.1.n.1
    rw [b, hp, ← i2, f2] at this
    exact this
  · have hm := hD.2.2.2.1 t q
    obtain ⟨f, f1, f2⟩ := q
    refine ⟨hm, by rw [f2, kd_mk], by rw [f2, wh_mk]; omega⟩
theorem fH_O {l : Ls} {t : Nat} : fH (FsO l) t ↔ t ∈ l.1 := Iff.rfl
theorem com_ht {F : Fs} {K T O : Nat → Prop} {W : Wd} {N : Nat → Prop} {f g m n : Nat} (hfr : frW W N f) (hff : isFo f) (hm : htT f ≤ m) (hT : ∀ t, T t → htT t ≤ n) (h1 : 1 ≤ n) (h : cmF F K T O f g) : htT g ≤ m + n + 1 := by
  rcases h with ⟨k, hg⟩ | ⟨k, t, h1, _, _, e⟩ | ⟨k, k2, p, ⟨i, i1, i2, _⟩, e⟩ | ⟨k, k2, _, e⟩
  · have hgf : isFo g := by
      rcases hfr.1.n.2 with q | q | q | q | q | q | q | q | q | q | q | q | q | q <;> try omega
      exact (q.2.2.2 g hg).1
    have := ht_c (fms_mem hg (by omega) (isFo_pos hgf))
    omega
  · obtain ⟨ty, bd, e1, py, pb, k8, hbf, my, mb, _⟩ := all_parts hfr.1 k
    have a := ht_c mb
    have b := ht_put (s := t) bd (hfr.part mb).1 0
    have c := hT t h1
    rw [pb] at e
    rw [e]
    omega
  · obtain ⟨r1, r2, r3⟩ := (eq_len hfr).2.2 k
    have ag := hfr.part r2
    have hpm : p ∈ ps (pa f 0) := by rw [i2]; exact List.mem_of_getElem? (pa_get i1)
    have hpf : isFo p := by
      rcases ag.1.n.2 with q | q | q | q | q | q | q | q | q | q | q | q | q | q <;> try omega
      exact (q.2.2.2 p hpm).1
    have hfm : p ∈ fms (pa f 0) := fms_mem hpm (by omega) (isFo_pos hpf)
    have a := ht_c r2
    have b := ht_c hfm
    have c := ht_not (ag.part hfm).1
    rw [e]
    omega
  · obtain ⟨r1, r2, r3⟩ := (eq_len hfr).2.2 k
    have ag := hfr.part r2
    obtain ⟨ty, bd, e1, py, pb, k8, hbf, my, mb, _⟩ := all_parts ag.1 k2
    have a := ht_c r2
    have b := ht_c mb
    have ob := (ag.part mb).1
    have c := ht_put (s := mk 1 (2 * f + 1) []) bd ob 0
    have oc := okT_const (2 * f + 1)
    have d := ht_not (okT_sb bd ob (gOn_put ob oc.1 oc.2) 0)
    have hc : htT (mk 1 (2 * f + 1) []) = 1 := by
      rcases ht_max (t := mk 1 (2 * f + 1) []) with q | ⟨c', c1, _⟩
      · exact q
      · have := (fms_ps c1).1
        rw [ps_mk] at this
        cases this
    rw [pb] at e
    rw [e]
    omega
