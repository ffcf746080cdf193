/-! a round in the class -/
/-- the store has grown by trees of X, names may have come -/
def UN (ν0 : Nat → Nat) (u0 : Sg) (ν : Nat → Nat) (u : Sg) (X : Nat → Prop) : Prop := nC u0 ≤ nC u ∧ (∀ x, x < nC u0 → trC ν u x = trC ν0 u0 x) ∧ (∀ t, ndC ν u t → ndC ν0 u0 t ∨ X t) ∧ rC u = rC u0 ∧ (∀ i, i < rC u0 → gN u 11 i = gN u0 11 i) ∧ gI u 36 = gI u0 36
theorem UN.rf {ν : Nat → Nat} {u : Sg} {X : Nat → Prop} : UN ν u ν u X := ⟨Nat.le_refl _, fun _ _ => rfl, fun _ q => Or.inl q, rfl, fun _ _ => rfl, rfl⟩
theorem UN.tr {ν0 ν1 ν2 : Nat → Nat} {u0 u1 u2 : Sg} {X : Nat → Prop} (h : UN ν0 u0 ν1 u1 X) (h' : UN ν1 u1 ν2 u2 X) : UN ν0 u0 ν2 u2 X :=
  ⟨Nat.le_trans h.1 h'.1, fun x hx => by rw [h'.2.1 x (Nat.lt_of_lt_of_le hx h.1), h.2.1 x hx], fun t ht => (h'.2.2.1 t ht).elim (h.2.2.1 t) Or.inr, by rw [h'.2.2.2.1, h.2.2.2.1], fun i hi => by rw [h'.2.2.2.2.1 i (by rw [h.2.2.2.1]; exact hi), h.2.2.2.2.1 i hi], by rw [h'.2.2.2.2.2, h.2.2.2.2.2]⟩
theorem Up.un {ν : Nat → Nat} {c : Nat} {u u' : Sg} {X : Nat → Prop} (h : Up ν c u u' X) (hs : SC ν c u) (h36 : gI u' 36 = gI u 36) : UN ν u ν u' X := ⟨h.n hs, fun x hx => h.tr hs hx, h.2.2.2.2.1, h.2.2.2.2.2.1, h.2.2.2.2.2.2, h36⟩
theorem UN.lim {ν0 ν : Nat → Nat} {u0 u : Sg} {X : Nat → Prop} (h : UN ν0 u0 ν u X) (hl : Lim ν0 u0 X) : Lim ν u X := fun l hn hm => hl l hn (fun t ht => (hm t ht).elim (h.2.2.1 t) Or.inr)
theorem UN.mon {ν0 ν : Nat → Nat} {u0 u : Sg} {X Y : Nat → Prop} (h : UN ν0 u0 ν u X) (k : ∀ t, X t → ndC ν0 u0 t ∨ Y t) : UN ν0 u0 ν u Y := ⟨h.1, h.2.1, fun t ht => (h.2.2.1 t ht).elim Or.inl (k t), h.2.2.2⟩
/-- subtrees of what is in the store are there -/
theorem nd_sub {ν : Nat → Nat} {c : Nat} {u : Sg} (hs : SC ν c u) : ∀ (x : Nat), 0 < x → x < nC u → ∀ z, subT z (trC ν u x) → ndC ν u z := by
  intro x
  induction x using Nat.strongRecOn with
  | ind x ih =>
    intro x0 hx z hz
    rw [subT_eq] at hz
    rcases hz with e | ⟨c1, h1, h2⟩
    · exact ⟨x, x0, hx, e.symm⟩
    · obtain ⟨i, i1, i2, i3⟩ := fms_at.mp h1
      obtain ⟨y, _, y2, y3⟩ := partN (d := 3) (i := i) (by omega) hs x0 hx (List.getElem?_eq_some_iff.mp i2).1 i1
      rw [pa_at i2] at y3
      refine ih y y2 (Nat.pos_of_ne_zero (fun q => i3 (by rw [← y3, q]; rfl))) (by omega) z (by rw [y3]; exact h2)
/-- images of all parts are in X, if all parts of the image are -/
theorem ImT_put {X : Nat → Prop} {s : Nat} (hs : okT s) (ht : isTm s) : ∀ (t : Nat), okT t → ∀ (d : Nat), (∀ z, subT z (sbT (putg s) d t) → X z) → ImT X (putg s) t d := by
  intro t
  induction t using Nat.strongRecOn with
  | ind t ih =>
    intro ho d h
    rw [ImT_eq]
    refine ⟨h _ (sub_rf _), fun i c hc h8 h0 => ?_⟩
    have hm := List.mem_of_getElem? hc
    have hfm : c ∈ fms t := fms_at.mpr ⟨i, h8, hc, h0⟩
    have hk : ¬ kd t ≤ 3 := fun q => by
      have : ps t = [] := by
        rcases ho.n.2 with z | z | z | z | z | z | z | z | z | z | z | z | z | z <;> first | omega | exact z.2 | exact z.2.1
      rw [this] at hm; cases hm
    obtain ⟨k1, _, k3⟩ := sb_kd (g := putg s) (d := d) hk
    have hoc := ho.c hfm
    refine ih c (ps_lt hm) hoc _ (fun z hz => h z (sub_c (fms_at.mpr ⟨i, by rw [k1]; exact h8, ?_, ?_⟩) hz))
    · rw [k3, chm_at hc]
      by_cases q8 : kd t = 8 ∧ 0 < i
      · omega
      · rw [if_neg q8]
        by_cases q18 : kd t = 18 ∧ 0 < i
        · rw [if_pos q18, if_pos q18, zf_pos h0]
        · rw [if_neg q18, if_neg q18, zf_pos h0]
    · have := okT_sb c hoc (gOn_put hoc hs ht) (if kd t = 18 ∧ 0 < i then d + 1 else d)
      intro q
      rw [q] at this
      have := okN_kd this.n
      unfold isTm isFo at this
      rw [kd0] at this
      omega
theorem sub_nn {z b : Nat} (ho : okT b) (hf : isFo b) (h : subT z b) : z = b ∨ subT z (notT b) := by
  unfold notT
  by_cases h16 : kd b = 16
  · rw [if_pos h16]
    rw [subT_eq] at h
    rcases h with e | ⟨c, c1, c2⟩
    · exact Or.inl e
    · rcases ho.n.2 with q | q | q | q | q | q | q | q | q | q | q | q | q | q <;> try omega
      obtain ⟨_, _, g, e, _⟩ := q
      have := (fms_ps c1).1
      rw [e] at this ⊢
      rw [List.mem_singleton.mp this] at c2
      exact Or.inr c2
  · rw [if_neg h16]
    refine Or.inr (sub_c ?_ h)
    refine fms_at.mpr ⟨0, Or.inr rfl, by rw [ps_mk]; rfl, isFo_pos hf⟩
/-- X, and what formulas that come are made of -/
def Xc (X : Nat → Prop) (C : List Nat) (z : Nat) : Prop := X z ∨ ∃ g ∈ C, subT z g
theorem Xc.sub {X : Nat → Prop} {C C' : List Nat} (h : ∀ g ∈ C, g ∈ C') {z : Nat} (hz : Xc X C z) : Xc X C' z := hz.imp id (fun ⟨g, g1, g2⟩ => ⟨g, h g g1, g2⟩)
/-- few trees, whatever comes up to 400 -/
def LimR (ν0 : Nat → Nat) (u0 : Sg) (X : Nat → Prop) (Kl : List Nat) (Fu : Nat → Prop) : Prop := ∀ C : List Nat, C.Nodup → (∀ g ∈ C, Fu g ∧ g ∉ Kl) → (Kl.length + C.length ≤ 401 ∨ C.length ≤ 1) → Lim ν0 u0 (Xc X C)
/-- the store has grown by X, what has come, and P; beyond: or one more -/
def UG (ν0 : Nat → Nat) (u0 : Sg) (ν : Nat → Nat) (u : Sg) (X : Nat → Prop) (Kl : List Nat) (Fu : Nat → Prop) (Cl P : List Nat) : Prop := ∃ G : List Nat, (G = P ∨ (gI u 45 = 1 ∧ ∃ g, G = [g] ∧ Fu g ∧ g ∉ Kl ∧ g ∉ Cl)) ∧ UN ν0 u0 ν u (Xc X (Cl ++ G))
theorem UG.tr {ν0 ν ν' : Nat → Nat} {u0 u u' : Sg} {X : Nat → Prop} {Kl : List Nat} {Fu : Nat → Prop} {Cl P : List Nat} (h : UG ν0 u0 ν u X Kl Fu Cl P) (h' : UN ν u ν' u' X) (e : gI u' 45 = gI u 45) : UG ν0 u0 ν' u' X Kl Fu Cl P := by
  obtain ⟨G, g1, g2⟩ := h
  exact ⟨G, by rw [e]; exact g1, g2.tr (h'.mon (fun t q => Or.inr (Or.inl q)))⟩
theorem UG.rr {ν0 ν : Nat → Nat} {u0 u : Sg} {X : Nat → Prop} {Kl : List Nat} {Fu : Nat → Prop} {Cl P : List Nat} (h : UG ν0 u0 ν u X Kl Fu Cl P) : rC u = rC u0 := by
  obtain ⟨G, _, g2⟩ := h
  exact g2.2.2.2.1
/-- what has come so far -/
def CmS (Kl : List Nat) (Fu : Nat → Prop) (Cl : List Nat) (b : Int) : Prop := Cl.Nodup ∧ (∀ f ∈ Cl, f ∉ Kl ∧ Fu f) ∧ (Kl.length + Cl.length ≤ 400 ∨ Cl = []) ∧ (b = 0 ∨ (b = 1 ∧ 400 ≤ Kl.length + Cl.length ∧ ∃ f, Fu f ∧ f ∉ Kl ∧ f ∉ Cl))
def mkRd : Nat := mkAs + 2 ^ 44 + 2 ^ 45 + 2 ^ 53 + 2 ^ 54 + 2 ^ 55 + 2 ^ 56 + 2 ^ 57
theorem mkRd_bits {D : Nat} (h : D &&& mkRd = 0) : D &&& mkAs = 0 ∧ ∀ k, (k = 38 ∨ k = 36 ∨ k = 44 ∨ k = 45 ∨ k = 53 ∨ k = 54 ∨ k = 55 ∨ k = 56 ∨ k = 57 ∨ k = 34 ∨ k = 85) → D.testBit k = false := by
  have hb : ∀ k, Nat.testBit mkRd k = true → D.testBit k = false := fun k hk => by
    have h1 := congrArg (fun z => Nat.testBit z k) h
    simp only [Nat.testBit_and, Nat.zero_testBit] at h1
    rw [hk, Bool.and_true] at h1
    exact h1
  refine ⟨?_, fun k hk => hb k ((by decide +kernel : ∀ k, k ≤ 85 → (k = 38 ∨ k = 36 ∨ k = 44 ∨ k = 45 ∨ k = 53 ∨ k = 54 ∨ k = 55 ∨ k = 56 ∨ k = 57 ∨ k = 34 ∨ k = 85) → Nat.testBit mkRd k = true) k (by omega) hk)⟩
  refine Nat.eq_of_testBit_eq (fun k => ?_)
  rw [Nat.testBit_and, Nat.zero_testBit]
  by_cases hk : k ≤ 90
  · by_cases q : Nat.testBit mkAs k = true
    · rw [hb k ((by decide +kernel : ∀ k, k ≤ 90 → Nat.testBit mkAs k = true → Nat.testBit mkRd k = true) k hk q), Bool.false_and]
    · rw [Bool.eq_false_iff.mpr q, Bool.and_false]
  · have : Nat.testBit mkAs k = false := Nat.testBit_lt_two_pow (Nat.lt_of_lt_of_le (by decide +kernel : mkAs < 2 ^ 90) (Nat.pow_le_pow_right (by decide) (by omega)))
    rw [this, Bool.and_false]
/-- the marks of what has been opened -/
def OpC (ν : Nat → Nat) (u : Sg) (Ol : List Nat) : Prop := (∀ x, x < gL u 38 → gN u 38 x ≤ gI u 36 ∧ (gN u 38 x = gI u 36 → 0 < x ∧ x < nC u ∧ trC ν u x ∈ Ol)) ∧ ∀ f ∈ Ol, ∃ x, 0 < x ∧ x < gL u 38 ∧ gN u 38 x = gI u 36 ∧ x < nC u ∧ trC ν u x = f
theorem OpC.fr {ν : Nat → Nat} {c D : Nat} {u u' : Sg} {X : Nat → Prop} {Ol : List Nat} (h : OpC ν u Ol) (hs : SC ν c u) (hx : Ux ν c u u' X) (hg : Gr FC D u u') (h1 : D.testBit 36 = false) (h2 : D.testBit 38 = false) : OpC ν u' Ol := by
  have hn := hx.n hs
  refine ⟨fun x q1 => ⟨?_, fun q2 => ?_⟩, fun f hf => ?_⟩
  · rw [hg.Ln 38 h2] at q1
    rw [hg.N 38 h2, hg.I 36 h1]
    exact (h.1 x q1).1
  · rw [hg.Ln 38 h2] at q1
    rw [hg.N 38 h2, hg.I 36 h1] at q2
    obtain ⟨a, b, c'⟩ := (h.1 x q1).2 q2
    exact ⟨a, by omega, by rw [hx.tr hs b]; exact c'⟩
  · obtain ⟨x, a, b, c1, d, e⟩ := h.2 f hf
    exact ⟨x, a, by rw [hg.Ln 38 h2]; exact b, by rw [hg.N 38 h2, hg.I 36 h1]; exact c1, by omega, by rw [hx.tr hs d]; exact e⟩
/-- names: those of before a case are even, those that a round brought are odd -/
def NmO (ν : Nat → Nat) (c c0 : Nat) (Ol : List Nat) : Prop := ∀ i, i < c → (i < c0 → ν i % 2 = 0) ∧ (c0 ≤ i → ∃ f ∈ Ol, ν i = 2 * f + 1)
def RdJ (ν : Nat → Nat) (c : Nat) (W : Wd) (S : Fs) (X : Nat → Prop) (Kl : List Nat) (l : Ls) (Fu : Nat → Prop) (Cl P Bl Ol : List Nat) (c0 fi : Nat) (ν0 : Nat → Nat) (u0 u : Sg) : Prop := AsC ν c W S Kl l u ∧ (ArC ν u 53 54 Cl ∧ CmS Kl Fu Cl (gI u 45)) ∧ ArC ν u 55 56 Bl ∧ (OpC ν u Ol ∧ NmO ν c c0 Ol) ∧ UG ν0 u0 ν u X Kl Fu Cl P ∧ (gI u 44 = (fi : Int) ∧ gI u 57 = (c0 : Int)) ∧ KnL u ∧ CtL u
def RdI (ν : Nat → Nat) (c : Nat) (W : Wd) (S : Fs) (X : Nat → Prop) (Kl : List Nat) (l : Ls) (Fu : Nat → Prop) (Cl Bl Ol : List Nat) (c0 fi : Nat) (ν0 : Nat → Nat) (u0 u : Sg) : Prop := RdJ ν c W S X Kl l Fu Cl [] Bl Ol c0 fi ν0 u0 u
theorem RdJ.fr {ν : Nat → Nat} {c D : Nat} {W : Wd} {S : Fs} {X Y : Nat → Prop} {Kl : List Nat} {l : Ls} {Fu : Nat → Prop} {Cl P P' Bl Ol : List Nat} {c0 fi : Nat} {ν0 : Nat → Nat} {u0 u u' : Sg} (h : RdJ ν c W S X Kl l Fu Cl P Bl Ol c0 fi ν0 u0 u) (hU : Up ν c u u' Y) (hw : WF FC u') (hg : Gr FC D u u') (hD : D &&& mkRd = 0) (hug : UG ν0 u0 ν u' X Kl Fu Cl P') : RdJ ν c W S X Kl l Fu Cl P' Bl Ol c0 fi ν0 u0 u' := by
  obtain ⟨h1, ⟨h2, h3⟩, h4, ⟨h5, h6⟩, h7, ⟨h8, h9⟩, h10, h11⟩ := h
  have hs := h1.1.1.1
  obtain ⟨b0, b⟩ := mkRd_bits hD
  have e45 := hg.I 45 (b 45 (by omega))
  exact ⟨h1.fr hU.ux hw hg b0, ⟨h2.fr hs hU.ux hg (b 53 (by omega)) (b 54 (by omega)), by rw [e45]; exact h3⟩, h4.fr hs hU.ux hg (b 55 (by omega)) (b 56 (by omega)), ⟨h5.fr hs hU.ux hg (b 36 (by omega)) (b 38 (by omega)), h6⟩, hug, ⟨by rw [hg.I 44 (b 44 (by omega))]; exact h8, by rw [hg.I 57 (b 57 (by omega))]; exact h9⟩, by unfold KnL; rw [hg.Ln 34 (b 34 (by omega))]; exact h10, by unfold CtL; rw [hg.Ln 85 (b 85 (by omega))]; exact h11⟩
theorem RdI.rr {ν : Nat → Nat} {c : Nat} {W : Wd} {S : Fs} {X : Nat → Prop} {Kl : List Nat} {l : Ls} {Fu : Nat → Prop} {Cl Bl Ol : List Nat} {c0 fi : Nat} {ν0 : Nat → Nat} {u0 u : Sg} (h : RdI ν c W S X Kl l Fu Cl Bl Ol c0 fi ν0 u0 u) : rC u = rC u0 := h.2.2.2.2.1.rr
theorem RdJ.rr {ν : Nat → Nat} {c : Nat} {W : Wd} {S : Fs} {X : Nat → Prop} {Kl : List Nat} {l : Ls} {Fu : Nat → Prop} {Cl P Bl Ol : List Nat} {c0 fi : Nat} {ν0 : Nat → Nat} {u0 u : Sg} (h : RdJ ν c W S X Kl l Fu Cl P Bl Ol c0 fi ν0 u0 u) : rC u = rC u0 := h.2.2.2.2.1.rr
theorem RdI.fr {ν : Nat → Nat} {c D : Nat} {W : Wd} {S : Fs} {X : Nat → Prop} {Kl : List Nat} {l : Ls} {Fu : Nat → Prop} {Cl Bl Ol : List Nat} {c0 fi : Nat} {ν0 : Nat → Nat} {u0 u u' : Sg} (h : RdI ν c W S X Kl l Fu Cl Bl Ol c0 fi ν0 u0 u) (hU : Up ν c u u' X) (hw : WF FC u') (hg : Gr FC D u u') (hD : D &&& mkRd = 0) : RdI ν c W S X Kl l Fu Cl Bl Ol c0 fi ν0 u0 u' ∧ gI u' 45 = gI u 45 := by
  have hs := h.1.1.1.1
  obtain ⟨b0, b⟩ := mkRd_bits hD
  have e45 := hg.I 45 (b 45 (by omega))
  exact ⟨RdJ.fr h hU hw hg hD (h.2.2.2.2.1.tr (hU.un hs (hg.I 36 (b 36 (by omega)))) e45), e45⟩
/-- a formula that may come is made -/
theorem RdJ.frP {ν : Nat → Nat} {c D g : Nat} {W : Wd} {S : Fs} {X : Nat → Prop} {Kl : List Nat} {l : Ls} {Fu : Nat → Prop} {Cl P Bl Ol : List Nat} {c0 fi : Nat} {ν0 : Nat → Nat} {u0 u u' : Sg} (h : RdJ ν c W S X Kl l Fu Cl P Bl Ol c0 fi ν0 u0 u) (hP : P = [] ∨ P = [g]) (hb : gI u 45 = 0) (hU : Up ν c u u' (fun z => X z ∨ subT z g)) (hw : WF FC u') (hg : Gr FC D u u') (hD : D &&& mkRd = 0) : RdJ ν c W S X Kl l Fu Cl [g] Bl Ol c0 fi ν0 u0 u' ∧ gI u' 45 = gI u 45 := by
  have hs := h.1.1.1.1
  obtain ⟨b0, b⟩ := mkRd_bits hD
  have e45 := hg.I 45 (b 45 (by omega))
  refine ⟨RdJ.fr h hU hw hg hD ?_, e45⟩
  obtain ⟨G, g1, g2⟩ := h.2.2.2.2.1
  have e : G = P := g1.resolve_right (fun q => by omega)
  refine ⟨[g], Or.inl rfl, (g2.mon (fun t q => Or.inr (q.sub (fun z hz => ?_)))).tr ((hU.un hs (hg.I 36 (b 36 (by omega)))).mon (fun t q => Or.inr ?_))⟩
  · rw [e] at hz
    rcases List.mem_append.mp hz with y | y
    · exact List.mem_append_left _ y
    · rcases hP with z' | z'
      · rw [z'] at y; cases y
      · rw [z'] at y; exact List.mem_append_right _ y
  · exact q.imp id (fun z => ⟨g, List.mem_append_right _ List.mem_cons_self, z⟩)
theorem RdI.lim {ν : Nat → Nat} {c : Nat} {W : Wd} {S : Fs} {X : Nat → Prop} {Kl : List Nat} {l : Ls} {Fu : Nat → Prop} {Cl Bl Ol : List Nat} {c0 fi : Nat} {ν0 : Nat → Nat} {u0 u : Sg} (h : RdI ν c W S X Kl l Fu Cl Bl Ol c0 fi ν0 u0 u) (hl : LimR ν0 u0 X Kl Fu) : Lim ν u X := by
  obtain ⟨G, g1, g2⟩ := h.2.2.2.2.1
  obtain ⟨c1, c2, c3, c4⟩ := h.2.1.2
  have key : Lim ν0 u0 (Xc X (Cl ++ G)) := by
    rcases g1 with e | ⟨e, g, e2, e3, e4, e5⟩
    · rw [e, List.append_nil]
      exact hl Cl c1 (fun g hg => ⟨(c2 g hg).2, (c2 g hg).1⟩) (c3.imp (fun q => by omega) (fun q => by rw [q]; simp))
    · rw [e2]
      refine hl _ (List.nodup_append.mpr ⟨c1, by simp, fun a ha b hb q => e5 (by rw [← List.mem_singleton.mp hb, ← q]; exact ha)⟩) (fun z hz => ?_) ?_
      · rcases List.mem_append.mp hz with y | y
        · exact ⟨(c2 z y).2, (c2 z y).1⟩
        · rw [List.mem_singleton.mp y]; exact ⟨e3, e4⟩
      · rw [List.length_append]
        exact c3.imp (fun q => by simp; omega) (fun q => by rw [q]; simp)
  exact fun l' hn hm => key l' hn (fun t ht => (hm t ht).elim (g2.2.2.1 t) (fun q => Or.inr (Or.inl q)))
/-- room for a formula that may come -/
theorem RdI.limg {ν : Nat → Nat} {c g : Nat} {W : Wd} {S : Fs} {X : Nat → Prop} {Kl : List Nat} {l : Ls} {Fu : Nat → Prop} {Cl Bl Ol : List Nat} {c0 fi : Nat} {ν0 : Nat → Nat} {u0 u : Sg} (h : RdI ν c W S X Kl l Fu Cl Bl Ol c0 fi ν0 u0 u) (hl : LimR ν0 u0 X Kl Fu) (hKX : ∀ f ∈ Kl, ∀ z, subT z f → ndC ν0 u0 z) (hb : gI u 45 = 0) (hg : Fu g) : Lim ν u (fun z => X z ∨ subT z g) := by
  obtain ⟨G, g1, g2⟩ := h.2.2.2.2.1
  obtain ⟨c1, c2, c3, c4⟩ := h.2.1.2
  have e : G = [] := g1.resolve_right (fun q => by omega)
  rw [e, List.append_nil] at g2
  have l1 : Lim ν0 u0 (Xc X Cl) := hl Cl c1 (fun g hg => ⟨(c2 g hg).2, (c2 g hg).1⟩) (c3.imp (fun q => by omega) (fun q => by rw [q]; simp))
  by_cases q1 : g ∈ Kl
  · exact fun l' hn hm => l1 l' hn (fun t ht => (hm t ht).elim (g2.2.2.1 t) (fun q => q.elim (fun z => Or.inr (Or.inl z)) (fun z => Or.inl (hKX g q1 t z))))
  · by_cases q2 : g ∈ Cl
    · exact fun l' hn hm => l1 l' hn (fun t ht => (hm t ht).elim (g2.2.2.1 t) (fun q => q.elim (fun z => Or.inr (Or.inl z)) (fun z => Or.inr (Or.inr ⟨g, q2, z⟩))))
    · have l2 : Lim ν0 u0 (Xc X (Cl ++ [g])) := by
        refine hl _ (List.nodup_append.mpr ⟨c1, by simp, fun a ha b hb q => q2 (by rw [← List.mem_singleton.mp hb, ← q]; exact ha)⟩) (fun z hz => ?_) ?_
        · rcases List.mem_append.mp hz with y | y
          · exact ⟨(c2 z y).2, (c2 z y).1⟩
          · rw [List.mem_singleton.mp y]; exact ⟨hg, q1⟩
        · rw [List.length_append]
          exact c3.imp (fun q => by simp; omega) (fun q => by rw [q]; simp)
      exact fun l' hn hm => l2 l' hn (fun t ht => (hm t ht).elim (fun z => (g2.2.2.1 t z).imp id (fun y => y.sub (fun _ w => List.mem_append_left _ w))) (fun q => Or.inr (q.imp id (fun z => ⟨g, List.mem_append_right _ List.mem_cons_self, z⟩))))
theorem CmS.step {ν ν0 : Nat → Nat} {Kl Cl P : List Nat} {Fu X : Nat → Prop} {u0 u u' : Sg} {t : Nat} (h : CmS Kl Fu Cl (gI u 45)) (ht : Fu t) (hr : ComR ν Kl Cl u t u') (hKX : ∀ f ∈ Kl, ∀ z, subT z f → ndC ν0 u0 z) (hP : P = [] ∨ (P = [t] ∧ gI u 45 = 0)) (hug : UG ν0 u0 ν u X Kl Fu Cl P) (hun : UN ν u ν u' X) : ∃ Cl', (∀ f ∈ Cl, f ∈ Cl') ∧ ArC ν u' 53 54 Cl' ∧ CmS Kl Fu Cl' (gI u' 45) ∧ (gI u' 45 = 0 → gI u 45 = 0 ∧ (t ∈ Kl ∨ t ∈ Cl')) ∧ UG ν0 u0 ν u' X Kl Fu Cl' [] := by
  obtain ⟨h1, h2, h3, h4⟩ := h
  obtain ⟨Cl', a, q⟩ := hr
  obtain ⟨G, g1, g2⟩ := hug
  have g3 : UN ν0 u0 ν u' (Xc X (Cl ++ G)) := g2.tr (hun.mon (fun t q => Or.inr (Or.inl q)))
  rcases q with ⟨q1, q2, q3⟩ | ⟨q1, q2, q3, q4, q5⟩ | ⟨q1, q2, q3, q4, q5⟩
  · subst q3
    refine ⟨Cl', fun _ q => q, a, ⟨h1, h2, h3, by rw [q1]; exact h4⟩, fun q => ⟨by rw [← q1]; exact q, q2⟩, ?_⟩
    rcases g1 with e | e
    · refine ⟨[], Or.inl rfl, g3.mon (fun z hz => ?_)⟩
      rcases hz with y | ⟨g, y1, y2⟩
      · exact Or.inr (Or.inl y)
      · rcases List.mem_append.mp y1 with w | w
        · exact Or.inr (Or.inr ⟨g, List.mem_append_left _ w, y2⟩)
        · rcases hP with p | p
          · rw [e, p] at w; cases w
          · rw [e, p.1] at w
            rw [List.mem_singleton.mp w] at y2
            rcases q2 with v | v
            · exact Or.inl (hKX t v z y2)
            · exact Or.inr (Or.inr ⟨t, List.mem_append_left _ v, y2⟩)
    · exact ⟨G, Or.inr (by rw [q1]; exact e), g3⟩
  · subst q5
    refine ⟨_, fun f hf => List.mem_append_left _ hf, a, ⟨?_, fun f hf => ?_, Or.inl (by rw [List.length_append]; exact q4), ?_⟩, fun q => ⟨by rw [← q1]; exact q, Or.inr (List.mem_append_right _ List.mem_cons_self)⟩, [], Or.inl rfl, g3.mon (fun z hz => Or.inr (hz.sub (fun g hg => ?_)))⟩
    · refine List.nodup_append.mpr ⟨h1, by simp, fun y hy z hz => ?_⟩
      rw [List.mem_singleton.mp hz]
      intro q; exact q3 (by rw [← q]; exact hy)
    · rcases List.mem_append.mp hf with z | z
      · exact h2 f z
      · rw [List.mem_singleton.mp z]; exact ⟨q2, ht⟩
    · rw [q1]
      rcases h4 with z | z
      · exact Or.inl z
      · omega
    · rw [List.append_nil]
      rcases List.mem_append.mp hg with w | w
      · exact List.mem_append_left _ w
      · rcases g1 with e | e
        · rcases hP with p | p
          · rw [e, p] at w; cases w
          · rw [e, p.1] at w; exact List.mem_append_right _ w
        · rcases h4 with z | z
          · omega
          · omega
  · subst q5
    refine ⟨Cl', fun _ q => q, a, ⟨h1, h2, h3, Or.inr ⟨q1, q4, t, ht, q2, q3⟩⟩, fun q => by omega, ?_⟩
    rcases g1 with e | ⟨_, e⟩
    · rcases hP with p | p
      · exact ⟨[], Or.inl rfl, by rw [e, p] at g3; exact g3⟩
      · exact ⟨[t], Or.inr ⟨q1, t, rfl, ht, q2, q3⟩, by rw [e, p.1] at g3; exact g3⟩
    · exact ⟨G, Or.inr ⟨q1, e⟩, g3⟩
/-- one formula comes -/
theorem rd_come {d : Nat} (hd : 4 ≤ d) {ν : Nat → Nat} {c : Nat} {W : Wd} {S : Fs} {X : Nat → Prop} {Kl : List Nat} {l : Ls} {Fu : Nat → Prop} {Cl P Bl Ol : List Nat} {c0 fi : Nat} {ν0 : Nat → Nat} {u0 u : Sg} (hKl : Kl.length ≤ 2500) (hKX : ∀ f ∈ Kl, ∀ z, subT z f → ndC ν0 u0 z) {x : Nat} (h : RdJ ν c W S X Kl l Fu Cl P Bl Ol c0 fi ν0 u0 u) (hP : P = [] ∨ (P = [trC ν u x] ∧ gI u 45 = 0)) (x0 : 0 < x) (hx : x < nC u) (hxl : x < 1000000) (ht : Fu (trC ν u x)) : wp (runC d 72 [(x : Int)] u) (fun _ u' => ∃ Cl', (∀ f ∈ Cl, f ∈ Cl') ∧ RdI ν c W S X Kl l Fu Cl' Bl Ol c0 fi ν0 u0 u' ∧ EqS u u' ∧ (gI u' 45 = 0 → gI u 45 = 0 ∧ (trC ν u x ∈ Kl ∨ trC ν u x ∈ Cl'))) := by
  obtain ⟨h1, ⟨h2, h3⟩, h4, ⟨h5, h6⟩, h7, ⟨h8, h9⟩, h10, h11⟩ := h
  have hs := h1.1.1.1
  refine wp_mono (tX1_come hd h1.1.2.1 h1.2 h2 hs hKl x0 hx hxl) (fun r u' ⟨w, g, cr⟩ => ?_)
  obtain ⟨e, hU⟩ := g.ux (X := X) hs (by decide +kernel)
  obtain ⟨Cl', q1, q2, q3, q4, q5⟩ := h3.step ht cr hKX hP h7 (hU.un hs (g.I 36 (by decide +kernel)))
  exact ⟨Cl', q1, ⟨h1.fr hU.ux w g (by decide +kernel), ⟨q2, q3⟩, h4.fr hs hU.ux g (by decide +kernel) (by decide +kernel), ⟨h5.fr hs hU.ux g (by decide +kernel) (by decide +kernel), h6⟩, q5, ⟨by rw [g.I 44 (by decide +kernel)]; exact h8, by rw [g.I 57 (by decide +kernel)]; exact h9⟩, by unfold KnL; rw [g.Ln 34 (by decide +kernel)]; exact h10, by unfold CtL; rw [g.Ln 85 (by decide +kernel)]; exact h11⟩, e, q4⟩
/-- the parts of an AND come -/
theorem round_L40 {d : Nat} (hd : 4 ≤ d) {ν : Nat → Nat} {c : Nat} {W : Wd} {S : Fs} {X : Nat → Prop} {Kl : List Nat} {l : Ls} {Fu : Nat → Prop} {Bl Ol : List Nat} {c0 fi x f : Nat} {ν0 : Nat → Nat} {u0 : Sg} {n k : Int} {Q : Int → Sg → Prop} (hKl : Kl.length ≤ 2500) (hl : LimR ν0 u0 X Kl Fu) (hKX : ∀ f ∈ Kl, ∀ z, subT z f → ndC ν0 u0 z) (x0 : 0 < x) (h17 : kd f = 17) (hall : ∀ p ∈ ps f, isFo p ∧ Fu p) (hlen : (ps f).length ≤ 300000) : ∀ (m i fu : Nat) (u : Sg) (Cl : List Nat), i + m = (ps f).length → m < fu → RdI ν c W S X Kl l Fu Cl Bl Ol c0 fi ν0 u0 u → x < nC u → trC ν u x = f → (gI u 45 = 0 → ∀ j, j < i → pa f j ∈ Kl ∨ pa f j ∈ Cl) → ∀ xx : Int → Int → Sg → Option (Int × Sg), (∀ (u2 : Sg) (Cl2 : List Nat), (∀ g ∈ Cl, g ∈ Cl2) → RdI ν c W S X Kl l Fu Cl2 Bl Ol c0 fi ν0 u0 u2 → (gI u2 45 = 0 → gI u 45 = 0 ∧ ∀ p ∈ ps f, p ∈ Kl ∨ p ∈ Cl2) → wp (xx n k u2) Q) → wp (bX1_round_L40 (runC d) fu n k (x : Int) (i : Int) u xx) Q := by
  intro m
  induction m with
  | zero =>
    intro i fu u Cl hi hf hR hx ex hdn xx kk
    obtain ⟨fu, rfl⟩ : ∃ f', fu = f' + 1 := ⟨fu - 1, by omega⟩
    have hs := hR.1.1.1.1
    have hn := nodeC hs x0 hx
    rw [ex] at hn
    have l3 : gL u 3 = gL u 0 := hs.1.1.2.2.2.1.2.2.1
    rw [bX1_round_L40, ld_nat (by omega), hn.2.2.1, if_neg (by omega)]
    refine kk u Cl (fun _ q => q) hR (fun q => ⟨q, fun p hp => ?_⟩)
    obtain ⟨j, hj⟩ := List.getElem?_of_mem hp
    have := hdn q j (by have := (List.getElem?_eq_some_iff.mp hj).1; omega)
    rw [pa_at hj] at this
    exact this
  | succ m ih =>
    intro i fu u Cl hi hf hR hx ex hdn xx kk
    obtain ⟨fu, rfl⟩ : ∃ f', fu = f' + 1 := ⟨fu - 1, by omega⟩
    have hs := hR.1.1.1.1
    have hn := nodeC hs x0 hx
    rw [ex] at hn
    have l3 : gL u 3 = gL u 0 := hs.1.1.2.2.2.1.2.2.1
    have hil : i < (ps f).length := by omega
    have hgi := pa_get hil
    have hbd := (hR.lim hl).n hs
    obtain ⟨y, y1, y2, y3⟩ := partN (d := d) (i := i) (by omega) hs x0 hx (by rw [ex]; exact hil) (Or.inl (by rw [ex]; omega))
    rw [ex] at y3
    have hp := hall _ (List.mem_of_getElem? hgi)
    have y0 : 0 < y := Nat.pos_of_ne_zero (fun q => isFo_pos hp.1 (by rw [← y3, q]; rfl))
    rw [bX1_round_L40, ld_nat (by omega), hn.2.2.1, if_pos (by omega)]
    refine wp_eq y1 ?_
    refine wp_call (rd_come hd hKl hKX hR (Or.inl rfl) y0 (by omega) (by omega) (by rw [y3]; exact hp.2)) (fun r u1 ⟨Cl1, q1, q2, e1, q3⟩ => ?_)
    rw [y3] at q3
    rw [wp_ar]
    refine ⟨⟨by omega, by omega⟩, ?_⟩
    rw [show (i : Int) + 1 = ((i + 1 : Nat) : Int) by omega]
    refine ih (i + 1) fu u1 Cl1 (by omega) (by omega) q2 (by rw [e1.n]; exact hx) (by rw [e1.tr]; exact ex) (fun hb j hj => ?_) xx (fun u2 Cl2 z1 z2 z3 => kk u2 Cl2 (fun g hg => z1 g (q1 g hg)) z2 (fun hb => ⟨(q3 (z3 hb).1).1, (z3 hb).2⟩))
    obtain ⟨b1, b2⟩ := q3 hb
    by_cases hji : j = i
    · rw [hji]; exact b2
    · exact (hdn b1 j (by omega)).imp id (q1 _)
