/-! a round in the model -/
section MQ
variable {Mq : MqT}
/-- the store has grown by trees of X, names may have come -/
def UNT (ν0 : Nat → Nat) (u0 : Sg) (ν : Nat → Nat) (u : Sg) (X : Nat → Prop) : Prop := nT u0 ≤ nT u ∧ (∀ x, x ≤ nT u0 → trT ν u x = trT ν0 u0 x) ∧ (∀ t, ndT ν u t → ndT ν0 u0 t ∨ X t) ∧ hT u = hT u0 ∧ (∀ i, i < hT u0 → gN u 12 i = gN u0 12 i) ∧ gI u 54 = gI u0 54
theorem UNT.rf {ν : Nat → Nat} {u : Sg} {X : Nat → Prop} : UNT ν u ν u X := ⟨Nat.le_refl _, fun _ _ => rfl, fun _ q => Or.inl q, rfl, fun _ _ => rfl, rfl⟩
theorem UNT.tr {ν0 ν1 ν2 : Nat → Nat} {u0 u1 u2 : Sg} {X : Nat → Prop} (h : UNT ν0 u0 ν1 u1 X) (h' : UNT ν1 u1 ν2 u2 X) : UNT ν0 u0 ν2 u2 X :=
  ⟨Nat.le_trans h.1 h'.1, fun x hx => by rw [h'.2.1 x (Nat.le_trans hx h.1), h.2.1 x hx], fun t ht => (h'.2.2.1 t ht).elim (h.2.2.1 t) Or.inr, by rw [h'.2.2.2.1, h.2.2.2.1], fun i hi => by rw [h'.2.2.2.2.1 i (by rw [h.2.2.2.1]; exact hi), h.2.2.2.2.1 i hi], by rw [h'.2.2.2.2.2, h.2.2.2.2.2]⟩
theorem UNT.mon {ν0 ν : Nat → Nat} {u0 u : Sg} {X Y : Nat → Prop} (h : UNT ν0 u0 ν u X) (k : ∀ t, X t → ndT ν0 u0 t ∨ Y t) : UNT ν0 u0 ν u Y := ⟨h.1, h.2.1, fun t ht => (h.2.2.1 t ht).elim Or.inl (k t), h.2.2.2⟩
theorem UpT.un {ν : Nat → Nat} {c : Nat} {u u' : Sg} {X : Nat → Prop} (h : UpT ν c u u' X) (hs : ST ν c u) (h54 : gI u' 54 = gI u 54) : UNT ν u ν u' X := ⟨h.n, fun x hx => h.tr hs hx, h.2.2.1, h.2.2.2.1, h.2.2.2.2, h54⟩
theorem UNT.lim {ν0 ν : Nat → Nat} {u0 u : Sg} {X : Nat → Prop} (h : UNT ν0 u0 ν u X) (hl : LimT ν0 u0 X) : LimT ν u X := fun l hn hm => hl l hn (fun t ht => (hm t ht).elim (h.2.2.1 t) Or.inr)
theorem ndT_sub {ν : Nat → Nat} {c : Nat} {u : Sg} (hs : ST ν c u) : ∀ (x : Nat), 0 < x → x ≤ nT u → ∀ z, subT z (trT ν u x) → ndT ν u z := by
  intro x
  induction x using Nat.strongRecOn with
  | ind x ih =>
    intro x0 hx z hz
    rw [subT_eq] at hz
    rcases hz with e | ⟨c1, h1, h2⟩
    · exact ⟨x, x0, hx, e.symm⟩
    · obtain ⟨i, i1, i2, i3⟩ := fms_at.mp h1
      obtain ⟨y, _, y2, y3⟩ := partNT (d := 3) (i := i) (by omega) hs x0 hx (List.getElem?_eq_some_iff.mp i2).1 i1
      rw [pa_at i2] at y3
      refine ih y y2 (Nat.pos_of_ne_zero (fun q => i3 (by rw [← y3, q]; rfl))) (by omega) z (by rw [y3]; exact h2)
/-- a row of nodes in an array -/
def ArT (ν : Nat → Nat) (u : Sg) (id cn : Nat) (L : List Nat) : Prop := gI u cn = (L.length : Int) ∧ (L.length ≤ gL u id ∧ 16 ≤ gL u id) ∧ ∀ (i f : Nat), L[i]? = some f → ∃ x : Nat, gN u id i = (x : Int) ∧ 0 < x ∧ x ≤ nT u ∧ trT ν u x = f
theorem ArT.fr {ν : Nat → Nat} {c D id cn : Nat} {u u' : Sg} {X : Nat → Prop} {L : List Nat} (h : ArT ν u id cn L) (hs : ST ν c u) (hx : UxT ν c u u' X) (hg : Gr FT D u u') (h1 : D.testBit id = false) (h2 : D.testBit cn = false) : ArT ν u' id cn L := by
  have hn := hx.n
  refine ⟨by rw [hg.I cn h2]; exact h.1, by rw [hg.Ln id h1]; exact h.2.1, fun i f hi => ?_⟩
  obtain ⟨x, x1, x2, x3, x4⟩ := h.2.2 i f hi
  exact ⟨x, by rw [hg.N id h1]; exact x1, x2, by omega, by rw [hx.tr hs x3]; exact x4⟩
theorem nuT_ArT {ν ν' : Nat → Nat} {c c' id cn : Nat} {u : Sg} {L : List Nat} (hs : ST ν c u) (h : NuX ν c ν' c') (hk : ArT ν u id cn L) : ArT ν' u id cn L := by
  obtain ⟨a, b, d⟩ := hk
  refine ⟨a, b, fun i f hi => ?_⟩
  obtain ⟨x, x1, x2, x3, x4⟩ := d i f hi
  exact ⟨x, x1, x2, x3, by rw [nuT_tr hs h x3]; exact x4⟩
/-- the marks of what is done -/
def OpT (ν : Nat → Nat) (u : Sg) (Ol : List Nat) : Prop := (16 ≤ gL u 77 ∧ gL u 77 ≤ 300000) ∧ (∀ x, x < gL u 77 → gN u 77 x ≤ gI u 54 ∧ (gN u 77 x = gI u 54 → 0 < x ∧ x ≤ nT u ∧ trT ν u x ∈ Ol)) ∧ ∀ f ∈ Ol, ∃ x, 0 < x ∧ x < gL u 77 ∧ gN u 77 x = gI u 54 ∧ x ≤ nT u ∧ trT ν u x = f
theorem OpT.fr {ν : Nat → Nat} {c D : Nat} {u u' : Sg} {X : Nat → Prop} {Ol : List Nat} (h : OpT ν u Ol) (hs : ST ν c u) (hx : UxT ν c u u' X) (hg : Gr FT D u u') (h1 : D.testBit 54 = false) (h2 : D.testBit 77 = false) : OpT ν u' Ol := by
  have hn := hx.n
  refine ⟨by rw [hg.Ln 77 h2]; exact h.1, fun x q1 => ⟨?_, fun q2 => ?_⟩, fun f hf => ?_⟩
  · rw [hg.Ln 77 h2] at q1
    rw [hg.N 77 h2, hg.I 54 h1]
    exact (h.2.1 x q1).1
  · rw [hg.Ln 77 h2] at q1
    rw [hg.N 77 h2, hg.I 54 h1] at q2
    obtain ⟨a, b, c'⟩ := (h.2.1 x q1).2 q2
    exact ⟨a, by omega, by rw [hx.tr hs b]; exact c'⟩
  · obtain ⟨x, a, b, c1, d, e⟩ := h.2.2 f hf
    exact ⟨x, a, by rw [hg.Ln 77 h2]; exact b, by rw [hg.N 77 h2, hg.I 54 h1]; exact c1, by omega, by rw [hx.tr hs d]; exact e⟩
theorem nuT_OpT {ν ν' : Nat → Nat} {c c' : Nat} {u : Sg} {Ol : List Nat} (hs : ST ν c u) (h : NuX ν c ν' c') (hk : OpT ν u Ol) : OpT ν' u Ol := by
  refine ⟨hk.1, fun x q1 => ⟨(hk.2.1 x q1).1, fun q2 => ?_⟩, fun f hf => ?_⟩
  · obtain ⟨a, b, e⟩ := (hk.2.1 x q1).2 q2
    exact ⟨a, b, by rw [nuT_tr hs h b]; exact e⟩
  · obtain ⟨x, a, b, c1, d, e⟩ := hk.2.2 f hf
    exact ⟨x, a, b, c1, d, by rw [nuT_tr hs h d]; exact e⟩
/-- names: those of before a case are even, those that a round brought are odd -/
def NmOT (ν : Nat → Nat) (c c0 : Nat) (Ol : List Nat) : Prop := ∀ i, 2 ≤ i → i < c → (i < c0 → ν i % 2 = 0) ∧ (c0 ≤ i → ∃ f ∈ Ol, ν i = 2 * f + 1)
/-- few trees, whatever is made up to 500 -/
def LimRT (ν0 : Nat → Nat) (u0 : Sg) (X : Nat → Prop) (Kl : List Nat) (Fu Fi : Nat → Prop) : Prop := ∀ C : List Nat, C.Nodup → (∀ g ∈ C, Fi g ∧ g ∉ Kl) → (∃ g0, ∀ g ∈ C, Fu g ∨ g = g0) → (Kl.length + C.length ≤ 501 ∨ C.length ≤ 101) → LimT ν0 u0 (Xc X C)
def GlT (ν0 : Nat → Nat) (u0 : Sg) (ν : Nat → Nat) (u : Sg) (X : Nat → Prop) (Kl : List Nat) (Fi : Nat → Prop) (Cl Gl P : List Nat) : Prop := (Gl.Nodup ∧ ∀ g ∈ Gl, Fi g ∧ g ∉ Kl ∧ g ∈ Cl) ∧ UNT ν0 u0 ν u (Xc X (Gl ++ P))
def RdT (Mq : MqT) (ν : Nat → Nat) (c : Nat) (W : Wd) (S : Fs) (X : Nat → Prop) (Kl : List Nat) (l : Ls) (Fu Fi : Nat → Prop) (Cl Gl P Nl Ol : List Nat) (c0 fi : Nat) (ν0 : Nat → Nat) (u0 u : Sg) : Prop := AsT ν c W S Kl l u ∧ ((CoT ν u Cl ∧ 1 ≤ gI u 76) ∧ ∀ g ∈ Cl, Fu g ∧ g ∉ Kl) ∧ ArT ν u 69 70 Nl ∧ (OpT ν u Ol ∧ NmOT ν c c0 Ol) ∧ GlT ν0 u0 ν u X Kl Fi Cl Gl P ∧ gI u 58 = (fi : Int) ∧ MaT Mq u ∧ CtT u
def mkRdT : Nat := mkCaT + (2 ^ 49 + 2 ^ 50 + 2 ^ 51 + 2 ^ 58) + (2 ^ 69 + 2 ^ 70 + 2 ^ 73 + 2 ^ 74) + (2 ^ 75 + 2 ^ 76 + 2 ^ 77)
theorem mkRdT_bits {D : Nat} (h : D &&& mkRdT = 0) : D &&& mkCaT = 0 ∧ ∀ k, (k = 17 ∨ k = 18 ∨ k = 49 ∨ k = 50 ∨ k = 51 ∨ k = 54 ∨ k = 58 ∨ k = 69 ∨ k = 70 ∨ k = 73 ∨ k = 74 ∨ k = 75 ∨ k = 76 ∨ k = 77) → D.testBit k = false := by
  have hb : ∀ k, Nat.testBit mkRdT k = true → D.testBit k = false := fun k hk => by
    have h1 := congrArg (fun z => Nat.testBit z k) h
    simp only [Nat.testBit_and, Nat.zero_testBit] at h1
    rw [hk, Bool.and_true] at h1
    exact h1
  refine ⟨?_, fun k hk => hb k ((by decide +kernel : ∀ k, k ≤ 77 → (k = 17 ∨ k = 18 ∨ k = 49 ∨ k = 50 ∨ k = 51 ∨ k = 54 ∨ k = 58 ∨ k = 69 ∨ k = 70 ∨ k = 73 ∨ k = 74 ∨ k = 75 ∨ k = 76 ∨ k = 77) → Nat.testBit mkRdT k = true) k (by omega) hk)⟩
  refine Nat.eq_of_testBit_eq (fun k => ?_)
  rw [Nat.testBit_and, Nat.zero_testBit]
  by_cases hk : k ≤ 70
  · by_cases q : Nat.testBit mkCaT k = true
    · rw [hb k ((by decide +kernel : ∀ k, k ≤ 70 → Nat.testBit mkCaT k = true → Nat.testBit mkRdT k = true) k hk q), Bool.false_and]
    · rw [Bool.eq_false_iff.mpr q, Bool.and_false]
  · have : Nat.testBit mkCaT k = false := Nat.testBit_lt_two_pow (Nat.lt_of_lt_of_le (by decide +kernel : mkCaT < 2 ^ 70) (Nat.pow_le_pow_right (by decide) (by omega)))
    rw [this, Bool.and_false]
theorem MaT.fr {D : Nat} {u u' : Sg} (h : MaT Mq u) (hg : Gr FT D u u') (h1 : D.testBit 39 = false) (h2 : D.testBit 40 = false) (h3 : D.testBit 38 = false := by decide +kernel) (h4 : D.testBit 41 = false := by decide +kernel) (h5 : D.testBit 42 = false := by decide +kernel) : MaT Mq u' := ⟨⟨by rw [hg.I 40 h2]; exact h.1.1, by rw [hg.A 38 h3, hg.A 41 h4, hg.I 42 h5]; exact h.1.2⟩, fun i hi => by rw [hg.Ln 39 h1] at hi; rw [hg.N 39 h1, hg.I 40 h2]; exact h.2 i hi⟩
theorem RdT.frG {ν : Nat → Nat} {c D : Nat} {W : Wd} {S : Fs} {X Y : Nat → Prop} {Kl : List Nat} {l : Ls} {Fu Fi : Nat → Prop} {Cl Gl P P' Nl Ol : List Nat} {c0 fi : Nat} {ν0 : Nat → Nat} {u0 u u' : Sg} (h : RdT Mq ν c W S X Kl l Fu Fi Cl Gl P Nl Ol c0 fi ν0 u0 u) (hU : UxT ν c u u' Y) (hw : WF FT u') (hg : Gr FT D u u') (hD : D &&& mkRdT = 0) (hma : MaT Mq u') (hug : UNT ν0 u0 ν u' (Xc X (Gl ++ P'))) : RdT Mq ν c W S X Kl l Fu Fi Cl Gl P' Nl Ol c0 fi ν0 u0 u' := by
  obtain ⟨h1, ⟨⟨h2, h2b⟩, h3⟩, h4, ⟨h5, h6⟩, h7, h8, h9, h10⟩ := h
  have hs := h1.1.1.1
  obtain ⟨b0, b⟩ := mkRdT_bits hD
  refine ⟨h1.fr hU hw hg b0 (fun k q1 q2 => b k (by omega)) (b 54 (by omega)), ⟨⟨MkL.up h2 hs hU hg (b 75 (by omega)) (b 73 (by omega)) (b 74 (by omega)) (b 76 (by omega)), by rw [hg.I 76 (b 76 (by omega))]; exact h2b⟩, h3⟩, h4.fr hs hU hg (b 69 (by omega)) (b 70 (by omega)), ⟨h5.fr hs hU hg (b 54 (by omega)) (b 77 (by omega)), h6⟩, ⟨h7.1, hug⟩, by rw [hg.I 58 (b 58 (by omega))]; exact h8, hma, ⟨by rw [hg.Ln 17 (b 17 (by omega))]; exact h10.1, by rw [hg.Ln 18 (b 18 (by omega))]; exact h10.2⟩⟩
theorem RdT.fr {ν : Nat → Nat} {c D : Nat} {W : Wd} {S : Fs} {X : Nat → Prop} {Kl : List Nat} {l : Ls} {Fu Fi : Nat → Prop} {Cl Gl P Nl Ol : List Nat} {c0 fi : Nat} {ν0 : Nat → Nat} {u0 u u' : Sg} (h : RdT Mq ν c W S X Kl l Fu Fi Cl Gl P Nl Ol c0 fi ν0 u0 u) (hU : UpT ν c u u' X) (hw : WF FT u') (hg : Gr FT D u u') (hD : D &&& mkRdT = 0) (h39 : D.testBit 39 = false) (h40 : D.testBit 40 = false) (h38 : D.testBit 38 = false := by decide +kernel) (h41 : D.testBit 41 = false := by decide +kernel) (h42 : D.testBit 42 = false := by decide +kernel) : RdT Mq ν c W S X Kl l Fu Fi Cl Gl P Nl Ol c0 fi ν0 u0 u' :=
  h.frG hU.ux hw hg hD (h.2.2.2.2.2.2.1.fr hg h39 h40 h38 h41 h42) (h.2.2.2.2.1.2.tr ((hU.un h.1.1.1.1 (hg.I 54 ((mkRdT_bits hD).2 54 (by omega)))).mon (fun _ q => Or.inr (Or.inl q))))
/-- a formula that may come is made -/
theorem RdT.frP {ν : Nat → Nat} {c D g : Nat} {W : Wd} {S : Fs} {X : Nat → Prop} {Kl : List Nat} {l : Ls} {Fu Fi : Nat → Prop} {Cl Gl P Nl Ol : List Nat} {c0 fi : Nat} {ν0 : Nat → Nat} {u0 u u' : Sg} (h : RdT Mq ν c W S X Kl l Fu Fi Cl Gl P Nl Ol c0 fi ν0 u0 u) (hP : P = [] ∨ P = [g]) (hU : UpT ν c u u' (fun z => X z ∨ subT z g)) (hw : WF FT u') (hg : Gr FT D u u') (hD : D &&& mkRdT = 0) (h39 : D.testBit 39 = false) (h40 : D.testBit 40 = false) (h38 : D.testBit 38 = false := by decide +kernel) (h41 : D.testBit 41 = false := by decide +kernel) (h42 : D.testBit 42 = false := by decide +kernel) : RdT Mq ν c W S X Kl l Fu Fi Cl Gl [g] Nl Ol c0 fi ν0 u0 u' := by
  refine h.frG hU.ux hw hg hD (h.2.2.2.2.2.2.1.fr hg h39 h40 h38 h41 h42) ((h.2.2.2.2.1.2.mon (fun t q => Or.inr (q.sub (fun z hz => ?_)))).tr ((hU.un h.1.1.1.1 (hg.I 54 ((mkRdT_bits hD).2 54 (by omega)))).mon (fun t q => Or.inr (q.imp id (fun z => ⟨g, List.mem_append_right _ List.mem_cons_self, z⟩)))))
  rcases List.mem_append.mp hz with y | y
  · exact List.mem_append_left _ y
  · rcases hP with z' | z'
    · rw [z'] at y; cases y
    · rw [z'] at y; exact List.mem_append_right _ y
theorem RdT.lim {ν : Nat → Nat} {c : Nat} {W : Wd} {S : Fs} {X : Nat → Prop} {Kl : List Nat} {l : Ls} {Fu Fi : Nat → Prop} {Cl Gl Nl Ol : List Nat} {c0 fi : Nat} {ν0 : Nat → Nat} {u0 u : Sg} (h : RdT Mq ν c W S X Kl l Fu Fi Cl Gl [] Nl Ol c0 fi ν0 u0 u) (hl : LimRT ν0 u0 X Kl Fu Fi) (hgl : Kl.length + Gl.length ≤ 501 ∨ Gl.length ≤ 101) : LimT ν u X := by
  obtain ⟨⟨g1, g2⟩, g3⟩ := h.2.2.2.2.1
  rw [List.append_nil] at g3
  have key := hl Gl g1 (fun g hg => ⟨(g2 g hg).1, (g2 g hg).2.1⟩) ⟨0, fun g hg => Or.inl (h.2.1.2 g (g2 g hg).2.2).1⟩ hgl
  exact fun l' hn hm => key l' hn (fun t ht => (hm t ht).elim (g3.2.2.1 t) (fun q => Or.inr (Or.inl q)))
/-- room for a formula that may come -/
theorem RdT.limg {ν : Nat → Nat} {c g : Nat} {W : Wd} {S : Fs} {X : Nat → Prop} {Kl : List Nat} {l : Ls} {Fu Fi : Nat → Prop} {Cl Gl Nl Ol : List Nat} {c0 fi : Nat} {ν0 : Nat → Nat} {u0 u : Sg} (h : RdT Mq ν c W S X Kl l Fu Fi Cl Gl [] Nl Ol c0 fi ν0 u0 u) (hl : LimRT ν0 u0 X Kl Fu Fi) (hKX : ∀ f ∈ Kl, ∀ z, subT z f → ndT ν0 u0 z) (hgl : Kl.length + Gl.length ≤ 500 ∨ Gl.length ≤ 100) (hg : Fi g) : LimT ν u (fun z => X z ∨ subT z g) := by
  obtain ⟨⟨g1, g2⟩, g3⟩ := h.2.2.2.2.1
  rw [List.append_nil] at g3
  have l1 := hl Gl g1 (fun g hg => ⟨(g2 g hg).1, (g2 g hg).2.1⟩) ⟨0, fun g hg => Or.inl (h.2.1.2 g (g2 g hg).2.2).1⟩ (hgl.imp (fun q => by omega) (fun q => by omega))
  by_cases q1 : g ∈ Kl
  · exact fun l' hn hm => l1 l' hn (fun t ht => (hm t ht).elim (g3.2.2.1 t) (fun q => q.elim (fun z => Or.inr (Or.inl z)) (fun z => Or.inl (hKX g q1 t z))))
  · by_cases q2 : g ∈ Gl
    · exact fun l' hn hm => l1 l' hn (fun t ht => (hm t ht).elim (g3.2.2.1 t) (fun q => q.elim (fun z => Or.inr (Or.inl z)) (fun z => Or.inr (Or.inr ⟨g, q2, z⟩))))
    · have l2 : LimT ν0 u0 (Xc X (Gl ++ [g])) := by
        refine hl _ (List.nodup_append.mpr ⟨g1, by simp, fun a ha b hb q => q2 (by rw [← List.mem_singleton.mp hb, ← q]; exact ha)⟩) (fun z hz => ?_) ⟨g, fun z hz => ?_⟩ ?_
        · rcases List.mem_append.mp hz with y | y
          · exact ⟨(g2 z y).1, (g2 z y).2.1⟩
          · rw [List.mem_singleton.mp y]; exact ⟨hg, q1⟩
        · rcases List.mem_append.mp hz with y | y
          · exact Or.inl (h.2.1.2 z (g2 z y).2.2).1
          · exact Or.inr (List.mem_singleton.mp y)
        · rw [List.length_append]
          exact hgl.imp (fun q => by simp; omega) (fun q => by simp; omega)
      exact fun l' hn hm => l2 l' hn (fun t ht => (hm t ht).elim (fun z => (g3.2.2.1 t z).imp id (fun y => y.sub (fun _ w => List.mem_append_left _ w))) (fun q => Or.inr (q.imp id (fun z => ⟨g, List.mem_append_right _ List.mem_cons_self, z⟩))))
theorem RdT.hh {ν : Nat → Nat} {c : Nat} {W : Wd} {S : Fs} {X : Nat → Prop} {Kl : List Nat} {l : Ls} {Fu Fi : Nat → Prop} {Cl Gl P Nl Ol : List Nat} {c0 fi : Nat} {ν0 : Nat → Nat} {u0 u : Sg} (h : RdT Mq ν c W S X Kl l Fu Fi Cl Gl P Nl Ol c0 fi ν0 u0 u) : hT u = hT u0 := h.2.2.2.2.1.2.2.2.2.1
/-- one formula comes -/
theorem rdT_comes {d : Nat} (hd : 2 ≤ d) {ν : Nat → Nat} {c : Nat} {W : Wd} {S : Fs} {X : Nat → Prop} {Kl : List Nat} {l : Ls} {Fu Fi : Nat → Prop} {Cl Gl P Nl Ol : List Nat} {c0 fi : Nat} {ν0 : Nat → Nat} {u0 u : Sg} (hKX : ∀ f ∈ Kl, ∀ z, subT z f → ndT ν0 u0 z) {x f : Nat} (h : RdT Mq ν c W S X Kl l Fu Fi Cl Gl P Nl Ol c0 fi ν0 u0 u) (hP : P = [] ∨ (P = [f] ∧ Fi f)) (hCl : Cl.length ≤ 5000) (x0 : 0 < x) (hx : x ≤ nT u) (ef : trT ν u x = f) (ht : Fu f) : wp (runT (d + 1) 106 [(x : Int)] u) (fun _ u' => ∃ Cl' Gl', (∀ g ∈ Cl, g ∈ Cl') ∧ RdT Mq ν c W S X Kl l Fu Fi Cl' Gl' [] Nl Ol c0 fi ν0 u0 u' ∧ EqH u u' ∧ (f ∈ Kl ∨ f ∈ Cl') ∧ Cl'.length ≤ Cl.length + 1 ∧ Gl'.length ≤ Gl.length + P.length ∧ gI u' 75 = (Cl'.length : Int)) := by
  obtain ⟨h1, ⟨⟨h2, h2b⟩, h3⟩, h4, ⟨h5, h6⟩, h7, h8, h9, h10⟩ := h
  have hs := h1.1.1.1
  refine wp_mono (tX3_comes hd h1.1.2.1 hs h2 h1.2 h2b hCl x0 hx ef) (fun r u' ⟨w, e, g, co, iI, aA⟩ => ?_)
  have hU : UpT ν c u u' X := e.up hs
  have hun : UNT ν u ν u' X := hU.un hs (iI 54 (by omega))
  have h39 : MaT Mq u' := h9.fr g (by decide +kernel) (by decide +kernel)
  obtain ⟨⟨g1, g2⟩, g3⟩ := h7
  have g4 : UNT ν0 u0 ν u' (Xc X (Gl ++ P)) := g3.tr (hun.mon (fun _ q => Or.inr (Or.inl q)))
  have mk : ∀ Cl' Gl', CoT ν u' Cl' → (∀ z ∈ Cl', Fu z ∧ z ∉ Kl) → GlT ν0 u0 ν u' X Kl Fi Cl' Gl' [] → RdT Mq ν c W S X Kl l Fu Fi Cl' Gl' [] Nl Ol c0 fi ν0 u0 u' := fun Cl' Gl' a1 a2 a3 => ⟨h1.fr hU.ux w g (by decide +kernel) (fun k a b => (by decide +kernel : ∀ k, k ≤ 51 → 49 ≤ k → Nat.testBit DX3_comes k = false) k b a) (by decide +kernel), ⟨⟨a1, by rw [iI 76 (by omega)]; exact h2b⟩, a2⟩, h4.fr hs hU.ux g (by decide +kernel) (by decide +kernel), ⟨h5.fr hs hU.ux g (by decide +kernel) (by decide +kernel), h6⟩, a3, by rw [iI 58 (by omega)]; exact h8, h39, ⟨by rw [(aA 17 (by omega) (by omega)).1]; exact h10.1, by rw [(aA 18 (by omega) (by omega)).1]; exact h10.2⟩⟩
  by_cases hin : f ∈ Kl ∨ f ∈ Cl
  · rw [if_pos hin] at co
    by_cases hnew : P = [] ∨ f ∈ Kl ∨ f ∈ Gl
    · refine ⟨Cl, Gl, fun _ q => q, mk Cl Gl co h3 ⟨⟨g1, g2⟩, g4.mon (fun z hz => ?_)⟩, e, hin, by omega, by omega, co.1.1⟩
      rw [List.append_nil]
      rcases hz with y | ⟨g', y1, y2⟩
      · exact Or.inr (Or.inl y)
      · rcases List.mem_append.mp y1 with v | v
        · exact Or.inr (Or.inr ⟨g', v, y2⟩)
        · rcases hP with q | q
          · rw [q] at v; cases v
          · rw [q.1] at v
            rw [List.mem_singleton.mp v] at y2
            rcases hnew with z' | z' | z'
            · rw [z'] at q; cases q.1
            · exact Or.inl (hKX f z' z y2)
            · exact Or.inr (Or.inr ⟨f, z', y2⟩)
    · have hPf : P = [f] ∧ Fi f := hP.resolve_left (fun q => hnew (Or.inl q))
      have nK : f ∉ Kl := fun q => hnew (Or.inr (Or.inl q))
      have nG : f ∉ Gl := fun q => hnew (Or.inr (Or.inr q))
      refine ⟨Cl, Gl ++ [f], fun _ q => q, mk Cl (Gl ++ [f]) co h3 ⟨⟨List.nodup_append.mpr ⟨g1, by simp, fun a ha b hb q => nG (by rw [← List.mem_singleton.mp hb, ← q]; exact ha)⟩, fun z hz => ?_⟩, ?_⟩, e, hin, by omega, by rw [List.length_append, hPf.1]; exact Nat.le_refl _, co.1.1⟩
      · rcases List.mem_append.mp hz with y | y
        · exact g2 z y
        · rw [List.mem_singleton.mp y]; exact ⟨hPf.2, nK, hin.resolve_left nK⟩
      · rw [List.append_nil, ← hPf.1]; exact g4
  · rw [if_neg hin] at co
    have nK : f ∉ Kl := fun q => hin (Or.inl q)
    have nC : f ∉ Cl := fun q => hin (Or.inr q)
    have hC' : ∀ z ∈ Cl ++ [f], Fu z ∧ z ∉ Kl := fun z hz => by
      rcases List.mem_append.mp hz with y | y
      · exact h3 z y
      · rw [List.mem_singleton.mp y]; exact ⟨ht, nK⟩
    refine ⟨Cl ++ [f], Gl ++ P, fun g' hg' => List.mem_append_left _ hg', mk _ _ co hC' ⟨⟨?_, fun z hz => ?_⟩, by rw [List.append_nil]; exact g4⟩, e, Or.inr (List.mem_append_right _ List.mem_cons_self), by rw [List.length_append]; exact Nat.le_refl _, by rw [List.length_append]; exact Nat.le_refl _, co.1.1⟩
    · rcases hP with q | q
      · rw [q, List.append_nil]; exact g1
      · rw [q.1]
        exact List.nodup_append.mpr ⟨g1, by simp, fun a ha b hb q' => nC (by rw [← List.mem_singleton.mp hb, ← q']; exact (g2 a ha).2.2)⟩
    · rcases List.mem_append.mp hz with y | y
      · exact ⟨(g2 z y).1, (g2 z y).2.1, List.mem_append_left _ (g2 z y).2.2⟩
      · rcases hP with q | q
        · rw [q] at y; cases y
        · rw [q.1] at y
          rw [List.mem_singleton.mp y]
          exact ⟨q.2, nK, List.mem_append_right _ List.mem_cons_self⟩
end MQ
