/-! the lists of a case in the model, and how they grow -/
theorem wfAT {u : Sg} {id : Nat} {i v : Int} (hw : WF FT u) (hk : FT.2.1 id = 1) (hv : inR v) : WF FT (sA u id i v) := hw.sA (fun _ => hv) (fun h => by rw [hk] at h; cases h) (fun h => by rw [hk] at h; cases h)
theorem wfIT {u : Sg} {id : Nat} {v : Int} (hw : WF FT u) (hk : FT.2.1 id = 0) (hv : inR v) : WF FT (sI u id v) := hw.sI hv (fun h => by rw [hk] at h; cases h)
theorem wfBT {u : Sg} {id : Nat} {v : Int} (hw : WF FT u) (hv : v = 0 ∨ v = 1) : WF FT (sI u id v) := hw.sI (by rcases hv with h | h <;> (rw [h]; exact ⟨by decide, by decide⟩)) (fun _ => hv)
theorem Gr.eqH {D : Nat} {u u' : Sg} (h : Gr FT D u u') (hD : D &&& 16383 = 0) : EqH u u' := by
  have hb : ∀ k, k ≤ 13 → D.testBit k = false := fun k hk => by
    have h1 := congrArg (fun z => Nat.testBit z k) hD
    simp only [Nat.testBit_and, Nat.zero_testBit] at h1
    have h2 : Nat.testBit 16383 k = true := (by decide : ∀ k, k ≤ 13 → Nat.testBit 16383 k = true) k hk
    rw [h2, Bool.and_true] at h1
    exact h1
  exact ⟨h.eqT (fun k hk => hb k (by omega)), h.I 13 (hb 13 (by omega)), (h.2.1 12 (hb 12 (by omega))).2⟩
def CaT (ν : Nat → Nat) (c : Nat) (W : Wd) (S : Fs) (Kl : List Nat) (u : Sg) (l : Ls) : Prop := TW ν c W u ∧ WF FT u ∧ (HaT ν u l.1 l.2.1 ∧ 1 ≤ gI u 54) ∧ FcMT ν u l.1 l.2.2.1 ∧ FcJT u l.1 l.2.2.2 ∧ (∀ t ∈ l.1, cltm W (NT ν c) t ∧ fH S t) ∧ (∀ s t, eqL l.1 l.2.1 s t → fE S s t) ∧ (l.2.2.1.Nodup ∧ ∀ q ∈ l.2.2.1, q.1 ∈ l.1 ∧ fM S q.1 q.2.1 q.2.2 ∧ q ∈ ALM W Kl l.1 ∧ q.2.1 ≠ 0 ∧ (q.2.2 ≠ 0 → q.2.2 ∈ l.1)) ∧ (l.2.2.2.Nodup ∧ ∀ q ∈ l.2.2.2, q.1 ∈ l.1 ∧ q.2 < 30 ∧ fA S q.1 q.2) ∧ (l.1.length ≤ 100 → ∀ x ∈ l.1, inHd x l.1)
theorem HaT.up {ν : Nat → Nat} {c D : Nat} {u u' : Sg} {X : Nat → Prop} {H : List Nat} {p : Nat → Nat} (h : HaT ν u H p) (hs : ST ν c u) (hx : UxT ν c u u' X) (hg : Gr FT D u u') (hb : ∀ k, 52 ≤ k → k ≤ 57 → D.testBit k = false) : HaT ν u' H p := by
  obtain ⟨⟨a1, a2, a3, a4, a5, a6⟩, ⟨b1, b2, b3, b4⟩, h3, h4, h5, h6, h7⟩ := h
  have hn := hx.n
  have I := fun k (h1 : 52 ≤ k) (h2 : k ≤ 57) => hg.I k (hb k h1 h2)
  have A := fun k (h1 : 52 ≤ k) (h2 : k ≤ 57) (i : Nat) => hg.N k (hb k h1 h2) i
  have L := fun k (h1 : 52 ≤ k) (h2 : k ≤ 57) => hg.Ln k (hb k h1 h2)
  have L52 := L 52 (by omega) (by omega)
  have L53 := L 53 (by omega) (by omega)
  have L55 := L 55 (by omega) (by omega)
  have L56 := L 56 (by omega) (by omega)
  have I54 := I 54 (by omega) (by omega)
  refine ⟨⟨by rw [I 57 (by omega) (by omega)]; exact a1, a2, by omega, by omega, by omega, by omega⟩, ⟨by omega, by omega, by omega, by omega⟩, h3, fun i t hi => ?_, fun x hx' => ⟨?_, fun he => ?_⟩, fun i hi => by rw [A 56 (by omega) (by omega)]; exact h6 i hi, h7⟩
  · obtain ⟨x, x1, x2, x3, x4, x5, x6, x7, x8⟩ := h4 i t hi
    exact ⟨x, by rw [A 55 (by omega) (by omega)]; exact x1, x2, by omega, by rw [hx.tr hs x3]; exact x4, by omega, by rw [A 52 (by omega) (by omega), I54]; exact x6, by rw [A 53 (by omega) (by omega)]; exact x7, by omega⟩
  · rw [L52] at hx'
    rw [A 52 (by omega) (by omega), I54]
    exact (h5 x hx').1
  · rw [L52] at hx'
    rw [A 52 (by omega) (by omega), I54] at he
    obtain ⟨i, hi, e⟩ := (h5 x hx').2 he
    exact ⟨i, hi, by rw [A 55 (by omega) (by omega)]; exact e⟩
theorem FcMT.up {ν : Nat → Nat} {c D : Nat} {u u' : Sg} {X : Nat → Prop} {H : List Nat} {M : List (Nat × Nat × Nat)} (h : FcMT ν u H M) (hs : ST ν c u) (hx : UxT ν c u u' X) (hg : Gr FT D u u') (hb : ∀ k, 59 ≤ k → k ≤ 62 → D.testBit k = false) : FcMT ν u' H M := by
  obtain ⟨⟨a1, a2, a3, a4, a5, a6, a7⟩, a8⟩ := h
  have L := fun k (h1 : 59 ≤ k) (h2 : k ≤ 62) => hg.Ln k (hb k h1 h2)
  have L59 := L 59 (by omega) (by omega)
  have L60 := L 60 (by omega) (by omega)
  have L61 := L 61 (by omega) (by omega)
  refine ⟨⟨by rw [hg.I 62 (hb 62 (by omega) (by omega))]; exact a1, by omega, by omega, by omega, by omega, by omega, by omega⟩, fun k t m a hk => ?_⟩
  obtain ⟨b1, b2, b3⟩ := a8 k t m a hk
  rw [hg.N 59 (hb 59 (by omega) (by omega)), hg.N 60 (hb 60 (by omega) (by omega)), hg.N 61 (hb 61 (by omega) (by omega))]
  exact ⟨b1, b2, b3.up hs hx⟩
theorem FcJT.up {D : Nat} {u u' : Sg} {H : List Nat} {J : List (Nat × Nat)} (h : FcJT u H J) (hg : Gr FT D u u') (hb : ∀ k, 63 ≤ k → k ≤ 65 → D.testBit k = false) : FcJT u' H J := by
  obtain ⟨⟨a1, a2, a3, a4, a5⟩, a6⟩ := h
  have L := fun k (h1 : 63 ≤ k) (h2 : k ≤ 65) => hg.Ln k (hb k h1 h2)
  have L63 := L 63 (by omega) (by omega)
  have L64 := L 64 (by omega) (by omega)
  refine ⟨⟨by rw [hg.I 65 (hb 65 (by omega) (by omega))]; exact a1, by omega, by omega, by omega, by omega⟩, fun k t j hk => ?_⟩
  obtain ⟨b1, b2⟩ := a6 k t j hk
  rw [hg.N 63 (hb 63 (by omega) (by omega)), hg.N 64 (hb 64 (by omega) (by omega))]
  exact ⟨b1, b2⟩
theorem FcMT.app {ν : Nat → Nat} {u : Sg} {H H2 : List Nat} {M : List (Nat × Nat × Nat)} (h : FcMT ν u H M) : FcMT ν u (H ++ H2) M := ⟨h.1, fun k t m a hk => by
  obtain ⟨⟨i, i1, i2⟩, b⟩ := h.2 k t m a hk
  exact ⟨⟨i, i1, by rw [List.getElem?_append_left (List.getElem?_eq_some_iff.mp i2).1]; exact i2⟩, b⟩⟩
theorem FcJT.app {u : Sg} {H H2 : List Nat} {J : List (Nat × Nat)} (h : FcJT u H J) : FcJT u (H ++ H2) J := ⟨h.1, fun k t j hk => by
  obtain ⟨⟨i, i1, i2⟩, b⟩ := h.2 k t j hk
  exact ⟨⟨i, i1, by rw [List.getElem?_append_left (List.getElem?_eq_some_iff.mp i2).1]; exact i2⟩, b⟩⟩
theorem CaT.ml {ν : Nat → Nat} {c : Nat} {W : Wd} {S : Fs} {Kl : List Nat} {u : Sg} {l : Ls} (h : CaT ν c W S Kl u l) (hW : WOK W (NT ν c)) (hK : ∀ f ∈ Kl, kd f = 14 → wh f < 20) (hKl : Kl.length ≤ 2500) : l.2.2.1.length ≤ 70000 ∧ l.2.2.2.length ≤ 30000 := by
  obtain ⟨h1, h2, ⟨h3, h3b⟩, h4, h5, h6, h7, ⟨h8, h9⟩, ⟨h10, h11⟩, _⟩ := h
  have hl := h3.1.2.1
  have e1 : l.2.2.1.length ≤ (ALM W Kl l.1).length := nodup_sub h8 (fun q hq => (h9 q hq).2.2.1)
  have e2 := ALM_len hW h1.2.2.2.1.2.1.2 (fun t ht => (h6 t ht).1) hK
  refine ⟨by omega, ?_⟩
  have e3 : l.2.2.2.length ≤ (l.1.flatMap (fun t => (List.range 30).map (fun j => (t, j)))).length := nodup_sub h10 (fun q hq => by
    obtain ⟨z1, z2, _⟩ := h11 q hq
    exact List.mem_flatMap.mpr ⟨q.1, z1, List.mem_map.mpr ⟨q.2, List.mem_range.mpr z2, rfl⟩⟩)
  have e4 : (l.1.flatMap (fun t => (List.range 30).map (fun j => (t, j)))).length ≤ 30 * l.1.length := fM_len (fun t _ => by simp)
  omega
theorem CaT.up {ν : Nat → Nat} {c D : Nat} {W : Wd} {S : Fs} {Kl : List Nat} {u u' : Sg} {l : Ls} {X : Nat → Prop} (h : CaT ν c W S Kl u l) (hx : UxT ν c u u' X) (hw : WF FT u') (hg : Gr FT D u u') (hb : ∀ k, (17 ≤ k ∧ k ≤ 37) ∨ (52 ≤ k ∧ k ≤ 57) ∨ (59 ≤ k ∧ k ≤ 65) → D.testBit k = false) : CaT ν c W S Kl u' l := by
  obtain ⟨h1, h2, ⟨h3, h3b⟩, h4, h5, h6⟩ := h
  have hs := h1.1
  have hm : D &&& mkT = 0 := by
    refine Nat.eq_of_testBit_eq (fun k => ?_)
    rw [Nat.testBit_and, Nat.zero_testBit]
    by_cases hk : 17 ≤ k ∧ k ≤ 37
    · rw [hb k (Or.inl hk)]; rfl
    · have : Nat.testBit mkT k = false := by
        by_cases h38 : k ≤ 38
        · exact (by decide +kernel : ∀ k, k ≤ 38 → ¬ (17 ≤ k ∧ k ≤ 37) → Nat.testBit mkT k = false) k h38 hk
        · exact Nat.testBit_lt_two_pow (Nat.lt_of_lt_of_le (by decide +kernel : mkT < 2 ^ 39) (Nat.pow_le_pow_right (by decide) (by omega)))
      rw [this, Bool.and_false]
  exact ⟨h1.up hx hg hm, hw, ⟨h3.up hs hx hg (fun k a b => hb k (by omega)), by rw [hg.I 54 (hb 54 (by omega))]; exact h3b⟩, h4.up hs hx hg (fun k a b => hb k (by omega)), h5.up hg (fun k a b => hb k (by omega)), h6⟩
/-- trees that may come in the model: for the first hundred terms at hand -/
def xt (X : XFm) (H : List Nat) : Nat → Prop := xf X (H.take 100)
theorem take_sub {H H2 : List Nat} {t : Nat} (h : t ∈ H.take 100) : t ∈ (H ++ H2).take 100 := by
  rw [List.take_append]
  exact List.mem_append_left _ h
def LimTH (ν : Nat → Nat) (u : Sg) (S : Fs) (X : XFm) (H : List Nat) : Prop := ∀ H' : List Nat, H'.Nodup → H'.length ≤ 100 → (∀ t ∈ H', fH S t) → (∀ t ∈ H.take 100, t ∈ H') → LimT ν u (xf X H')
theorem LimTH.l {ν : Nat → Nat} {c : Nat} {W : Wd} {S : Fs} {X : XFm} {Kl : List Nat} {u : Sg} {l : Ls} (h : LimTH ν u S X l.1) (hC : CaT ν c W S Kl u l) : LimT ν u (xt X l.1) := h (l.1.take 100) (hC.2.2.1.1.2.2.1.sublist (List.take_sublist _ _)) (by rw [List.length_take]; omega) (fun t ht => (hC.2.2.2.2.2.1 t (List.mem_of_mem_take ht)).2) (fun _ q => q)
theorem xt_mono {X : XFm} {H H2 : List Nat} (z : Nat) (hz : xt X H z) : xt X (H ++ H2) z := xf_mono (fun _ q => take_sub q) z hz
theorem LimTH.up {ν : Nat → Nat} {c : Nat} {S : Fs} {X : XFm} {u u1 : Sg} {H H2 : List Nat} (h : LimTH ν u S X H) (hU : UxT ν c u u1 (xt X (H ++ H2))) : LimTH ν u1 S X (H ++ H2) := fun H' a b c1 d => UxT.lim (⟨hU.1, hU.2.1, fun t ht => (hU.2.2 t ht).imp id (xf_mono d t)⟩ : UxT ν c u u1 (xf X H')) (h H' a b c1 (fun t ht => d t (take_sub ht)))
theorem UpT.jnx {ν : Nat → Nat} {c : Nat} {X : XFm} {u u1 u2 : Sg} {H1 H2 : List Nat} (h : UpT ν c u u1 (xt X H1)) (h' : UpT ν c u1 u2 (xt X (H1 ++ H2))) : UpT ν c u u2 (xt X (H1 ++ H2)) := (h.mono (fun t q => Or.inr (xt_mono t q))).join h'
/-- a step of the model's closing: nothing new, or more -/
def TwR (ν : Nat → Nat) (c : Nat) (W : Wd) (S : Fs) (X : XFm) (Kl : List Nat) (u0 : Sg) (l0 : Ls) (C : Prop) (u1 : Sg) (l1 : Ls) : Prop := exL l0 l1 ∧ CaT ν c W S Kl u1 l1 ∧ UpT ν c u0 u1 (xt X l1.1) ∧ Gr FT DX3_hasType u0 u1 ∧ ((l1 = l0 ∧ gI u1 66 = gI u0 66 ∧ C) ∨ (gI u1 66 = 1 ∧ msL l0 < msL l1))
theorem TwR.rf {ν : Nat → Nat} {c : Nat} {W : Wd} {S : Fs} {X : XFm} {Kl : List Nat} {u : Sg} {l : Ls} {C : Prop} (h : CaT ν c W S Kl u l) (hC : C) : TwR ν c W S X Kl u l C u l := ⟨exL.rf l, h, UpT.rf h.1.1, Gr.rf, Or.inl ⟨rfl, rfl, hC⟩⟩
theorem TwR.seq {ν : Nat → Nat} {c : Nat} {W : Wd} {S : Fs} {X : XFm} {Kl : List Nat} {u0 u1 u2 : Sg} {l0 l1 l2 : Ls} {C C' C'' : Prop} (h : TwR ν c W S X Kl u0 l0 C u1 l1) (h' : TwR ν c W S X Kl u1 l1 C' u2 l2) (k : l1 = l0 → C → C' → C'') : TwR ν c W S X Kl u0 l0 C'' u2 l2 := by
  obtain ⟨h1, h2, h3, h4, h5⟩ := h
  obtain ⟨g1, g2, g3, g4, g5⟩ := h'
  refine ⟨h1.tr g1, g2, ?_, h4.tr g4, ?_⟩
  · obtain ⟨⟨a, ha⟩, _⟩ := g1
    rw [ha] at g3 ⊢
    exact h3.jnx g3
  · rcases h5 with ⟨e1, e2, e3⟩ | ⟨e1, e2⟩
    · rcases g5 with ⟨f1, f2, f3⟩ | ⟨f1, f2⟩
      · exact Or.inl ⟨by rw [f1]; exact e1, by rw [f2]; exact e2, k e1 e3 f3⟩
      · exact Or.inr ⟨f1, by rw [← e1]; exact f2⟩
    · rcases g5 with ⟨f1, f2, f3⟩ | ⟨f1, f2⟩
      · exact Or.inr ⟨by rw [f2]; exact e1, by rw [f1]; exact e2⟩
      · exact Or.inr ⟨f1, by omega⟩
theorem TwR.mono {ν : Nat → Nat} {c : Nat} {W : Wd} {S : Fs} {X : XFm} {Kl : List Nat} {u0 u1 : Sg} {l0 l1 : Ls} {C C' : Prop} (h : TwR ν c W S X Kl u0 l0 C u1 l1) (k : l1 = l0 → C → C') : TwR ν c W S X Kl u0 l0 C' u1 l1 := by
  obtain ⟨h1, h2, h3, h4, h5⟩ := h
  exact ⟨h1, h2, h3, h4, h5.imp (fun q => ⟨q.1, q.2.1, k q.1 q.2.2⟩) id⟩
theorem TwR.lm {ν : Nat → Nat} {c : Nat} {W : Wd} {S : Fs} {X : XFm} {Kl : List Nat} {u0 u1 : Sg} {l0 l1 : Ls} {C : Prop} (h : TwR ν c W S X Kl u0 l0 C u1 l1) (hl : LimTH ν u0 S X l0.1) : LimTH ν u1 S X l1.1 := by
  obtain ⟨⟨⟨a, ha⟩, _⟩, _, h3, _⟩ := h
  rw [ha] at h3 ⊢
  exact hl.up h3.ux
/-- what the lists say, more with more -/
theorem exL.fs {l l' : Ls} (h : exL l l') : subF (FsQ l) (FsQ l') := by
  have ex : ∀ {s t}, eqX l.1 l.2.1 s t → eqX l'.1 l'.2.1 s t := fun q => q.imp id (h.2.2.2 _ _)
  refine ⟨fun t q => h.H q, fun s t q => h.2.2.2 s t q, fun t m a ⟨t', a', q1, q2, q3⟩ => ⟨t', a', ?_, ex q2, ex q3⟩, fun t j ⟨t', q1, q2⟩ => ⟨t', h.J q1, ex q2⟩⟩
  rcases List.mem_append.mp q1 with z | z
  · exact List.mem_append_left _ (h.M z)
  · obtain ⟨s, s1, s2⟩ := List.mem_map.mp z
    exact List.mem_append_right _ (List.mem_map.mpr ⟨s, h.H s1, s2⟩)
theorem CaT.sub {ν : Nat → Nat} {c : Nat} {W : Wd} {S : Fs} {K B : Nat → Prop} {Kl : List Nat} {u : Sg} {l : Ls} (h : CaT ν c W S Kl u l) (hW : WOK W (NT ν c)) (hS : Clo W K B S) : subF (FsQ l) S := by
  obtain ⟨h1, h2, ⟨h3, h3b⟩, h4, h5, h6, h7, ⟨h8, h9⟩, ⟨h10, h11⟩, _⟩ := h
  have exx : ∀ {s t}, eqX l.1 l.2.1 s t → eqA S s t := fun q => q.imp id (h7 _ _)
  refine ⟨fun t q => (h6 t q).2, h7, fun t m a ⟨t', a', q1, q2, q3⟩ => hS.2.1.2.2.2.2.2.2.1 t' t m a' a ?_ (exx q2) (exx q3), fun t j ⟨t', q1, q2⟩ => hS.2.1.2.2.2.2.2.2.2 t' t j (h11 _ q1).2.2 (exx q2)⟩
  rcases List.mem_append.mp q1 with z | z
  · exact (h9 _ z).2.1
  · obtain ⟨s, s1, s2⟩ := List.mem_map.mp z
    simp only [Prod.mk.injEq] at s2
    obtain ⟨c1, c2⟩ := h6 s s1
    obtain ⟨z, hz, e1, e2⟩ := has_set hW (wh (tyT W s) + 1) (tyT W s) (Nat.lt_succ_self _) (ty_ok hW c1)
    have := (hS.1.2.2.2.1 s c2 z hz).1
    rw [e1, e2] at this
    rw [← s2.1, ← s2.2.1, ← s2.2.2]
    exact this
