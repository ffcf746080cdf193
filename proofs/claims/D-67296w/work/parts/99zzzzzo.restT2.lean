/-! the model at rest: what it rests on; field 0 (thrown) is free -/
theorem st_s0 {ν : Nat → Nat} {c : Nat} {u : Sg} {v : Int} (h : ST ν c u) : ST ν c (sI u 0 v) := by
  have hc : ∀ n, dSum (sI u 0 v) n = dSum u n := fun n => dSum_congr n (fun _ _ _ => rfl)
  have en : nT (sI u 0 v) = nT u := rfl
  have ed : dT (sI u 0 v) = dT u := rfl
  exact ⟨⟨h.1.1, h.1.2.1, h.1.2.2.1, h.1.2.2.2.1, h.1.2.2.2.2⟩, ⟨by rw [hc, ed, en]; exact h.2.1.1, fun x x0 hx => by rw [hc]; exact h.2.1.2 x x0 hx⟩, h.2.2⟩
theorem ReT.cg {W : Wd} {c : Nat} {Fo Pr : List Nat} {lc : Nat} {K : Int} {u u' : Sg} (hA : ∀ k, k < 83 → u'.2.1 k = u.2.1 k) (hI : ∀ k, 0 < k → k < 83 → gI u' k = gI u k) (hw : WF FT u') (h : ReT W c Fo Pr lc K u) : ReT W c Fo Pr lc K u' := by
  obtain ⟨u1, hu1⟩ : ∃ u1, u1 = sI u 0 (gI u' 0) := ⟨_, rfl⟩
  have hA1 : ∀ k, k < 83 → u'.2.1 k = u1.2.1 k := fun k hk => by rw [hu1]; exact hA k hk
  have hI1 : ∀ k, k < 83 → gI u' k = gI u1 k := fun k hk => by
    rw [hu1, gI_sI]
    split
    · rename_i e; rw [e]
    · rename_i e; exact hI k (by omega) hk
  have he : EqH u1 u' := ⟨⟨fun k hk => hA1 k (by omega), fun k hk => hI1 k (by omega)⟩, hI1 13 (by decide), hA1 12 (by decide)⟩
  have L : ∀ k, k < 83 → gL u' k = gL u k := fun k hk => congrArg Prod.fst (hA k hk)
  have N : ∀ k i, k < 83 → gN u' k i = gN u k i := fun k i hk => congrFun (congrArg Prod.snd (hA k hk)) i
  have eh : hT u' = hT u := by unfold hT; rw [hI 13 (by decide) (by decide)]
  have en : nT u' = nT u := by unfold nT; rw [hI 8 (by decide) (by decide)]
  have et : ∀ x, trT nt2 u' x = trT nt2 u x := fun x => by
    have h1 : trT nt2 u' x = trT nt2 u1 x := he.1.tr
    rw [h1, hu1]
    rfl
  obtain ⟨⟨h1, h2, ⟨a1, a2, a3, a4⟩, ⟨b1, b2, b3, b4, b5, b6⟩, ⟨f1, f2, f3, f4, f5⟩, ⟨⟨p1, p2, p3, p4⟩, p5, p6⟩, g1, g2, g3, g8⟩, hw0, ⟨x1, x2, x3, ⟨x4, x5, x6⟩, x7, x8⟩, ⟨m1, ⟨m2, m3, m4⟩, m5, m6, m7⟩, hh, h54, h76, h43, ⟨o1, o2, o3, o4⟩, ⟨q1, q2, q3, q4⟩, h82⟩ := h
  have I : ∀ {v : Int} {t : Nat}, inT nt2 u v t → inT nt2 u' v t := fun ⟨y, z1, z2, z3⟩ => ⟨y, z1, by rw [en]; exact z2, by rw [et]; exact z3⟩
  have hs : ST nt2 (c + 2) u' := he.st (by rw [hu1]; exact st_s0 h1)
  refine ⟨⟨hs, by rw [L 14 (by decide), L 15 (by decide)]; exact h2, ⟨by rw [hI 19 (by decide) (by decide)]; exact a1, a2, by rw [L 18 (by decide)]; exact a3, fun i h1 hi => by rw [N 18 i (by decide)]; exact I (a4 i h1 hi)⟩, ⟨by rw [hI 27 (by decide) (by decide)]; exact b1, b2, by rw [L 25 (by decide)]; exact b3, by rw [L 26 (by decide)]; exact b4, by rw [N 26 0 (by decide)]; exact b5, fun i h1 h2 => by rw [N 25 i (by decide), N 26 i (by decide)]; exact ⟨I (b6 i h1 h2).1, (b6 i h1 h2).2⟩⟩, ⟨by rw [hI 22 (by decide) (by decide)]; exact f1, f2, by rw [L 20 (by decide)]; exact f3, by rw [L 21 (by decide)]; exact f4, fun i hi => by rw [N 20 i (by decide), N 21 i (by decide)]; exact ⟨(f5 i hi).1, I (f5 i hi).2⟩⟩, ⟨⟨by rw [hI 24 (by decide) (by decide)]; exact p1, p2, by rw [L 23 (by decide)]; exact p3, fun i hi => by rw [N 23 i (by decide)]; exact p4 i hi⟩, by rw [hI 28 (by decide) (by decide)]; exact p5, p6⟩, by rw [hI 37 (by decide) (by decide)]; exact g1, g2, fun k h1 h2 => by rw [L k (by omega)]; exact g3 k h1 h2, fun i hi => ?_⟩, hw, ⟨fun k hk => ?_, fun k hk => ?_, fun k hk i hi => ?_, ⟨by rw [hI 76 (by decide) (by decide)]; exact x4, by rw [hI 76 (by decide) (by decide)]; exact x5, fun i hi => ?_⟩, by rw [hI 40 (by decide) (by decide)]; exact x7, fun i hi => ?_⟩, ⟨fun t ht => ?_, ⟨by rw [hI 40 (by decide) (by decide)]; exact m2, by rw [L 38 (by decide)]; exact m3, by rw [L 39 (by decide)]; exact m4⟩, by rw [hI 42 (by decide) (by decide)]; exact m5, by rw [L 41 (by decide)]; exact m6, by rw [L 41 (by decide)]; exact m7⟩, eh.trans hh, by rw [hI 54 (by decide) (by decide)]; exact h54, by rw [hI 76 (by decide) (by decide)]; exact h76, fun k h1 h2 => by rw [L k (by omega)]; exact h43 k h1 h2, ⟨by rw [hI 79 (by decide) (by decide)]; exact o1, by rw [L 78 (by decide)]; exact o2, o3, fun i f hf => ?_⟩, ⟨by rw [hI 81 (by decide) (by decide)]; exact q1, by rw [L 80 (by decide)]; exact q2, q3, fun i f hf => ?_⟩, by rw [hI 82 (by decide) (by decide), L 80 (by decide)]; exact h82⟩
  · rw [N 29 i (by decide), N 30 i (by decide), N 31 i (by decide), N 32 i (by decide), N 33 i (by decide), N 34 i (by decide), N 35 i (by decide), N 36 i (by decide)]
    obtain ⟨z1, z2, z3, z4, z5⟩ := g8 i hi
    exact ⟨z1, fun q => ⟨I (z2 q).1, I (z2 q).2⟩, fun q => ⟨(z3 q).1, I (z3 q).2.1, I (z3 q).2.2⟩, z4, fun q => I (z5 q)⟩
  · rw [L k (by omega)]; exact x1 k hk
  · rw [L k (by omega)]; exact x2 k hk
  · rw [N k i (by omega), hI 54 (by decide) (by decide)]
    rw [L k (by omega)] at hi
    exact x3 k hk i hi
  · rw [L 74 (by decide)] at hi
    rw [N 74 i (by decide), hI 76 (by decide) (by decide)]
    exact x6 i hi
  · rw [L 39 (by decide)] at hi
    rw [N 39 i (by decide), hI 40 (by decide) (by decide)]
    exact x8 i hi
  · have ht' : RemT u t := ⟨by rw [← L 39 (by decide)]; exact ht.1, by rw [← N 39 t (by decide), ← hI 40 (by decide) (by decide)]; exact ht.2⟩
    obtain ⟨z1, z2, z3, z4⟩ := m1 t ht'
    exact ⟨z1, by rw [en]; exact z2, by rw [L 38 (by decide)]; exact z3, by rw [N 38 t (by decide), et]; exact z4⟩
  · obtain ⟨x, z1, z2, z3, z4⟩ := o4 i f hf
    exact ⟨x, by rw [N 78 i (by decide)]; exact z1, z2, by rw [en]; exact z3, by rw [et]; exact z4⟩
  · obtain ⟨x, z1, z2, z3, z4⟩ := q4 i f hf
    exact ⟨x, by rw [N 80 i (by decide)]; exact z1, z2, by rw [en]; exact z3, by rw [et]; exact z4⟩
