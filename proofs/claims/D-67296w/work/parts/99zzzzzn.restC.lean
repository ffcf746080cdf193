/-! what is at rest rests on its own fields alone -/
theorem ReC.cg {W : Wd} {c : Nat} {Fo Pr : List Nat} {lc : Nat} {K : Int} {u u' : Sg} (hA : ∀ k, k < 90 → u'.2.1 k = u.2.1 k) (hI : ∀ k, k < 99 → gI u' k = gI u k) (hw : WF FC u') (h : ReC W c Fo Pr lc K u) : ReC W c Fo Pr lc K u' := by
  have he : EqS u u' := ⟨fun k hk => hA k (by omega), fun k hk => hI k (by omega)⟩
  have L : ∀ k, k < 90 → gL u' k = gL u k := fun k hk => congrArg Prod.fst (hA k hk)
  have N : ∀ k i, k < 90 → gN u' k i = gN u k i := fun k i hk => congrFun (congrArg Prod.snd (hA k hk)) i
  have er : rC u' = rC u := by unfold rC; rw [hI 12 (by decide)]
  have en : nC u' = nC u := he.n
  have et : ∀ x, trC nu2 u' x = trC nu2 u x := fun x => by unfold trC; rw [he.st]
  obtain ⟨⟨h1, h2, ⟨a1, a2, a3⟩, ⟨b1, b2, b3, b4, b5, b6⟩, ⟨f1, f2, f3, f4, f5⟩, ⟨⟨p1, p2, p3, p4⟩, p5, p6⟩, g1, g2, ⟨g3, g4, g5, g6, g7⟩, g8⟩, hw0, hArr, ⟨m1, m2, m3⟩, hr, h36, h33, h61, h60, ⟨o1, o2, o3, o4⟩, ⟨q1, q2, q3, q4⟩, h84⟩ := h
  have I : ∀ {v : Int} {t : Nat}, inC nu2 u v t → inC nu2 u' v t := fun q => q.ee he
  have hs : SC nu2 c u' := he.sc h1 ⟨by rw [hI 12 (by decide), er]; exact h1.r.1, by rw [er, L 11 (by decide)]; exact h1.r.2.1⟩ (by rw [L 11 (by decide)]; exact h1.r.2.2)
  refine ⟨⟨hs, h2.eqs he (hI 13 (by decide)) (hI 14 (by decide)), ⟨by rw [hI 86 (by decide)]; exact a1, by rw [L 85 (by decide)]; exact a2, fun i hi => by rw [N 85 i (by decide)]; exact I (a3 i hi)⟩, ⟨by rw [hI 69 (by decide)]; exact b1, b2, by rw [L 67 (by decide)]; exact b3, by rw [L 68 (by decide)]; exact b4, by rw [N 68 0 (by decide)]; exact b5, fun i h1 h2 => by rw [N 67 i (by decide), N 68 i (by decide)]; exact ⟨I (b6 i h1 h2).1, (b6 i h1 h2).2⟩⟩, ⟨by rw [hI 74 (by decide)]; exact f1, f2, by rw [L 71 (by decide)]; exact f3, by rw [L 72 (by decide)]; exact f4, fun i hi => by rw [N 71 i (by decide), N 72 i (by decide)]; exact ⟨(f5 i hi).1, I (f5 i hi).2⟩⟩, ⟨⟨by rw [hI 75 (by decide)]; exact p1, p2, by rw [L 73 (by decide)]; exact p3, fun i hi => by rw [N 73 i (by decide)]; exact p4 i hi⟩, by rw [hI 70 (by decide)]; exact p5, p6⟩, by rw [hI 81 (by decide)]; exact g1, g2, ⟨by rw [L 76 (by decide)]; exact g3, by rw [L 77 (by decide)]; exact g4, by rw [L 78 (by decide)]; exact g5, by rw [L 79 (by decide)]; exact g6, by rw [L 80 (by decide)]; exact g7⟩, fun i hi => ?_⟩, hw, ?_, ⟨by rw [L 32 (by decide), L 31 (by decide)]; exact m1, by rw [L 31 (by decide)]; exact m2, fun t ht => by rw [N 32 t (by decide), hI 33 (by decide)]; rw [L 32 (by decide)] at ht; exact m3 t ht⟩, er.trans hr, by rw [hI 36 (by decide)]; exact h36, by rw [hI 33 (by decide)]; exact h33, by rw [L 62 (by decide), L 61 (by decide)]; exact h61, by rw [L 60 (by decide)]; exact h60, ⟨by rw [hI 66 (by decide)]; exact o1, by rw [L 65 (by decide)]; exact o2, o3, fun i f hf => ?_⟩, ⟨by rw [hI 83 (by decide)]; exact q1, by rw [L 82 (by decide)]; exact q2, q3, fun i f hf => ?_⟩, by rw [hI 84 (by decide), L 82 (by decide)]; exact h84⟩
  · rw [N 76 i (by decide), N 77 i (by decide), N 78 i (by decide), N 79 i (by decide), N 80 i (by decide)]
    obtain ⟨z1, z2, z3, z4, z5, z6⟩ := g8 i hi
    exact ⟨z1, fun q => I (z2 q), z3, I z4, I z5, I z6⟩
  · obtain ⟨x1, x2, x3, x4, x5, x6, x7, x8, x9⟩ := hArr
    refine ⟨by rw [L 40 (by decide), L 41 (by decide)]; exact x1, by rw [L 39 (by decide), L 42 (by decide), L 37 (by decide), L 38 (by decide)]; exact x2, fun k hk i hi => ?_, by rw [L 47 (by decide), L 46 (by decide), L 48 (by decide)]; exact x4, by rw [L 50 (by decide), L 49 (by decide)]; exact x5, ?_, ?_, by rw [L 53 (by decide)]; exact x8, by rw [L 55 (by decide)]; exact x9⟩
    · have hk9 : k < 90 := by omega
      rw [N k i hk9, hI 36 (by decide)]
      rw [L k hk9] at hi
      exact x3 k hk i hi
    · unfold KnL; rw [L 34 (by decide)]; exact x6
    · unfold CtL; rw [L 85 (by decide)]; exact x7
  · obtain ⟨x, z1, z2, z3, z4⟩ := o4 i f hf
    exact ⟨x, by rw [N 65 i (by decide)]; exact z1, z2, by rw [en]; exact z3, by rw [et]; exact z4⟩
  · obtain ⟨x, z1, z2, z3, z4⟩ := q4 i f hf
    exact ⟨x, by rw [N 82 i (by decide)]; exact z1, z2, by rw [en]; exact z3, by rw [et]; exact z4⟩
