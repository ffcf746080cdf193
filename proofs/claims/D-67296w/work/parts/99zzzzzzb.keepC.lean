/-! face: the class's store is set back, and rests as before -/
theorem ReC.back {W : Wd} {c : Nat} {Fo Pr : List Nat} {lc : Nat} {K : Int} {u s : Sg} (h : ReC W c Fo Pr lc K u) (hs : SC nu2 c s) (en : nC s = nC u) (et : ∀ x, x < nC u → trC nu2 s x = trC nu2 u x) (hr : rC s = 0) (hA : ∀ k, 21 ≤ k → k ≤ 98 → s.2.1 k = u.2.1 k) (hI : ∀ k, k = 13 ∨ k = 14 ∨ (21 ≤ k ∧ k ≤ 98 ∧ k ≠ 33) → gI s k = gI u k) (h33 : gI s 33 = gI u 33 + 1) (hw : WF FC s) : ReC W c Fo Pr lc (K + 1) s := by
  have L : ∀ k, 21 ≤ k → k ≤ 98 → gL s k = gL u k := fun k h1 h2 => congrArg Prod.fst (hA k h1 h2)
  have N : ∀ k i, 21 ≤ k → k ≤ 98 → gN s k i = gN u k i := fun k i h1 h2 => congrFun (congrArg Prod.snd (hA k h1 h2)) i
  obtain ⟨⟨h1, ⟨ye, no, y1, y2, ⟨y3, y4, y5⟩, y6, y7, y8⟩, ⟨a1, a2, a3⟩, ⟨b1, b2, b3, b4, b5, b6⟩, ⟨f1, f2, f3, f4, f5⟩, ⟨⟨p1, p2, p3, p4⟩, p5, p6⟩, g1, g2, ⟨g3, g4, g5, g6, g7⟩, g8⟩, hw0, hArr, ⟨m1, m2, m3⟩, hr0, h36, h33', h61, h60, ⟨o1, o2, o3, o4⟩, ⟨q1, q2, q3, q4⟩, h84⟩ := h
  have I : ∀ {v : Int} {t : Nat}, inC nu2 u v t → inC nu2 s v t := fun ⟨y, z1, z2, z3⟩ => ⟨y, z1, by rw [en]; exact z2, by rw [et y z2]; exact z3⟩
  refine ⟨⟨hs, ⟨ye, no, by rw [hI 13 (by omega)]; exact y1, by rw [hI 14 (by omega)]; exact y2, ⟨y3, by rw [en]; exact y4, by rw [et _ y4]; exact y5⟩, y6, by rw [en]; exact y7, by rw [et _ y7]; exact y8⟩, ⟨by rw [hI 86 (by omega)]; exact a1, by rw [L 85 (by decide) (by decide)]; exact a2, fun i hi => by rw [N 85 i (by decide) (by decide)]; exact I (a3 i hi)⟩, ⟨by rw [hI 69 (by omega)]; exact b1, b2, by rw [L 67 (by decide) (by decide)]; exact b3, by rw [L 68 (by decide) (by decide)]; exact b4, by rw [N 68 0 (by decide) (by decide)]; exact b5, fun i h1 h2 => by rw [N 67 i (by decide) (by decide), N 68 i (by decide) (by decide)]; exact ⟨I (b6 i h1 h2).1, (b6 i h1 h2).2⟩⟩, ⟨by rw [hI 74 (by omega)]; exact f1, f2, by rw [L 71 (by decide) (by decide)]; exact f3, by rw [L 72 (by decide) (by decide)]; exact f4, fun i hi => by rw [N 71 i (by decide) (by decide), N 72 i (by decide) (by decide)]; exact ⟨(f5 i hi).1, I (f5 i hi).2⟩⟩, ⟨⟨by rw [hI 75 (by omega)]; exact p1, p2, by rw [L 73 (by decide) (by decide)]; exact p3, fun i hi => by rw [N 73 i (by decide) (by decide)]; exact p4 i hi⟩, by rw [hI 70 (by omega)]; exact p5, p6⟩, by rw [hI 81 (by omega)]; exact g1, g2, ⟨by rw [L 76 (by decide) (by decide)]; exact g3, by rw [L 77 (by decide) (by decide)]; exact g4, by rw [L 78 (by decide) (by decide)]; exact g5, by rw [L 79 (by decide) (by decide)]; exact g6, by rw [L 80 (by decide) (by decide)]; exact g7⟩, fun i hi => ?_⟩, hw, ?_, ⟨by rw [L 32 (by decide) (by decide), L 31 (by decide) (by decide)]; exact m1, by rw [L 31 (by decide) (by decide)]; exact m2, fun t ht => ?_⟩, hr, by rw [hI 36 (by omega)]; omega, by rw [h33]; omega, by rw [L 61 (by decide) (by decide), L 62 (by decide) (by decide)]; exact h61, by rw [L 60 (by decide) (by decide)]; exact h60, ⟨by rw [hI 66 (by omega)]; exact o1, by rw [L 65 (by decide) (by decide)]; exact o2, o3, fun i f hf => ?_⟩, ⟨by rw [hI 83 (by omega)]; exact q1, by rw [L 82 (by decide) (by decide)]; exact q2, q3, fun i f hf => ?_⟩, by rw [hI 84 (by omega), L 82 (by decide) (by decide)]; exact h84⟩
  · rw [N 76 i (by decide) (by decide), N 77 i (by decide) (by decide), N 78 i (by decide) (by decide), N 79 i (by decide) (by decide), N 80 i (by decide) (by decide)]
    obtain ⟨z1, z2, z3, z4, z5, z6⟩ := g8 i hi
    exact ⟨z1, fun q => I (z2 q), z3, I z4, I z5, I z6⟩
  · obtain ⟨x1, x2, x3, x4, x5, x6, x7, x8, x9⟩ := hArr
    refine ⟨by rw [L 40 (by decide) (by decide), L 41 (by decide) (by decide)]; exact x1, by rw [L 39 (by decide) (by decide), L 42 (by decide) (by decide), L 37 (by decide) (by decide), L 38 (by decide) (by decide)]; exact x2, fun k hk i hi => ?_, by rw [L 47 (by decide) (by decide), L 46 (by decide) (by decide), L 48 (by decide) (by decide)]; exact x4, by rw [L 50 (by decide) (by decide), L 49 (by decide) (by decide)]; exact x5, by unfold KnL; rw [L 34 (by decide) (by decide)]; exact x6, by unfold CtL; rw [L 85 (by decide) (by decide)]; exact x7, by rw [L 53 (by decide) (by decide)]; exact x8, by rw [L 55 (by decide) (by decide)]; exact x9⟩
    rw [N k i (by omega) (by omega), hI 36 (by omega)]
    rw [L k (by omega) (by omega)] at hi
    exact x3 k hk i hi
  · rw [N 32 t (by decide) (by decide), h33]
    rw [L 32 (by decide) (by decide)] at ht
    have := m3 t ht
    omega
  · obtain ⟨x, z1, z2, z3, z4⟩ := o4 i f hf
    exact ⟨x, by rw [N 65 i (by decide) (by decide)]; exact z1, z2, by rw [en]; exact z3, by rw [et x z3]; exact z4⟩
  · obtain ⟨x, z1, z2, z3, z4⟩ := q4 i f hf
    exact ⟨x, by rw [N 82 i (by decide) (by decide)]; exact z1, z2, by rw [en]; exact z3, by rw [et x z3]; exact z4⟩
/-- the store behind keep: no more than was there, and what was made -/
def NdC (u u' : Sg) (X : Nat → Prop) : Prop := ∀ z, ndC nu2 u' z → ndC nu2 u z ∨ X z
theorem Up.pS {c : Nat} {u u1 : Sg} {X : Nat → Prop} (hs : SC nu2 c u) (hU : Up nu2 c u u1 X) : pC u = pSum u1 (nC u) := by
  have hs' := hU.sc
  have hn := hU.ux.n hs
  rw [hs.2.1.1]
  refine (pSum_len (nC u) (fun y y0 hy => ?_)).symm
  have a := (nodeC hs y0 hy).2.2.1
  have b := (nodeC hs' y0 (by omega)).2.2.1
  rw [hU.tr hs hy] at b
  have ea : (rawC u y).2.2.length = (gN u 3 y).toNat := raw_len u y
  have eb : (rawC u1 y).2.2.length = (gN u1 3 y).toNat := raw_len u1 y
  rw [ea, eb, a, b]
def okKp (t : Nat) : Prop := szT t ≤ 200
theorem cKeep {d : Nat} (hd : 10 ≤ d) {D : Nat} {W : Wd} {c : Nat} {Fo Pr : List Nat} {lc : Nat} {K : Int} {u u1 : Sg} {X : Nat → Prop} {x t : Nat} (h : ReC W c Fo Pr lc K u) (hU : Up nu2 c u u1 X) (hw1 : WF FC u1) (hg : Gr FC D u u1) (hb : ∀ k, k = 13 ∨ k = 14 ∨ (21 ≤ k ∧ k ≤ 98) → D.testBit k = false) (h9 : 0 ≤ gI u1 99 ∧ gI u1 99 < 1000000) (x0 : 0 < x) (hx : x < nC u1) (et : trC nu2 u1 x = t) (hFl : Fo.length < 400) (hK : K < 1000000) (h5 : ∀ z, ndC nu2 u1 z → P5 z) : wp (runC d 16 [(x : Int), (nC u : Int), (pC u : Int)] u1) (fun r u' => (okKp t ∧ r = (Fo.length : Int) ∧ ReC W c (Fo ++ [t]) Pr lc K u' ∧ NdC u u' X) ∨ (¬ okKp t ∧ r = exB + 2 ∧ ReC W c Fo Pr lc (K + 1) u' ∧ NdC u u' (fun _ => False))) := by
  have h1 := h.up hU hw1 hg hb
  obtain ⟨d, rfl⟩ : ∃ e, d = e + 1 := ⟨d - 1, by omega⟩
  rw [runC_eq (by omega)]
  show wp (bX1_keep (runC d) x (nC u : Int) (pC u : Int) u1) _
  unfold bX1_keep jn
  dsimp only
  have hs := h.1.1
  have hs1 := h1.1.1
  have hn9 := nC_le hs1
  obtain ⟨o1, o2, o3, o4⟩ := h1.2.2.2.2.2.2.2.2.2.1
  have hnn := hU.ux.n hs
  have hsz := sz_C hs1 x x0 hx
  rw [et] at hsz
  have hl4 : x < gL u1 4 := by rw [hs1.1.1.2.2.2.1.2.2.2.1]; exact Nat.lt_of_lt_of_le hx hs1.1.1.1.2.2
  rw [wp_un, o1, if_neg (by omega), wp_ld]
  refine ⟨⟨by omega, by omega⟩, ?_⟩
  rw [gA_nat, hsz]
  have hmn : mn9 (szT t : Int) ≤ 200 ↔ okKp t := by unfold mn9 okKp; split <;> omega
  by_cases hk : okKp t
  · rw [if_pos (hmn.mpr hk), wp_un, wp_stA]
    refine ⟨⟨by omega, by rw [o2]; omega⟩, ?_⟩
    rw [wp_un, gI_sA, o1, wp_ar]
    refine ⟨⟨by omega, by omega⟩, ?_⟩
    rw [wp_un, wp_un, gI_sI, if_pos rfl, wp_ar]
    refine ⟨⟨by omega, by omega⟩, ?_⟩
    rw [wp_some]
    have hw : WF FC (sI (sA u1 65 (Fo.length : Int) (x : Int)) 66 ((Fo.length : Int) + 1)) := wfI (wfA hw1 rfl ⟨by omega, by omega⟩) rfl ⟨by omega, by omega⟩
    refine Or.inl ⟨hk, by omega, h1.tb (fun k hk => aA (by omega)) (fun k hk => by rw [gI_sI, if_neg (by omega)]; rfl) hw h1.1.2.2.1 h1.1.2.2.2.1 h1.1.2.2.2.2.1 h1.1.2.2.2.2.2.1 h1.1.2.2.2.2.2.2 ⟨?_, o2, ?_, fun i f hf => ?_⟩ h1.2.2.2.2.2.2.2.2.2.2.1 h1.2.2.2.2.2.2.2.2.2.2.2, hU.2.2.2.2.1⟩
    · rw [gI_sI, if_pos rfl, List.length_append]; show _ = ((Fo.length + 1 : Nat) : Int); omega
    · rw [List.length_append]; show Fo.length + 1 ≤ 400; omega
    · rw [gN_sI, gN_sAn]
      by_cases q : i = Fo.length
      · rw [if_pos ⟨rfl, q⟩]
        rw [q, List.getElem?_append_right (Nat.le_refl _), Nat.sub_self] at hf
        exact ⟨x, rfl, x0, hx, et.trans (Option.some.inj hf)⟩
      · rw [if_neg (fun z => q z.2)]
        have hlt := (List.getElem?_eq_some_iff.mp hf).1
        rw [List.length_append] at hlt
        have hlt : i < Fo.length + 1 := hlt
        rw [List.getElem?_append_left (by omega)] at hf
        exact o4 i f hf
  · rw [if_neg (fun q => hk (hmn.mp q))]
    refine wp_call (tX2_forget (d := d) (c' := c) (mark := nC u) (pm := pC u) (by omega) hw1 hs1 hs.1.1.1.2.1 hnn (hU.pS hs) (by have := h1.2.2.2.2.1; omega) hn9 (fun x x0 hx => h5 _ ⟨x, x0, hx, rfl⟩) (Nat.le_refl _) (fun y y0 hy k => ?_)) (fun r s ⟨a1, a2, a3, a4, a5, a6, a7, a8, a9⟩ => ?_)
    · have hy1 : y < nC u1 := by omega
      have k1 : kd (trC nu2 u1 y) = 1 := by have := (nodeC hs1 y0 hy1).1; omega
      obtain ⟨i, i1, i2, i3⟩ := nodeC1 hs1 y0 hy1 k1
      omega
    · have hgd : ∀ k, 21 ≤ k → k ≤ 98 → DX2_forget.testBit k = false := fun k q1 q2 => (by decide +kernel : ∀ k, k ≤ 98 → 21 ≤ k → DX2_forget.testBit k = false) k q2 q1
      have i33 : gI s 33 = gI u 33 := by rw [a9.I 33 (by decide +kernel), hg.I 33 (hb 33 (by omega))]
      have i99 : gI s 99 = gI u1 99 := a9.I 99 (by decide +kernel)
      rw [wp_un, i33, wp_ar]
      have hb33 := h.2.2.2.2.2.2.1
      refine ⟨⟨by omega, by omega⟩, ?_⟩
      rw [wp_un]
      unfold thr
      rw [if_pos (by rw [gI_sI, if_neg (by decide), i99]; exact h9), wp_some]
      have hw2 : WF FC (sI s 33 (gI u 33 + 1)) := wfI a8 rfl ⟨by omega, by omega⟩
      have hs2 : SC nu2 c (sI s 33 (gI u 33 + 1)) := sc_sI a1 (by decide)
      have hb2 : ReC W c Fo Pr lc (K + 1) (sI s 33 (gI u 33 + 1)) := by
        refine h.back hs2 a2 (fun y hy => (a4 y hy).trans (hU.tr hs hy)) (a6.trans (h1.2.2.2.2.1)) (fun k k1 k2 => ?_) (fun k hk => ?_) (by rw [gI_sI, if_pos rfl]) hw2
        · exact (a9.2.1 k (hgd k k1 k2)).2.trans (hg.2.1 k (hb k (by omega))).2
        · rw [gI_sI, if_neg (by omega)]
          refine ((a9.2.1 k ?_).1).trans (hg.2.1 k (hb k (by omega))).1
          rcases hk with q | q | q
          · rw [q]; decide +kernel
          · rw [q]; decide +kernel
          · exact hgd k q.1 q.2.1
      refine Or.inr ⟨hk, rfl, ?_, fun z ⟨y, y0, hy, ey⟩ => Or.inl ⟨y, y0, by have : y < nC s := hy; omega, ?_⟩⟩
      · exact hb2.tS (by rw [gI_sI, if_neg (by decide), i99]; exact h9)
      · have hy' : y < nC u := by have : y < nC s := hy; omega
        rw [← hU.tr hs hy', ← a4 y hy']
        exact ey
