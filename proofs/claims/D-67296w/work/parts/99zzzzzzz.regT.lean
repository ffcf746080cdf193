/-! face: registrations in the model -/
theorem ReT.rs {W : Wd} {c : Nat} {Fo Pr : List Nat} {lc : Nat} {K : Int} {u u' : Sg} (h : ReT W c Fo Pr lc K u) (hW : WOK W (NT nt2 (c + 2))) (hA : ∀ k, k < 83 → ¬ (29 ≤ k ∧ k ≤ 36) → u'.2.1 k = u.2.1 k) (hI : ∀ k, k < 83 → gI u' k = gI u k) (hL : ∀ k, 29 ≤ k → k ≤ 36 → gL u' k = gL u k) (hN : ∀ k i, 29 ≤ k → k ≤ 36 → i < wnG W → gN u' k i = gN u k i) (hw : WF FT u') : ReT W c Fo Pr lc K u' := by
  have L : ∀ k, k < 83 → ¬ (29 ≤ k ∧ k ≤ 36) → gL u' k = gL u k := fun k h1 h2 => congrArg Prod.fst (hA k h1 h2)
  have N : ∀ k i, k < 83 → ¬ (29 ≤ k ∧ k ≤ 36) → gN u' k i = gN u k i := fun k i h1 h2 => congrFun (congrArg Prod.snd (hA k h1 h2)) i
  have he : EqH u u' := ⟨⟨fun k hk => hA k (by omega) (by omega), fun k hk => hI k (by omega)⟩, hI 13 (by decide), hA 12 (by decide) (by decide)⟩
  have I : ∀ {v : Int} {t : Nat}, inT nt2 u v t → inT nt2 u' v t := fun q => q.ee he
  refine h.tb (fun k hk h2 => hA k hk (by unfold isTb at h2; omega)) (fun k hk _ => hI k hk) hw hW wex_rf ?_ ?_ ?_ ?_ ?_ ?_ ?_ ?_
  · obtain ⟨a1, a2, a3, a4⟩ := h.1.2.2.1
    exact ⟨by rw [hI 19 (by decide)]; exact a1, a2, by rw [L 18 (by decide) (by decide)]; exact a3, fun i h1 hi => by rw [N 18 i (by decide) (by decide)]; exact I (a4 i h1 hi)⟩
  · obtain ⟨b1, b2, b3, b4, b5, b6⟩ := h.1.2.2.2.1
    exact ⟨by rw [hI 27 (by decide)]; exact b1, b2, by rw [L 25 (by decide) (by decide)]; exact b3, by rw [L 26 (by decide) (by decide)]; exact b4, by rw [N 26 0 (by decide) (by decide)]; exact b5, fun i h1 h2 => by rw [N 25 i (by decide) (by decide), N 26 i (by decide) (by decide)]; exact ⟨I (b6 i h1 h2).1, (b6 i h1 h2).2⟩⟩
  · obtain ⟨f1, f2, f3, f4, f5⟩ := h.1.2.2.2.2.1
    exact ⟨by rw [hI 22 (by decide)]; exact f1, f2, by rw [L 20 (by decide) (by decide)]; exact f3, by rw [L 21 (by decide) (by decide)]; exact f4, fun i hi => by rw [N 20 i (by decide) (by decide), N 21 i (by decide) (by decide)]; exact ⟨(f5 i hi).1, I (f5 i hi).2⟩⟩
  · obtain ⟨⟨p1, p2, p3, p4⟩, p5, p6⟩ := h.1.2.2.2.2.2.1
    exact ⟨⟨by rw [hI 24 (by decide)]; exact p1, p2, by rw [L 23 (by decide) (by decide)]; exact p3, fun i hi => by rw [N 23 i (by decide) (by decide)]; exact p4 i hi⟩, by rw [hI 28 (by decide)]; exact p5, p6⟩
  · obtain ⟨g1, g2, g3, g8⟩ := h.1.2.2.2.2.2.2
    refine ⟨by rw [hI 37 (by decide)]; exact g1, g2, fun k h1 h2 => by rw [hL k h1 h2]; exact g3 k h1 h2, fun i hi => ?_⟩
    rw [hN 29 i (by decide) (by decide) hi, hN 30 i (by decide) (by decide) hi, hN 31 i (by decide) (by decide) hi, hN 32 i (by decide) (by decide) hi, hN 33 i (by decide) (by decide) hi, hN 34 i (by decide) (by decide) hi, hN 35 i (by decide) (by decide) hi, hN 36 i (by decide) (by decide) hi]
    obtain ⟨z1, z2, z3, z4, z5⟩ := g8 i hi
    exact ⟨z1, fun q => ⟨I (z2 q).1, I (z2 q).2⟩, fun q => ⟨(z3 q).1, I (z3 q).2.1, I (z3 q).2.2⟩, z4, fun q => I (z5 q)⟩
  · obtain ⟨o1, o2, o3, o4⟩ := h.2.2.2.2.2.2.2.2.1
    refine ⟨by rw [hI 79 (by decide)]; exact o1, by rw [L 78 (by decide) (by decide)]; exact o2, o3, fun i f hf => ?_⟩
    obtain ⟨x, z1, z2, z3, z4⟩ := o4 i f hf
    exact ⟨x, by rw [N 78 i (by decide) (by decide)]; exact z1, z2, by rw [he.1.n]; exact z3, by rw [he.1.tr]; exact z4⟩
  · obtain ⟨o1, o2, o3, o4⟩ := h.2.2.2.2.2.2.2.2.2.1
    refine ⟨by rw [hI 81 (by decide)]; exact o1, by rw [L 80 (by decide) (by decide)]; exact o2, o3, fun i f hf => ?_⟩
    obtain ⟨x, z1, z2, z3, z4⟩ := o4 i f hf
    exact ⟨x, by rw [N 80 i (by decide) (by decide)]; exact z1, z2, by rw [he.1.n]; exact z3, by rw [he.1.tr]; exact z4⟩
  · rw [hI 82 (by decide), L 80 (by decide) (by decide)]; exact h.2.2.2.2.2.2.2.2.2.2
/-- behind anew nothing is remembered -/
theorem ReT.anw {W : Wd} {c : Nat} {Fo Pr : List Nat} {lc : Nat} {K : Int} {u u' : Sg} (h : ReT W c Fo Pr lc K u) (hw : WF FT u') (hg : Gr FT DX3_anew u u') (hm : MaT anM u') (h39 : ∀ i, i < gL u' 39 → gN u' 39 i < gI u' 40) : EqH u u' ∧ ReT W c Fo Pr lc K u' := by
  have hb : ∀ k, k < 83 → k ≠ 39 → k ≠ 40 → DX3_anew.testBit k = false := by decide +kernel
  have he : EqH u u' := ⟨⟨fun k hk => (hg.2.1 k (hb k (by omega) (by omega) (by omega))).2, fun k hk => (hg.2.1 k (hb k (by omega) (by omega) (by omega))).1⟩, (hg.2.1 13 (by decide +kernel)).1, (hg.2.1 12 (by decide +kernel)).2⟩
  refine ⟨he, ?_⟩
  have hC := h.1.up (he.up (X := fun _ => False) h.1.1).ux hg (by decide +kernel)
  obtain ⟨-, -, ⟨x1, x2, x3, ⟨x4, x5, x6⟩, x7, x8⟩, ⟨m1, ⟨m2, m3, m4⟩, m5, m6, m7⟩, hh, h54, h76, h43, ⟨o1, o2, o3, o4⟩, ⟨q1, q2, q3, q4⟩, h82⟩ := h
  have A : ∀ k, k < 83 → k ≠ 39 → k ≠ 40 → u'.2.1 k = u.2.1 k := fun k h1 h3 h4 => (hg.2.1 k (hb k h1 h3 h4)).2
  have I : ∀ k, k < 83 → k ≠ 39 → k ≠ 40 → gI u' k = gI u k := fun k h1 h3 h4 => (hg.2.1 k (hb k h1 h3 h4)).1
  have L : ∀ k, k < 83 → k ≠ 39 → k ≠ 40 → gL u' k = gL u k := fun k h1 h3 h4 => congrArg Prod.fst (A k h1 h3 h4)
  have N : ∀ k i, k < 83 → k ≠ 39 → k ≠ 40 → gN u' k i = gN u k i := fun k i h1 h3 h4 => congrFun (congrArg Prod.snd (A k h1 h3 h4)) i
  have g39 := hg.2.2.1 39
  have h40 : 1 ≤ gI u' 40 := by
    have h1 := h39 0 (by omega)
    have h2 := hm.2 0 (by omega)
    omega
  refine ⟨hC, hw, ⟨fun k hk => ?_, fun k hk => ?_, fun k hk i hi => ?_, ⟨?_, ?_, fun i hi => ?_⟩, hm⟩, ⟨fun t ht => ?_, ⟨h40, ?_, ?_⟩, ?_, ?_, ?_⟩, he.hh.trans hh, ?_, ?_, fun k h1 h2 => ?_, ⟨?_, ?_, o3, fun i f hf => ?_⟩, ⟨?_, ?_, q3, fun i f hf => ?_⟩, ?_⟩
  · rw [L k (by omega) (by omega) (by omega)]; exact x1 k hk
  · rw [L k (by omega) (by omega) (by omega)]; exact x2 k hk
  · rw [N k i (by omega) (by omega) (by omega), I 54 (by decide) (by decide) (by decide)]
    rw [L k (by omega) (by omega) (by omega)] at hi
    exact x3 k hk i hi
  · rw [I 76 (by decide) (by decide) (by decide)]; exact x4
  · rw [I 76 (by decide) (by decide) (by decide)]; exact x5
  · rw [L 74 (by decide) (by decide) (by decide)] at hi
    rw [N 74 i (by decide) (by decide) (by decide), I 76 (by decide) (by decide) (by decide)]
    exact x6 i hi
  · have := h39 t ht.1
    have := ht.2
    omega
  · rw [L 38 (by decide) (by decide) (by decide)]; exact m3
  · omega
  · rw [I 42 (by decide) (by decide) (by decide)]; exact m5
  · rw [L 41 (by decide) (by decide) (by decide)]; exact m6
  · rw [L 41 (by decide) (by decide) (by decide)]; exact m7
  · rw [I 54 (by decide) (by decide) (by decide)]; exact h54
  · rw [I 76 (by decide) (by decide) (by decide)]; exact h76
  · rw [L k (by omega) (by omega) (by omega)]; exact h43 k h1 h2
  · rw [I 79 (by decide) (by decide) (by decide)]; exact o1
  · rw [L 78 (by decide) (by decide) (by decide)]; exact o2
  · obtain ⟨x, z1, z2, z3, z4⟩ := o4 i f hf
    exact ⟨x, by rw [N 78 i (by decide) (by decide) (by decide)]; exact z1, z2, by rw [he.1.n]; exact z3, by rw [he.1.tr]; exact z4⟩
  · rw [I 81 (by decide) (by decide) (by decide)]; exact q1
  · rw [L 80 (by decide) (by decide) (by decide)]; exact q2
  · obtain ⟨x, z1, z2, z3, z4⟩ := q4 i f hf
    exact ⟨x, by rw [N 80 i (by decide) (by decide) (by decide)]; exact z1, z2, by rw [he.1.n]; exact z3, by rw [he.1.tr]; exact z4⟩
  · rw [I 82 (by decide) (by decide) (by decide), L 80 (by decide) (by decide) (by decide)]; exact h82
/-- an entry of the registrations' tables -/
def RgE (v : Sg) (n s o a b V : Nat) : Prop := gN v 29 n = ((s + 1 : Nat) : Int) ∧ (s = 0 → inT nt2 v (gN v 30 n) o ∧ inT nt2 v (gN v 31 n) a) ∧ (s ≠ 0 → gN v 32 n = (o : Int) ∧ inT nt2 v (gN v 33 n) a ∧ inT nt2 v (gN v 34 n) b) ∧ (s ≠ 2 → bitS (gN v 35 n) (adjT V)) ∧ (s = 2 → inT nt2 v (gN v 36 n) V)
theorem tRegd {d : Nat} (hd : 10 ≤ d) {W : Wd} {c : Nat} {Fo Pr : List Nat} {lc : Nat} {K : Int} {v : Sg} {s o a b V : Nat} (h : ReT W c Fo Pr lc K v) (hlt : wnG W < 30) (hE : RgE v (wnG W) s o a b V) : wp (runT d 46 [] v) (fun r u' => r = (wnG W : Int) ∧ gI u' 0 = 0 ∧ ReT (wRg W s o a b V) c Fo Pr lc K u' ∧ ∀ z, ndT nt2 u' z → ndT nt2 v z) := by
  obtain ⟨d, rfl⟩ : ∃ e, d = e + 1 := ⟨d - 1, by omega⟩
  rw [runT_eq (by omega)]
  show wp (bX3_registered (runT d) v) _
  unfold bX3_registered
  have hs := h.s0 (v := 0) (by decide)
  rw [wp_un]
  obtain ⟨d, rfl⟩ : ∃ e, d = e + 1 := ⟨d - 1, by omega⟩
  refine wp_call (tX3_anew (by omega) hs.2.1 hs.2.2.1.2.2.2.2) (fun _ u2 ⟨w2, g2, m2, n2, _⟩ => ?_)
  obtain ⟨he, h2⟩ := hs.anw w2 g2 m2 n2
  have g1 := h2.1.2.2.2.2.2.2.1
  rw [wp_un, g1, wp_ar]
  refine ⟨⟨by omega, by omega⟩, ?_⟩
  rw [wp_un, wp_some]
  have hb : ∀ k, 29 ≤ k → k ≤ 36 → DX3_anew.testBit k = false := fun k h1 h2 => (by decide +kernel : ∀ k, k ≤ 36 → 29 ≤ k → DX3_anew.testBit k = false) k h2 h1
  have N : ∀ k i, 29 ≤ k → k ≤ 36 → gN u2 k i = gN v k i := fun k i h1 h2 => g2.N k (hb k h1 h2) i
  have I : ∀ {w : Int} {t : Nat}, inT nt2 v w t → inT nt2 u2 w t := fun ⟨y, z1, z2, z3⟩ => inT.ee he ⟨y, z1, z2, z3⟩
  have z0 : gI (sI u2 37 ((wnG W : Int) + 1)) 0 = 0 := by rw [gI_sI, if_neg (by decide), g2.I 0 (by decide +kernel), gI_sI, if_pos rfl]
  have hw : WF FT (sI u2 37 ((wnG W : Int) + 1)) := wfIT w2 rfl ⟨by omega, by omega⟩
  refine ⟨rfl, z0, ?_, fun z hz => ?_⟩
  · obtain ⟨⟨h1, h2', ha, hb', hf, hp, ⟨_, _, g3, g8⟩⟩, -, hArr, ⟨hm, hm2, hm3⟩, hh, h54, h76, h43, hFo, hPr, h82⟩ := h2
    have hst : ST nt2 (c + 2) (sI u2 37 ((wnG W : Int) + 1)) := (EqH.sI (by decide)).st h1
    refine ⟨⟨hst, h2', ha, hb', hf, hp, ⟨by rw [gI_sI, if_pos rfl]; show _ = ((wnG W + 1 : Nat) : Int); omega, by show wnG W + 1 ≤ 30; omega, g3, fun i hi => ?_⟩⟩, hw, hArr, ⟨fun t ht => ?_, hm2, hm3⟩, hh, h54, h76, h43, hFo, hPr, h82⟩
    · have hi : i < wnG W + 1 := hi
      rw [wgS_rg, wgO_rg, wgA_rg, wgB_rg, wgV_rg]
      show gN u2 29 i = _ ∧ (_ → inT nt2 u2 (gN u2 30 i) _ ∧ inT nt2 u2 (gN u2 31 i) _) ∧ (_ → gN u2 32 i = _ ∧ inT nt2 u2 (gN u2 33 i) _ ∧ inT nt2 u2 (gN u2 34 i) _) ∧ (_ → bitS (gN u2 35 i) _) ∧ (_ → inT nt2 u2 (gN u2 36 i) _)
      by_cases q : i = wnG W
      · rw [if_pos q, if_pos q, if_pos q, if_pos q, if_pos q, q]
        obtain ⟨e1, e2, e3, e4, e5⟩ := hE
        rw [N 29 _ (by decide) (by decide), N 30 _ (by decide) (by decide), N 31 _ (by decide) (by decide), N 32 _ (by decide) (by decide), N 33 _ (by decide) (by decide), N 34 _ (by decide) (by decide), N 35 _ (by decide) (by decide), N 36 _ (by decide) (by decide)]
        exact ⟨e1, fun q => ⟨I (e2 q).1, I (e2 q).2⟩, fun q => ⟨(e3 q).1, I (e3 q).2.1, I (e3 q).2.2⟩, e4, fun q => I (e5 q)⟩
      · rw [if_neg q, if_neg q, if_neg q, if_neg q, if_neg q]
        exact g8 i (by omega)
    · have ht : RemT u2 t := ht
      have := n2 t ht.1
      have := ht.2
      omega
  · obtain ⟨y, a1, a2, a3⟩ := he.1.nd.mp (show ndT nt2 u2 z from hz)
    exact ⟨y, a1, a2, a3⟩
