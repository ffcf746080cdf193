/-! face: registrations in the class -/
theorem ReC.st1 {W : Wd} {c : Nat} {Fo Pr : List Nat} {lc : Nat} {K : Int} {u : Sg} (h : ReC W c Fo Pr lc K u) (hK : K < 1000000) : ReC W c Fo Pr lc (K + 1) (sI u 33 (gI u 33 + 1)) := by
  have h33 := h.2.2.2.2.2.2.1
  have hw : WF FC (sI u 33 (gI u 33 + 1)) := wfI h.2.1 rfl ⟨by omega, by omega⟩
  refine h.back (sc_sI h.1.1 (by decide)) rfl (fun _ _ => rfl) h.2.2.2.2.1 (fun _ _ _ => rfl) (fun k hk => by rw [gI_sI, if_neg (by omega)]) (by rw [gI_sI, if_pos rfl]) hw
def wRg (W : Wd) (s o a b v : Nat) : Wd := setN (setF (setF (setF (setF (setF W 6 (wnG W) s) 7 (wnG W) o) 8 (wnG W) a) 9 (wnG W) b) 10 (wnG W) v) 4 (wnG W + 1)
section WRG
variable {W : Wd} {s o a b v i : Nat}
theorem wgS_rg : wgS (wRg W s o a b v) i = if i = wnG W then s else wgS W i := rfl
theorem wgO_rg : wgO (wRg W s o a b v) i = if i = wnG W then o else wgO W i := rfl
theorem wgA_rg : wgA (wRg W s o a b v) i = if i = wnG W then a else wgA W i := rfl
theorem wgB_rg : wgB (wRg W s o a b v) i = if i = wnG W then b else wgB W i := rfl
theorem wgV_rg : wgV (wRg W s o a b v) i = if i = wnG W then v else wgV W i := rfl
end WRG
/-- the node of a table's entry, or a number -/
theorem cReg {d : Nat} (hd : 10 ≤ d) {W : Wd} {c : Nat} {Fo Pr : List Nat} {lc : Nat} {K : Int} {u : Sg} {s : Nat} {o xa xb xv : Int} {oo ta tb tv : Nat} (h : ReC W c Fo Pr lc K u) (h9 : 0 ≤ gI u 99 ∧ gI u 99 < 1000000) (hK : K < 1000000) (hs2 : s ≤ 2) (hoR : inR o) (h0 : s = 0 → inC nu2 u o oo) (h1 : s ≠ 0 → o = (oo : Int)) (ha : inC nu2 u xa ta) (hb : inC nu2 u xb tb) (hv : inC nu2 u xv tv) : wp (runC d 31 [(s : Int), o, xa, xb, xv] u) (fun r u' => (wnG W < 30 ∧ r = (wnG W : Int) ∧ ReC (wRg W s oo ta tb tv) c Fo Pr lc (K + 1) u' ∧ ∀ z, ndC nu2 u' z → ndC nu2 u z) ∨ (wnG W = 30 ∧ r = exB + 2 ∧ ReC W c Fo Pr lc K u' ∧ ∀ z, ndC nu2 u' z → ndC nu2 u z)) := by
  obtain ⟨d, rfl⟩ : ∃ e, d = e + 1 := ⟨d - 1, by omega⟩
  rw [runC_eq (by omega)]
  show wp (bX1_register (runC d) s o xa xb xv u) _
  unfold bX1_register
  rw [wp_jn]; dsimp only
  obtain ⟨g1, g2, ⟨g3, g4, g5, g6, g7⟩, g8⟩ := h.1.2.2.2.2.2.2
  have hn9 := nC_le h.1.1
  have iR : ∀ {v : Int} {t : Nat}, inC nu2 u v t → inR v := fun ⟨y, e, hy, _⟩ => by omega
  rw [wp_un, g1]
  by_cases hlt : wnG W < 30
  · rw [if_pos (by omega), cl_eq (room_ok (by omega)), pr_0, wp_un, g1, wp_stA]
    refine ⟨⟨by omega, by rw [g3]; omega⟩, ?_⟩
    rw [wp_un, gI_sA, g1, wp_stA]
    refine ⟨⟨by omega, by rw [gL_sA, g4]; omega⟩, ?_⟩
    rw [wp_un, gI_sA, gI_sA, g1, wp_stA]
    refine ⟨⟨by omega, by rw [gL_sA, gL_sA, g5]; omega⟩, ?_⟩
    rw [wp_un, gI_sA, gI_sA, gI_sA, g1, wp_stA]
    refine ⟨⟨by omega, by rw [gL_sA, gL_sA, gL_sA, g6]; omega⟩, ?_⟩
    rw [wp_un, gI_sA, gI_sA, gI_sA, gI_sA, g1, wp_stA]
    refine ⟨⟨by omega, by rw [gL_sA, gL_sA, gL_sA, gL_sA, g7]; omega⟩, ?_⟩
    rw [wp_un, gI_sA, gI_sA, gI_sA, gI_sA, gI_sA, g1, wp_ar]
    refine ⟨⟨by omega, by omega⟩, ?_⟩
    obtain ⟨v, hvv⟩ : ∃ v, v = sI (sA (sA (sA (sA (sA u 76 (wnG W : Int) (s : Int)) 77 (wnG W : Int) o) 78 (wnG W : Int) xa) 79 (wnG W : Int) xb) 80 (wnG W : Int) xv) 81 ((wnG W : Int) + 1) := ⟨_, rfl⟩
    rw [wp_un, ← hvv]
    have hw : WF FC v := by rw [hvv]; exact wfI (wfA (wfA (wfA (wfA (wfA h.2.1 rfl ⟨by omega, by omega⟩) rfl hoR) rfl (iR ha)) rfl (iR hb)) rfl (iR hv)) rfl ⟨by omega, by omega⟩
    have i81 : gI v 81 = (wnG W : Int) + 1 := by rw [hvv, gI_sI, if_pos rfl]
    have i33 : gI v 33 = gI u 33 := by rw [hvv]; rfl
    have hA : ∀ k, k ≠ 76 → k ≠ 77 → k ≠ 78 → k ≠ 79 → k ≠ 80 → v.2.1 k = u.2.1 k := fun k h1 h2 h3 h4 h5 => by
      rw [hvv]; exact (aA h5).trans ((aA h4).trans ((aA h3).trans ((aA h2).trans (aA h1))))
    have hI : ∀ k, k ≠ 81 → gI v k = gI u k := fun k hk => by rw [hvv, gI_sI, if_neg hk]; rfl
    have hN : ∀ k i, gN v k i = if k = 80 ∧ i = wnG W then xv else if k = 79 ∧ i = wnG W then xb else if k = 78 ∧ i = wnG W then xa else if k = 77 ∧ i = wnG W then o else if k = 76 ∧ i = wnG W then (s : Int) else gN u k i := fun k i => by
      rw [hvv, gN_sI, gN_sAn, gN_sAn, gN_sAn, gN_sAn, gN_sAn]
    have hL : ∀ k, gL v k = gL u k := fun k => by rw [hvv, gL_sI, gL_sA, gL_sA, gL_sA, gL_sA, gL_sA]
    have he : EqS u v := ⟨fun k hk => hA k (by omega) (by omega) (by omega) (by omega) (by omega), fun k hk => hI k (by omega)⟩
    have I : ∀ {w : Int} {t : Nat}, inC nu2 u w t → inC nu2 v w t := fun q => q.ee he
    have hR : ReC (wRg W s oo ta tb tv) c Fo Pr lc K v := by
      have hFo := h.2.2.2.2.2.2.2.2.2.1
      have hPr := h.2.2.2.2.2.2.2.2.2.2.1
      refine h.tb (fun k hk => hA k (by omega) (by omega) (by omega) (by omega) (by omega)) (fun k hk => hI k (by omega)) hw ?_ ?_ ?_ ?_ ⟨?_, ?_, ?_, fun i hi => ?_⟩ ?_ ?_ ?_
      · obtain ⟨a1, a2, a3⟩ := h.1.2.2.1
        exact ⟨by rw [hI 86 (by decide)]; exact a1, by rw [hL]; exact a2, fun i hi => by rw [hN, if_neg (by omega), if_neg (by omega), if_neg (by omega), if_neg (by omega), if_neg (by omega)]; exact I (a3 i hi)⟩
      · obtain ⟨b1, b2, b3, b4, b5, b6⟩ := h.1.2.2.2.1
        exact ⟨by rw [hI 69 (by decide)]; exact b1, b2, by rw [hL]; exact b3, by rw [hL]; exact b4, by rw [hN, if_neg (by omega), if_neg (by omega), if_neg (by omega), if_neg (by omega), if_neg (by omega)]; exact b5, fun i i1 hi => by
          rw [hN, if_neg (by omega), if_neg (by omega), if_neg (by omega), if_neg (by omega), if_neg (by omega), hN, if_neg (by omega), if_neg (by omega), if_neg (by omega), if_neg (by omega), if_neg (by omega)]
          exact ⟨I (b6 i i1 hi).1, (b6 i i1 hi).2⟩⟩
      · obtain ⟨f1, f2, f3, f4, f5⟩ := h.1.2.2.2.2.1
        exact ⟨by rw [hI 74 (by decide)]; exact f1, f2, by rw [hL]; exact f3, by rw [hL]; exact f4, fun i hi => by
          rw [hN, if_neg (by omega), if_neg (by omega), if_neg (by omega), if_neg (by omega), if_neg (by omega), hN, if_neg (by omega), if_neg (by omega), if_neg (by omega), if_neg (by omega), if_neg (by omega)]
          exact ⟨(f5 i hi).1, I (f5 i hi).2⟩⟩
      · obtain ⟨⟨p1, p2, p3, p4⟩, p5, p6⟩ := h.1.2.2.2.2.2.1
        exact ⟨⟨by rw [hI 75 (by decide)]; exact p1, p2, by rw [hL]; exact p3, fun i hi => by rw [hN, if_neg (by omega), if_neg (by omega), if_neg (by omega), if_neg (by omega), if_neg (by omega)]; exact p4 i hi⟩, by rw [hI 70 (by decide)]; exact p5, p6⟩
      · rw [i81]; show _ = ((wnG W + 1 : Nat) : Int); omega
      · show wnG W + 1 ≤ 30; omega
      · rw [hL, hL, hL, hL, hL]; exact ⟨g3, g4, g5, g6, g7⟩
      · have hi : i < wnG W + 1 := hi
        rw [wgS_rg, wgO_rg, wgA_rg, wgB_rg, wgV_rg]
        by_cases q : i = wnG W
        · rw [if_pos q, if_pos q, if_pos q, if_pos q, if_pos q]
          refine ⟨?_, fun q0 => ?_, fun q0 => ?_, ?_, ?_, ?_⟩
          · rw [hN, if_neg (by omega), if_neg (by omega), if_neg (by omega), if_neg (by omega), if_pos ⟨rfl, q⟩]
          · rw [hN, if_neg (by omega), if_neg (by omega), if_neg (by omega), if_pos ⟨rfl, q⟩]; exact I (h0 q0)
          · rw [hN, if_neg (by omega), if_neg (by omega), if_neg (by omega), if_pos ⟨rfl, q⟩]; exact h1 q0
          · rw [hN, if_neg (by omega), if_neg (by omega), if_pos ⟨rfl, q⟩]; exact I ha
          · rw [hN, if_neg (by omega), if_pos ⟨rfl, q⟩]; exact I hb
          · rw [hN, if_pos ⟨rfl, q⟩]; exact I hv
        · rw [if_neg q, if_neg q, if_neg q, if_neg q, if_neg q]
          have hN' : ∀ k, gN v k i = gN u k i := fun k => by rw [hN, if_neg (fun z => q z.2), if_neg (fun z => q z.2), if_neg (fun z => q z.2), if_neg (fun z => q z.2), if_neg (fun z => q z.2)]
          obtain ⟨z1, z2, z3, z4, z5, z6⟩ := g8 i (by omega)
          rw [hN', hN', hN', hN', hN']
          exact ⟨z1, fun q => I (z2 q), z3, I z4, I z5, I z6⟩
      · obtain ⟨o1, o2, o3, o4⟩ := hFo
        refine ⟨by rw [hI 66 (by decide)]; exact o1, by rw [hL]; exact o2, o3, fun i f hf => ?_⟩
        obtain ⟨x, z1, z2, z3, z4⟩ := o4 i f hf
        exact ⟨x, by rw [hN, if_neg (by omega), if_neg (by omega), if_neg (by omega), if_neg (by omega), if_neg (by omega)]; exact z1, z2, by rw [he.n]; exact z3, by rw [he.tr]; exact z4⟩
      · obtain ⟨o1, o2, o3, o4⟩ := hPr
        refine ⟨by rw [hI 83 (by decide)]; exact o1, by rw [hL]; exact o2, o3, fun i f hf => ?_⟩
        obtain ⟨x, z1, z2, z3, z4⟩ := o4 i f hf
        exact ⟨x, by rw [hN, if_neg (by omega), if_neg (by omega), if_neg (by omega), if_neg (by omega), if_neg (by omega)]; exact z1, z2, by rw [he.n]; exact z3, by rw [he.tr]; exact z4⟩
      · rw [hI 84 (by decide), hL]; exact h.2.2.2.2.2.2.2.2.2.2.2
    have h33 := hR.2.2.2.2.2.2.1
    rw [wp_un, wp_ar]
    refine ⟨⟨by omega, by omega⟩, ?_⟩
    rw [wp_un, wp_un, gI_sI, if_neg (by decide), i81, wp_ar]
    refine ⟨⟨by omega, by omega⟩, ?_⟩
    rw [wp_some]
    exact Or.inl ⟨hlt, by omega, hR.st1 hK, fun z hz => (he.nd z).mp hz⟩
  · rw [if_neg (by omega), room_no (by omega) h9]
    show wp (pr (exB + 2) (tS u) _) _
    rw [pr_x (by decide), wp_some]
    exact Or.inr ⟨by omega, rfl, h.tS h9, fun z ⟨y, a, b, e⟩ => ⟨y, a, b, e⟩⟩
