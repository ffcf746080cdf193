theorem all_parts {g : Nat} (ho : okT g) (h18 : kd g = 18) : ∃ y b, ps g = [y, b] ∧ pa g 0 = y ∧ pa g 1 = b ∧ kd y = 8 ∧ isFo b ∧ y ∈ fms g ∧ b ∈ fms g ∧ b ≠ yesT := by
  rcases ho.n.2 with q | q | q | q | q | q | q | q | q | q | q | q | q | q <;> try omega
  obtain ⟨_, _, y, b, e, q1, q2, q3⟩ := q
  exact ⟨y, b, e, pa_at (by rw [e]; rfl), pa_at (by rw [e]; rfl), q1, q2, fms_at.mpr ⟨0, Or.inr rfl, by rw [e]; rfl, fun q => by rw [q, kd0] at q1; omega⟩, fms_at.mpr ⟨1, Or.inl (by omega), by rw [e]; rfl, isFo_pos q2⟩, q3⟩
theorem all_clo {W : Wd} {N : Nat → Prop} {g : Nat} (hf : frW W N g) (hc : closT g) (h18 : kd g = 18) : clty W N (pa g 0) ∧ loT (pa g 1) ≤ 1 ∧ frW W N (pa g 1) ∧ lvL (pa g 1) 0 := by
  obtain ⟨y, b, e, py, pb, k8, hb, my, mb, _⟩ := all_parts hf.1 h18
  rw [py, pb]
  have l1 := lo_c (dep := 0) (e := 0) (by omega) (show (ps g)[0]? = some y by rw [e]; rfl) my (Or.inr rfl) (by rw [hc.1]; omega)
  have l2 := lo_c (dep := 0) (e := 0) (by omega) (show (ps g)[1]? = some b by rw [e]; rfl) mb (Or.inl (by omega)) (by rw [hc.1]; omega)
  unfold dpT at l1 l2
  rw [if_neg (by omega)] at l1
  rw [if_pos ⟨h18, by omega⟩] at l2
  exact ⟨⟨hf.part my, k8, by omega, fun l hl => hc.2 l (lv_part hf.1.n my l hl)⟩, by omega, hf.part mb, fun l hl => hc.2 l (lv_part hf.1.n mb l hl)⟩
theorem htQ_c {t c : Nat} (h : ¬ (kd t ≤ 5 ∧ loT t = 0)) (hc : c ∈ fms t) : htQ c + 1 ≤ htQ t := by
  rw [htQ_eq t, if_neg h]
  have := (foldl_max (l := (fms t).map htQ) 0).1 _ (List.mem_map.mpr ⟨c, hc, rfl⟩)
  omega
/-- in the midst of a round -/
def RL (ν : Nat → Nat) (c : Nat) (W : Wd) (S : Fs) (X : Nat → Prop) (Kl : List Nat) (l : Ls) (O0 Cl Bl Ol : List Nat) (c0 fi k : Nat) (ν0 : Nat → Nat) (cs : Nat) (u0 u : Sg) : Prop := RdI ν c W S X Kl l (cmeS (FsO l) (fun f => f ∈ Kl) (tT l fi) (fun f => f ∈ O0)) Cl Bl Ol c0 fi ν0 u0 u ∧ NuX ν0 cs ν c ∧ (WOK W (Nm ν c) ∧ WGK W (Nm ν c) ∧ KlOK W (Nm ν c) Kl) ∧ (c = c0 + Ol.length ∧ Bl.length ≤ k ∧ Ol.length ≤ O0.length + k ∧ Ol.Nodup ∧ ∀ f ∈ Ol, Nm ν c (2 * f + 1)) ∧ (∀ f, f ∈ Ol ↔ f ∈ O0 ∨ ∃ j : Nat, j < k ∧ Kl[j]? = some f ∧ kd f = 16 ∧ kd (pa f 0) = 18) ∧ (∀ b, b ∈ Bl ↔ ∃ f, f ∈ Ol ∧ f ∉ O0 ∧ b = mk 1 (2 * f + 1) [])
def RLd (Kl : List Nat) (l : Ls) (O0 Cl : List Nat) (fi k : Nat) : Prop := ∀ (j f g : Nat), j < k → Kl[j]? = some f → cmF (FsO l) (fun f => f ∈ Kl) (tT l fi) (fun f => f ∈ O0) f g → g ∈ Kl ∨ g ∈ Cl
/-- what a round may make -/
def XRd (X : Nat → Prop) (Kl : List Nat) (O0 : List Nat) : Prop := (∀ f ∈ Kl, ∀ s, subN s f → kd s = 17 → ∀ p ∈ ps s, X (notT p)) ∧ ∀ f ∈ Kl, kd f = 16 → kd (pa f 0) = 18 → f ∉ O0 → X (mk 1 (2 * f + 1) []) ∧ X (sbT (putg (mk 1 (2 * f + 1) [])) 0 (pa (pa f 0) 1))
theorem round_L7 {d : Nat} {W : Wd} {S : Fs} {X : Nat → Prop} {Kl : List Nat} {l : Ls} {O0 : List Nat} {c0 fi cs : Nat} {ν0 : Nat → Nat} {u0 : Sg} {Q : Int → Sg → Prop} (hl : LimR ν0 u0 X Kl (cmeS (FsO l) (fun f => f ∈ Kl) (tT l fi) (fun f => f ∈ O0))) (hKX : ∀ f ∈ Kl, ∀ z, subT z f → ndC ν0 u0 z) (hr0 : rC u0 ≤ 20000) (hX : XRd X Kl O0) (hWc : ∀ f, wcT W (2 * f + 1) = pa (pa f 0) 0) (hf0 : ∀ f ∈ Kl, isFo f ∧ szQ f ≤ 900 ∧ 40 + 3 * htT f ≤ d ∧ 40 + htQ f ≤ d) (hc0 : c0 ≤ 3000) (hO0 : O0.length ≤ 2500) (hKn : Kl.Nodup) {x389 x381 : Sg → Option (Int × Sg)} (hend : ∀ (ν : Nat → Nat) (c : Nat) (u : Sg) (Cl Bl Ol : List Nat), RL ν c W S X Kl l O0 Cl Bl Ol c0 fi Kl.length ν0 cs u0 u → gI u 45 = 0 → RLd Kl l O0 Cl fi Kl.length → wp (x389 u) Q) (hbey : ∀ (ν : Nat → Nat) (c : Nat) (u : Sg) (Cl Bl Ol : List Nat) (k : Nat), RL ν c W S X Kl l O0 Cl Bl Ol c0 fi k ν0 cs u0 u → k ≤ Kl.length → gI u 45 = 1 → wp (x381 u) Q) : ∀ (m k fu : Nat) (ν : Nat → Nat) (c : Nat) (u : Sg) (Cl Bl Ol : List Nat), k + m = Kl.length → m < fu → RL ν c W S X Kl l O0 Cl Bl Ol c0 fi k ν0 cs u0 u → gI u 45 = 0 → RLd Kl l O0 Cl fi k → wp (bX1_round_L7 (runC d) fu (Kl.length : Int) (k : Int) u x389 x381) Q := by
  intro m
  induction m with
  | zero =>
    intro k fu ν c u Cl Bl Ol hk hf hR hb hD
    obtain ⟨fu, rfl⟩ : ∃ f', fu = f' + 1 := ⟨fu - 1, by omega⟩
    rw [bX1_round_L7, if_neg (by omega)]
    rw [show k = Kl.length by omega] at hR hD
    exact hend ν c u Cl Bl Ol hR hb hD
  | succ m ih =>
    intro k fu ν c u Cl Bl Ol hk hf hR hb hD
    obtain ⟨fu, rfl⟩ : ∃ f', fu = f' + 1 := ⟨fu - 1, by omega⟩
    obtain ⟨hI, hNu, ⟨hW, hG, hK⟩, ⟨ec, eB, eO, eN, eNm⟩, hOm, hBm⟩ := hR
    have hA := hI.1
    have hs := hA.1.1.1
    have hKl := hK.1
    have hlu := hI.lim hl
    have hbd := hlu.n hs
    have hrr : rC u = rC u0 := hI.rr
    have hkl : k < Kl.length := by omega
    have gk : Kl[k]? = some Kl[k] := List.getElem?_eq_getElem hkl
    generalize ef : Kl[k] = f at gk
    have hfK := List.mem_of_getElem? gk
    obtain ⟨hfo, hfz, hfd, hfq⟩ := hf0 f hfK
    obtain ⟨hfr, hfc⟩ := hK.2 f hfK
    obtain ⟨y, y1, y0, y2, y3, y4, y5⟩ := hA.2.2.2.1 k f gk
    have hn := nodeC hs y0 y2
    rw [y3] at hn
    have l34 := hA.2.1.2
    have f0 : f ≠ 0 := isFo_pos hfo
    have h5f : ¬ (kd f ≤ 5 ∧ loT f = 0) := fun q => by unfold isFo at hfo; omega
    -- after one formula
    have nxt : ∀ (ν2 : Nat → Nat) (c2 : Nat) (u2 : Sg) (Cl2 Bl2 Ol2 : List Nat), (∀ g ∈ Cl, g ∈ Cl2) → RL ν2 c2 W S X Kl l O0 Cl2 Bl2 Ol2 c0 fi (k + 1) ν0 cs u0 u2 → (gI u2 45 = 0 → ∀ g, cmF (FsO l) (fun f => f ∈ Kl) (tT l fi) (fun f => f ∈ O0) f g → g ∈ Kl ∨ g ∈ Cl2) → gI u2 45 = 0 → wp (ar ((k : Int) + 1) fun v4 => bX1_round_L7 (runC d) fu (Kl.length : Int) v4 u2 x389 x381) Q := fun ν2 c2 u2 Cl2 Bl2 Ol2 z1 z2 z3 hb2 => by
      rw [wp_ar]
      refine ⟨⟨by omega, by omega⟩, ?_⟩
      rw [show (k : Int) + 1 = ((k + 1 : Nat) : Int) by omega]
      refine ih (k + 1) fu ν2 c2 u2 Cl2 Bl2 Ol2 (by omega) (by omega) z2 hb2 (fun j f' g q1 q2 q3 => ?_)
      by_cases hjk : j = k
      · rw [hjk, gk] at q2
        have e := Option.some.inj q2
        rw [← e] at q3
        exact z3 hb2 g q3
      · exact (hD j f' g (by omega) q2 q3).imp id (z1 g)
    have same : ∀ u2 Cl2, (∀ g ∈ Cl, g ∈ Cl2) → ¬ (kd f = 16 ∧ kd (pa f 0) = 18) → RdI ν c W S X Kl l (cmeS (FsO l) (fun f => f ∈ Kl) (tT l fi) (fun f => f ∈ O0)) Cl2 Bl Ol c0 fi ν0 u0 u2 → RL ν c W S X Kl l O0 Cl2 Bl Ol c0 fi (k + 1) ν0 cs u0 u2 := fun u2 Cl2 z1 z2 z3 => ⟨z3, hNu, ⟨hW, hG, hK⟩, ⟨ec, by omega, by omega, eN, eNm⟩, fun g => by
      rw [hOm g]
      refine or_congr Iff.rfl ⟨fun ⟨j, q1, q2⟩ => ⟨j, by omega, q2⟩, fun ⟨j, q1, q2, q3⟩ => ⟨j, ?_, q2, q3⟩⟩
      by_cases hjk : j = k
      · rw [hjk, gk] at q2
        rw [← Option.some.inj q2] at q3
        exact absurd q3 z2
      · omega, hBm⟩
    rw [bX1_round_L7, if_pos (by omega)]
    refine wp_jnG (fun j => ∀ (ν2 : Nat → Nat) (c2 : Nat) (u2 : Sg) (Cl2 Bl2 Ol2 : List Nat), (∀ g ∈ Cl, g ∈ Cl2) → RL ν2 c2 W S X Kl l O0 Cl2 Bl2 Ol2 c0 fi (k + 1) ν0 cs u0 u2 → (gI u2 45 = 0 → ∀ g, cmF (FsO l) (fun f => f ∈ Kl) (tT l fi) (fun f => f ∈ O0) f g → g ∈ Kl ∨ g ∈ Cl2) → wp (j (Kl.length : Int) (k : Int) u2) Q) (fun ν2 c2 u2 Cl2 Bl2 Ol2 z1 z2 z3 => ?_) (fun j1 hj1 => ?_)
    · show wp (un _ _) Q
      rw [wp_un]
      refine wp_ite (fun hb2 => nxt ν2 c2 u2 Cl2 Bl2 Ol2 z1 z2 z3 hb2) (fun hb2 => hbey ν2 c2 u2 Cl2 Bl2 Ol2 (k + 1) z2 (by omega) ?_)
      exact (z2.1.2.1.2.2.2.2.resolve_left hb2).1
    · rw [ld_nat (by omega), y1, ld_nat (by omega), hn.1]
      refine wp_ite (fun h17 => ?_) (fun h17 => ?_)
      · have h17 : kd f = 17 := by omega
        have hall : ∀ p ∈ ps f, isFo p := by
          rcases hfr.1.n.2 with q | q | q | q | q | q | q | q | q | q | q | q | q | q <;> try omega
          exact fun p hp => (q.2.2.2 p hp).1
        have lenb : (ps f).length ≤ 300000 := by have := hn.2.2.2.1.2; have := hn.2.2.2.2.2; have := hs.1.1.2.2.2.2.2.2.2; omega
        refine round_L40 (by omega) hKl hl hKX y0 h17 (fun p hp => ⟨hall p hp, f, hfK, Or.inl ⟨h17, hp⟩⟩) lenb (ps f).length 0 KF u Cl (by omega) (Nat.lt_of_le_of_lt (by omega : _ ≤ 300000) KF_300) hI y2 y3 (fun _ j hj => by omega) _ (fun u2 Cl2 z1 z2 z3 => ?_)
        refine hj1 ν c u2 Cl2 Bl Ol z1 (same u2 Cl2 z1 (fun q => by omega) z2) (fun hb2 g hg => ?_)
        rcases hg with q | q | q | q
        · exact (z3 hb2).2 g q.2
        · omega
        · omega
        · omega
      · refine wp_ite (fun h18 => ?_) (fun h18 => ?_)
        · have h18 : kd f = 18 := by omega
          obtain ⟨ty, bd, e, py, pb, k8, hbf, my, mb, _⟩ := all_parts hfr.1 h18
          have hz1 := g_c (szQ_ex f0 h5f) mb
          have hq1 := htQ_c h5f mb
          have hH : HaC ν u l.1 l.2.1 := hA.1.2.2.1.1
          have hlen := hH.1.2.1
          refine round_L87 hKl hl hKX hr0 y0 h18 hfr.1 (by rw [pb]; omega) (by rw [pb]; omega) (fun t q1 q2 q3 => ⟨f, hfK, Or.inr (Or.inl ⟨h18, t, q1, q2, q3, rfl⟩)⟩) l.1.length 0 KF u Cl (by omega) (Nat.lt_of_le_of_lt (by omega : _ ≤ 65536) KF_gt) hI y2 y3 (fun _ i' t q => by omega) _ (fun u2 Cl2 z1 z2 z3 => ?_)
          refine hj1 ν c u2 Cl2 Bl Ol z1 (same u2 Cl2 z1 (fun q => by omega) z2) (fun hb2 g hg => ?_)
          rcases hg with q | ⟨_, t, q1, q2, q3, q4⟩ | q | q
          · omega
          · rw [q4]; exact (z3 hb2).2 t q1 q2 q3
          · omega
          · omega
        · refine wp_ite (fun h16 => ?_) (fun h16 => ?_)
          · have h16 : kd f = 16 := by omega
            obtain ⟨z, z1, z0, z2, z3, zf, zc⟩ := hK.not (d := d) (by omega) hs hfK h16 y0 y2 y3
            obtain ⟨r1, r2, r3⟩ := (eq_len hfr).2.2 h16
            have hhg := ht_c r2
            have hnz := nodeC hs z0 z2
            rw [z3] at hnz
            refine wp_eq z1 ?_
            rw [ld_nat (by omega), hnz.1]
            refine wp_ite (fun g17 => ?_) (fun g17 => ?_)
            · have g17 : kd (pa f 0) = 17 := by omega
              refine wp_call (tX1_oneLeft (g := pa f 0) hG hK (by omega) hl hKX hr0 z0 g17 zf (fun s q1 q2 => hX.1 f hfK s (subN_c (by omega) r2 q1) q2) (fun p hp => ⟨f, hfK, Or.inr (Or.inr (Or.inl ⟨h16, g17, p, hp, rfl⟩))⟩) hI z2 z3) (fun r u2 ⟨Cl2, w1, w2, w3⟩ => ?_)
              refine hj1 ν c u2 Cl2 Bl Ol w1 (same u2 Cl2 w1 (fun q => by omega) w2) (fun hb2 g hg => ?_)
              rcases hg with q | q | ⟨_, _, p, q1, q2⟩ | q
              · omega
              · omega
              · rw [q2]; exact (w3 hb2).2 p q1
              · omega
            · rw [ld_nat (by omega), hnz.1]
              refine wp_ite (fun g18 => ?_) (fun g18 => ?_)
              · have g18 : kd (pa f 0) = 18 := by omega
                have hx9 : y < 90000 := by omega
                obtain ⟨d', rfl⟩ : ∃ d', d = d' + 1 := ⟨d - 1, by omega⟩
                refine wp_call (hI.rm (d := d') (by omega) hx9) (fun r u1 ⟨hI1, e45, e1, l38, e36⟩ => ?_)
                have hs1 := hI1.1.1.1.1
                have y31 : trC ν u1 y = f := by rw [e1.tr]; exact y3
                have hfO : f ∈ Ol ↔ f ∈ O0 := by
                  rw [hOm f]
                  refine ⟨fun q => q.elim id (fun ⟨j, q1, q2, _⟩ => ?_), Or.inl⟩
                  have : j = k := (List.getElem?_inj (by have := (List.getElem?_eq_some_iff.mp q2).1; omega) hKn).mp (by rw [q2, gk])
                  omega
                rw [ld_nat l38, wp_un]
                refine wp_ite (fun hop => ?_) (fun hop => ?_)
                · -- opened before
                  have hin : f ∈ Ol := by
                    have := ((hI1.2.2.2.1.1.1 y l38).2 hop).2.2
                    rw [y31] at this; exact this
                  refine nxt ν c u1 Cl Bl Ol (fun _ q => q) ⟨hI1, hNu, ⟨hW, hG, hK⟩, ⟨ec, by omega, by omega, eN, eNm⟩, fun g => ?_, hBm⟩ (fun _ g hg => ?_) (by rw [e45]; exact hb)
                  · rw [hOm g]
                    constructor
                    · exact fun q => q.imp id (fun ⟨j, q1, q2⟩ => ⟨j, by omega, q2⟩)
                    · rintro (q | ⟨j, q1, q2, q3⟩)
                      · exact Or.inl q
                      · by_cases hjk : j = k
                        · rw [hjk, gk] at q2
                          rw [← Option.some.inj q2]
                          exact Or.inl (hfO.mp hin)
                        · exact Or.inr ⟨j, by omega, q2, q3⟩
                  · rcases hg with q | q | q | ⟨_, _, q, _⟩
                    · omega
                    · omega
                    · omega
                    · exact absurd (hfO.mp hin) q
                · -- one that is not so is brought
                  have hnin : f ∉ Ol := fun q => hop (by
                    obtain ⟨x', a1, a2, a3, a4, a5⟩ := hI1.2.2.2.1.1.2 f q
                    have : x' = y := trC_inj hs1 a4 (by rw [e1.n]; exact y2) (by rw [a5, y31])
                    rw [← this]; exact a3)
                  have hn0 : f ∉ O0 := fun q => hnin (hfO.mpr q)
                  obtain ⟨ty, bd, e, py, pb, k8, hbf, my, mb, _⟩ := all_parts zf.1 g18
                  obtain ⟨ct, cb, cf, cl⟩ := all_clo zf zc g18
                  obtain ⟨X1, X2⟩ := hX.2 f hfK h16 g18 hn0
                  have g0 : pa f 0 ≠ 0 := (fms_ps r2).2
                  have hfg : ¬ (kd (pa f 0) ≤ 5 ∧ loT (pa f 0) = 0) := by omega
                  have hzg := g_c (szQ_ex f0 h5f) r2
                  have hqg := htQ_c h5f r2
                  have hzb := g_c (szQ_ex g0 hfg) mb
                  have hqb := htQ_c hfg mb
                  rw [wp_un, stA_pos ⟨by omega, by omega⟩]
                  obtain ⟨hI2, e2⟩ := hI1.op y0 (by rw [e1.n]; exact y2) l38
                  have f45 : gI (sA u1 38 (y : Int) (gI u1 36)) 45 = gI u1 45 := gI_sA _ _ _ _ _
                  rw [y31] at hI2
                  generalize sA u1 38 (y : Int) (gI u1 36) = u2 at hI2 e2 f45 ⊢
                  have e02 := e1.trn e2
                  have hs2 := hI2.1.1.1.1
                  have z32 : trC ν u2 z = pa f 0 := by rw [e02.tr]; exact z3
                  have z22 : z < nC u2 := by rw [e02.n]; exact z2
                  obtain ⟨tn, t1, t2, t3⟩ := partN (d := d' + 1) (i := 0) (by omega) hs2 z0 z22 (by rw [z32, e]; simp) (Or.inr rfl)
                  rw [z32] at t3
                  refine wp_eq t1 ?_
                  have hnm : ¬ Nm ν c (2 * f + 1) := fun ⟨i, i1, i2⟩ => by
                    by_cases q : i < c0
                    · have := (hI.2.2.2.1.2 i i1).1 q
                      omega
                    · obtain ⟨g, g1, g2⟩ := (hI.2.2.2.1.2 i i1).2 (by omega)
                      exact hnin (by rw [show f = g by omega]; exact g1)
                  refine wp_call (rd_new (f := f) (by omega) hI2 hl (by omega) (by omega) hnm (List.mem_append_right _ List.mem_cons_self) (by omega) (by rw [t3, hWc]) X1) (fun r3 u3 ⟨x, a1, a2, a3, a4, a5, a6, a7⟩ => ?_)
                  rw [a1]
                  generalize eν : nuU ν c (2 * f + 1) = ν' at *
                  have hx' : NuX ν c ν' (c + 1) := by rw [← eν]; exact nuU_x ν c _
                  have hbd3 := (a5.lim hl).n a5.1.1.1.1
                  refine wp_call (rd_brought (by omega) a5 (by omega) a2 a3 (by omega)) (fun r4 u4 ⟨b1, b2, b3⟩ => ?_)
                  rw [a4] at b1
                  have hs4 := b1.1.1.1.1
                  have z24 : z < nC u4 := by rw [b2.n]; exact Nat.lt_of_lt_of_le z22 a6.1
                  have z34 : trC ν' u4 z = pa f 0 := by rw [b2.tr, a6.2.1 z z22]; exact z32
                  have x34 : trC ν' u4 x = mk 1 (2 * f + 1) [] := by rw [b2.tr]; exact a4
                  obtain ⟨bn, c1, c2, c3⟩ := partN (d := d' + 1) (i := 1) (by omega) hs4 z0 z24 (by rw [z34, e]; simp) (Or.inl (by rw [z34]; omega))
                  rw [z34, pb] at c3
                  have bn0 : 0 < bn := Nat.pos_of_ne_zero (fun q => isFo_pos hbf (by rw [← c3, q]; rfl))
                  rw [pb] at X2 cf
                  obtain ⟨oc, tc⟩ := okT_const (2 * f + 1)
                  have hok : okT (sbT (putg (mk 1 (2 * f + 1) [])) 0 bd) := okT_sb bd cf.1 (gOn_put cf.1 oc tc) 0
                  have hof : isFo (sbT (putg (mk 1 (2 * f + 1) [])) 0 bd) := by
                    have := (sb_kd (g := putg (mk 1 (2 * f + 1) [])) (d := 0) (t := bd) (by unfold isFo at hbf; omega)).1
                    unfold isFo at hbf ⊢
                    rw [this]; exact hbf
                  have hFg : cmeS (FsO l) (fun f => f ∈ Kl) (tT l fi) (fun f => f ∈ O0) (notT (sbT (putg (mk 1 (2 * f + 1) [])) 0 bd)) := ⟨f, hfK, Or.inr (Or.inr (Or.inr ⟨h16, g18, hn0, by rw [pb]⟩))⟩
                  have b04 : gI u4 45 = 0 := by rw [b3, a7, f45, e45]; exact hb
                  have hlu4 := b1.limg hl hKX b04 hFg
                  have hrr4 : rC u4 = rC u0 := b1.rr
                  have hbd4 := hlu4.n hs4
                  refine wp_eq c1 ?_
                  refine wp_call (tX2_put (d := d' + 1) (x := bn) (s := x) (X := fun z => X z ∨ subT z (notT (sbT (putg (mk 1 (2 * f + 1) [])) 0 bd))) (by rw [c3]; omega) b1.1.1.2.1 hs4 b1.1.1.1.2.1 bn0 (by omega) a2 (by rw [b2.n]; exact a3) (by rw [c3]; exact cf.1) (by rw [x34]; exact oc) (by rw [x34]; exact tc) (by rw [c3]; omega) (by rw [c3, x34]; exact ImT_put oc tc bd cf.1 0 (fun z hz => Or.inr ((sub_nn hok hof hz).imp (fun q => by rw [q]; exact X2) id))) hlu4 (by rw [c3]; omega)) (fun r5 u5 ⟨p, p1, p2, p3, p4, p5, p6, p7⟩ => ?_)
                  rw [c3, x34] at p4
                  rw [p1]
                  obtain ⟨hI5, f5⟩ := RdJ.frP b1 (Or.inl rfl) b04 p5 p6 p7 (by decide +kernel)
                  have hs5 := hI5.1.1.1.1
                  have hrr5 : rC u5 = rC u0 := hI5.rr
                  have hlu5 := p5.ux.lim hlu4
                  refine wp_call (tX2_not (X := fun z => X z ∨ subT z (notT (sbT (putg (mk 1 (2 * f + 1) [])) 0 bd))) (by omega) p6 hs5 p2 p3 (by omega) (by rw [p4]; exact not_wf hok) (by rw [p4]; exact Or.inr (sub_rf _)) hlu5) (fun r6 u6 ⟨v, v1, v2, v3, v4, v5, v6, v7⟩ => ?_)
                  rw [p4] at v4
                  rw [v1]
                  obtain ⟨hI6, f6⟩ := RdJ.frP hI5 (Or.inr rfl) (by rw [f5]; exact b04) v5 v6 v7 (by decide +kernel)
                  have hbd6 := (v5.ux.lim hlu5).n hI6.1.1.1.1
                  refine wp_call (rd_come (by omega) hKl hKX hI6 (Or.inr ⟨by rw [v4], by rw [f6, f5]; exact b04⟩) v2 v3 (by omega) (by rw [v4]; exact hFg)) (fun r7 u7 ⟨Cl7, w1, w2, w3, w4⟩ => ?_)
                  have hN : ∀ m, Nm ν c m → Nm ν' (c + 1) m := fun m hm => hx'.nm hm
                  have hnn : ∀ m, Nm ν' (c + 1) m → Nm ν c m ∨ m = 2 * f + 1 := fun m hm => by rw [← eν] at hm; exact nuU_nm.mp hm
                  refine hj1 ν' (c + 1) u7 Cl7 (Bl ++ [mk 1 (2 * f + 1) []]) (Ol ++ [f]) w1 ⟨w2, hNu.tr hx', ⟨hW.mono hN (fun m hm => ?_), hG.mono hN, ⟨hKl, fun g hg => ⟨(hK.2 g hg).1.mono hN, (hK.2 g hg).2⟩⟩⟩, ⟨by rw [List.length_append, ec]; rfl, by rw [List.length_append]; show Bl.length + 1 ≤ k + 1; omega, by rw [List.length_append]; show Ol.length + 1 ≤ _; omega, List.nodup_append.mpr ⟨eN, by simp, fun a ha b hb e => hnin (by rw [← List.mem_singleton.mp hb, ← e]; exact ha)⟩, fun g hg => (List.mem_append.mp hg).elim (fun z => hN _ (eNm g z)) (fun z => by rw [List.mem_singleton.mp z, ← eν]; exact nuU_nm.mpr (Or.inr rfl))⟩, fun g => ?_, fun b => ?_⟩ (fun hb7 g hg => ?_)
                  · rcases hnn m hm with q | q
                    · exact (hW.2.2.2 m q).mono hN
                    · rw [q, hWc]; exact ct.mono hN
                  · rw [List.mem_append, List.mem_singleton, hOm g]
                    constructor
                    · rintro ((q | ⟨j, q1, q2⟩) | q)
                      · exact Or.inl q
                      · exact Or.inr ⟨j, by omega, q2⟩
                      · rw [q]; exact Or.inr ⟨k, by omega, gk, h16, g18⟩
                    · rintro (q | ⟨j, q1, q2, q3⟩)
                      · exact Or.inl (Or.inl q)
                      · by_cases hjk : j = k
                        · rw [hjk, gk] at q2
                          exact Or.inr (Option.some.inj q2).symm
                        · exact Or.inl (Or.inr ⟨j, by omega, q2, q3⟩)
                  · rw [List.mem_append, List.mem_singleton, hBm b]
                    constructor
                    · rintro (⟨g, q1, q2, q3⟩ | q)
                      · exact ⟨g, List.mem_append_left _ q1, q2, q3⟩
                      · exact ⟨f, List.mem_append_right _ List.mem_cons_self, hn0, q⟩
                    · rintro ⟨g, q1, q2, q3⟩
                      rcases List.mem_append.mp q1 with q | q
                      · exact Or.inl ⟨g, q, q2, q3⟩
                      · rw [List.mem_singleton.mp q] at q3
                        exact Or.inr q3
                  · rcases hg with q | q | q | ⟨_, _, _, q⟩
                    · omega
                    · omega
                    · omega
                    · rw [q, pb, ← v4]; exact (w4 hb7).2
              · refine hj1 ν c u Cl Bl Ol (fun _ q => q) (same u Cl (fun _ q => q) (fun q => by omega) hI) (fun _ g hg => ?_)
                rcases hg with q | q | q | q <;> omega
          · refine hj1 ν c u Cl Bl Ol (fun _ q => q) (same u Cl (fun _ q => q) (fun q => by omega) hI) (fun _ g hg => ?_)
            rcases hg with q | q | q | q <;> omega
