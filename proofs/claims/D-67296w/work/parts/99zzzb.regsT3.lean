/-- a term that is found to be the same as one at hand -/
theorem tX3_same {d : Nat} (hd : 901 ≤ d) {ν : Nat → Nat} {c : Nat} {W : Wd} {S : Fs} {X : XFm} {K B : Nat → Prop} {Kl : List Nat} {u : Sg} {l : Ls} {i t z tz : Nat} (hS : Clo W K B S) (hC : CaT ν c W S Kl u l) (hle : l.1.length ≤ 100) (hi : l.1[i]? = some t) (z0 : 0 < z) (hz : z ≤ nT u) (ez : trT ν u z = tz) (hc : cltm W (NT ν c) tz) (hf : fH S tz) (hE : fE S t tz) (hht : htT tz ≤ 800) (hnn : nT u < 131072) : wp (runT d 98 [(i : Int), (z : Int)] u) (fun _ u' => ∃ l1, TwR ν c W S X Kl u l (tz ∈ l.1 ∧ eqL l.1 l.2.1 t tz) u' l1) := by
  obtain ⟨d, rfl⟩ : ∃ d', d = d' + 2 := ⟨d - 2, by omega⟩
  rw [runT_eq (by omega)]
  show wp (bX3_same (runT (d + 1)) i z u) _
  unfold bX3_same
  refine wp_call (tX3_terms (X := X) (Kl := Kl) hS.2.1.1 (htT tz + 1) tz (Nat.lt_succ_self _) (d + 1) u z l (by omega) hht hC z0 hz ez hc.1 hc.2.2.2 (fun s q1 q2 _ => hS.1.2.2.1 tz hf s q1 q2) hnn) (fun _ u1 ⟨l1, t1, t2, t3, t4, t5, t6⟩ => ?_)
  have hC1 := t1.2.1
  rw [wp_un, hC1.2.2.1.1.1.1]
  refine wp_ite (fun h100 => ?_) (fun h100 => ?_)
  · have hzH : tz ∈ l1.1 := t4 (by omega) tz (sub_rf _) hc.2.1 hc.2.2.1
    have e1 := t2.eqH (by decide +kernel)
    obtain ⟨j, j1, j2⟩ := indT (d := d) (by omega) hC1 (by rw [e1.1.n]; exact hz) (by rw [e1.1.tr]; exact ez) hzH
    refine wp_eq j2 ?_
    refine wp_call (tX3_join (X := X) (by omega) hS hC1 (t1.1.at hi) j1 hE) (fun _ u2 ⟨l2, q1, q2, q3, q4⟩ => ?_)
    rw [wp_some]
    exact ⟨l2, t1.seq q1 (fun e _ r => by rw [e] at hzH r; exact ⟨hzH, r⟩)⟩
  · rw [wp_some]
    exact ⟨l1, t1.mono (fun e _ => by rw [e] at h100; omega)⟩
/-- what a registration asks of a term at hand -/
def RgC (W : Wd) (l : Ls) (g t : Nat) : Prop := (wgS W g = 0 → clG W (FsQ l) g t) ∧ (wgS W g ≠ 0 → kd t = 4 → clT W (FsQ l) g t)
theorem regs_L17 {d : Nat} (hd : 902 ≤ d) {ν : Nat → Nat} {c : Nat} {W : Wd} {S : Fs} {X : XFm} {K B : Nat → Prop} {Kl : List Nat} {u0 : Sg} {l0 : Ls} {C0 : Prop} {g many : Nat} {Q : Int → Sg → Prop} (hE : EnT ν c W S X Kl K B) (hs0 : ST ν c u0) (hl : LimTH ν u0 S X l0.1) (hr : hT u0 ≤ 26000) (hle0 : l0.1.length ≤ 100) (hg : g < wnG W) : ∀ (m i f : Nat) (u1 : Sg) (l1 : Ls), i + m = many → m < f → many ≤ l1.1.length → (l1 = l0 → many = l0.1.length) → TwR ν c W S X Kl u0 l0 (C0 ∧ ∀ i' t, i' < i → l0.1[i']? = some t → RgC W l0 g t) u1 l1 → ∀ xx : Int → Sg → Option (Int × Sg), (∀ (u2 : Sg) (l2 : Ls), TwR ν c W S X Kl u0 l0 (C0 ∧ ∀ t ∈ l0.1, RgC W l0 g t) u2 l2 → wp (xx (g : Int) u2) Q) → wp (bX3_byRegistrations_L17 (runT d) f (g : Int) (many : Int) (i : Int) u1 xx) Q := by
  have hE0 := hE
  obtain ⟨hW, hG, hK, hS, hcn, hXS, hXT, hXK, hKK⟩ := hE
  obtain ⟨d, rfl⟩ : ∃ d', d = d' + 1 := ⟨d - 1, by omega⟩
  intro m
  induction m with
  | zero =>
    intro i f u1 l1 hi hf hmn hme hw xx k
    obtain ⟨f, rfl⟩ : ∃ f', f = f' + 1 := ⟨f - 1, by omega⟩
    rw [bX3_byRegistrations_L17, if_neg (by omega)]
    refine k u1 l1 (hw.mono (fun e q => ⟨q.1, fun t ht => ?_⟩))
    obtain ⟨i', hi'⟩ := List.getElem?_of_mem ht
    have := (List.getElem?_eq_some_iff.mp hi').1
    have := hme e
    exact q.2 i' t (by omega) hi'
  | succ m ih =>
    intro i f u1 l1 hi hf hmn hme hw xx k
    obtain ⟨f, rfl⟩ : ∃ f', f = f' + 1 := ⟨f - 1, by omega⟩
    have hC := hw.2.1
    have hs := hC.1.1
    have hHa := hC.2.2.1.1
    have hl1 := hw.lm hl
    have hbd := (hl1.l hC).n hs
    have hr1 : hT u1 = hT u0 := hw.2.2.1.2.2.2.1
    have h1000 := hHa.1.2.1
    rw [bX3_byRegistrations_L17, if_pos (by omega), wp_un, hHa.1.1]
    refine wp_ite (fun h100 => ?_) (fun h100 => k u1 l1 (hw.mono (fun e _ => by rw [e] at h100; omega)))
    have h100 : l1.1.length ≤ 100 := by omega
    have hil : i < l1.1.length := by omega
    have gi : l1.1[i]? = some l1.1[i] := List.getElem?_eq_getElem hil
    generalize l1.1[i] = t at gi
    have htH : t ∈ l1.1 := List.mem_of_getElem? gi
    obtain ⟨x, x1, x2, x3, x4, x5⟩ := hHa.2.2.2.1 i t gi
    have h55 := hHa.1.2.2.1
    obtain ⟨ht, htS⟩ := hC.2.2.2.2.2.1 t htH
    obtain ⟨gg1, gg2, gg3, gg8⟩ := hC.1.2.2.2.2.2.2
    obtain ⟨q1, q2, q3, q4, q5⟩ := gg8 g hg
    have L29 := gg3 29 (by omega) (by omega)
    have nx : ∀ (u2 : Sg) (l2 : Ls) (C' : Prop), TwR ν c W S X Kl u1 l1 C' u2 l2 → (l1 = l0 → (∀ i' t', i' < i → l0.1[i']? = some t' → RgC W l0 g t') → C' → RgC W l0 g t) → wp (ar ((i : Int) + 1) fun v => bX3_byRegistrations_L17 (runT (d + 1)) f (g : Int) (many : Int) v u2 xx) Q := fun u2 l2 C' w2 hk => by
      rw [wp_ar]
      refine ⟨⟨by omega, by omega⟩, ?_⟩
      rw [show (i : Int) + 1 = ((i + 1 : Nat) : Int) by omega]
      have hln := w2.len
      refine ih (i + 1) f u2 l2 (by omega) (by omega) (by omega) (fun e => ?_) (hw.seq w2 (fun e q r => ⟨q.1, fun i' t' r1 r2 => ?_⟩)) xx k
      · refine hme ?_
        rcases w2.2.2.2.2 with ⟨z, _⟩ | ⟨_, z⟩
        · rw [← z]; exact e
        · have hm : msL l0 ≤ msL l1 := ms_le hw
          rw [e] at z
          omega
      · by_cases hii : i' = i
        · rw [e] at gi
          rw [hii, gi] at r2
          rw [← Option.some.inj r2]
          exact hk e q.2 r
        · exact q.2 i' t' (by omega) r2
    rw [ld_nat (by omega), q1]
    refine wp_ite (fun h0 => ?_) (fun h0 => ?_)
    · have hg0 : wgS W g = 0 := by omega
      refine wp_eq (rX3_top (d := d) (by omega) hHa hil) ?_
      refine wp_ite (fun hrt => ?_) (fun hrt => ?_)
      · refine wp_call (tX3_conditional (X := X) (g := g) (i0 := i) (by omega) hE0 hC hg hg0 gi (by omega)) (fun _ u2 ⟨l2, w1, w2⟩ => ?_)
        exact nx u2 l2 _ w1 (fun e _ r => ⟨fun _ => by rw [← e]; exact r, fun q => absurd hg0 q⟩)
      · refine nx u1 l1 True (TwR.rf hC trivial) (fun e q _ => ⟨fun _ => ?_, fun q => absurd hg0 q⟩)
        have hdec := hHa.2.2.2.2.2.2
        have hrl := rt_le hdec i hil
        have gr : l1.1[rt l1.2.1 i]? = some l1.1[rt l1.2.1 i] := List.getElem?_eq_getElem (by omega)
        generalize l1.1[rt l1.2.1 i] = tr' at gr
        have hq := q (rt l1.2.1 i) tr' (by omega) (by rw [← e]; exact gr)
        have hx' : eqX l1.1 l1.2.1 t tr' := (rt_eqX hHa.2.2.1 gi gr).mp (rt_rt hdec hil).symm
        rw [← e] at hq ⊢
        exact clG_eq hHa.2.2.1 hx' (hq.1 hg0)
    · have hg0 : wgS W g ≠ 0 := by omega
      obtain ⟨q31, q32, q33⟩ := q3 hg0
      have hgS := (hG.2 g hg).1
      have hn := nodeT hs x2 x3
      rw [x4] at hn
      rw [ld_nat (by omega), x1, ld_nat (hs.k x3), hn.1]
      have hk4 : tkT (kd t) = 4 ↔ kd t = 4 := by
        rcases ht.k with z | z | z <;> rw [z] <;> decide
      refine wp_ite (fun h4 => ?_) (fun h4 => nx u1 l1 True (TwR.rf hC trivial) (fun _ _ _ => ⟨fun q => absurd q hg0, fun _ q => absurd (hk4.mpr q) h4⟩))
      have h4 := hk4.mp h4
      have nw1 : nw (kd t) = 1 := by rw [h4]; decide
      have L32 := gg3 32 (by omega) (by omega)
      have L35 := gg3 35 (by omega) (by omega)
      have L36 := gg3 36 (by omega) (by omega)
      refine wp_eq (by have := headNT (d := d + 1) (by omega) hs x2 x3 (by rw [x4]; exact nw1) (by rw [x4]; omega); rw [x4] at this; exact this) ?_
      rw [ld_nat (by omega), q31]
      refine wp_ite (fun hO => ?_) (fun hO => nx u1 l1 True (TwR.rf hC trivial) (fun _ _ _ => ⟨fun q => absurd q hg0, fun _ _ q => absurd (by omega) hO⟩))
      have hO : wgO W g = wh t := by omega
      refine wp_call (tX3_termsFit (X := X) (by omega) hE0 hC h100 htH x2 x3 x4 h4 hg hg0 hO (by omega) hl1) (fun r u2 ⟨v1, v2, v3, v4⟩ => ?_)
      have w2 := (TwR.rf (X := X) (C := True) hC trivial).st v2 v3 v4 (by decide +kernel) (by decide +kernel) (by decide +kernel)
      refine wp_ite (fun h0' => ?_) (fun h0' => ?_)
      · refine nx u2 l1 _ w2 (fun e _ _ => ⟨fun q => absurd q hg0, fun _ _ _ ha => ?_⟩)
        rcases v1 with z | z
        · omega
        · rw [← e] at ha; exact absurd ha z.2
      · have harg : argS W (FsQ l1) t g := by
          rcases v1 with z | z
          · exact z.2
          · exact absurd z.1 h0'
        have hC2 := w2.2.1
        have hs2 := hC2.1.1
        have argS' := (hC.sub hW hS).arg harg
        obtain ⟨gg1', gg2', gg3', gg8'⟩ := hC2.1.2.2.2.2.2.2
        obtain ⟨r1, r2, r3, r4, r5⟩ := gg8' g hg
        have L29' := gg3' 29 (by omega) (by omega)
        have L35' := gg3' 35 (by omega) (by omega)
        have L36' := gg3' 36 (by omega) (by omega)
        rw [ld_nat (by omega), r1]
        refine wp_ite (fun h2 => ?_) (fun h2 => ?_)
        · have hg1 : wgS W g = 1 := by omega
          rw [ld_nat (by omega)]
          refine wp_call (tX3_adjs (X := X) (by omega) hW hK hC2 gi (r4 (by omega)) (fun j hj => ⟨((hG.2 g hg).2.2.2.1 (by omega)).2.2 j hj, hS.2.2.2.1 t g htS h4 hg hg1 hO argS' j hj⟩)) (fun _ u3 ⟨l3, w3, w4⟩ => ?_)
          refine nx u3 l3 (∀ j ∈ adjT (wgV W g), fA (FsQ l1) t j) (w2.seq w3 (fun _ _ q => q)) (fun e _ q => ⟨fun q => absurd q hg0, fun _ _ _ _ => ⟨fun _ => by rw [← e]; exact q, fun z => by omega⟩⟩)
        · have hg2 : wgS W g = 2 := by omega
          obtain ⟨gv1, gv2⟩ := (hG.2 g hg).2.2.2.2 hg2
          obtain ⟨f1, f2⟩ := ht.1.lc.2.1 h4
          obtain ⟨ff1, ff2, ff3⟩ := hW.2.2.1 _ f1
          rw [hO] at gv1
          have hx2 : x ≤ nT u2 := Nat.le_trans x3 v2.n
          have ex2 : trT ν u2 x = t := by rw [v2.tr hs x3]; exact x4
          have hl2 := w2.lm hl1
          have hbd2 := (hl2.l hC2).n hs2
          have hr2 : hT u2 = hT u1 := v2.2.2.2.1
          refine wp_call (tX3_moveLoci (d := d + 1) (by omega) hC2.2.1 hs2 x2 hx2 (by rw [ex2]; exact h4) (by rw [ex2]; exact ht) (by rw [ex2]; omega) hC2.1.2.1.1 hC2.1.2.1.2 (by omega)) (fun _ u3 ⟨e3, w3, G3, m3⟩ => ?_)
          rw [ex2] at m3
          have hs3 := e3.st hs2
          have hV0 : wgV W g ≠ 0 := isTm_pos gv2
          obtain ⟨y, y1, y2, y3, y4⟩ := (r5 hg2).pos hV0
          have n36 : gN u3 36 g = (y : Int) := by rw [G3.N 36 (by decide)]; exact y1
          have l36 : gL u3 36 = 30 := by rw [G3.Ln 36 (by decide)]; exact L36'
          have ey3 : trT ν u3 y = wgV W g := by rw [e3.1.tr]; exact y4
          rw [ld_nat (by omega), n36]
          obtain ⟨_, _, xv⟩ := hXT t htS h4 g hg hg0 hO
          have p0 : 0 < wfM W (wh t) → cltm W (NT ν c) (pa t 0) := fun z => (fun_part ht h4 (i := 0) (by omega)).1
          have p1 : 1 < wfM W (wh t) → cltm W (NT ν c) (pa t 1) := fun z => (fun_part ht h4 (i := 1) (by omega)).1
          have hmv := tX3_move (d := d + 1) (x := y) (X := xt X l1.1) (W := W) (N := NT ν c) (n := (ps t).length) (by omega) w3 hs3 y2 (by rw [e3.1.n]; exact y3) (by rw [ey3, f2]; exact gv1) m3 (by rw [f2]; exact p0) (by rw [f2]; exact p1) (by rw [e3.hh]; omega) (by rw [ey3]; exact ImT.mono (xt_at h100 htH) _ _ (xv argS' hg2)) (e3.lim (hl2.l hC2))
          rw [ey3] at hmv
          refine wp_call hmv (fun r u4 h4' => ?_)
          obtain ⟨z, z1, z2, z3, z4, z5, z6, z7⟩ := RvT.ofEqH (D := DX3_has) e3 (Gr.sub (by decide +kernel) G3) (RvT.sub (by decide +kernel) h4')
          rw [z1]
          have w5 := w2.st z5 z6 z7 (by decide +kernel) (by decide +kernel) (by decide +kernel)
          have hC5 := w5.2.1
          have hl5 := w5.lm hl1
          have hbd5 := (hl5.l hC5).n hC5.1.1
          have hloc := loc_ok (d := 0) (a := pa t 0) (b := pa t 1) gv1 (by omega) p0 p1
          have htm : isTm (sbT (locg (pa t 0) (pa t 1)) 0 (wgV W g)) := sb_tm hloc.2.2.1 gv2
          have hcl : cltm W (NT ν c) (sbT (locg (pa t 0) (pa t 1)) 0 (wgV W g)) := ⟨hloc.1, htm, hloc.2.1⟩
          obtain ⟨hSz, hSe⟩ := hS.2.2.2.2.1 t g htS h4 hg hg2 hO argS'
          have ht200 := hC.ht h100 htH
          have hht : htT (sbT (locg (pa t 0) (pa t 1)) 0 (wgV W g)) ≤ 800 := by
            have a := ht_loc (a := pa t 0) (b := pa t 1) (m := 200) (Nat.le_trans (ht_pa (Or.inl (by omega))) ht200) (Nat.le_trans (ht_pa (Or.inl (by omega))) ht200) (wgV W g) gv1.1.1 0
            have b := ht_sz (wgV W g) hV0
            have := gv1.2.2.2
            omega
          refine wp_call (tX3_same (X := X) (i := i) (z := z) (by omega) hS hC5 h100 gi z2 z3 z4 hcl hSz hSe hht (by omega)) (fun _ u6 ⟨l6, w6⟩ => ?_)
          refine nx u6 l6 _ (w5.seq w6 (fun _ _ q => q)) (fun e _ q => ⟨fun q => absurd q hg0, fun _ _ _ _ => ⟨fun z => by omega, fun _ => by rw [← e]; exact q⟩⟩)
