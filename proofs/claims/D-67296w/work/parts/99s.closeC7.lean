/-- the store grows, the lists stay -/
theorem ClW.st {ν : Nat → Nat} {c D : Nat} {W : Wd} {S : Fs} {X : XFm} {Kl : List Nat} {u0 u1 u2 : Sg} {l0 l1 : Ls} {C : Prop} {f : Int} (h : ClW ν c W S X Kl u0 l0 C f u1 l1) (hU : Up ν c u1 u2 (xf X l1.1)) (hw : WF FC u2) (hg : Gr FC D u1 u2) (hD : D &&& mkCa = 0) (hD2 : D &&& DX1_close = D) (h45 : D.testBit 45 = false) : ClW ν c W S X Kl u0 l0 C f u2 l1 := by
  obtain ⟨h1, h2, h3, h4, h5⟩ := h
  have b := hg.I 45 h45
  refine ⟨h1, CaP.up h2 hU.ux hw hg hD, h3.post hU b, h4.tr (hg.gh ⟨hD2, maskCa hD 37 (by omega), maskCa hD 38 (by omega)⟩), h5.imp (fun q => ⟨⟨by rw [b]; exact q.1.1, q.1.2⟩, q.2⟩) (fun q => ⟨by rw [b]; exact q.1, q.2⟩)⟩
theorem argC2 {d : Nat} {ν : Nat → Nat} {c : Nat} {W : Wd} {S : Fs} {X : XFm} {Kl : List Nat} {u0 u : Sg} {l0 l1 : Ls} {C : Prop} {fl : Int} {t w fld g m p a b' : Nat} {Q : Int → Sg → Prop} {K0 K1 : Sg → Option (Int × Sg)} (hd : 300 ≤ d) (hl : LimH ν u0 S X l0.1) (hr : rC u0 ≤ 20000) (hw : ClW ν c W S X Kl u0 l0 C fl u l1) (hb : gI u 45 = 0) (ha : a < nC u) (ea : trC ν u a = pa t 0) (hb' : b' < nC u) (eb : trC ν u b' = pa t 1) (hp : p < nC u) (hin : inC ν u (gN u fld g) w) (hlen : g < gL u fld) (hgv : w ≠ 0 → gvn W (Nm ν c) w m ∧ kd w = 8 ∧ m ≤ 2 ∧ (0 < m → cltm W (Nm ν c) (pa t 0)) ∧ (1 < m → cltm W (Nm ν c) (pa t 1))) (hXw : w ≠ 0 → ImT (xf X l1.1) (locg (pa t 0) (pa t 1)) w 0)
    (k1 : ∀ u', ClW ν c W S X Kl u0 l0 C fl u' l1 → gI u' 45 = 0 → Ux ν c u u' (fun _ => True) → (w ≠ 0 → fitS (FsO l1) (trC ν u p) (sbT (locg (pa t 0) (pa t 1)) 0 w)) → wp (K1 u') Q) (k0 : ∀ u', ClW ν c W S X Kl u0 l0 C fl u' l1 → gI u' 45 = 0 → Ux ν c u u' (fun _ => True) → w ≠ 0 → ¬ fitS (FsO l1) (trC ν u p) (sbT (locg (pa t 0) (pa t 1)) 0 w) → wp (K0 u') Q) :
    wp (ld u fld (g : Int) fun v30 => if v30 = 0 then K1 u else (ld u fld (g : Int) fun v31 => cl (runC d 111 [v31, (a : Int), (b' : Int), 0] u) fun v32 s33 => cl (runC d 61 [(p : Int), v32] s33) fun v34 s35 => if v34 = 0 then K0 s35 else K1 s35)) Q := by
  have hC := hw.2.1
  have hs := hC.1.1
  obtain ⟨y, y1, y2, y3⟩ := hin
  rw [ld_nat hlen, y1]
  refine wp_ite (fun h0 => ?_) (fun h0 => ?_)
  · have hw0 : w = 0 := by rw [← y3, show y = 0 by omega]; rfl
    exact k1 u hw hb (Ux.rf hs) (fun q => absurd hw0 q)
  · have y0 : 0 < y := by omega
    have hw0 : w ≠ 0 := by
      have : 0 < trC ν u y := tr_pos (okp_C (ν := ν) hs.1) y0 (by show y ≤ nC u - 1; omega)
      omega
    obtain ⟨g1, g2, g3, g4, g5⟩ := hgv hw0
    have hloc := loc_ok (d := 0) g1 g3 g4 g5
    have hht := gvn_ht g1
    have hsz := g1.2.2.2
    have hrr : rC u = rC u0 := hw.2.2.1.r
    rw [ld_nat hlen, y1]
    refine wp_call (tX2_loci (d := d) (x := y) (a := a) (b := b') (X := xf X l1.1) (by rw [y3]; omega) hC.2.1 hs hC.1.2.1 y0 y2 ha hb' (by rw [y3]; exact g1.1.1) (by rw [y3, ea, eb]; exact hloc.2.2.2) (by rw [y3]; omega) (by rw [y3, ea, eb]; exact ImT.mono (fun _ q => Or.inr q) _ _ (hXw hw0)) ((hw.lm hl hb).l hw.2.1) (by rw [y3]; omega)) (fun r u1 ⟨z, z1, z2, z3, z4, z5, z6, z7⟩ => ?_)
    subst z1
    rw [y3, ea, eb] at z4
    have hw1 := hw.st z5 z6 z7 (by decide +kernel) (by decide +kernel) (by decide +kernel)
    have hb1 : gI u1 45 = 0 := by rw [z7.I 45 (by decide +kernel)]; exact hb
    have hC1 := hw1.2.1
    have hn1 := z5.ux.n hs
    have ep1 : trC ν u1 p = trC ν u p := z5.ux.tr hs hp
    have hM1 : FcM ν u1 l1.2.2.1 := hC1.2.2.2.1
    have hJ1 : FcJ ν u1 l1.2.2.2 := hC1.2.2.2.2.1
    obtain ⟨c1, c2⟩ := rX1_classFits (d := d) (x := p) (y := z) (by omega) hC1.2.2.1.1 hC1.h0 hM1 hJ1 hC1.1.1 (by omega) z2 z3 (by rw [z4, (sb_kd (by omega)).1]; exact g2) (by rw [z4]; exact hloc.1.1)
    rw [ep1, z4] at c1 c2
    by_cases hfit : fitS (FsL l1.1 l1.2.1 l1.2.2.1 l1.2.2.2) (trC ν u p) (sbT (locg (pa t 0) (pa t 1)) 0 w)
    · refine wp_eq (c1 hfit) ?_
      rw [if_neg (by decide)]
      exact k1 u1 hw1 hb1 (z5.ux.mono (fun _ _ => trivial)) (fun _ => hfit)
    · refine wp_eq (c2 hfit) ?_
      rw [if_pos rfl]
      exact k0 u1 hw1 hb1 (z5.ux.mono (fun _ _ => trivial)) hw0 hfit
/-- what a registration for a functor's term asks of the facts -/
def clT (W : Wd) (F : Fs) (g t : Nat) : Prop := wgO W g = wh t → argS W F t g → (wgS W g = 1 → ∀ j ∈ adjT (wgV W g), fA F t j) ∧ (wgS W g = 2 → fH F (sbT (locg (pa t 0) (pa t 1)) 0 (wgV W g)) ∧ fE F t (sbT (locg (pa t 0) (pa t 1)) 0 (wgV W g)))
/-- what may be made of a functor's term -/
def XTm (W : Wd) (S : Fs) (X : XFm) : Prop := ∀ t, fH S t → kd t = 4 → ∀ g, g < wnG W → wgS W g ≠ 0 → wgO W g = wh t → (wgA W g ≠ 0 → ImT (X.2 t) (locg (pa t 0) (pa t 1)) (wgA W g) 0) ∧ ((wgA W g ≠ 0 → fitS S (pa t 0) (sbT (locg (pa t 0) (pa t 1)) 0 (wgA W g))) → wgB W g ≠ 0 → ImT (X.2 t) (locg (pa t 0) (pa t 1)) (wgB W g) 0) ∧ (argS W S t g → wgS W g = 2 → ImT (X.2 t) (locg (pa t 0) (pa t 1)) (wgV W g) 0)
theorem close_L228 {d : Nat} (hd : 8 ≤ d) {ν : Nat → Nat} {c : Nat} {W : Wd} {S : Fs} {X : XFm} {Kl : List Nat} {u0 : Sg} {l0 : Ls} {C0 : Prop} {g x t : Nat} {a3 a4 : Int} {Q : Int → Sg → Prop} (hW : WOK W (Nm ν c)) (hG : WGK W (Nm ν c)) (hK : KlOK W (Nm ν c) Kl) (hl : LimH ν u0 S X l0.1) (hg : g < wnG W) (hg2 : wgS W g ≠ 2) (hf : ∀ j ∈ adjT (wgV W g), fA S t j) : ∀ (n i f : Nat) (u1 : Sg) (l1 : Ls) (fl : Int), i + n = (ps (wgV W g)).length → n < f → 1 ≤ i → ClW ν c W S X Kl u0 l0 (C0 ∧ ∀ k, 1 ≤ k → k < i → fA (FsO l0) t (pa (wgV W g) k)) fl u1 l1 → gI u1 45 = 0 → x < nC u1 → trC ν u1 x = t → t ∈ l1.1 → ∀ xx : Int → Int → Int → Int → Int → Sg → Option (Int × Sg), (∀ (u2 : Sg) (l2 : Ls) (fl2 : Int), ClW ν c W S X Kl u0 l0 (C0 ∧ ∀ j ∈ adjT (wgV W g), fA (FsO l0) t j) fl2 u2 l2 → gI u2 45 = 0 → Ux ν c u1 u2 (fun _ => True) → t ∈ l2.1 → wp (xx (x : Int) fl2 a3 a4 (g : Int) u2) Q) → wp (bX1_closeTerm_L228 (runC d) f (x : Int) fl a3 a4 (g : Int) (i : Int) u1 xx) Q := by
  obtain ⟨v1', v2', v3'⟩ := (hG.2 g hg).2.2.2.1 hg2
  have hpt := ps_type v2' v1'
  have hv0 : wgV W g ≠ 0 := fun q => by rw [q, kd0] at v1'; omega
  intro n
  induction n with
  | zero =>
    intro i f u1 l1 fl hi hfu h1 hw hb hx et htH xx k
    obtain ⟨f, rfl⟩ : ∃ f', f = f' + 1 := ⟨f - 1, by omega⟩
    have hC := hw.2.1
    have hs := hC.1.1
    obtain ⟨gg1, gg2, ⟨gg3, gg4, gg5, gg6, gg7⟩, gg8⟩ := hC.1.2.2.2.2.2.2
    obtain ⟨v, w1, w0, w2, w3⟩ := (gg8 g hg).2.2.2.2.2.pos hv0
    have hnv := nodeC hs w0 w2
    rw [w3] at hnv
    have l3 : gL u1 3 = gL u1 0 := hs.1.1.2.2.2.1.2.2.1
    rw [bX1_closeTerm_L228, ld_nat (by omega), w1, ld_nat (by omega), hnv.2.2.1, if_neg (by omega)]
    refine k u1 l1 fl (hw.mono (fun q => ⟨q.1, fun j hj => ?_⟩)) hb (Ux.rf hs) htH
    rw [← hpt.2.2] at hj
    obtain ⟨k', hk'⟩ := List.getElem?_of_mem hj
    rw [List.getElem?_drop] at hk'
    rw [← pa_at hk']
    exact q.2 _ (by omega) (by have := (List.getElem?_eq_some_iff.mp hk').1; omega)
  | succ n ih =>
    intro i f u1 l1 fl hi hfu h1 hw hb hx et htH xx k
    obtain ⟨f, rfl⟩ : ∃ f', f = f' + 1 := ⟨f - 1, by omega⟩
    have hC := hw.2.1
    have hs := hC.1.1
    obtain ⟨gg1, gg2, ⟨gg3, gg4, gg5, gg6, gg7⟩, gg8⟩ := hC.1.2.2.2.2.2.2
    obtain ⟨v, w1, w0, w2, w3⟩ := (gg8 g hg).2.2.2.2.2.pos hv0
    have hnv := nodeC hs w0 w2
    rw [w3] at hnv
    have l3 : gL u1 3 = gL u1 0 := hs.1.1.2.2.2.1.2.2.1
    have hil : i < (ps (wgV W g)).length := by omega
    have hat := adjN (d := d) (i := i) (by omega) hs w0 w2 (by rw [w3]; exact v1') (by rw [w3]; exact hil) h1
    rw [w3] at hat
    have hj := drop_adj hil h1
    have nxt : ∀ (u2 : Sg) (l2 : Ls) (fl2 : Int), ClW ν c W S X Kl u0 l0 (C0 ∧ ∀ k, 1 ≤ k → k < i + 1 → fA (FsO l0) t (pa (wgV W g) k)) fl2 u2 l2 → gI u2 45 = 0 → Ux ν c u1 u2 (fun _ => True) → t ∈ l2.1 → wp (ar ((i : Int) + 1) fun v13 => bX1_closeTerm_L228 (runC d) f (x : Int) fl2 a3 a4 (g : Int) v13 u2 xx) Q := fun u2 l2 fl2 z1 z2 z3 z4 => by
      rw [wp_ar]
      refine ⟨⟨by omega, by omega⟩, ?_⟩
      rw [show (i : Int) + 1 = ((i + 1 : Nat) : Int) by omega]
      have := z3.n hs
      exact ih (i + 1) f u2 l2 fl2 (by omega) (by omega) (by omega) z1 z2 (by omega) (by rw [z3.tr hs hx]; exact et) z4 xx (fun u3 l3 fl3 y1 y2 y3 y4 => k u3 l3 fl3 y1 y2 (z3.trn y3) y4)
    rw [bX1_closeTerm_L228, ld_nat (by omega), w1, ld_nat (by omega), hnv.2.2.1, if_pos (by omega), ld_nat (by omega), w1]
    refine wp_eq hat ?_
    refine wp_call (tX1_adjW (X := X) (x := x) (j := pa (wgV W g) i) (by omega) hW hK hC (hw.gl hb) hx (by rw [et]; exact htH) (v3' _ hj) (by rw [et]; exact hf _ hj) (hw.lm hl hb)) (fun r u2 ⟨hr, l2, z1, z2, z3⟩ => ?_)
    rw [et] at z1
    have hsq := hw.seq (Or.inl hb) z1 (C'' := C0 ∧ ∀ k, 1 ≤ k → k < i + 1 → fA (FsO l0) t (pa (wgV W g) k)) (fun e q1 q2 => ⟨q1.1, fun k' r1 r2 => by
      by_cases hk : k' = i
      · rw [hk, ← e]; exact ⟨t, q2, Or.inl rfl⟩
      · exact q1.2 k' r1 (by omega)⟩)
    have hfl := hw.fl hb
    rcases hr with hr | hr
    · rw [hr, or_0 hfl] at hsq
      rw [hr, if_pos rfl]
      exact nxt u2 l2 fl hsq z3 (z1.2.2.1.ux.mono (fun _ _ => trivial)) (by rw [z2]; exact htH)
    · rw [hr, or_1 hfl] at hsq
      rw [hr, if_neg (by decide)]
      exact nxt u2 l2 1 hsq z3 (z1.2.2.1.ux.mono (fun _ _ => trivial)) (by rw [z2]; exact htH)
