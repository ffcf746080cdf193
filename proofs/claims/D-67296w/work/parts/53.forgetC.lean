theorem pSum_mono (σ : Sg) {n m : Nat} (h : n ≤ m) : pSum σ n ≤ pSum σ m := by
  induction m with
  | zero => rw [show n = 0 by omega]; exact Nat.le_refl _
  | succ m ih =>
    by_cases hn : n = m + 1
    · rw [hn]; exact Nat.le_refl _
    · have := ih (by omega)
      have e : pSum σ (m + 1) = pSum σ m + (if m = 0 then 0 else (rawC σ m).2.2.length) := rfl
      omega
/-! forms behind a mark are forgotten -/
/-- as IC, but the last nodes are going: parts are not cut yet -/
theorem topOf_cut {hs : Nat → Int} {n : Nat} {b y : Int} (h : topOf hs (n + 1) b y) (hn : n = 0 ∨ hs n ≠ b) : topOf hs n b y := by
  rcases h with ⟨e, t⟩ | ⟨m, e, m0, mn, mb, mt⟩
  · exact Or.inl ⟨e, fun z z0 hz => t z z0 (by omega)⟩
  · by_cases hm : m = n
    · subst hm
      rcases hn with q | q
      · omega
      · exact absurd mb q
    · exact Or.inr ⟨m, e, m0, by omega, mb, fun z z1 z2 => mt z z1 (by omega)⟩
/-- the last node goes -/
theorem IC_cut {u u' : Sg} {n : Nat} (hI : IC u) (hn : nC u = n + 1) (n0 : 0 < n) (h9 : gI u' 9 = (n : Int)) (h10 : gI u' 10 = gI u 10) (hA : ∀ k, k ≤ 7 → u'.2.1 k = u.2.1 k) (hL8 : gL u' 8 = gL u 8) (h8 : ∀ j : Nat, gN u' 8 j = if (j : Int) = hsx u n then gN u 6 n else gN u 8 j) (h12 : gI u' 12 = (rC u' : Int) ∧ rC u' ≤ gL u' 11) (h11 : 1024 ≤ gL u' 11 ∧ gL u' 11 ≤ 65536) : IC u' ∧ nC u' = n ∧ pC u' = pC u ∧ ∀ x, rawC u' x = rawC u x := by
  have hN : ∀ k, k ≤ 7 → ∀ x, gN u' k x = gN u k x := fun k hk x => by show (u'.2.1 k).2 x = (u.2.1 k).2 x; rw [hA k hk]
  have hL : ∀ k, k ≤ 7 → gL u' k = gL u k := fun k hk => by show (u'.2.1 k).1 = (u.2.1 k).1; rw [hA k hk]
  have hraw : ∀ x, rawC u' x = rawC u x := fun x => by
    unfold rawC
    rw [hN 0 (by omega), hN 1 (by omega), hN 2 (by omega), hN 3 (by omega)]
    congr 2
    exact List.map_congr_left (fun i _ => hN 7 (by omega) _)
  have hnn : nC u' = n := by unfold nC; rw [h9]; omega
  have hp : pC u' = pC u := by unfold pC; rw [h10]
  have hh : hsx u' = hsx u := funext fun z => by unfold hsx; rw [hraw]
  obtain ⟨h1, h2, h3, h4, h5⟩ := hI
  obtain ⟨⟨q1, q2, q3⟩, ⟨q4, q5⟩, ⟨q6, q7⟩, ⟨l1, l2, l3, l4, l5, l6⟩, l8, l11, l0, l7⟩ := h1
  refine ⟨⟨⟨⟨by rw [h9, hnn], by omega, by rw [hnn, hL 0 (by omega)]; omega⟩, ⟨by rw [h10, hp]; exact q4, by rw [hp, hL 7 (by omega)]; exact q5⟩, h12, ⟨by rw [hL 1 (by omega), hL 0 (by omega)]; exact l1, by rw [hL 2 (by omega), hL 0 (by omega)]; exact l2, by rw [hL 3 (by omega), hL 0 (by omega)]; exact l3, by rw [hL 4 (by omega), hL 0 (by omega)]; exact l4, by rw [hL 5 (by omega), hL 0 (by omega)]; exact l5, by rw [hL 6 (by omega), hL 0 (by omega)]; exact l6⟩, by rw [hL8]; exact l8, h11, by rw [hL 0 (by omega)]; exact l0, by rw [hL 7 (by omega)]; exact l7⟩, ⟨fun x x0 hx => ?_, fun i hi => ?_⟩, ⟨fun b hb => ?_, fun x x0 hx => ?_⟩, fun x y x0 hx y0 hy e => ?_, fun x x0 hx => ?_⟩, hnn, hp, hraw⟩
  · rw [hN 0 (by omega), hN 1 (by omega), hN 2 (by omega), hN 3 (by omega), hp]
    exact h2.1 x x0 (by omega)
  · rw [hN 7 (by omega)]; exact h2.2 i (by omega)
  · rw [hnn, hh, h8]
    by_cases hb2 : (b : Int) = hsx u n
    · rw [if_pos hb2, hb2]; exact h3.2 n n0 (by omega)
    · rw [if_neg hb2]
      have := h3.1 b hb
      rw [hn] at this
      exact topOf_cut this (Or.inr (fun e => hb2 e.symm))
  · rw [hh, hN 6 (by omega)]; exact h3.2 x x0 (by omega)
  · rw [hraw, hraw] at e
    exact h4 x y x0 (by omega) y0 (by omega) e
  · have e4 : gN u' 4 = gN u 4 := funext fun x => hN 4 (by omega) x
    have e5 : gN u' 5 = gN u 5 := funext fun x => hN 5 (by omega) x
    rw [hraw, e4, e5]
    exact h5 x x0 (by omega)
/-- the parts of a node are pushed, as they are -/
theorem forget_L26 {d : Nat} (hd : 3 ≤ d) {u0 : Sg} {x : Nat} {a1 a2 : Int} {Q : Int → Sg → Prop} (hw0 : WF FC u0) (hx : x < gL u0 3) (hx2 : gL u0 2 = gL u0 3) (hc : 0 ≤ gN u0 3 x) (hf : 0 ≤ gN u0 2 x) (he : (gN u0 2 x).toNat + (gN u0 3 x).toNat ≤ gL u0 7) (h7 : gL u0 7 ≤ 270000) (h1 : gI u0 12 = (rC u0 : Int)) (h2 : rC u0 ≤ gL u0 11) (h3 : 1024 ≤ gL u0 11) (h4 : gL u0 11 ≤ 65536) (h5 : rC u0 + (gN u0 3 x).toNat ≤ 30000) :
    ∀ (m i f : Nat) (u : Sg), i + m = (gN u0 3 x).toNat → m < f → WF FC u → Gr FC DX2_push u0 u → gI u 12 = (rC u : Int) → rC u = rC u0 + i → rC u ≤ gL u 11 → 1024 ≤ gL u 11 → gL u 11 ≤ 65536 → (∀ j, j < rC u0 → gN u 11 j = gN u0 11 j) → (∀ j, j < i → gN u 11 (rC u0 + j) = gN u0 7 ((gN u0 2 x).toNat + j)) → ∀ x0, (∀ u', WF FC u' → Gr FC DX2_push u0 u' → gI u' 12 = (rC u' : Int) → rC u' = rC u0 + (gN u0 3 x).toNat → rC u' ≤ gL u' 11 → 1024 ≤ gL u' 11 → gL u' 11 ≤ 65536 → (∀ j, j < rC u0 → gN u' 11 j = gN u0 11 j) → (∀ j, j < (gN u0 3 x).toNat → gN u' 11 (rC u0 + j) = gN u0 7 ((gN u0 2 x).toNat + j)) → wp (x0 a1 a2 (x : Int) u') Q) → wp (bX2_forget_L26 (runC d) f a1 a2 (x : Int) (i : Int) u x0) Q := by
  intro m
  induction m with
  | zero =>
    intro i f u hi hf0 w g r1 r2 r3 r4 r5 r6 r7 xx k
    obtain ⟨f, rfl⟩ : ∃ f', f = f' + 1 := ⟨f - 1, by omega⟩
    have e3 := g.N 3 (by decide +kernel)
    have el3 := g.Ln 3 (by decide +kernel)
    rw [bX2_forget_L26, ld_nat (by omega), e3, if_neg (by omega)]
    have : i = (gN u0 3 x).toNat := by omega
    subst this
    exact k u w g r1 r2 r3 r4 r5 r6 r7
  | succ m ih =>
    intro i f u hi hf0 w g r1 r2 r3 r4 r5 r6 r7 xx k
    obtain ⟨f, rfl⟩ : ∃ f', f = f' + 1 := ⟨f - 1, by omega⟩
    have e2 := g.N 2 (by decide +kernel)
    have e3 := g.N 3 (by decide +kernel)
    have e7 := g.N 7 (by decide +kernel)
    have el2 := g.Ln 2 (by decide +kernel)
    have el3 := g.Ln 3 (by decide +kernel)
    have el7 := g.Ln 7 (by decide +kernel)
    have hv : inR (gN u0 7 ((gN u0 2 x).toNat + i)) := hw0.2.2.2.1 7 _ (by decide)
    rw [bX2_forget_L26, ld_nat (by omega), e3, if_pos (by omega), ld_nat (by omega), e2, ar_pos ⟨by omega, by omega⟩, show gN u0 2 x + (i : Int) = (((gN u0 2 x).toNat + i : Nat) : Int) by omega, ld_nat (by omega), e7]
    refine wp_call (gX2_push w hv (rX2_push (by omega) r1 r3 r4 r5 (by omega))) (fun r u' ⟨⟨p1, p2, p3, p4, p5, p6, p7⟩, g', w', _⟩ => ?_)
    rw [wp_ar]
    refine ⟨⟨by omega, by omega⟩, ?_⟩
    rw [show (i : Int) + 1 = ((i + 1 : Nat) : Int) by omega]
    refine ih (i + 1) f u' (by omega) (by omega) w' (g.tr g') (by rw [p1, p2]; omega) (by omega) p3 p4 p5 (fun j hj => by rw [p6 j (by omega), r6 j hj]) (fun j hj => ?_) xx k
    by_cases hji : j = i
    · subst hji
      rw [← r2]; exact p7
    · rw [p6 _ (by omega), r7 j (by omega)]
theorem forget_L0 {d : Nat} (hd : 4 ≤ d) {mark pm : Nat} (hm : 1 ≤ mark) {Q : Int → Sg → Prop} : ∀ (m f : Nat) (u : Sg), nC u = mark + m → m < f → WF FC u → IC u → rC u ≤ 24000 → (∀ x, 0 < x → x < nC u → (gN u 3 x).toNat ≤ 5000) → ∀ x0, (∀ u', WF FC u' → IC u' → nC u' = mark → pC u' = pC u → (∀ x, rawC u' x = rawC u x) → (∀ x, gN u' 2 x = gN u 2 x) → rC u' = rC u → (∀ j, j < rC u → gN u' 11 j = gN u 11 j) → wp (x0 (pm : Int) u') Q) → wp (bX2_forget_L0 (runC d) f (mark : Int) (pm : Int) u x0) Q := by
  intro m
  induction m with
  | zero =>
    intro f u hn hf w hI hr hcs xx k
    obtain ⟨f, rfl⟩ : ∃ f', f = f' + 1 := ⟨f - 1, by omega⟩
    have q1 := hI.1.1.1
    rw [bX2_forget_L0, un_eq, if_pos (by omega)]
    exact k u w hI (by omega) rfl (fun _ => rfl) (fun _ => rfl) rfl (fun _ _ => rfl)
  | succ m ih =>
    intro f u hn hf w hI hr hcs xx k
    obtain ⟨f, rfl⟩ : ∃ f', f = f' + 1 := ⟨f - 1, by omega⟩
    obtain ⟨⟨q1, q2, q3⟩, ⟨q4, q5⟩, ⟨q6, q7⟩, ⟨l1, l2, l3, l4, l5, l6⟩, l8, l11, l0, l7⟩ := id hI.1
    have hx0 : 0 < mark + m := by omega
    obtain ⟨⟨g0, g1, g2, g3⟩, ge⟩ := hI.2.1.1 (mark + m) hx0 (by omega)
    have hc := hcs (mark + m) hx0 (by omega)
    rw [bX2_forget_L0, un_eq, if_neg (by omega), un_eq, ar_pos ⟨by omega, by omega⟩, un_eq, un_eq, gI_sI, if_pos rfl, show gI u 9 - 1 = ((mark + m : Nat) : Int) by omega]
    have w4 : WF FC (sI u 9 ((mark + m : Nat) : Int)) := wfI w rfl ⟨by omega, by omega⟩
    have r4 : rC (sI u 9 ((mark + m : Nat) : Int)) = rC u := by unfold rC; rw [gI_sI, if_neg (by decide)]
    rw [show (0 : Int) = ((0 : Nat) : Int) from rfl]
    refine forget_L26 (by omega) (u0 := sI u 9 ((mark + m : Nat) : Int)) (x := mark + m) w4 (by rw [gL_sI]; omega) (by rw [gL_sI, gL_sI]; omega) (by rw [gN_sI]; exact g3) (by rw [gN_sI]; exact g2) (by rw [gN_sI, gN_sI, gL_sI]; omega) (by rw [gL_sI]; omega) (by rw [gI_sI, if_neg (by decide), r4]; exact q6) (by rw [r4, gL_sI]; exact q7) (by rw [gL_sI]; omega) (by rw [gL_sI]; omega) (by rw [r4, gN_sI]; omega) (gN u 3 (mark + m)).toNat 0 KF _ (by rw [gN_sI]; omega) (Nat.lt_of_le_of_lt (by omega : _ ≤ 65536) KF_gt) w4 Gr.rf (by rw [gI_sI, if_neg (by decide), r4]; exact q6) (by omega) (by rw [r4, gL_sI]; exact q7) (by rw [gL_sI]; omega) (by rw [gL_sI]; omega) (fun _ _ => rfl) (fun j hj => by omega) _ (fun u2 w2 g2' c1 c2 c3 c4 c5 c6 c7 => ?_)
    rw [gN_sI] at c2 c7
    rw [r4] at c2 c6 c7
    have e0 := fun x => (g2'.N 0 (by decide +kernel) x).trans (gN_sI u 9 _ 0 x)
    have e1 := fun x => (g2'.N 1 (by decide +kernel) x).trans (gN_sI u 9 _ 1 x)
    have e3 := fun x => (g2'.N 3 (by decide +kernel) x).trans (gN_sI u 9 _ 3 x)
    have e6 := fun x => (g2'.N 6 (by decide +kernel) x).trans (gN_sI u 9 _ 6 x)
    have e8 := fun x => (g2'.N 8 (by decide +kernel) x).trans (gN_sI u 9 _ 8 x)
    have eL0 : gL u2 0 = gL u 0 := g2'.Ln 0 (by decide +kernel)
    have eL1 : gL u2 1 = gL u 1 := g2'.Ln 1 (by decide +kernel)
    have eL3 : gL u2 3 = gL u 3 := g2'.Ln 3 (by decide +kernel)
    have eL6 : gL u2 6 = gL u 6 := g2'.Ln 6 (by decide +kernel)
    have eL8 : gL u2 8 = gL u 8 := g2'.Ln 8 (by decide +kernel)
    have eA : ∀ k, k ≤ 8 → u2.2.1 k = u.2.1 k := fun k hk => g2'.A k (by
      rcases (by omega : k = 0 ∨ k = 1 ∨ k = 2 ∨ k = 3 ∨ k = 4 ∨ k = 5 ∨ k = 6 ∨ k = 7 ∨ k = 8) with q | q | q | q | q | q | q | q | q <;> subst q <;> decide +kernel)
    have erow : rowC u2 (rC u) = (rawC u (mark + m)).2.2 := by
      unfold rowC rawC
      rw [c2, show rC u + (gN u 3 (mark + m)).toNat - rC u = (gN u 3 (mark + m)).toNat by omega]
      exact List.map_congr_left (fun i hi => by rw [c7 i (List.mem_range.mp hi)]; rfl)
    have ehs : hsh (gN u 0 (mark + m), gN u 1 (mark + m), rowC u2 (rC u)) = hsx u (mark + m) := by
      unfold hsx
      rw [erow]; rfl
    rw [ld_nat (by omega), e0, ld_nat (by omega), e1, wp_un, c1, ld_nat (by omega), e3, wp_ar]
    refine ⟨⟨by omega, by omega⟩, ?_⟩
    rw [show (rC u2 : Int) - gN u 3 (mark + m) = (rC u : Int) by omega]
    refine wp_eq (rX2_hash (by omega) c1 c3 c5 (by omega)) ?_
    rw [ehs]
    have hhr := hsh_rng (rawC u (mark + m))
    have hhr : 0 ≤ hsx u (mark + m) ∧ hsx u (mark + m) < 32768 := hhr
    rw [wp_un, c1, ld_nat (by omega), e3, wp_ar]
    refine ⟨⟨by omega, by omega⟩, ?_⟩
    rw [show (rC u2 : Int) - gN u 3 (mark + m) = (rC u : Int) by omega, wp_un, ld_nat (by rw [gL_sI]; omega), gN_sI, e6, wp_stA]
    refine ⟨⟨by omega, by rw [gL_sI]; omega⟩, ?_⟩
    have hv6 : inR (gN u 6 (mark + m)) := w.2.2.2.1 6 _ (by decide)
    have er : rC (sA (sI u2 12 (rC u : Int)) 8 (hsx u (mark + m)) (gN u 6 (mark + m))) = rC u := by
      show (gI (sA (sI u2 12 (rC u : Int)) 8 (hsx u (mark + m)) (gN u 6 (mark + m))) 12).toNat = rC u
      rw [gI_sA, gI_sI, if_pos rfl]; omega
    obtain ⟨b1, b2, b3, b4⟩ := IC_cut (u := u) (u' := sA (sI u2 12 (rC u : Int)) 8 (hsx u (mark + m)) (gN u 6 (mark + m))) (n := mark + m) hI (by omega) hx0 (by rw [gI_sA, gI_sI, if_neg (by decide), g2'.I 9 (by decide +kernel), gI_sI, if_pos rfl]) (by rw [gI_sA, gI_sI, if_neg (by decide), g2'.I 10 (by decide +kernel), gI_sI, if_neg (by decide)])
      (fun k hk => by
        show va_up (sI u2 12 (rC u : Int)).2.1 8 _ k = _
        rw [va_up, if_neg (by omega)]
        exact eA k (by omega))
      (by rw [gL_sA, gL_sI]; exact eL8) (fun j => by
        rw [gN_sA, gN_sI, e8]
        by_cases hj : (j : Int) = hsx u (mark + m)
        · rw [if_pos hj, if_pos ⟨rfl, by omega⟩]
        · rw [if_neg hj, if_neg (fun q => hj (by omega))]) ⟨by rw [gI_sA, gI_sI, if_pos rfl, er], by rw [er, gL_sA, gL_sI]; omega⟩ ⟨by rw [gL_sA, gL_sI]; exact c4, by rw [gL_sA, gL_sI]; exact c5⟩
    refine ih f _ b2 (by omega) (wfA (wfI w2 rfl ⟨by omega, by omega⟩) rfl hv6) b1 (by rw [er]; exact hr) (fun x x0 hx => ?_) xx (fun u' k1 k2 k3 k4 k5 k6 k7 k8 => k u' k1 k2 k3 (by rw [k4, b3]) (fun x => by rw [k5, b4]) (fun x => ?_) (by rw [k7, er]) (fun j hj => ?_))
    · have e := raw_len (sA (sI u2 12 (rC u : Int)) 8 (hsx u (mark + m)) (gN u 6 (mark + m))) x
      rw [b4, raw_len] at e
      rw [← e]; exact hcs x x0 (by omega)
    · rw [k6, gN_sA, if_neg (fun q => by omega), gN_sI]
      show (u2.2.1 2).2 x = (u.2.1 2).2 x
      rw [eA 2 (by omega)]
    · rw [k8 j (by rw [er]; exact hj), gN_sA, if_neg (fun q => by omega), gN_sI, c6 j hj]; rfl
/-- behind the mark nothing is left; before it all is as it was -/
theorem tX2_forget {d : Nat} (hd : 5 ≤ d) {ν : Nat → Nat} {c c' : Nat} {u : Sg} {mark pm : Nat} (hw : WF FC u) (hs : SC ν c u) (hm : 1 ≤ mark) (hmn : mark ≤ nC u) (hpm : pm = pSum u mark) (hr : rC u ≤ 24000) (hn9 : nC u ≤ 90000) (hcs : ∀ x, 0 < x → x < nC u → (ps (trC ν u x)).length ≤ 5000) (hc' : c' ≤ c) (hcc : ∀ x, 0 < x → x < mark → gN u 0 x = 1 → gN u 1 x < (c' : Int)) :
    wp (runC d 99 [(mark : Int), (pm : Int)] u) (fun _ u' => SC ν c' u' ∧ nC u' = mark ∧ pC u' = pm ∧ (∀ x, x < mark → trC ν u' x = trC ν u x) ∧ (∀ x, rawC u' x = rawC u x) ∧ rC u' = rC u ∧ (∀ j, j < rC u → gN u' 11 j = gN u 11 j) ∧ WF FC u' ∧ Gr FC DX2_forget u u') := by
  obtain ⟨⟨q1, q2, q3⟩, ⟨q4, q5⟩, ⟨q6, q7⟩, ⟨l1, l2, l3, l4, l5, l6⟩, l8, l11, l0, l7⟩ := id hs.1.1
  have hmono : ∀ n, n ≤ nC u → pSum u n ≤ pC u := by
    intro n hn
    rw [hs.2.1.1]
    exact pSum_mono u hn
  have hpb := hmono mark hmn
  suffices H : wp (runC d 99 [(mark : Int), (pm : Int)] u) (fun _ u' => SC ν c' u' ∧ nC u' = mark ∧ pC u' = pm ∧ (∀ x, x < mark → trC ν u' x = trC ν u x) ∧ (∀ x, rawC u' x = rawC u x) ∧ rC u' = rC u ∧ (∀ j, j < rC u → gN u' 11 j = gN u 11 j)) by
    refine wp_mono (gX2_forget hw ⟨by omega, by omega⟩ ⟨by omega, by omega⟩ H) (fun r u' ⟨⟨a1, a2, a3, a4, a5, a6, a7⟩, g, w, _⟩ => ⟨a1, a2, a3, a4, a5, a6, a7, w, g⟩)
  obtain ⟨d, rfl⟩ : ∃ d', d = d' + 1 := ⟨d - 1, by omega⟩
  rw [runC_eq (by omega)]
  show wp (bX2_forget (runC d) mark pm u) _
  unfold bX2_forget
  refine forget_L0 (d := d) (by omega) hm (nC u - mark) KF u (by omega) (Nat.lt_of_le_of_lt (by omega : _ ≤ 90000) (by decide)) hw hs.1 hr (fun x x0 hx => ?_) _ (fun u' k1 k2 k3 k4 k5 k6 k7 k8 => ?_)
  · have := (nodeC hs x0 hx).2.2.1
    have := hcs x x0 hx
    omega
  · rw [wp_un, wp_some]
    have hpC : pC (sI u' 10 (pm : Int)) = pm := by unfold pC; rw [gI_sI, if_pos rfl]; omega
    have hnC : nC (sI u' 10 (pm : Int)) = mark := by unfold nC; rw [gI_sI, if_neg (by decide)]; exact k3
    have hrC : rC (sI u' 10 (pm : Int)) = rC u := by rw [← k7]; unfold rC; rw [gI_sI, if_neg (by decide)]
    have hps : ∀ n, pSum (sI u' 10 (pm : Int)) n = pSum u n := fun n => pSum_congr n (fun y _ _ => k5 y)
    obtain ⟨j1, j2, j3, j4, j5⟩ := k2
    obtain ⟨⟨i1, i2, i3⟩, ⟨i4, i5⟩, ⟨i6, i7⟩, ⟨m1, m2, m3, m4, m5, m6⟩, m8, m11, m0, m7⟩ := j1
    have hend : ∀ x, 0 < x → x < mark → (gN u' 2 x).toNat + (gN u' 3 x).toNat ≤ pm := fun x x0 hx => by
      have e1 := hs.2.1.2 x x0 (by omega)
      have e2 : (gN u' 3 x).toNat = (rawC u x).2.2.length := by rw [← raw_len, k5]
      have e3 : pSum u (x + 1) = pSum u x + (rawC u x).2.2.length := by rw [pSum, if_neg (by omega)]
      have := pSum_mono u (show x + 1 ≤ mark by omega)
      rw [k6, e2]; omega
    have hic : IC (sI u' 10 (pm : Int)) := by
      refine ⟨⟨⟨by rw [gI_sI, if_neg (by decide), hnC, i1, k3], by omega, by rw [hnC, gL_sI]; omega⟩, ⟨by rw [gI_sI, if_pos rfl, hpC], by rw [hpC, gL_sI]; omega⟩, ⟨by rw [gI_sI, if_neg (by decide), hrC, i6, k7], by rw [hrC, gL_sI, ← k7]; exact i7⟩, ⟨m1, m2, m3, m4, m5, m6⟩, m8, m11, m0, m7⟩, ⟨fun x x0 hx => ?_, fun i hi => ?_⟩, ⟨fun b hb => ?_, fun x x0 hx => ?_⟩, fun x y x0 hx y0 hy e => ?_, fun x x0 hx => ?_⟩
      · rw [hnC] at hx
        exact ⟨(j2.1 x x0 (by omega)).1, by rw [hpC]; exact hend x x0 hx⟩
      · rw [hpC] at hi
        exact j2.2 i (by omega)
      · rw [hnC, ← k3]; exact j3.1 b hb
      · rw [hnC] at hx; exact j3.2 x x0 (by omega)
      · rw [hnC] at hx hy
        exact j4 x y x0 (by omega) y0 (by omega) e
      · rw [hnC] at hx
        exact j5 x x0 (by omega)
    have hraw : ∀ x, rawC (sI u' 10 (pm : Int)) x = rawC u x := fun x => k5 x
    have hext : Ext (stC ν (sI u' 10 (pm : Int))) (stC ν u) := ⟨by show nC (sI u' 10 (pm : Int)) - 1 ≤ nC u - 1; rw [hnC]; omega, fun x x0 hx => by show labC ν (rawC u x) = labC ν (rawC (sI u' 10 (pm : Int)) x); rw [hraw]⟩
    refine ⟨⟨hic, ⟨by rw [hpC, hnC, hps]; exact hpm, fun x x0 hx => ?_⟩, fun x x0 hx e => ?_, fun i j hi hj => hs.2.2.2 i j (by omega) (by omega)⟩, hnC, hpC, fun x hx => ?_, hraw, hrC, fun j hj => by rw [gN_sI, k8 j hj]⟩
    · rw [hnC] at hx
      rw [gN_sI, k6, hps]; exact hs.2.1.2 x x0 (by omega)
    · rw [hnC] at hx
      have e0 : gN (sI u' 10 (pm : Int)) 0 x = gN u 0 x := congrArg (fun r => r.1) (hraw x)
      have e1 : gN (sI u' 10 (pm : Int)) 1 x = gN u 1 x := congrArg (fun r => r.2.1) (hraw x)
      rw [e1]
      exact hcc x x0 hx (by rw [← e0]; exact e)
    · exact (tr_ext (okp_C hic) (okp_C hs.1) hext x (by show x ≤ nC (sI u' 10 (pm : Int)) - 1; rw [hnC]; omega)).symm
