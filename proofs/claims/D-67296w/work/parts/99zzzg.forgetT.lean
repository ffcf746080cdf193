/-! forms behind a mark are forgotten, in the model -/
/-- what is kept of what is remembered: nodes, and the arrays of the memo -/
def MqT : Type := (Nat → Prop) × ((Nat × (Nat → Int)) → (Nat × (Nat → Int)) → Int → Prop)
section MQ
variable {Mq : MqT}
/-- the marks of what is kept of terms -/
def MaT (Mq : MqT) (u : Sg) : Prop := ((1 ≤ gI u 40 ∧ gI u 40 < 2147483647) ∧ Mq.2 (u.2.1 38) (u.2.1 41) (gI u 42)) ∧ ∀ i, i < gL u 39 → 0 ≤ gN u 39 i ∧ gN u 39 i ≤ gI u 40 ∧ (gN u 39 i = gI u 40 → Mq.1 i)
theorem anew_L22 {d : Nat} : ∀ (m i f : Nat) (u : Sg), WF FT u → i + m = gL u 39 → m < f → (∀ j, j < i → gN u 39 j = 0) → ∀ xx : Sg → Option (Int × Sg), ∀ Q : Int → Sg → Prop, (∀ u', gL u' 39 = gL u 39 → (∀ j, j < gL u' 39 → gN u' 39 j = 0) → wp (xx u') Q) → wp (bX3_anew_L22 (runT d) f (i : Int) u xx) Q := by
  intro m
  induction m with
  | zero =>
    intro i f u hw hi hf h xx Q k
    obtain ⟨f, rfl⟩ : ∃ f', f = f' + 1 := ⟨f - 1, by omega⟩
    rw [bX3_anew_L22, wp_un, if_neg (by omega)]
    exact k u rfl (fun j hj => h j (by omega))
  | succ m ih =>
    intro i f u hw hi hf h xx Q k
    obtain ⟨f, rfl⟩ : ∃ f', f = f' + 1 := ⟨f - 1, by omega⟩
    have hL := hw.2.1 39
    rw [bX3_anew_L22, wp_un, if_pos (by omega), wp_stA]
    refine ⟨⟨by omega, by omega⟩, ?_⟩
    rw [wp_ar]
    refine ⟨⟨by omega, by omega⟩, ?_⟩
    rw [show (i : Int) + 1 = ((i + 1 : Nat) : Int) by omega]
    refine ih (i + 1) f (sA u 39 (i : Int) 0) (wfAT hw rfl ⟨by omega, by omega⟩) (by rw [gL_sA]; omega) (by omega) (fun j hj => ?_) xx Q (fun u' k1 k2 => k u' (by rw [k1, gL_sA]) k2)
    rw [gN_sAn]
    by_cases q : j = i
    · rw [if_pos ⟨rfl, q⟩]
    · rw [if_neg (fun z => q z.2)]; exact h j (by omega)
theorem tX3_anew {d : Nat} (hd : 2 ≤ d) {u : Sg} (hw : WF FT u) (hm : MaT Mq u) : wp (runT (d + 1) 10 [] u) (fun _ u' => WF FT u' ∧ Gr FT DX3_anew u u' ∧ MaT Mq u' ∧ (∀ i, i < gL u' 39 → gN u' 39 i < gI u' 40) ∧ gL u' 39 = gL u 39) := by
  suffices H : wp (runT (d + 1) 10 [] u) (fun _ u' => ((1 ≤ gI u' 40 ∧ gI u' 40 < 2147483647) ∧ ∀ i, i < gL u' 39 → 0 ≤ gN u' 39 i ∧ gN u' 39 i ≤ gI u' 40 ∧ (gN u' 39 i = gI u' 40 → Mq.1 i)) ∧ (∀ i, i < gL u' 39 → gN u' 39 i < gI u' 40) ∧ gL u' 39 = gL u 39) by
    exact wp_mono (gX3_anew hw H) (fun r u' ⟨⟨a, b, c⟩, g, w, _⟩ => ⟨w, g, ⟨⟨a.1, by rw [g.A 38 (by decide +kernel), g.A 41 (by decide +kernel), g.I 42 (by decide +kernel)]; exact hm.1.2⟩, a.2⟩, b, c⟩)
  rw [runT_eq (by omega)]
  show wp (bX3_anew (runT d) u) _
  unfold bX3_anew
  obtain ⟨⟨⟨h1, h2⟩, h0⟩, h3⟩ := hm
  rw [wp_un, wp_ar]
  refine ⟨⟨by omega, by omega⟩, ?_⟩
  have e40 : gI (sI u 40 (gI u 40 + 1)) 40 = gI u 40 + 1 := by rw [gI_sI, if_pos rfl]
  rw [wp_un, wp_un, e40]
  refine wp_ite (fun hlt => ?_) (fun hge => ?_)
  · rw [wp_some]
    refine ⟨⟨⟨by omega, by omega⟩, fun i hi => ?_⟩, fun i hi => ?_, rfl⟩
    · have := h3 i hi
      rw [gN_sI, e40]; exact ⟨by omega, by omega, fun q => by omega⟩
    · have := h3 i hi
      rw [gN_sI, e40]; omega
  · have hL := hw.2.1 39
    refine anew_L22 (gL u 39) 0 KF (sI u 40 (gI u 40 + 1)) (wfIT hw rfl ⟨by omega, by omega⟩) (by rw [gL_sI]; omega) (Nat.lt_of_lt_of_le hL (by decide)) (fun j hj => by omega) _ _ (fun u' k1 k2 => ?_)
    rw [wp_un, wp_some]
    have e1 : gI (sI u' 40 1) 40 = 1 := by rw [gI_sI, if_pos rfl]
    refine ⟨⟨⟨by omega, by omega⟩, fun i hi => ?_⟩, fun i hi => ?_, by rw [gL_sI, k1, gL_sI]⟩
    · rw [gL_sI] at hi
      rw [gN_sI, k2 i hi, e1]; exact ⟨by omega, by omega, fun q => by omega⟩
    · rw [gL_sI] at hi
      rw [gN_sI, k2 i hi, e1]; omega
/-- the last node goes -/
theorem IT_cut {u u' : Sg} {n : Nat} (hI : IT u) (hn : nT u = n + 1) (h8 : gI u' 8 = (n : Int)) (h10 : gI u' 10 = gI u 10) (hA : ∀ k, k ≤ 9 → u'.2.1 k = u.2.1 k) (hL11 : gL u' 11 = gL u 11) (h11 : ∀ j : Nat, gN u' 11 j = if (j : Int) = hsxT u (n + 1) then gN u 6 (n + 1) else gN u 11 j) (h13 : gI u' 13 = gI u 13) (hA12 : u'.2.1 12 = u.2.1 12) : IT u' ∧ nT u' = n ∧ dT u' = dT u ∧ ∀ x, rawT u' x = rawT u x := by
  have hN : ∀ k, k ≤ 9 → ∀ x, gN u' k x = gN u k x := fun k hk x => by show (u'.2.1 k).2 x = (u.2.1 k).2 x; rw [hA k hk]
  have hL : ∀ k, k ≤ 9 → gL u' k = gL u k := fun k hk => by show (u'.2.1 k).1 = (u.2.1 k).1; rw [hA k hk]
  have hL12 : gL u' 12 = gL u 12 := by show (u'.2.1 12).1 = (u.2.1 12).1; rw [hA12]
  have hraw : ∀ x, rawT u' x = rawT u x := fun x => by
    unfold rawT
    rw [hN 1 (by omega), hN 2 (by omega), hN 3 (by omega)]
    congr 1
    exact List.map_congr_left (fun i _ => hN 9 (by omega) _)
  have hnn : nT u' = n := by unfold nT; rw [h8]; omega
  have hp : dT u' = dT u := by unfold dT; rw [h10]
  have hq : hT u' = hT u := by unfold hT; rw [h13]
  have hh : hsxT u' = hsxT u := funext fun z => by unfold hsxT; rw [hraw]
  obtain ⟨h1, h2, h3, h4, h5⟩ := hI
  obtain ⟨⟨q1, q2⟩, ⟨q3, q4⟩, ⟨q5, q6⟩, ⟨l2, l3, l4, l5, l6, l7⟩, l11, l12, l1, l9⟩ := h1
  refine ⟨⟨⟨⟨by rw [h8, hnn], by rw [hnn, hL 1 (by omega)]; omega⟩, ⟨by rw [h10, hp]; exact q3, by rw [hp, hL 9 (by omega)]; exact q4⟩, ⟨by rw [h13, hq]; exact q5, by rw [hq, hL12]; exact q6⟩, ⟨by rw [hL 2 (by omega), hL 1 (by omega)]; exact l2, by rw [hL 3 (by omega), hL 1 (by omega)]; exact l3, by rw [hL 4 (by omega), hL 1 (by omega)]; exact l4, by rw [hL 5 (by omega), hL 1 (by omega)]; exact l5, by rw [hL 6 (by omega), hL 1 (by omega)]; exact l6, by rw [hL 7 (by omega), hL 1 (by omega)]; exact l7⟩, by rw [hL11]; exact l11, by rw [hL12]; exact l12, by rw [hL 1 (by omega)]; exact l1, by rw [hL 9 (by omega)]; exact l9⟩, ⟨fun x x0 hx => ?_, fun i hi => ?_⟩, ⟨fun b hb => ?_, fun x x0 hx => ?_⟩, fun x y x0 hx y0 hy e => ?_, fun x x0 hx => ?_⟩, hnn, hp, hraw⟩
  · rw [hraw, hN 2 (by omega), hN 3 (by omega), hp]
    exact h2.1 x x0 (by omega)
  · rw [hN 9 (by omega)]; exact h2.2 i (by omega)
  · rw [hnn, hh, h11]
    by_cases hb2 : (b : Int) = hsxT u (n + 1)
    · rw [if_pos hb2, hb2]; exact (h3.2 (n + 1) (by omega) (by omega)).1
    · rw [if_neg hb2]
      have := h3.1 b hb
      rw [hn] at this
      exact topOf_cut this (Or.inr (fun e => hb2 e.symm))
  · rw [hh, hN 6 (by omega), hN 7 (by omega)]; exact h3.2 x x0 (by omega)
  · rw [hraw, hraw] at e
    exact h4 x y x0 (by omega) y0 (by omega) e
  · have e4 : gN u' 4 = gN u 4 := funext fun x => hN 4 (by omega) x
    have e5 : gN u' 5 = gN u 5 := funext fun x => hN 5 (by omega) x
    rw [hraw, e4, e5]
    exact h5 x x0 (by omega)
theorem forgetT_L12 {d : Nat} {mark dm : Nat} {Q : Int → Sg → Prop} : ∀ (m f : Nat) (u : Sg), nT u = mark + m → m < f → WF FT u → IT u → ∀ x0, (∀ u', WF FT u' → IT u' → nT u' = mark → dT u' = dT u → (∀ x, rawT u' x = rawT u x) → (∀ k, k ≠ 11 → u'.2.1 k = u.2.1 k) → (∀ k, k ≠ 8 → gI u' k = gI u k) → wp (x0 (dm : Int) u') Q) → wp (bX3_forget_L12 (runT d) f (mark : Int) (dm : Int) u x0) Q := by
  intro m
  induction m with
  | zero =>
    intro f u hn hf w hI xx k
    obtain ⟨f, rfl⟩ : ∃ f', f = f' + 1 := ⟨f - 1, by omega⟩
    have q1 := hI.1.1.1
    rw [bX3_forget_L12, wp_un, if_pos (by omega)]
    exact k u w hI (by omega) rfl (fun _ => rfl) (fun _ _ => rfl) (fun _ _ => rfl)
  | succ m ih =>
    intro f u hn hf w hI xx k
    obtain ⟨f, rfl⟩ : ∃ f', f = f' + 1 := ⟨f - 1, by omega⟩
    obtain ⟨⟨q1, q2⟩, ⟨q3, q4⟩, ⟨q5, q6⟩, ⟨l2, l3, l4, l5, l6, l7⟩, l11, l12, l1, l9⟩ := id hI.1
    have h8 : gI u 8 = ((mark + m + 1 : Nat) : Int) := by omega
    have h3 := hI.2.2.1.2 (mark + m + 1) (by omega) (by omega)
    have hr : 0 ≤ hsxT u (mark + m + 1) ∧ hsxT u (mark + m + 1) < 8192 := hshT_rng _
    have hv6 : inR (gN u 6 (mark + m + 1)) := w.2.2.2.1 6 _ (by decide)
    rw [bX3_forget_L12, wp_un, if_neg (by omega), wp_un, h8, ld_nat (by omega), wp_un, ld_nat (by omega), h3.2, wp_stA]
    refine ⟨⟨by omega, by omega⟩, ?_⟩
    rw [wp_un, gI_sA, h8, wp_ar]
    refine ⟨⟨by omega, by omega⟩, ?_⟩
    rw [wp_un, show ((mark + m + 1 : Nat) : Int) - 1 = ((mark + m : Nat) : Int) by omega]
    generalize es : sI (sA u 11 (hsxT u (mark + m + 1)) (gN u 6 (mark + m + 1))) 8 ((mark + m : Nat) : Int) = s
    have wS : WF FT s := by rw [← es]; exact wfIT (wfAT w rfl hv6) rfl ⟨by omega, by omega⟩
    have eI : ∀ k, k ≠ 8 → gI s k = gI u k := fun k hk => by rw [← es, gI_sI, if_neg hk, gI_sA]
    have eA : ∀ k, k ≠ 11 → s.2.1 k = u.2.1 k := fun k hk => by
      rw [← es]
      show va_up u.2.1 11 _ k = _
      rw [va_up, if_neg hk]
    obtain ⟨b1, b2, b3, b4⟩ := IT_cut (u := u) (u' := s) (n := mark + m) hI (by omega) (by rw [← es, gI_sI, if_pos rfl]) (eI 10 (by omega)) (fun k hk => eA k (by omega)) (by rw [← es, gL_sI, gL_sA]) (fun j => by
        rw [← es, gN_sI, gN_sA]
        by_cases hj : (j : Int) = hsxT u (mark + m + 1)
        · rw [if_pos hj, if_pos ⟨rfl, by omega⟩]
        · rw [if_neg hj, if_neg (fun q => hj (by omega))]) (eI 13 (by omega)) (eA 12 (by omega))
    refine ih f s (by omega) (by omega) wS b1 xx (fun u' k1 k2 k3 k4 k5 k6 k7 => k u' k1 k2 k3 (by rw [k4, b3]) (fun x => by rw [k5, b4]) (fun j hj => by rw [k6 j hj, eA j hj]) (fun j hj => by rw [k7 j hj, eI j hj]))
theorem dSum_mono (σ : Sg) {n m : Nat} (h : n ≤ m) : dSum σ n ≤ dSum σ m := by
  induction m with
  | zero => rw [show n = 0 by omega]; exact Nat.le_refl _
  | succ m ih =>
    by_cases hn : n = m + 1
    · rw [hn]; exact Nat.le_refl _
    · have := ih (by omega)
      have e : dSum σ (m + 1) = dSum σ m + (rawT σ (m + 1)).2.length := rfl
      omega
theorem forgetT_core {d : Nat} {ν : Nat → Nat} {c c' : Nat} {u : Sg} {mark dm : Nat} (hw : WF FT u) (hs : ST ν c u) (hmn : mark ≤ nT u) (hdm : dm = dSum u mark) (hc' : c' ≤ c) (hcc : ∀ x, 0 < x → x ≤ mark → gN u 1 x = 2 → hd0 (rawT u x).2 < c') :
    wp (bX3_forget_L12 (runT d) KF (mark : Int) (dm : Int) u (fun v4 s3 => un (sI s3 10 v4) fun s5 => some (0, s5))) (fun _ u' => ST ν c' u' ∧ nT u' = mark ∧ dT u' = dm ∧ (∀ x, x ≤ mark → trT ν u' x = trT ν u x) ∧ (∀ x, rawT u' x = rawT u x) ∧ (∀ k, k ≠ 11 → u'.2.1 k = u.2.1 k) ∧ ∀ k, k ≠ 8 → k ≠ 10 → gI u' k = gI u k) := by
  have hb := hs.1.1.2.2.2.2.2.2.1
  have hnb := hs.1.1.1.2
  have hdb : dSum u mark ≤ dT u := by rw [hs.2.1.1]; exact dSum_mono u hmn
  have hd9 := hs.1.1.2.1.2
  refine forgetT_L12 (nT u - mark) KF u (by omega) (Nat.lt_of_le_of_lt (by omega : _ ≤ 300000) KF_300) hw hs.1 _ (fun u' k1 k2 k3 k4 k5 k6 k7 => ?_)
  rw [wp_un, wp_some]
  have hdT : dT (sI u' 10 (dm : Int)) = dm := by unfold dT; rw [gI_sI, if_pos rfl]; omega
  have hnT : nT (sI u' 10 (dm : Int)) = mark := by unfold nT; rw [gI_sI, if_neg (by decide)]; exact k3
  have hps : ∀ n, dSum (sI u' 10 (dm : Int)) n = dSum u n := fun n => dSum_congr n (fun y _ _ => k5 y)
  have hraw : ∀ x, rawT (sI u' 10 (dm : Int)) x = rawT u x := fun x => k5 x
  have N2 : ∀ x, gN u' 2 x = gN u 2 x := fun x => by show (u'.2.1 2).2 x = (u.2.1 2).2 x; rw [k6 2 (by omega)]
  have N3 : ∀ x, gN u' 3 x = gN u 3 x := fun x => by show (u'.2.1 3).2 x = (u.2.1 3).2 x; rw [k6 3 (by omega)]
  have N1 : ∀ x, gN u' 1 x = gN u 1 x := fun x => by show (u'.2.1 1).2 x = (u.2.1 1).2 x; rw [k6 1 (by omega)]
  obtain ⟨j1, j2, j3, j4, j5⟩ := k2
  obtain ⟨⟨i1, i2⟩, ⟨i3, i4⟩, ⟨i5, i6⟩, m2, m11, m12, m1, m9⟩ := j1
  have hend : ∀ x, 0 < x → x ≤ mark → (gN u' 2 x).toNat + (gN u' 3 x).toNat ≤ dm := fun x x0 hx => by
    have e1 := hs.2.1.2 x x0 (by omega)
    have e2 : (gN u 3 x).toNat = (rawT u x).2.length := by unfold rawT; simp
    obtain ⟨y, rfl⟩ : ∃ y, x = y + 1 := ⟨x - 1, by omega⟩
    have e3 : dSum u (y + 1) = dSum u y + (rawT u (y + 1)).2.length := rfl
    have := dSum_mono u hx
    rw [N2, N3, e1, e2, Nat.add_sub_cancel]
    omega
  have hit : IT (sI u' 10 (dm : Int)) := by
    refine ⟨⟨⟨by rw [gI_sI, if_neg (by decide), hnT, i1, k3], by rw [hnT, gL_sI]; omega⟩, ⟨by rw [gI_sI, if_pos rfl, hdT], by rw [hdT, gL_sI]; omega⟩, ⟨i5, i6⟩, m2, m11, m12, m1, m9⟩, ⟨fun x x0 hx => ?_, fun i hi => ?_⟩, ⟨fun b hb => ?_, fun x x0 hx => ?_⟩, fun x y x0 hx y0 hy e => ?_, fun x x0 hx => ?_⟩
    · rw [hnT] at hx
      obtain ⟨a1, a2, a3⟩ := j2.1 x x0 (by omega)
      exact ⟨a1, a2, by rw [hdT]; exact hend x x0 hx⟩
    · rw [hdT] at hi
      exact j2.2 i (by omega)
    · rw [hnT, ← k3]; exact j3.1 b hb
    · rw [hnT] at hx; exact j3.2 x x0 (by omega)
    · rw [hnT] at hx hy
      exact j4 x y x0 (by omega) y0 (by omega) e
    · rw [hnT] at hx
      exact j5 x x0 (by omega)
  have hext : Ext (stT ν (sI u' 10 (dm : Int))) (stT ν u) := ⟨by show nT (sI u' 10 (dm : Int)) ≤ nT u; rw [hnT]; omega, fun x x0 hx => by show labT ν (rawT u x) = labT ν (rawT (sI u' 10 (dm : Int)) x); rw [hraw]⟩
  refine ⟨⟨hit, ⟨by rw [hdT, hnT, hps]; exact hdm, fun x x0 hx => ?_⟩, fun x x0 hx e => ?_, fun i j hi hi' hj hj' => hs.2.2.2 i j hi (by omega) hj (by omega)⟩, hnT, hdT, fun x hx => ?_, hraw, fun k hk => k6 k hk, fun k hk hk' => by rw [gI_sI, if_neg hk', k7 k hk]⟩
  · rw [hnT] at hx
    rw [gN_sI, N2, hps]; exact hs.2.1.2 x x0 (by omega)
  · rw [hnT] at hx
    rw [hraw]
    exact hcc x x0 hx (by rw [← N1]; exact e)
  · exact (tr_ext (okp_T hit) (okp_T hs.1) hext x (by show x ≤ nT (sI u' 10 (dm : Int)); rw [hnT]; exact hx)).symm
/-- behind the mark nothing is left; before it all is as it was -/
theorem tX3_forget {d : Nat} (hd : 4 ≤ d) {ν : Nat → Nat} {c c' : Nat} {u : Sg} {mark dm : Nat} (hw : WF FT u) (hs : ST ν c u) (hmn : mark ≤ nT u) (hdm : dm = dSum u mark) (hm : MaT Mq u) (hc' : c' ≤ c) (hcc : ∀ x, 0 < x → x ≤ mark → gN u 1 x = 2 → hd0 (rawT u x).2 < c') :
    wp (runT d 110 [(mark : Int), (dm : Int)] u) (fun _ u' => ST ν c' u' ∧ nT u' = mark ∧ dT u' = dm ∧ (∀ x, x ≤ mark → trT ν u' x = trT ν u x) ∧ (∀ x, rawT u' x = rawT u x) ∧ (∀ k, k ≠ 11 → k ≠ 39 → k ≠ 40 → u'.2.1 k = u.2.1 k) ∧ (∀ k, k ≠ 8 → k ≠ 10 → k ≠ 39 → k ≠ 40 → gI u' k = gI u k) ∧ MaT Mq u' ∧ (mark < nT u → ∀ i, i < gL u' 39 → gN u' 39 i < gI u' 40) ∧ WF FT u' ∧ Gr FT DX3_forget u u') := by
  have hnb := hs.1.1.1.2
  have hb := hs.1.1.2.2.2.2.2.2.1
  have hdb : dSum u mark ≤ dT u := by rw [hs.2.1.1]; exact dSum_mono u hmn
  have hd9 := hs.1.1.2.1.2
  have hb9 := hs.1.1.2.2.2.2.2.2.2
  suffices H : wp (runT d 110 [(mark : Int), (dm : Int)] u) (fun _ u' => ST ν c' u' ∧ nT u' = mark ∧ dT u' = dm ∧ (∀ x, x ≤ mark → trT ν u' x = trT ν u x) ∧ (∀ x, rawT u' x = rawT u x) ∧ (∀ k, k ≠ 11 → k ≠ 39 → k ≠ 40 → u'.2.1 k = u.2.1 k) ∧ (∀ k, k ≠ 8 → k ≠ 10 → k ≠ 39 → k ≠ 40 → gI u' k = gI u k) ∧ MaT Mq u' ∧ (mark < nT u → ∀ i, i < gL u' 39 → gN u' 39 i < gI u' 40)) by
    exact wp_mono (gX3_forget hw ⟨by omega, by omega⟩ ⟨by omega, by omega⟩ H) (fun r u' ⟨⟨a1, a2, a3, a4, a5, a6, a7, a8, a9⟩, g, w, _⟩ => ⟨a1, a2, a3, a4, a5, a6, a7, a8, a9, w, g⟩)
  obtain ⟨d, rfl⟩ : ∃ d', d = d' + 2 := ⟨d - 2, by omega⟩
  rw [runT_eq (by omega)]
  show wp (bX3_forget (runT (d + 1)) mark dm u) _
  unfold bX3_forget
  rw [wp_jn]
  have q8 : gI u 8 = (nT u : Int) := hs.1.1.1.1
  rw [wp_un, q8]
  refine wp_ite (fun hle => ?_) (fun hgt => ?_)
  · refine wp_mono (forgetT_core (d := d + 1) hw hs hmn hdm hc' hcc) (fun r u' ⟨a1, a2, a3, a4, a5, a6, a7⟩ => ⟨a1, a2, a3, a4, a5, fun k h _ _ => a6 k h, fun k h h' _ _ => a7 k h h', ?_, fun q => by omega⟩)
    have e39 : u'.2.1 39 = u.2.1 39 := a6 39 (by omega)
    refine ⟨⟨by rw [a7 40 (by omega) (by omega)]; exact hm.1.1, by rw [a6 38 (by omega), a6 41 (by omega), a7 42 (by omega) (by omega)]; exact hm.1.2⟩, fun i hi => ?_⟩
    have eL : gL u' 39 = gL u 39 := by show (u'.2.1 39).1 = (u.2.1 39).1; rw [e39]
    have eN : gN u' 39 i = gN u 39 i := by show (u'.2.1 39).2 i = (u.2.1 39).2 i; rw [e39]
    rw [eN, a7 40 (by omega) (by omega)]
    exact hm.2 i (by omega)
  · refine wp_call (tX3_anew (d := d) (by omega) hw hm) (fun r s ⟨w, g, m1, m2, m3⟩ => ?_)
    have eH : EqH u s := g.eqH (by decide +kernel)
    have sN : ∀ k, k ≠ 39 → k ≠ 40 → s.2.1 k = u.2.1 k := fun k h1 h2 => g.A k (by
      by_cases hk : k ≤ 40
      · exact (by decide +kernel : ∀ k, k ≤ 40 → k ≠ 39 → k ≠ 40 → Nat.testBit DX3_anew k = false) k hk h1 h2
      · exact Nat.testBit_lt_two_pow (Nat.lt_of_lt_of_le (by decide +kernel : DX3_anew < 2 ^ 41) (Nat.pow_le_pow_right (by decide) (by omega))))
    have sI' : ∀ k, k ≠ 39 → k ≠ 40 → gI s k = gI u k := fun k h1 h2 => g.I k (by
      by_cases hk : k ≤ 40
      · exact (by decide +kernel : ∀ k, k ≤ 40 → k ≠ 39 → k ≠ 40 → Nat.testBit DX3_anew k = false) k hk h1 h2
      · exact Nat.testBit_lt_two_pow (Nat.lt_of_lt_of_le (by decide +kernel : DX3_anew < 2 ^ 41) (Nat.pow_le_pow_right (by decide) (by omega))))
    have hs1 : ST ν c s := eH.st hs
    have r1 : ∀ x, rawT s x = rawT u x := fun x => eH.1.raw x
    have n1 : nT s = nT u := eH.1.n
    have t1 : ∀ x, trT ν s x = trT ν u x := fun x => eH.1.tr
    have d1 : dSum s mark = dSum u mark := dSum_congr mark (fun y _ _ => r1 y)
    show wp (bX3_forget_L12 (runT (d + 1)) KF (mark : Int) (dm : Int) s _) _
    refine wp_mono (forgetT_core (d := d + 1) (c' := c') w hs1 (by omega) (by rw [d1]; exact hdm) hc' (fun x x0 hx e => by rw [r1]; exact hcc x x0 hx (by rw [← e]; show gN u 1 x = gN s 1 x; show (u.2.1 1).2 x = (s.2.1 1).2 x; rw [sN 1 (by omega) (by omega)]))) (fun r u' ⟨a1, a2, a3, a4, a5, a6, a7⟩ => ⟨a1, a2, a3, fun x hx => by rw [a4 x hx, t1], fun x => by rw [a5, r1], fun k h1 h2 h3 => by rw [a6 k h1]; exact sN k h2 h3, fun k h1 h2 h3 h4 => by rw [a7 k h1 h2]; exact sI' k h3 h4, ?_, fun _ i hi => ?_⟩)
    · have e39 : u'.2.1 39 = s.2.1 39 := a6 39 (by omega)
      refine ⟨⟨by rw [a7 40 (by omega) (by omega)]; exact m1.1.1, by rw [a6 38 (by omega), a6 41 (by omega), a7 42 (by omega) (by omega)]; exact m1.1.2⟩, fun i hi => ?_⟩
      have eL : gL u' 39 = gL s 39 := by show (u'.2.1 39).1 = (s.2.1 39).1; rw [e39]
      have eN : gN u' 39 i = gN s 39 i := by show (u'.2.1 39).2 i = (s.2.1 39).2 i; rw [e39]
      rw [eN, a7 40 (by omega) (by omega)]
      exact m1.2 i (by omega)
    · have e39 : u'.2.1 39 = s.2.1 39 := a6 39 (by omega)
      have eL : gL u' 39 = gL s 39 := by show (u'.2.1 39).1 = (s.2.1 39).1; rw [e39]
      have eN : gN u' 39 i = gN s 39 i := by show (u'.2.1 39).2 i = (s.2.1 39).2 i; rw [e39]
      rw [eN, a7 40 (by omega) (by omega)]
      exact m2 i (by omega)
end MQ
