/-! back to where it was: the model forgets -/
section MQ
variable {Mq : MqT}
theorem inT.cut2 {ν ν' : Nat → Nat} {c' : Nat} {u s w : Sg} {v0 v : Int} {t : Nat} (h0 : inT ν u v0 t) (hs' : ST ν' c' s) (hn : nT u ≤ nT s) (ht : ∀ x, x ≤ nT u → trT ν' s x = trT ν u x) (h : inT ν' s v t) (hw : nT w = nT u) (hwt : ∀ x, x ≤ nT u → trT ν w x = trT ν u x) : inT ν w v t := by
  obtain ⟨y0, _, a2, a3⟩ := h0
  obtain ⟨y, b1, b2, b3⟩ := h
  have e : y = y0 := trT_inj hs' b2 (by omega) (by rw [b3, ht y0 a2, a3])
  exact ⟨y, b1, by omega, by rw [hwt y (by omega), e]; exact a3⟩
theorem cst_lt {ν ν' : Nat → Nat} {c c' : Nat} {u s : Sg} (hs : ST ν c u) (hs' : ST ν' c' s) (h2 : 2 ≤ c) (hn : nT u ≤ nT s) (ht : ∀ x, x ≤ nT u → trT ν' s x = trT ν u x) (hN : NuX ν c ν' c') : ∀ x, 0 < x → x ≤ nT u → gN s 1 x = 2 → hd0 (rawT s x).2 < c := by
  intro x x0 hx k
  have hx' : x ≤ nT s := by omega
  have e1 := trT_eq (ν := ν') hs'.1 x0 hx'
  have e2 := trT_eq (ν := ν) hs.1 x0 hx
  have r1 : (rawT s x).1 = 2 := k
  by_cases q : hd0 (rawT s x).2 < 2
  · omega
  · have l1 : labT ν' (rawT s x) = (1, ν' (hd0 (rawT s x).2), []) := by
      unfold labT
      rw [if_neg (by omega), if_pos r1, if_neg q]
    have k1 : kd (trT ν' s x) = 1 := by rw [e1, l1, kd_mk]
    have w1 : wh (trT ν' s x) = ν' (hd0 (rawT s x).2) := by rw [e1, l1, wh_mk]
    rw [ht x hx] at k1 w1
    have ku : gN u 1 x = 2 := by rw [(nodeT hs x0 hx).1, k1]; rfl
    have r2 : (rawT u x).1 = 2 := ku
    have q2 : ¬ hd0 (rawT u x).2 < 2 := fun q2 => by
      have l2 : labT ν (rawT u x) = (3, hd0 (rawT u x).2, []) := by
        unfold labT
        rw [if_neg (by omega), if_pos r2, if_pos q2]
      rw [e2, l2, kd_mk] at k1
      omega
    have l2 : labT ν (rawT u x) = (1, ν (hd0 (rawT u x).2), []) := by
      unfold labT
      rw [if_neg (by omega), if_pos r2, if_neg q2]
    have w2 : wh (trT ν u x) = ν (hd0 (rawT u x).2) := by rw [e2, l2, wh_mk]
    have j2 := hs.2.2.1 x x0 hx ku
    have i2 := hs'.2.2.1 x x0 hx' k
    have : hd0 (rawT s x).2 = hd0 (rawT u x).2 := hs'.2.2.2 _ _ (by omega) i2 (by omega) (Nat.lt_of_lt_of_le j2 hN.1) (by rw [← w1, w2, hN.2 _ j2])
    omega
def Dbk : Nat := DX3_forget ||| 2 ^ 19
/-- what is so when the model has forgotten -/
def BkQ (Mq : MqT) (W : Wd) (ν : Nat → Nat) (c : Nat) (u s v : Sg) : Prop := TW ν c W v ∧ WF FT v ∧ (nT v = nT u ∧ dT v = dT u ∧ (∀ x, x ≤ nT u → trT ν v x = trT ν u x) ∧ hT v = hT s) ∧ MaT Mq v ∧ (∀ k, k ≠ 11 → k ≠ 39 → k ≠ 40 → gL v k = gL s k ∧ ∀ i, gN v k i = gN s k i) ∧ (∀ k, k ≠ 8 → k ≠ 10 → k ≠ 19 → k ≠ 39 → k ≠ 40 → gI v k = gI s k) ∧ Gr FT Dbk s v
theorem tX3_back {d : Nat} (hd : 4 ≤ d) {W : Wd} {ν ν' : Nat → Nat} {c c' : Nat} {u s : Sg} {K : Sg → Option (Int × Sg)} {Q : Int → Sg → Prop} (h0 : TW ν c W u) (h1 : TW ν' c' W s) (hw : WF FT s) (hn : nT u ≤ nT s) (ht : ∀ x, x ≤ nT u → trT ν' s x = trT ν u x) (hN : NuX ν c ν' c') (hm : MaT Mq s) (hK : ∀ v, BkQ Mq W ν c u s v → wp (K v) Q) : wp (cl (runT d 110 [(nT u : Int), (dT u : Int)] s) fun _ s5 => un (sI s5 19 (c : Int)) fun s6 => K s6) Q := by
  have hs := h0.1
  have hs' := h1.1
  have hsn : ST ν' c' u := nuT_st hs hN hs'.2.2.2
  have hdm : dT u = dSum s (nT u) := by
    rw [hs.2.1.1]
    exact (dSum_tr hsn hs' (Nat.le_refl _) hn (fun x hx => by rw [ht x hx, nuT_tr hs hN hx])).symm
  refine wp_call (tX3_forget (c' := c) hd hw hs' hn hdm hm hN.1 (cst_lt hs hs' h0.2.2.1.2.1 hn ht hN)) (fun r s5 ⟨a1, a2, a3, a4, a5, a6, a7, a8, a9, a10, a11⟩ => ?_)
  rw [wp_un]
  have hNr : NuX ν' c ν c := ⟨Nat.le_refl _, fun i hi => (hN.2 i hi).symm⟩
  have hss : ST ν c s5 := nuT_st a1 hNr hs.2.2.2
  have hts : ∀ x, x ≤ nT u → trT ν s5 x = trT ν u x := fun x hx => by rw [nuT_tr a1 hNr (by rw [a2]; exact hx), a4 x hx, ht x hx]
  have hcb : c ≤ gL s 18 := Nat.le_trans hN.1 h1.2.2.1.2.2.1
  have hc31 := hw.2.1 18
  have wv : WF FT (sI s5 19 (c : Int)) := wfIT a10 rfl ⟨by omega, by omega⟩
  have ev : EqH s5 (sI s5 19 (c : Int)) := EqH.sI (by omega)
  have gv : Gr FT Dbk s (sI s5 19 (c : Int)) := (a11.sub (by decide +kernel)).tr (Gr_sI (by decide +kernel))
  have i19 : gI (sI s5 19 (c : Int)) 19 = (c : Int) := rfl
  have arr : ∀ k, k ≠ 11 → k ≠ 39 → k ≠ 40 → gL (sI s5 19 (c : Int)) k = gL s k ∧ ∀ i, gN (sI s5 19 (c : Int)) k i = gN s k i := fun k p1 p2 p3 => by
    have := a6 k p1 p2 p3
    exact ⟨by show (s5.2.1 k).1 = (s.2.1 k).1; rw [this], fun i => by show (s5.2.1 k).2 i = (s.2.1 k).2 i; rw [this]⟩
  have fld : ∀ k, k ≠ 8 → k ≠ 10 → k ≠ 19 → k ≠ 39 → k ≠ 40 → gI (sI s5 19 (c : Int)) k = gI s k := fun k p1 p2 p3 p4 p5 => by
    rw [gI_sI, if_neg p3]
    exact a7 k p1 p2 p4 p5
  have hMa : MaT Mq (sI s5 19 (c : Int)) := a8
  have hnv : nT (sI s5 19 (c : Int)) = nT u := by rw [ev.1.n]; exact a2
  have hdv : dT (sI s5 19 (c : Int)) = dT u := by show dT s5 = _; exact a3
  have htv : ∀ x, x ≤ nT u → trT ν (sI s5 19 (c : Int)) x = trT ν u x := fun x hx => by rw [ev.1.tr]; exact hts x hx
  have hsv : ST ν c (sI s5 19 (c : Int)) := ev.st hss
  have hhv : hT (sI s5 19 (c : Int)) = hT s := by
    show (gI s5 13).toNat = (gI s 13).toNat
    rw [a7 13 (by omega) (by omega) (by omega) (by omega)]
  refine hK _ ?_
  generalize sI s5 19 (c : Int) = v at *
  have ct : ∀ {v0 v1 : Int} {t : Nat}, inT ν u v0 t → inT ν' s v1 t → inT ν v v1 t := fun q1 q2 => q1.cut2 hs' hn ht q2 hnv htv
  have A := fun k (hk : 14 ≤ k ∧ k ≤ 37) => arr k (by omega) (by omega) (by omega)
  have I := fun k (hk : 20 ≤ k ∧ k ≤ 37) => fld k (by omega) (by omega) (by omega) (by omega) (by omega)
  refine ⟨?_, wv, ⟨hnv, hdv, htv, hhv⟩, hMa, arr, fld, gv⟩
  obtain ⟨_, _, ⟨c1, c0, c2, c3⟩, ⟨m1, m2, m3, m4, m5, m6⟩, ⟨f1, f2, f3, f4, f5⟩, ⟨⟨p1, p2, p3, p4⟩, p5, p6⟩, ⟨g1, g2, g3, g8⟩⟩ := h0
  obtain ⟨_, ⟨hy1, hy2⟩, ⟨c1', c0', c2', c3'⟩, ⟨m1', m2', m3', m4', m5', m6'⟩, ⟨f1', f2', f3', f4', f5'⟩, ⟨⟨p1', p2', p3', p4'⟩, p5', p6'⟩, ⟨g1', g2', g3', g8'⟩⟩ := h1
  refine ⟨hsv, ⟨by rw [(A 14 (by omega)).1]; exact hy1, by rw [(A 15 (by omega)).1]; exact hy2⟩, ⟨i19, c0, by rw [(A 18 (by omega)).1]; exact hcb, fun i h2 hi => ?_⟩, ⟨by rw [I 27 (by omega)]; exact m1', m2', by rw [(A 25 (by omega)).1]; exact m3', by rw [(A 26 (by omega)).1]; exact m4', by rw [(A 26 (by omega)).2]; exact m5', fun i h1 h2 => ?_⟩, ⟨by rw [I 22 (by omega)]; exact f1', f2', by rw [(A 20 (by omega)).1]; exact f3', by rw [(A 21 (by omega)).1]; exact f4', fun i hi => ?_⟩, ⟨⟨by rw [I 24 (by omega)]; exact p1', p2', by rw [(A 23 (by omega)).1]; exact p3', fun i hi => by rw [(A 23 (by omega)).2]; exact p4' i hi⟩, by rw [I 28 (by omega)]; exact p5', p6'⟩, ⟨by rw [I 37 (by omega)]; exact g1', g2', fun k q1 q2 => by rw [(A k (by omega)).1]; exact g3' k q1 q2, fun i hi => ?_⟩⟩
  · rw [(A 18 (by omega)).2]
    have := c3' i h2 (Nat.lt_of_lt_of_le hi hN.1)
    rw [hN.2 i hi] at this
    exact ct (c3 i h2 hi) this
  · rw [(A 25 (by omega)).2, (A 26 (by omega)).2]
    exact ⟨ct (m6 i h1 h2).1 (m6' i h1 h2).1, (m6' i h1 h2).2⟩
  · rw [(A 20 (by omega)).2, (A 21 (by omega)).2]
    exact ⟨(f5' i hi).1, ct (f5 i hi).2 (f5' i hi).2⟩
  · rw [(A 29 (by omega)).2, (A 30 (by omega)).2, (A 31 (by omega)).2, (A 32 (by omega)).2, (A 33 (by omega)).2, (A 34 (by omega)).2, (A 35 (by omega)).2, (A 36 (by omega)).2]
    obtain ⟨z1, z2, z3, z4, z5⟩ := g8 i hi
    obtain ⟨z1', z2', z3', z4', z5'⟩ := g8' i hi
    exact ⟨z1', fun q => ⟨ct (z2 q).1 (z2' q).1, ct (z2 q).2 (z2' q).2⟩, fun q => ⟨(z3' q).1, ct (z3 q).2.1 (z3' q).2.1, ct (z3 q).2.2 (z3' q).2.2⟩, z4', fun q => ct (z5 q) (z5' q)⟩
end MQ
