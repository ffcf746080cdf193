/-! a case is forgotten -/
theorem ArrC.fr {D : Nat} {u u' : Sg} (h : ArrC u) (g : Gr FC D u u') (hb : ∀ k, (k = 34 ∨ (36 ≤ k ∧ k ≤ 42) ∨ (46 ≤ k ∧ k ≤ 50) ∨ k = 53 ∨ k = 55 ∨ k = 85) → D.testBit k = false) : ArrC u' := by
  obtain ⟨⟨a1, a2⟩, ⟨b1, b2, b3, b4⟩, c1, ⟨d1, d2, d3, d4⟩, ⟨e1, e2, e3⟩, hK, hT, f1, f2⟩ := h
  have L : ∀ k, (k = 34 ∨ (36 ≤ k ∧ k ≤ 42) ∨ (46 ≤ k ∧ k ≤ 50) ∨ k = 53 ∨ k = 55 ∨ k = 85) → gL u' k = gL u k := fun k hk => g.Ln k (hb k hk)
  refine ⟨⟨by rw [L 40 (by omega)]; exact a1, by rw [L 41 (by omega)]; exact a2⟩, ⟨by rw [L 39 (by omega), L 42 (by omega)]; exact b1, by rw [L 37 (by omega), L 42 (by omega)]; exact b2, by rw [L 38 (by omega), L 42 (by omega)]; exact b3, by rw [L 42 (by omega)]; exact b4⟩, fun k hk i hi => ?_, ⟨by rw [L 47 (by omega), L 46 (by omega)]; exact d1, by rw [L 48 (by omega), L 46 (by omega)]; exact d2, by rw [L 46 (by omega)]; exact d3, by rw [L 46 (by omega)]; exact d4⟩, ⟨by rw [L 50 (by omega), L 49 (by omega)]; exact e1, by rw [L 49 (by omega)]; exact e2, by rw [L 49 (by omega)]; exact e3⟩, by unfold KnL; rw [L 34 (by omega)]; exact hK, by unfold CtL; rw [L 85 (by omega)]; exact hT, by rw [L 53 (by omega)]; exact f1, by rw [L 55 (by omega)]; exact f2⟩
  rw [g.N k (hb k (by omega)), g.I 36 (hb 36 (by omega))]
  exact c1 k hk i (by rw [L k (by omega)] at hi; exact hi)
theorem pSum_len {σ σ' : Sg} : ∀ (n : Nat), (∀ y, 0 < y → y < n → (rawC σ' y).2.2.length = (rawC σ y).2.2.length) → pSum σ' n = pSum σ n
  | 0, _ => rfl
  | n + 1, h => by
    rw [pSum, pSum, pSum_len n (fun y y0 hy => h y y0 (by omega))]
    by_cases hn : n = 0
    · simp [hn]
    · rw [if_neg hn, if_neg hn, h n (by omega) (by omega)]
theorem inC.cut2 {ν ν' : Nat → Nat} {c' : Nat} {u u' w : Sg} {v0 v : Int} {t : Nat} (h0 : inC ν u v0 t) (hs' : SC ν' c' u') (hn : nC u ≤ nC u') (ht : ∀ x, x < nC u → trC ν' u' x = trC ν u x) (h : inC ν' u' v t) (hw : nC w = nC u) (hwt : ∀ x, x < nC u → trC ν w x = trC ν u x) : inC ν w v t := by
  obtain ⟨y0, _, a2, a3⟩ := h0
  obtain ⟨y, b1, b2, b3⟩ := h
  have e : y = y0 := trC_inj hs' b2 (by omega) (by rw [b3, ht y0 a2, a3])
  exact ⟨y, b1, by omega, by rw [hwt y (by omega), e]; exact a3⟩
def Dfo : Nat := DX2_forget ||| (2 ^ 33 + 2 ^ 86)
theorem tX1_forget {d : Nat} (hd : 7 ≤ d) {W : Wd} {ν ν' : Nat → Nat} {c c' : Nat} {u u' : Sg} (h0 : CW ν c W u) (h1 : CW ν' c' W u') (hw : WF FC u') (hn : nC u ≤ nC u') (ht : ∀ x, x < nC u → trC ν' u' x = trC ν u x) (hN : NuX ν c ν' c') (h5 : ∀ t, ndC ν u t → P5 t) (h5' : ∀ t, ndC ν' u' t → ndC ν u t ∨ P5 t) (hr : rC u' ≤ 24000) (hn9 : nC u' ≤ 90000) (h33 : gI u' 33 ≤ 1000000) (h33' : 0 ≤ gI u' 33) : wp (runC d 79 [(nC u : Int), (pC u : Int), (c : Int)] u') (fun _ v => CW ν c W v ∧ WF FC v ∧ nC v = nC u ∧ pC v = pC u ∧ (∀ x, x < nC u → trC ν v x = trC ν u x) ∧ rC v = rC u' ∧ (∀ j, j < rC u' → gN v 11 j = gN u' 11 j) ∧ Gr FC Dfo u' v ∧ gI v 33 = gI u' 33 + 1) := by
  obtain ⟨d, rfl⟩ : ∃ d', d = d' + 1 := ⟨d - 1, by omega⟩
  rw [runC_eq (by omega)]
  show wp (bX1_forget (runC d) (nC u : Int) (pC u : Int) (c : Int) u') _
  unfold bX1_forget
  have hs := h0.1
  have hs' := h1.1
  have hm1 := hs.1.1.1.2.1
  have hpm : pC u = pSum u' (nC u) := by
    rw [hs.2.1.1]
    refine (pSum_len (nC u) (fun y y0 hy => ?_)).symm
    have a := (nodeC hs y0 hy).2.2.1
    have b := (nodeC hs' y0 (by omega)).2.2.1
    rw [ht y hy] at b
    have ea : (rawC u y).2.2.length = (gN u 3 y).toNat := raw_len u y
    have eb : (rawC u' y).2.2.length = (gN u' 3 y).toNat := raw_len u' y
    rw [ea, eb, a, b]
  refine wp_call (tX2_forget (c' := c) (by omega) hw hs' hm1 hn hpm hr hn9 (fun x x0 hx => (h5' _ ⟨x, x0, hx, rfl⟩).elim (h5 _) id) hN.1 (fun x x0 hx k => ?_)) (fun r s ⟨a1, a2, a3, a4, a5, a6, a7, a8, a9⟩ => ?_)
  · have hx' : x < nC u' := by omega
    have k1 : kd (trC ν' u' x) = 1 := by have := (nodeC hs' x0 hx').1; omega
    obtain ⟨i, i1, i2, i3⟩ := nodeC1 hs' x0 hx' k1
    rw [ht x hx] at k1 i3
    obtain ⟨j, j1, j2, j3⟩ := nodeC1 hs x0 hx k1
    have : i = j := hs'.2.2.2 i j i2 (Nat.lt_of_lt_of_le j2 hN.1) (by rw [← i3, hN.2 j j2, j3])
    omega
  · have hNr : NuX ν' c ν c := ⟨Nat.le_refl _, fun i hi => (hN.2 i hi).symm⟩
    have hinj : ∀ i j, i < c → j < c → ν i = ν j → i = j := hs.2.2.2
    have hss : SC ν c s := nu_sc a1 hNr hinj
    have hts : ∀ x, x < nC u → trC ν s x = trC ν u x := fun x hx => by rw [nu_tr a1 hNr (by rw [a2]; exact hx), a4 x hx, ht x hx]
    rw [wp_un, wp_un]
    have i33 : gI (sI s 86 (c : Int)) 33 = gI u' 33 := by show gI s 33 = _; exact a9.I 33 (by decide +kernel)
    rw [i33, wp_ar]
    refine ⟨⟨by omega, by omega⟩, ?_⟩
    rw [wp_un, wp_some]
    have hcc : c ≤ gL u' 85 := Nat.le_trans hN.1 h1.2.2.1.2.1
    have gv : Gr FC Dfo u' (sI (sI s 86 (c : Int)) 33 (gI u' 33 + 1)) := (a9.sub (by decide +kernel)).tr ((Gr_sI (by decide +kernel)).tr (Gr_sI (by decide +kernel)))
    have hcb : (c : Int) < 2147483648 := by have := hw.2.1 85; omega
    have wv : WF FC (sI (sI s 86 (c : Int)) 33 (gI u' 33 + 1)) := wfI (wfI a8 rfl ⟨by omega, by omega⟩) rfl ⟨by omega, by omega⟩
    have g2 : Gr FC (2 ^ 33 + 2 ^ 86) s (sI (sI s 86 (c : Int)) 33 (gI u' 33 + 1)) := (Gr_sI (by decide +kernel)).tr (Gr_sI (by decide +kernel))
    obtain ⟨ev, hUv⟩ := g2.ux (X := fun _ => False) hss (by decide +kernel)
    have c86 : gI (sI (sI s 86 (c : Int)) 33 (gI u' 33 + 1)) 86 = (c : Int) := rfl
    have n11 : ∀ j, gN (sI (sI s 86 (c : Int)) 33 (gI u' 33 + 1)) 11 j = gN s 11 j := fun j => rfl
    have v33 : gI (sI (sI s 86 (c : Int)) 33 (gI u' 33 + 1)) 33 = gI u' 33 + 1 := rfl
    have rv : rC (sI (sI s 86 (c : Int)) 33 (gI u' 33 + 1)) = rC s := rfl
    generalize sI (sI s 86 (c : Int)) 33 (gI u' 33 + 1) = v at *
    have hsv : SC ν c v := hUv.sc
    have hnv : nC v = nC u := by rw [ev.n]; exact a2
    have htv : ∀ x, x < nC u → trC ν v x = trC ν u x := fun x hx => by rw [ev.tr]; exact hts x hx
    have ct : ∀ {v0 v1 : Int} {t : Nat}, inC ν u v0 t → inC ν' u' v1 t → inC ν v v1 t := fun q1 q2 => q1.cut2 hs' hn ht q2 hnv htv
    have I : ∀ k, Nat.testBit Dfo k = false → gI v k = gI u' k := fun k hk => gv.I k hk
    have A : ∀ k, Nat.testBit Dfo k = false → ∀ i, gN v k i = gN u' k i := fun k hk => gv.N k hk
    have Ln : ∀ k, Nat.testBit Dfo k = false → gL v k = gL u' k := fun k hk => gv.Ln k hk
    obtain ⟨_, ⟨ye, no, q1, q2, ⟨q3, q4, q5⟩, q6, q7, q8⟩, ⟨c1, c2, c3⟩, ⟨m1, m2, m3, m4, m5, m6⟩, ⟨f1, f2, f3, f4, f5⟩, ⟨⟨p1, p2, p3, p4⟩, p5, p6⟩, ⟨g1, g2', ⟨g3, g4, g5, g6, g7⟩, g8⟩⟩ := h0
    obtain ⟨_, ⟨ye', no', q1', q2', ⟨q3', q4', q5'⟩, q6', q7', q8'⟩, ⟨c1', c2', c3'⟩, ⟨m1', m2', m3', m4', m5', m6'⟩, ⟨f1', f2', f3', f4', f5'⟩, ⟨⟨p1', p2', p3', p4'⟩, p5', p6'⟩, ⟨g1', g2'', ⟨g3', g4', g5', g6', g7'⟩, g8'⟩⟩ := h1
    obtain ⟨z, z1, z2, z3⟩ := ct ⟨ye, rfl, q4, q5⟩ ⟨ye', rfl, q4', q5'⟩
    obtain ⟨z', z1', z2', z3'⟩ := ct ⟨no, rfl, q7, q8⟩ ⟨no', rfl, q7', q8'⟩
    refine ⟨⟨hsv, ⟨ye', no', by rw [I 13 (by decide +kernel)]; exact q1', by rw [I 14 (by decide +kernel)]; exact q2', ⟨q3', by omega, by rw [show ye' = z by omega]; exact z3⟩, q6', by omega, by rw [show no' = z' by omega]; exact z3'⟩, ⟨c86, by rw [Ln 85 (by decide +kernel)]; exact hcc, fun i hi => ?_⟩, ⟨by rw [I 69 (by decide +kernel)]; exact m1', m2', by rw [Ln 67 (by decide +kernel)]; exact m3', by rw [Ln 68 (by decide +kernel)]; exact m4', by rw [A 68 (by decide +kernel)]; exact m5', fun i h1 h2 => ?_⟩, ⟨by rw [I 74 (by decide +kernel)]; exact f1', f2', by rw [Ln 71 (by decide +kernel)]; exact f3', by rw [Ln 72 (by decide +kernel)]; exact f4', fun i hi => ?_⟩, ⟨⟨by rw [I 75 (by decide +kernel)]; exact p1', p2', by rw [Ln 73 (by decide +kernel)]; exact p3', fun i hi => by rw [A 73 (by decide +kernel)]; exact p4' i hi⟩, by rw [I 70 (by decide +kernel)]; exact p5', p6'⟩, ⟨by rw [I 81 (by decide +kernel)]; exact g1', g2'', ⟨by rw [Ln 76 (by decide +kernel)]; exact g3', by rw [Ln 77 (by decide +kernel)]; exact g4', by rw [Ln 78 (by decide +kernel)]; exact g5', by rw [Ln 79 (by decide +kernel)]; exact g6', by rw [Ln 80 (by decide +kernel)]; exact g7'⟩, fun i hi => ?_⟩⟩, wv, hnv, ?_, htv, by rw [rv]; exact a6, fun j hj => by rw [n11]; exact a7 j hj, gv, v33⟩
    · rw [A 85 (by decide +kernel)]
      have := c3' i (Nat.lt_of_lt_of_le hi hN.1)
      rw [hN.2 i hi] at this
      exact ct (c3 i hi) this
    · rw [A 67 (by decide +kernel), A 68 (by decide +kernel)]
      exact ⟨ct (m6 i h1 h2).1 (m6' i h1 h2).1, (m6' i h1 h2).2⟩
    · rw [A 71 (by decide +kernel), A 72 (by decide +kernel)]
      exact ⟨(f5' i hi).1, ct (f5 i hi).2 (f5' i hi).2⟩
    · rw [A 76 (by decide +kernel), A 77 (by decide +kernel), A 78 (by decide +kernel), A 79 (by decide +kernel), A 80 (by decide +kernel)]
      obtain ⟨z1, z2, z3, z4, z5, z6⟩ := g8 i hi
      obtain ⟨y1, y2, y3, y4, y5, y6⟩ := g8' i hi
      exact ⟨y1, fun q => ct (z2 q) (y2 q), y3, ct z4 y4, ct z5 y5, ct z6 y6⟩
    · rw [ev.p]; exact a3
