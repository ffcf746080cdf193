/-! cases in the class -/
def PdA (u : Sg) (P : Nat) : Prop := gI u 63 = (P : Int) ∧ P ≤ gL u 61 ∧ gL u 62 = gL u 61 ∧ 16 ≤ gL u 61 ∧ gL u 61 ≤ 131072
def Dpe : Nat := 2 ^ 61 + 2 ^ 62 + 2 ^ 63
theorem tX1_pend {d : Nat} (hd : 2 ≤ d) {u : Sg} {P : Nat} {x nx : Int} (hw : WF FC u) (hP : PdA u P) (hP6 : P ≤ 60000) (hx : inR x) (hnx : inR nx) : wp (runC (d + 1) 39 [x, nx] u) (fun r u' => r = (P : Int) ∧ PdA u' (P + 1) ∧ gN u' 61 P = x ∧ gN u' 62 P = nx ∧ (∀ i, i < P → gN u' 61 i = gN u 61 i ∧ gN u' 62 i = gN u 62 i) ∧ WF FC u' ∧ Gr FC Dpe u u') := by
  rw [runC_eq (by omega)]
  show wp (bX1_pend (runC d) x nx u) _
  unfold bX1_pend
  obtain ⟨p1, p2, p3, p4, p5⟩ := hP
  have put : ∀ s : Sg, WF FC s → Gr FC Dpe u s → gI s 63 = (P : Int) → P < gL s 61 → gL s 62 = gL s 61 → 16 ≤ gL s 61 → gL s 61 ≤ 131072 → (∀ i, i < P → gN s 61 i = gN u 61 i ∧ gN s 62 i = gN u 62 i) → wp (un (gI s 63) fun v3 => stA s 61 v3 x fun s4 => un (gI s4 63) fun v5 => stA s4 62 v5 nx fun s6 => un (gI s6 63) fun v7 => ar (v7 + 1) fun v8 => un (sI s6 63 v8) fun s9 => un (gI s9 63) fun v10 => ar (v10 - 1) fun v11 => some (v11, s9)) (fun r u' => r = (P : Int) ∧ PdA u' (P + 1) ∧ gN u' 61 P = x ∧ gN u' 62 P = nx ∧ (∀ i, i < P → gN u' 61 i = gN u 61 i ∧ gN u' 62 i = gN u 62 i) ∧ WF FC u' ∧ Gr FC Dpe u u') := fun s w g i1 i2 i3 i4 i5 i6 => by
    rw [wp_un, i1, stA_pos ⟨by omega, by omega⟩, wp_un, gI_sA, i1, stA_pos ⟨by omega, by rw [gL_sA]; omega⟩, wp_un, gI_sA, gI_sA, i1, wp_ar]
    refine ⟨⟨by omega, by omega⟩, ?_⟩
    rw [wp_un, wp_un, gI_sI, if_pos rfl, wp_ar]
    refine ⟨⟨by omega, by omega⟩, ?_⟩
    rw [wp_some]
    refine ⟨by omega, ⟨by rw [gI_sI, if_pos rfl]; omega, by rw [gL_sI, gL_sA, gL_sA]; omega, by rw [gL_sI, gL_sA, gL_sA, gL_sI, gL_sA, gL_sA]; exact i3, by rw [gL_sI, gL_sA, gL_sA]; exact i4, by rw [gL_sI, gL_sA, gL_sA]; exact i5⟩, ?_, ?_, fun i hi => ⟨?_, ?_⟩, wfI (wfA (wfA w rfl hx) rfl hnx) rfl ⟨by omega, by omega⟩, g.tr ((Gr_sA (by decide +kernel)).tr ((Gr_sA (by decide +kernel)).tr (Gr_sI (by decide +kernel))))⟩
    · rw [gN_sI, gN_sAn, if_neg (by omega), gN_sAn, if_pos ⟨rfl, rfl⟩]
    · rw [gN_sI, gN_sAn, if_pos ⟨rfl, rfl⟩]
    · rw [gN_sI, gN_sAn, if_neg (by omega), gN_sAn, if_neg (by omega)]; exact (i6 i hi).1
    · rw [gN_sI, gN_sAn, if_neg (by omega), gN_sAn, if_neg (by omega)]; exact (i6 i hi).2
  rw [wp_jn, wp_un, wp_un]
  refine wp_ite (fun he => ?_) (fun he => ?_)
  · rw [wp_un, wp_ar]
    refine ⟨⟨by omega, by omega⟩, ?_⟩
    refine wp_cpyC (D := Dpe) hw rfl (by decide) (by decide +kernel) (by omega) (by omega) (by omega) (fun s1 w1 g1 a1 a2 a3 a4 => ?_)
    rw [wp_un, a1, wp_ar]
    refine ⟨⟨by omega, by omega⟩, ?_⟩
    have l62 := (a2 62 (by omega)).1
    refine wp_cpyC (D := Dpe) w1 rfl (by decide) (by decide +kernel) (by rw [l62]; omega) (by omega) (by omega) (fun s2 w2 g2 b1 b2 b3 b4 => ?_)
    have l61 := (b2 61 (by omega)).1
    refine put s2 w2 (g1.tr g2) (by rw [b1, a1]; exact p1) (by omega) (by omega) (by omega) (by omega) (fun i hi => ⟨?_, ?_⟩)
    · rw [(b2 61 (by omega)).2, a4 i (by omega)]
    · rw [b4 i (by omega), (a2 62 (by omega)).2]
  · exact put u hw Gr.rf p1 (by omega) p3 p4 p5 (fun i hi => ⟨rfl, rfl⟩)
/-- what is still to be taken apart -/
def PdL (ν : Nat → Nat) (u : Sg) : List Nat → Int → Prop
  | [], k => k = -1
  | t :: ts, k => ∃ i y : Nat, k = (i : Int) ∧ (i : Int) < gI u 63 ∧ gN u 61 i = (y : Int) ∧ 0 < y ∧ y < nC u ∧ trC ν u y = t ∧ PdL ν u ts (gN u 62 i)
theorem PdL.mono {ν : Nat → Nat} {u u' : Sg} (h63 : gI u 63 ≤ gI u' 63) (he : ∀ i : Nat, (i : Int) < gI u 63 → gN u' 61 i = gN u 61 i ∧ gN u' 62 i = gN u 62 i) (hn : nC u ≤ nC u') (ht : ∀ x, x < nC u → trC ν u' x = trC ν u x) : ∀ (P : List Nat) (k : Int), PdL ν u P k → PdL ν u' P k
  | [], _, h => h
  | t :: ts, k, ⟨i, y, a1, a2, a3, a4, a5, a6, a7⟩ => ⟨i, y, a1, by omega, by rw [(he i a2).1]; exact a3, a4, by omega, by rw [ht y a5]; exact a6, by rw [(he i a2).2]; exact PdL.mono h63 he hn ht ts _ a7⟩
theorem PdL.rng {ν : Nat → Nat} {u : Sg} {N : Nat} (hN : gI u 63 = (N : Int)) : ∀ {P : List Nat} {k : Int}, PdL ν u P k → -1 ≤ k ∧ k < (N : Int)
  | [], _, h => by rw [show _ = _ from h]; omega
  | _ :: _, _, ⟨i, y, a1, a2, _⟩ => by omega
/-- in the midst of the cases -/
def SpI (ν : Nat → Nat) (c : Nat) (W : Wd) (u0 u : Sg) : Prop := CW ν c W u ∧ WF FC u ∧ ArrC u ∧ (nC u = nC u0 ∧ pC u = pC u0 ∧ (∀ x, x < nC u0 → trC ν u x = trC ν u0 x) ∧ rC u = rC u0) ∧ (0 ≤ gI u 36 ∧ (0 ≤ gI u0 33 ∧ gI u0 33 ≤ gI u 33)) ∧ (gI u 64 = 0 ∨ gI u 64 = 1 ∨ gI u 64 = 2) ∧ (16 ≤ gL u 60 ∧ gL u 60 ≤ 65536)
theorem SpI.fr {ν : Nat → Nat} {c D : Nat} {W : Wd} {u0 u u' : Sg} (h : SpI ν c W u0 u) (hw : WF FC u') (g : Gr FC D u u') (hD : D &&& 8191 = 0) (hD2 : D &&& mkW = 0) (hb : ∀ k, (k = 34 ∨ (36 ≤ k ∧ k ≤ 42) ∨ (46 ≤ k ∧ k ≤ 50) ∨ k = 53 ∨ k = 55 ∨ k = 85 ∨ k = 33 ∨ k = 64 ∨ k = 60) → D.testBit k = false) : SpI ν c W u0 u' ∧ EqS u u' := by
  obtain ⟨h1, h2, h3, ⟨h4, h5, h6, h7⟩, ⟨h8, h9⟩, h10, h11⟩ := h
  obtain ⟨e, hU⟩ := g.ux (X := fun _ => False) h1.1 hD
  exact ⟨⟨h1.up hU.ux g hD2, hw, h3.fr g (fun k hk => hb k (by omega)), ⟨by rw [e.n]; exact h4, by rw [e.p]; exact h5, fun x hx => by rw [e.tr]; exact h6 x hx, by rw [← h7]; exact hU.2.2.2.2.2.1⟩, ⟨by rw [g.I 36 (hb 36 (by omega))]; exact h8, by rw [g.I 33 (hb 33 (by omega))]; exact h9⟩, by rw [g.I 64 (hb 64 (by omega))]; exact h10, by rw [g.Ln 60 (hb 60 (by omega))]; exact h11⟩, e⟩
