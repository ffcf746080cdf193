/-! the class at rest (between two calls): tables W, c constants, forms Fo, premises Pr, number of cases lc -/
def FoC (ν : Nat → Nat) (u : Sg) (Fo : List Nat) : Prop := gI u 66 = (Fo.length : Int) ∧ gL u 65 = 400 ∧ Fo.length ≤ 400 ∧ ∀ (i f : Nat), Fo[i]? = some f → ∃ x : Nat, gN u 65 i = (x : Int) ∧ 0 < x ∧ x < nC u ∧ trC ν u x = f
def MmK (u : Sg) : Prop := gL u 32 = gL u 31 ∧ (gL u 31 = 60000 ∨ gL u 31 = 90000) ∧ ∀ t, t < gL u 32 → gN u 32 t < gI u 33
def ReC (W : Wd) (c : Nat) (Fo Pr : List Nat) (lc : Nat) (K : Int) (u : Sg) : Prop := CW nu2 c W u ∧ WF FC u ∧ ArrC u ∧ MmK u ∧ rC u = 0 ∧ (0 ≤ gI u 36 ∧ gI u 36 ≤ K) ∧ (1 ≤ gI u 33 ∧ gI u 33 ≤ K) ∧ (gL u 62 = gL u 61 ∧ 16 ≤ gL u 61 ∧ gL u 61 ≤ 131072) ∧ (16 ≤ gL u 60 ∧ gL u 60 ≤ 65536) ∧ FoC nu2 u Fo ∧ PrC nu2 u Pr ∧ gI u 84 = (lc : Int) ∧ gL u 82 = 20
def W0 : Wd := (fun _ _ => 0, fun k => if k = 0 then 1 else 0)
def uC0 (σ2 σ3 : Sg) : Sg := dnC (sL (cs1 σ2) σ3)
theorem start1 {σ2 σ3 : Sg} (hs : SC nu2 0 σ2) (hy : YN nu2 σ2) (hw : WF FC σ2) (hg : Gr FC DrX2 cs2 σ2) (hr : rC σ2 = 0) (hw3 : WF FT σ3) : ReC W0 0 [] [] 0 1 (uC0 σ2 σ3) := by
  have hz : ∀ k, 21 ≤ k → k < 100 → gI σ2 k = 0 := fun k h1 h2 => by
    have hb : DrX2.testBit k = false := (by decide +kernel : ∀ k, k < 100 → 21 ≤ k → DrX2.testBit k = false) k h2 h1
    rw [(hg.2.1 k hb).1]
    exact gI_cs2 k (by omega)
  have sI1 : ∀ k, k < 21 → gI (uC0 σ2 σ3) k = gI σ2 k := fun k hk => by
    unfold uC0 sL
    rw [dnC_I (by omega), umT_I' (by omega), umC_I (by omega)]
    unfold cs1
    rw [gNk, gNk, gNk, gNk, gNk, gNk, gNk, gNk, gNk, gNk, gIk (by omega), gNk, gNk, gNk, gNk, gNk, gNk, gNk, gNk, gNk, gNk, gNk, gNk, gNk, gNk, gNk, gNk, gNk, gNk, gNk, gNk, gIk (by omega), gNk, gNk]
    rfl
  have sA1 : ∀ k, k < 21 → (uC0 σ2 σ3).2.1 k = σ2.2.1 k := fun k hk => by
    unfold uC0 sL
    rw [dnC_A (by omega), umT_A' (by omega), umC_A (by omega)]
    unfold cs1
    rw [aNk (by omega), aNk (by omega), aNk (by omega), aNk (by omega), aNk (by omega), aNk (by omega), aNk (by omega), aNk (by omega), aNk (by omega), aNk (by omega), aIk, aNk (by omega), aNk (by omega), aNk (by omega), aNk (by omega), aNk (by omega), aNk (by omega), aNk (by omega), aNk (by omega), aNk (by omega), aNk (by omega), aNk (by omega), aNk (by omega), aNk (by omega), aNk (by omega), aNk (by omega), aNk (by omega), aNk (by omega), aNk (by omega), aNk (by omega), aNk (by omega), aIk, aNk (by omega), aNk (by omega)]
    rfl
  have he : EqS σ2 (uC0 σ2 σ3) := ⟨fun k hk => sA1 k (by omega), fun k hk => sI1 k (by omega)⟩
  have er : rC (uC0 σ2 σ3) = rC σ2 := by unfold rC; rw [sI1 12 (by decide)]
  have eL : gL (uC0 σ2 σ3) 11 = gL σ2 11 := congrArg Prod.fst (sA1 11 (by decide))
  have hS : SC nu2 0 (uC0 σ2 σ3) := he.sc hs ⟨by rw [sI1 12 (by decide), er]; exact hs.r.1, by rw [er, eL]; exact hs.r.2.1⟩ (by rw [eL]; exact hs.r.2.2)
  have hwf : WF FC (uC0 σ2 σ3) := (WF.umT (WF.umC wf_z9 (show WF FC (cs1 σ2) from (wf_zN (wf_zN (wf_zN (wf_zN (wf_zN (wf_zN (wf_zN (wf_zN (wf_zN (wf_zN (WF.sI (id := 69) (v := 1) (wf_zN (wf_zN (wf_zN (wf_zN (wf_zN (wf_zN (wf_zN (wf_zN (wf_zN (wf_zN (wf_zN (wf_zN (wf_zN (wf_zN (wf_zN (wf_zN (wf_zN (wf_zN (wf_zN (wf_zN (WF.sI (id := 33) (v := 1) (wf_zN (wf_zN (show WF FC (s1of σ2) from hw) (id := 31) (n := 60000) (by decide)) (id := 32) (n := 60000) (by decide)) (by decide) (fun h => absurd h (by decide))) (id := 34) (n := 1024) (by decide)) (id := 37) (n := 60000) (by decide)) (id := 38) (n := 60000) (by decide)) (id := 39) (n := 60000) (by decide)) (id := 40) (n := 101) (by decide)) (id := 41) (n := 101) (by decide)) (id := 42) (n := 60000) (by decide)) (id := 46) (n := 512) (by decide)) (id := 47) (n := 512) (by decide)) (id := 48) (n := 512) (by decide)) (id := 49) (n := 512) (by decide)) (id := 50) (n := 512) (by decide)) (id := 53) (n := 512) (by decide)) (id := 55) (n := 64) (by decide)) (id := 60) (n := 512) (by decide)) (id := 61) (n := 1024) (by decide)) (id := 62) (n := 1024) (by decide)) (id := 65) (n := 400) (by decide)) (id := 67) (n := 20) (by decide)) (id := 68) (n := 20) (by decide)) (by decide) (fun h => absurd h (by decide))) (id := 71) (n := 30) (by decide)) (id := 72) (n := 30) (by decide)) (id := 73) (n := 10) (by decide)) (id := 76) (n := 30) (by decide)) (id := 77) (n := 30) (by decide)) (id := 78) (n := 30) (by decide)) (id := 79) (n := 30) (by decide)) (id := 80) (n := 30) (by decide)) (id := 82) (n := 20) (by decide)) (id := 85) (n := 512) (by decide)))) hw3).dnC
  refine ⟨⟨hS, hy.eqs he (sI1 13 (by decide)) (sI1 14 (by decide)), ⟨?_, Nat.zero_le _, fun i h => by omega⟩, ⟨rfl, ⟨by decide, by decide⟩, rfl, rfl, rfl, fun i h1 h2 => ?_⟩, ⟨?_, by decide, rfl, rfl, fun i h => ?_⟩, ⟨⟨?_, by decide, rfl, fun i h => ?_⟩, ?_, by decide⟩, ?_, by decide, ⟨rfl, rfl, rfl, rfl, rfl⟩, fun i h => ?_⟩, hwf, ?_, ⟨rfl, Or.inl rfl, fun t ht => ?_⟩, er.trans hr, ?_, ?_, ⟨rfl, Nat.le_of_ble_eq_true rfl, Nat.le_of_ble_eq_true rfl⟩, ⟨Nat.le_of_ble_eq_true rfl, Nat.le_of_ble_eq_true rfl⟩, ⟨?_, rfl, by decide, fun i f h => by simp at h⟩, ⟨?_, Nat.zero_le _, by decide, fun i f h => by simp at h⟩, ?_⟩
  · exact hz 86 (by decide) (by decide)
  · have : i < 1 := h2
    omega
  · exact hz 74 (by decide) (by decide)
  · exact absurd (show i < 0 from h) (by omega)
  · exact hz 75 (by decide) (by decide)
  · exact absurd (show i < 0 from h) (by omega)
  · exact hz 70 (by decide) (by decide)
  · exact hz 81 (by decide) (by decide)
  · exact absurd (show i < 0 from h) (by omega)
  · refine ⟨⟨rfl, rfl⟩, ⟨rfl, rfl, rfl, Or.inl rfl⟩, fun k hk i hi => ?_, ⟨rfl, rfl, Nat.le_of_ble_eq_true rfl, Nat.le_of_ble_eq_true rfl⟩, ⟨rfl, Nat.le_of_ble_eq_true rfl, Nat.le_of_ble_eq_true rfl⟩, ⟨Nat.le_of_ble_eq_true rfl, Nat.le_of_ble_eq_true rfl⟩, ⟨Nat.le_of_ble_eq_true rfl, Nat.le_of_ble_eq_true rfl⟩, ⟨Nat.le_of_ble_eq_true rfl, Nat.le_of_ble_eq_true rfl⟩, Nat.le_of_ble_eq_true rfl, Nat.le_of_ble_eq_true rfl⟩
    have h36 : gI (uC0 σ2 σ3) 36 = 0 := hz 36 (by decide) (by decide)
    rw [h36]
    rcases hk with rfl | rfl | rfl <;> exact Int.le_refl 0
  · have h33 : gI (uC0 σ2 σ3) 33 = 1 := rfl
    rw [h33]
    exact (by decide : (0 : Int) < 1)
  · have h36 : gI (uC0 σ2 σ3) 36 = 0 := hz 36 (by decide) (by decide)
    rw [h36]; decide
  · have h33 : gI (uC0 σ2 σ3) 33 = 1 := rfl
    rw [h33]; decide
  · exact hz 66 (by decide) (by decide)
  · exact hz 83 (by decide) (by decide)
  · exact ⟨hz 84 (by decide) (by decide), rfl⟩
