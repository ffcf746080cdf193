/-! the model at rest -/
def FoT (ν : Nat → Nat) (u : Sg) (Fo : List Nat) : Prop := gI u 79 = (Fo.length : Int) ∧ gL u 78 = 400 ∧ Fo.length ≤ 400 ∧ ∀ (i f : Nat), Fo[i]? = some f → ∃ x : Nat, gN u 78 i = (x : Int) ∧ 0 < x ∧ x ≤ nT u ∧ trT ν u x = f
def ReT (W : Wd) (c : Nat) (Fo Pr : List Nat) (lc : Nat) (K : Int) (v : Sg) : Prop := TW nt2 (c + 2) W v ∧ WF FT v ∧ ArrT anM v ∧ (MemT nt2 (c + 2) W v ∧ MmT v ∧ StkT v 0) ∧ hT v = 0 ∧ (0 ≤ gI v 54 ∧ gI v 54 ≤ 40 * K) ∧ gI v 76 ≤ 680 * K ∧ (∀ k, 43 ≤ k → k ≤ 47 → 256 ≤ gL v k) ∧ FoT nt2 v Fo ∧ PrT nt2 v Pr ∧ gI v 82 = (lc : Int) ∧ gL v 80 = 20
theorem dnT_sL (σ1 σ3 : Sg) : dnT (sL σ1 σ3) = (σ3.1, σ3.2.1, 0, 0) := by
  have e1 : (fun k => gI (sL σ1 σ3) (200 + k)) = σ3.1 := funext fun k => umT_I
  have e2 : (fun k => (sL σ1 σ3).2.1 (200 + k)) = σ3.2.1 := funext fun k => umT_A
  unfold dnT
  rw [e1, e2]
def uT0 (σ1 σ3 : Sg) : Sg := dnT (sL σ1 σ3)
theorem start4 {σ1 σ3 : Sg} (hs : ST nt2 2 σ3) (hw : WF FT σ3) (hg : Gr FT DrX3 cs3 σ3) (hh : hT σ3 = 0) (h19 : gI σ3 19 = 2) (hm : MaT anM σ3) (hct : CtT σ3) (h39 : ∀ i, i < gL σ3 39 → gN σ3 39 i < gI σ3 40) : ReT W0 0 [] [] 0 0 (uT0 σ1 σ3) := by
  unfold uT0
  rw [dnT_sL]
  have hz : ∀ k, 20 ≤ k → k < 83 → k ≠ 27 → k ≠ 39 → k ≠ 40 → gI σ3 k = 0 := fun k h1 h2 h3 h4 h5 => by
    have hb : DrX3.testBit k = false := (by decide +kernel : ∀ k, k < 83 → 20 ≤ k → k ≠ 39 → k ≠ 40 → DrX3.testBit k = false) k h2 h1 h4 h5
    rw [(hg.2.1 k hb).1]
    exact gI_cs3 k h3 h5
  have hA : ∀ k, k < 83 → k = 14 ∨ k = 15 ∨ (20 ≤ k ∧ k ≠ 39 ∧ k ≠ 40) → σ3.2.1 k = cs3.2.1 k := fun k h1 h2 => by
    have hb : DrX3.testBit k = false := (by decide +kernel : ∀ k, k < 83 → k = 14 ∨ k = 15 ∨ (20 ≤ k ∧ k ≠ 39 ∧ k ≠ 40) → DrX3.testBit k = false) k h1 h2
    exact (hg.2.1 k hb).2
  have lA : ∀ k n, k < 83 → k = 14 ∨ k = 15 ∨ (20 ≤ k ∧ k ≠ 39 ∧ k ≠ 40) → gL cs3 k = n → gL σ3 k = n := fun k n h1 h2 e => by rw [show gL σ3 k = gL cs3 k from congrArg Prod.fst (hA k h1 h2)]; exact e
  have nA : ∀ k i, k < 83 → k = 14 ∨ k = 15 ∨ (20 ≤ k ∧ k ≠ 39 ∧ k ≠ 40) → gN σ3 k i = 0 := fun k i h1 h2 => by
    show gF σ3 k i = 0
    rw [show gF σ3 k = gF cs3 k from congrArg Prod.snd (hA k h1 h2), (zr3.2.2 k).2]
  have i27 : gI σ3 27 = 1 := by
    rw [(hg.2.1 27 (by decide +kernel)).1]
    rfl
  have l30 : ∀ k, 29 ≤ k → k ≤ 36 → gL cs3 k = 30 := fun k h1 h2 => by
    have hk : k = 29 ∨ k = 30 ∨ k = 31 ∨ k = 32 ∨ k = 33 ∨ k = 34 ∨ k = 35 ∨ k = 36 := by omega
    rcases hk with rfl | rfl | rfl | rfl | rfl | rfl | rfl | rfl <;> rfl
  have hq : ReT W0 0 [] [] 0 0 σ3 := by
    refine ⟨⟨hs, ⟨by rw [lA 14 16 (by decide) (by decide) rfl]; decide, by rw [lA 15 16 (by decide) (by decide) rfl]; decide⟩, ⟨h19, by decide, ?_, fun i h1 h2 => by omega⟩, ⟨i27, ⟨by decide, by decide⟩, lA 25 24 (by decide) (by decide) rfl, lA 26 24 (by decide) (by decide) rfl, nA 26 0 (by decide) (by decide), fun i h1 h2 => ?_⟩, ⟨hz 22 (by decide) (by decide) (by decide) (by decide) (by decide), by decide, lA 20 30 (by decide) (by decide) rfl, lA 21 30 (by decide) (by decide) rfl, fun i h => absurd (show i < 0 from h) (by omega)⟩, ⟨⟨hz 24 (by decide) (by decide) (by decide) (by decide) (by decide), by decide, lA 23 10 (by decide) (by decide) rfl, fun i h => absurd (show i < 0 from h) (by omega)⟩, hz 28 (by decide) (by decide) (by decide) (by decide) (by decide), by decide⟩, hz 37 (by decide) (by decide) (by decide) (by decide) (by decide), by decide, fun k h1 h2 => lA k 30 (by omega) (by omega) (l30 k h1 h2), fun i h => absurd (show i < 0 from h) (by omega)⟩, hw, ?_, ⟨?_, ?_, ?_⟩, hh, ?_, ?_, ?_, ⟨hz 79 (by decide) (by decide) (by decide) (by decide) (by decide), lA 78 400 (by decide) (by decide) rfl, by decide, fun i f h => by simp at h⟩, ⟨hz 81 (by decide) (by decide) (by decide) (by decide) (by decide), Nat.zero_le _, by decide, fun i f h => by simp at h⟩, hz 82 (by decide) (by decide) (by decide) (by decide) (by decide), lA 80 20 (by decide) (by decide) rfl⟩
    · have := hct.2
      omega
    · have : i < 1 := h2
      omega
    · refine ⟨fun k hk => ?_, fun k hk => ?_, fun k hk i hi => ?_, ⟨?_, ?_, fun i hi => ?_⟩, hm⟩
      · have h17 := hct.1
        have h18 := hct.2
        rcases hk with rfl | rfl | h
        · exact h17
        · exact h18
        · have hk2 : gL cs3 k = 320 ∨ gL cs3 k = 8192 ∨ gL cs3 k = 128 ∨ gL cs3 k = 256 ∨ gL cs3 k = 64 := by
            rcases h with rfl | rfl | rfl | rfl | rfl | rfl | rfl | rfl | rfl | rfl | rfl | rfl | rfl | rfl | rfl
            · exact Or.inl rfl
            · exact Or.inr (Or.inl rfl)
            · exact Or.inr (Or.inl rfl)
            · exact Or.inr (Or.inl rfl)
            · exact Or.inr (Or.inr (Or.inl rfl))
            · exact Or.inr (Or.inr (Or.inl rfl))
            · exact Or.inr (Or.inr (Or.inr (Or.inl rfl)))
            · exact Or.inr (Or.inr (Or.inr (Or.inl rfl)))
            · exact Or.inr (Or.inr (Or.inr (Or.inl rfl)))
            · exact Or.inr (Or.inr (Or.inr (Or.inl rfl)))
            · exact Or.inr (Or.inr (Or.inr (Or.inl rfl)))
            · exact Or.inr (Or.inr (Or.inr (Or.inr rfl)))
            · exact Or.inr (Or.inr (Or.inr (Or.inl rfl)))
            · exact Or.inr (Or.inl rfl)
            · exact Or.inr (Or.inl rfl)
          have e := lA k _ (by omega) (by omega) rfl
          omega
      · have e : gL σ3 k = 8192 := lA k 8192 (by omega) (by omega) (by rcases hk with rfl | rfl | rfl | rfl | rfl <;> rfl)
        omega
      · rw [nA k i (by omega) (by omega), hz 54 (by decide) (by decide) (by decide) (by decide) (by decide)]
        exact Int.le_refl _
      · rw [hz 76 (by decide) (by decide) (by decide) (by decide) (by decide)]; exact Int.le_refl _
      · rw [hz 76 (by decide) (by decide) (by decide) (by decide) (by decide)]; decide
      · rw [nA 74 i (by decide) (by decide), hz 76 (by decide) (by decide) (by decide) (by decide) (by decide)]
        exact Int.le_refl _
    · intro t ht
      have := h39 t ht.1
      have h2 := ht.2
      omega
    · have e38 : gL σ3 38 = 1024 := lA 38 1024 (by decide) (by decide) rfl
      have e39 : gL cs3 39 ≤ gL σ3 39 := hg.2.2.1 39
      have e39' : gL cs3 39 = 1024 := rfl
      refine ⟨?_, by omega, by omega⟩
      by_cases q : 0 < gL σ3 39
      · have h1 := h39 0 q
        have h2 := hm.2 0 q
        omega
      · omega
    · have e41 : gL σ3 41 = 64 := lA 41 64 (by decide) (by decide) rfl
      exact ⟨hz 42 (by decide) (by decide) (by decide) (by decide) (by decide), by omega, by omega⟩
    · rw [hz 54 (by decide) (by decide) (by decide) (by decide) (by decide)]; decide
    · rw [hz 76 (by decide) (by decide) (by decide) (by decide) (by decide)]; decide
    · intro k h1 h2
      have e : gL σ3 k = 256 := lA k 256 (by omega) (by omega) (by
        have hk : k = 43 ∨ k = 44 ∨ k = 45 ∨ k = 46 ∨ k = 47 := by omega
        rcases hk with rfl | rfl | rfl | rfl | rfl <;> rfl)
      omega
  have hst : ST nt2 2 (σ3.1, σ3.2.1, 0, 0) := EqT.sT (u := σ3) ⟨fun _ _ => rfl, fun _ _ => rfl⟩ hs ⟨hs.r.1, hs.r.2.1⟩ hs.r.2.2
  exact ⟨⟨hst, hq.1.2.1, hq.1.2.2.1, hq.1.2.2.2.1, hq.1.2.2.2.2.1, hq.1.2.2.2.2.2.1, hq.1.2.2.2.2.2.2⟩, hq.2.1, hq.2.2.1, ⟨hq.2.2.2.1.1, hq.2.2.2.1.2.1, hq.2.2.2.1.2.2⟩, hq.2.2.2.2.1, hq.2.2.2.2.2.1, hq.2.2.2.2.2.2.1, hq.2.2.2.2.2.2.2.1, hq.2.2.2.2.2.2.2.2.1, hq.2.2.2.2.2.2.2.2.2.1, hq.2.2.2.2.2.2.2.2.2.2⟩
