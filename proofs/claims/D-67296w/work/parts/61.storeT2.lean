/-- the measures of a node are put down -/
theorem rX3_measure {d : Nat} (hd : 4 ≤ d) {u : Sg} {x : Nat} (h1 : x < gL u 1) (h2 : x < gL u 2) (h3 : x < gL u 3) (h4 : x < gL u 4) (h5 : x < gL u 5) (hf : 0 ≤ gN u 2 x) (hc : 0 ≤ gN u 3 x) (he : (gN u 2 x).toNat + (gN u 3 x).toNat ≤ gL u 9) (h9 : gL u 9 < 1000000000) (hk1 : gN u 1 x = 1 → 1 ≤ gN u 3 x) (hk7 : gN u 1 x = 7 → 2 ≤ gN u 3 x) (hc2 : gN u 3 x ≤ 100000)
    (hp : ∀ p ∈ fptT (rawT u x), 0 ≤ p ∧ (p ≠ 0 → p.toNat < gL u 4 ∧ p.toNat < gL u 5 ∧ 0 ≤ gN u 5 p.toNat ∧ gN u 5 p.toNat ≤ 1000000)) (hfs : fsT (gN u 1 x) ≤ (gN u 3 x).toNat) :
    runT d 6 [(x : Int)] u = some (0, sA (sA u 4 (x : Int) (mzT (gN u 4) (rawT u x))) 5 (x : Int) (mlT (gN u 5) (rawT u x))) := by
  obtain ⟨d, rfl⟩ : ∃ d', d = d' + 1 := ⟨d - 1, by omega⟩
  rw [runT_eq (by omega)]
  show bX3_measure (runT d) x u = _
  unfold bX3_measure
  have fin : ∀ (S L : Int), (stA u 4 (x : Int) S fun s3 => stA s3 5 (x : Int) L fun s4 => some ((0 : Int), s4)) = some (0, sA (sA u 4 (x : Int) S) 5 (x : Int) L) := fun S L => by
    rw [stA_pos ⟨by omega, by omega⟩, stA_pos ⟨by omega, by rw [gL_sA]; omega⟩]
  have eR : (rawT u x).1 = gN u 1 x := rfl
  rw [jn_eq, ld_nat h1]
  unfold mzT mlT
  rw [eR]
  by_cases k1 : gN u 1 x = 1
  · have hg := rX3_get (d := d) (by omega) (u := u) (x := x) (i := 0) h2 hf (by have := hk1 k1; omega) (by omega)
    have e0 : ((rawT u x).2[0]?).getD 0 = gN u 9 ((gN u 2 x).toNat + 0) := by rw [rawT_at u (by have := hk1 k1; omega)]; rfl
    have hg' : runT d 7 [(x : Int), 0] u = some (gN u 9 ((gN u 2 x).toNat + 0), u) := hg
    rw [if_pos k1, if_pos k1, if_pos k1, cl_eq hg', un_eq, e0]
    exact fin _ _
  · rw [if_neg k1, if_neg k1, if_neg k1]
    by_cases k7 : gN u 1 x = 7
    · have h7 := hk7 k7
      have hg := rX3_get (d := d) (by omega) (u := u) (x := x) (i := 1) h2 hf (by omega) (by omega)
      have e1 : ((rawT u x).2[1]?).getD 0 = gN u 9 ((gN u 2 x).toNat + 1) := by rw [rawT_at u (by omega)]; rfl
      have hm : gN u 9 ((gN u 2 x).toNat + 1) ∈ fptT (rawT u x) := by
        unfold fptT
        rw [if_pos (show (rawT u x).1 = 7 from k7)]
        have a := rawT_at u (x := x) (i := 1) (by omega)
        have b : ((rawT u x).2.drop 1).take 1 = [gN u 9 ((gN u 2 x).toNat + 1)] := by
          cases hl : (rawT u x).2 with
          | nil => rw [hl] at a; simp at a
          | cons q r =>
            cases r with
            | nil => rw [hl] at a; simp at a
            | cons q2 r => rw [hl] at a; simp at a; simp [a]
        rw [b]; exact List.mem_cons_self
      have hp1 := hp _ hm
      rw [if_pos k7, if_pos k7, if_pos k7, ld_nat h3, ar_pos ⟨by omega, by omega⟩, un_eq, show (1 : Int) = ((1 : Nat) : Int) from rfl, cl_eq hg, e1, rawT_len, show (((gN u 3 x).toNat : Nat) : Int) = gN u 3 x by omega]
      by_cases hz : gN u 9 ((gN u 2 x).toNat + 1) ≤ 0
      · rw [if_pos hz, if_pos hz, if_pos hz]
        exact fin _ _
      · obtain ⟨b1, b2, b3, b4⟩ := hp1.2 (by omega)
        rw [if_neg hz, if_neg hz, if_neg hz, cl_eq hg, gd_pos (by simp [keeps]), ld_pos ⟨hp1.1, by omega⟩, un_eq, cl_eq hg, gd_pos (by simp [keeps]), ld_pos ⟨hp1.1, by omega⟩]
        exact fin _ _
    · rw [if_neg k7, if_neg k7, if_neg k7]
      by_cases k2 : gN u 1 x = 2
      · rw [if_pos k2, if_pos (Or.inl k2), if_pos (Or.inl k2)]; exact fin _ _
      by_cases k3 : gN u 1 x = 3
      · rw [if_neg k2, if_pos k3, if_pos (Or.inr (Or.inl k3)), if_pos (Or.inr (Or.inl k3))]; exact fin _ _
      by_cases k8 : gN u 1 x = 8
      · rw [if_neg k2, if_neg k3, if_pos k8, if_pos (Or.inr (Or.inr k8)), if_pos (Or.inr (Or.inr k8))]; exact fin _ _
      have hn : ¬ (gN u 1 x = 2 ∨ gN u 1 x = 3 ∨ gN u 1 x = 8) := by omega
      rw [if_neg k2, if_neg k3, if_neg k8, if_neg hn, if_neg hn, cl_eq (rX3_first (by omega))]
      have hKF : 200000 < KF := by decide
      rw [measure_L108 (by omega) h2 h3 hf hc he h9 ((rawT u x).2.drop (fsT (gN u 1 x))) (fsT (gN u 1 x)) KF 1 0 _ rfl (by rw [List.length_drop, rawT_len]; omega) (by rw [List.length_drop, rawT_len]; omega) (fun p hq => hp p (by
        unfold fptT
        rw [if_neg (show ¬ (rawT u x).1 = 7 from k7), if_neg (show ¬ ((rawT u x).1 = 1 ∨ (rawT u x).1 = 2 ∨ (rawT u x).1 = 3 ∨ (rawT u x).1 = 8) by rw [eR]; omega)]
        exact hq))]
      exact fin _ _
