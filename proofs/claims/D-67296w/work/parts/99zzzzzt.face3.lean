/-! face: count -/
def cntV (W : Wd) (Fo Pr : List Nat) (lc : Nat) (k : Int) : Option Nat := if k = 0 then some Fo.length else if k = 1 then some (wnM W) else if k = 2 then some (wnA W) else if k = 3 then some (wnF W) else if k = 4 then some (wnP W) else if k = 5 then some (wnG W) else if k = 6 then some Pr.length else if k = 7 then some lc else none
theorem cCount {d : Nat} (hd : 10 ≤ d) {W : Wd} {c : Nat} {Fo Pr : List Nat} {lc : Nat} {K : Int} {u : Sg} (h : ReC W c Fo Pr lc K u) (h9 : 0 ≤ gI u 99 ∧ gI u 99 < 1000000) (a : Int) : wp (runC d 93 [a] u) (fun r u' => (∃ n : Nat, cntV W Fo Pr lc a = some n ∧ r = (n : Int) ∧ ReC W c Fo Pr lc K u') ∨ (cntV W Fo Pr lc a = none ∧ r = exB + 1 ∧ ReC W c Fo Pr lc K u')) := by
  obtain ⟨d, rfl⟩ : ∃ e, d = e + 1 := ⟨d - 1, by omega⟩
  rw [runC_eq (by omega)]
  show wp (bX1_count (runC d) a u) _
  unfold bX1_count cntV
  have e0 := h.2.2.2.2.2.2.2.2.2.1.1
  have e1 := h.1.2.2.2.1.1
  have e2 := h.1.2.2.2.2.2.1.2.1
  have e3 := h.1.2.2.2.2.1.1
  have e4 := h.1.2.2.2.2.2.1.1.1
  have e5 := h.1.2.2.2.2.2.2.1
  have e6 := h.2.2.2.2.2.2.2.2.2.2.1.1
  have e7 := h.2.2.2.2.2.2.2.2.2.2.2.1
  by_cases q0 : a = 0
  · rw [if_pos q0, if_pos q0, wp_un, wp_some]; exact Or.inl ⟨_, rfl, e0, h⟩
  rw [if_neg q0, if_neg q0]
  by_cases q1 : a = 1
  · rw [if_pos q1, if_pos q1, wp_un, wp_some]; exact Or.inl ⟨_, rfl, e1, h⟩
  rw [if_neg q1, if_neg q1]
  by_cases q2 : a = 2
  · rw [if_pos q2, if_pos q2, wp_un, wp_some]; exact Or.inl ⟨_, rfl, e2, h⟩
  rw [if_neg q2, if_neg q2]
  by_cases q3 : a = 3
  · rw [if_pos q3, if_pos q3, wp_un, wp_some]; exact Or.inl ⟨_, rfl, e3, h⟩
  rw [if_neg q3, if_neg q3]
  by_cases q4 : a = 4
  · rw [if_pos q4, if_pos q4, wp_un, wp_some]; exact Or.inl ⟨_, rfl, e4, h⟩
  rw [if_neg q4, if_neg q4]
  by_cases q5 : a = 5
  · rw [if_pos q5, if_pos q5, wp_un, wp_some]; exact Or.inl ⟨_, rfl, e5, h⟩
  rw [if_neg q5, if_neg q5]
  by_cases q6 : a = 6
  · rw [if_pos q6, if_pos q6, wp_un, wp_some]; exact Or.inl ⟨_, rfl, e6, h⟩
  rw [if_neg q6, if_neg q6]
  by_cases q7 : a = 7
  · rw [if_pos q7, if_pos q7, wp_un, wp_some]; exact Or.inl ⟨_, rfl, e7, h⟩
  rw [if_neg q7, if_neg q7]
  unfold thr
  rw [if_pos h9, wp_some]
  exact Or.inr ⟨rfl, rfl, h.tS h9⟩
theorem tCount {d : Nat} (hd : 10 ≤ d) {W : Wd} {c : Nat} {Fo Pr : List Nat} {lc : Nat} {K : Int} {u : Sg} (h : ReT W c Fo Pr lc K u) (a : Int) : wp (runT d 117 [a] u) (fun b v => (∃ n : Nat, cntV W Fo Pr lc a = some n ∧ b = (n : Int) ∧ gI v 0 = 0 ∧ ReT W c Fo Pr lc K v) ∨ (cntV W Fo Pr lc a = none ∧ b = 0 ∧ gI v 0 = 1 ∧ ReT W c Fo Pr lc K v)) := by
  obtain ⟨d, rfl⟩ : ∃ e, d = e + 1 := ⟨d - 1, by omega⟩
  rw [runT_eq (by omega)]
  show wp (bX3_count (runT d) a u) _
  unfold bX3_count cntV
  have hs := h.s0 (v := 0) (by decide)
  rw [wp_un]
  have z : gI (sI u 0 0) 0 = 0 := by rw [gI_sI, if_pos rfl]
  have e0 := hs.2.2.2.2.2.2.2.2.1.1
  have e1 := hs.1.2.2.2.1.1
  have e2 := hs.1.2.2.2.2.2.1.2.1
  have e3 := hs.1.2.2.2.2.1.1
  have e4 := hs.1.2.2.2.2.2.1.1.1
  have e5 := hs.1.2.2.2.2.2.2.1
  have e6 := hs.2.2.2.2.2.2.2.2.2.1.1
  have e7 := hs.2.2.2.2.2.2.2.2.2.2.1
  by_cases q0 : a = 0
  · rw [if_pos q0, if_pos q0, wp_un, wp_some]; exact Or.inl ⟨_, rfl, e0, z, hs⟩
  rw [if_neg q0, if_neg q0]
  by_cases q1 : a = 1
  · rw [if_pos q1, if_pos q1, wp_un, wp_some]; exact Or.inl ⟨_, rfl, e1, z, hs⟩
  rw [if_neg q1, if_neg q1]
  by_cases q2 : a = 2
  · rw [if_pos q2, if_pos q2, wp_un, wp_some]; exact Or.inl ⟨_, rfl, e2, z, hs⟩
  rw [if_neg q2, if_neg q2]
  by_cases q3 : a = 3
  · rw [if_pos q3, if_pos q3, wp_un, wp_some]; exact Or.inl ⟨_, rfl, e3, z, hs⟩
  rw [if_neg q3, if_neg q3]
  by_cases q4 : a = 4
  · rw [if_pos q4, if_pos q4, wp_un, wp_some]; exact Or.inl ⟨_, rfl, e4, z, hs⟩
  rw [if_neg q4, if_neg q4]
  by_cases q5 : a = 5
  · rw [if_pos q5, if_pos q5, wp_un, wp_some]; exact Or.inl ⟨_, rfl, e5, z, hs⟩
  rw [if_neg q5, if_neg q5]
  by_cases q6 : a = 6
  · rw [if_pos q6, if_pos q6, wp_un, wp_some]; exact Or.inl ⟨_, rfl, e6, z, hs⟩
  rw [if_neg q6, if_neg q6]
  by_cases q7 : a = 7
  · rw [if_pos q7, if_pos q7, wp_un, wp_some]; exact Or.inl ⟨_, rfl, e7, z, hs⟩
  rw [if_neg q7, if_neg q7, fails_eq (by omega)]
  show wp (some (0, sI (sI u 0 0) 0 1)) _
  rw [wp_some]
  exact Or.inr ⟨rfl, rfl, by rw [gI_sI, if_pos rfl], hs.s0 (by decide)⟩
