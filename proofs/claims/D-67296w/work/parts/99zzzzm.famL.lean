/-! the law's family: the class with its store, the array `out` (90), the model (200 and on) -/
def kdL (i : Nat) : Nat := if i < 90 then kdC i else if i = 90 then 2 else if i < 200 then 0 else kdT (i - 200)
abbrev FL : Fm := ([(0, 0, 21), (1, 30, 57), (2, 200, 83)], kdL, FC.2.2 ++ ([90] ++ FT.2.2.map (200 + ·)))
theorem FL_ok : FOK FL := ⟨by decide, by decide⟩
theorem kdL_le (j : Nat) : kdL j ≤ 5 := by
  unfold kdL
  have h1 := kdC_le j
  have h2 := kdT_le (j - 200)
  split
  · exact h1
  · split
    · omega
    · split
      · omega
      · exact h2
theorem FL_10 : FO10 FL := fun j k h => by have := kdL_le j; have h : kdL j = k + 5 := h; omega
def dnC (σ : Sg) : Sg := (fun k => if k < 100 then gI σ k else 0, fun k => if k < 90 then σ.2.1 k else (0, fun _ => 0), 0, 0)
def umC (σ τ : Sg) : Sg := (fun k => if k < 100 then gI τ k else gI σ k, fun k => if k < 90 then τ.2.1 k else σ.2.1 k, gC σ + gC τ, gS σ + gS τ)
def dnT (σ : Sg) : Sg := (fun k => gI σ (200 + k), fun k => σ.2.1 (200 + k), 0, 0)
def umT (σ τ : Sg) : Sg := (fun k => if k < 200 then gI σ k else gI τ (k - 200), fun k => if k < 200 then σ.2.1 k else τ.2.1 (k - 200), gC σ + gC τ, gS σ + gS τ)
theorem kdC_hi {k : Nat} (h : 87 ≤ k) : kdC k = 0 := by
  unfold kdC
  rw [List.getD_eq_getElem?_getD, List.getElem?_eq_none (by show 87 ≤ k; exact h)]
  rfl
theorem kdL_c {k : Nat} (h : k < 90) : kdL k = kdC k := by unfold kdL; rw [if_pos h]
theorem kdL_t (k : Nat) : kdL (200 + k) = kdT k := by
  unfold kdL
  rw [if_neg (by omega), if_neg (by omega), if_neg (by omega), Nat.add_sub_cancel_left]
theorem dnC_A {σ : Sg} {k : Nat} (h : k < 90) : (dnC σ).2.1 k = σ.2.1 k := by
  show (if k < 90 then σ.2.1 k else (0, fun _ => 0)) = _
  rw [if_pos h]
theorem dnC_I {σ : Sg} {k : Nat} (h : k < 100) : gI (dnC σ) k = gI σ k := by
  show (if k < 100 then gI σ k else 0) = _
  rw [if_pos h]
theorem umC_A {σ τ : Sg} {k : Nat} (h : k < 90) : (umC σ τ).2.1 k = τ.2.1 k := by
  show (if k < 90 then τ.2.1 k else σ.2.1 k) = _
  rw [if_pos h]
theorem umC_A' {σ τ : Sg} {k : Nat} (h : 90 ≤ k) : (umC σ τ).2.1 k = σ.2.1 k := by
  show (if k < 90 then τ.2.1 k else σ.2.1 k) = _
  rw [if_neg (by omega)]
theorem umC_I {σ τ : Sg} {k : Nat} (h : k < 100) : gI (umC σ τ) k = gI τ k := by
  show (if k < 100 then gI τ k else gI σ k) = _
  rw [if_pos h]
theorem umC_I' {σ τ : Sg} {k : Nat} (h : 100 ≤ k) : gI (umC σ τ) k = gI σ k := by
  show (if k < 100 then gI τ k else gI σ k) = _
  rw [if_neg (by omega)]
theorem umT_A {σ τ : Sg} {k : Nat} : (umT σ τ).2.1 (200 + k) = τ.2.1 k := by
  show (if 200 + k < 200 then σ.2.1 (200 + k) else τ.2.1 (200 + k - 200)) = _
  rw [if_neg (by omega), Nat.add_sub_cancel_left]
theorem umT_A' {σ τ : Sg} {k : Nat} (h : k < 200) : (umT σ τ).2.1 k = σ.2.1 k := by
  show (if k < 200 then σ.2.1 k else τ.2.1 (k - 200)) = _
  rw [if_pos h]
theorem umT_I {σ τ : Sg} {k : Nat} : gI (umT σ τ) (200 + k) = gI τ k := by
  show (if 200 + k < 200 then gI σ (200 + k) else gI τ (200 + k - 200)) = _
  rw [if_neg (by omega), Nat.add_sub_cancel_left]
theorem umT_I' {σ τ : Sg} {k : Nat} (h : k < 200) : gI (umT σ τ) k = gI σ k := by
  show (if k < 200 then gI σ k else gI τ (k - 200)) = _
  rw [if_pos h]
theorem gL_of {σ τ : Sg} {j k : Nat} (h : σ.2.1 j = τ.2.1 k) : gL σ j = gL τ k := congrArg Prod.fst h
theorem gF_of {σ τ : Sg} {j k : Nat} (h : σ.2.1 j = τ.2.1 k) : gF σ j = gF τ k := congrArg Prod.snd h
theorem dnC_hiL {σ : Sg} {k : Nat} (h : ¬ k < 90) : gL (dnC σ) k = 0 := by
  show (if k < 90 then σ.2.1 k else (0, fun _ => 0)).1 = 0
  rw [if_neg h]
theorem dnC_hiF {σ : Sg} {k : Nat} (h : ¬ k < 90) : gF (dnC σ) k = fun _ => 0 := by
  show (if k < 90 then σ.2.1 k else (0, fun _ => 0)).2 = _
  rw [if_neg h]
theorem dnC_hiI {σ : Sg} {k : Nat} (h : ¬ k < 100) : gI (dnC σ) k = 0 := by
  show (if k < 100 then gI σ k else 0) = 0
  rw [if_neg h]
theorem WF.dnC {σ : Sg} (h : WF FL σ) : WF FC (dnC σ) := by
  obtain ⟨h1, h2, h3, h4, h5, h6⟩ := h
  refine ⟨fun id => ?_, fun id => ?_, fun id j hk => ?_, fun id j hk => ?_, fun id j hk => ?_, fun id hk => ?_⟩
  · by_cases q : id < 100
    · rw [dnC_I q]; exact h1 id
    · rw [dnC_hiI q]; decide
  · by_cases q : id < 90
    · rw [gL_of (dnC_A q)]; exact h2 id
    · rw [dnC_hiL q]; omega
  · by_cases q : id < 90
    · rw [gF_of (dnC_A q)]; exact h3 id j ((kdL_c q).trans hk)
    · rw [dnC_hiF q]; exact ⟨by show _ ≤ (0 : Int); decide, by show (0 : Int) < _; decide⟩
  · by_cases q : id < 90
    · rw [gF_of (dnC_A q)]; exact h4 id j (fun e => hk ((kdL_c q).symm.trans e))
    · rw [dnC_hiF q]; exact ⟨by show _ ≤ (0 : Int); decide, by show (0 : Int) < _; decide⟩
  · by_cases q : id < 90
    · rw [gF_of (dnC_A q)]; exact h5 id j ((kdL_c q).trans hk)
    · rw [dnC_hiF q]; left; rfl
  · have hk : kdC id = 4 := hk
    have q : id < 90 := by
      by_cases q : id < 90
      · exact q
      · rw [kdC_hi (by omega)] at hk; cases hk
    rw [dnC_I (by omega)]
    exact h6 id ((kdL_c q).trans hk)
theorem WF.umC {σ τ : Sg} (h : WF FL σ) (h' : WF FC τ) : WF FL (umC σ τ) := by
  obtain ⟨h1, h2, h3, h4, h5, h6⟩ := h
  obtain ⟨g1, g2, g3, g4, g5, g6⟩ := h'
  refine ⟨fun id => ?_, fun id => ?_, fun id j hk => ?_, fun id j hk => ?_, fun id j hk => ?_, fun id hk => ?_⟩
  · by_cases q : id < 100
    · rw [umC_I q]; exact g1 id
    · rw [umC_I' (by omega)]; exact h1 id
  · by_cases q : id < 90
    · rw [gL_of (umC_A q)]; exact g2 id
    · rw [gL_of (umC_A' (by omega))]; exact h2 id
  · by_cases q : id < 90
    · rw [gF_of (umC_A q)]; exact g3 id j ((kdL_c q).symm.trans hk)
    · rw [gF_of (umC_A' (by omega))]; exact h3 id j hk
  · by_cases q : id < 90
    · rw [gF_of (umC_A q)]; exact g4 id j (fun e => hk ((kdL_c q).trans e))
    · rw [gF_of (umC_A' (by omega))]; exact h4 id j hk
  · by_cases q : id < 90
    · rw [gF_of (umC_A q)]; exact g5 id j ((kdL_c q).symm.trans hk)
    · rw [gF_of (umC_A' (by omega))]; exact h5 id j hk
  · have hk : kdL id = 4 := hk
    by_cases q : id < 90
    · rw [umC_I (by omega)]; exact g6 id ((kdL_c q).symm.trans hk)
    · have q2 : 100 ≤ id := by
        by_cases q2 : 100 ≤ id
        · exact q2
        · unfold kdL at hk
          rw [if_neg q] at hk
          split at hk
          · cases hk
          · rw [if_pos (by omega)] at hk; cases hk
      rw [umC_I' q2]; exact h6 id hk
theorem WF.dnT {σ : Sg} (h : WF FL σ) : WF FT (dnT σ) := by
  obtain ⟨h1, h2, h3, h4, h5, h6⟩ := h
  exact ⟨fun id => h1 (200 + id), fun id => h2 (200 + id), fun id j hk => h3 (200 + id) j ((kdL_t id).trans hk), fun id j hk => h4 (200 + id) j (fun e => hk ((kdL_t id).symm.trans e)), fun id j hk => h5 (200 + id) j ((kdL_t id).trans hk), fun id hk => h6 (200 + id) ((kdL_t id).trans hk)⟩
theorem lt_or_t (id : Nat) : id < 200 ∨ ∃ k, id = 200 + k := by
  by_cases q : id < 200
  · exact Or.inl q
  · exact Or.inr ⟨id - 200, by omega⟩
theorem WF.umT {σ τ : Sg} (h : WF FL σ) (h' : WF FT τ) : WF FL (umT σ τ) := by
  obtain ⟨h1, h2, h3, h4, h5, h6⟩ := h
  obtain ⟨g1, g2, g3, g4, g5, g6⟩ := h'
  refine ⟨fun id => ?_, fun id => ?_, fun id j hk => ?_, fun id j hk => ?_, fun id j hk => ?_, fun id hk => ?_⟩
  · rcases lt_or_t id with q | ⟨k, rfl⟩
    · rw [umT_I' q]; exact h1 id
    · rw [umT_I]; exact g1 k
  · rcases lt_or_t id with q | ⟨k, rfl⟩
    · rw [gL_of (umT_A' q)]; exact h2 id
    · rw [gL_of umT_A]; exact g2 k
  · rcases lt_or_t id with q | ⟨k, rfl⟩
    · rw [gF_of (umT_A' q)]; exact h3 id j hk
    · rw [gF_of umT_A]; exact g3 k j ((kdL_t k).symm.trans hk)
  · rcases lt_or_t id with q | ⟨k, rfl⟩
    · rw [gF_of (umT_A' q)]; exact h4 id j hk
    · rw [gF_of umT_A]; exact g4 k j (fun e => hk ((kdL_t k).trans e))
  · rcases lt_or_t id with q | ⟨k, rfl⟩
    · rw [gF_of (umT_A' q)]; exact h5 id j hk
    · rw [gF_of umT_A]; exact g5 k j ((kdL_t k).symm.trans hk)
  · rcases lt_or_t id with q | ⟨k, rfl⟩
    · rw [umT_I' q]; exact h6 id hk
    · rw [umT_I]; exact g6 k ((kdL_t k).symm.trans hk)
