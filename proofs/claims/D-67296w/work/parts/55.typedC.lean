/-! a type put together, in the class -/
def rup (r : Nat → Int) (k : Nat) (v : Int) : Nat → Int := fun p => if p = k then v else r p
theorem rup_id (r : Nat → Int) (k : Nat) : rup r k (r k) = r := by
  funext p
  unfold rup
  split
  · rename_i h; rw [h]
  · rfl
/-- only the row's entries have changed -/
def RwC (u u' : Sg) (r : Nat → Int) : Prop := EqS u u' ∧ gI u' 12 = gI u 12 ∧ gL u' 11 = gL u 11 ∧ (∀ p, gN u' 11 p = r p) ∧ WF FC u' ∧ Gr FC DX1_typed u u'
theorem RwC.rf {u : Sg} (hw : WF FC u) : RwC u u (fun p => gN u 11 p) := ⟨EqS.rf, rfl, rfl, fun _ => rfl, hw, Gr.rf⟩
theorem RwC.st {u u1 : Sg} {r : Nat → Int} {k : Nat} {v : Int} (h : RwC u u1 r) (hv : inR v) : RwC u (sA u1 11 (k : Int) v) (rup r k v) := by
  obtain ⟨h1, h2, h3, h4, h5, h6⟩ := h
  refine ⟨⟨fun j hj => ?_, fun j hj => by rw [gI_sA]; exact h1.2 j hj⟩, by rw [gI_sA]; exact h2, by rw [gL_sA]; exact h3, fun p => ?_, wfA h5 rfl hv, h6.tr (Gr_sA (by decide +kernel))⟩
  · rw [← h1.1 j hj]
    show va_up u1.2.1 11 _ j = _
    unfold va_up
    rw [if_neg (by omega)]
  · rw [gN_sAn]
    unfold rup
    by_cases hp : p = k
    · rw [if_pos ⟨rfl, hp⟩, if_pos hp]
    · rw [if_neg (fun q => hp q.2), if_neg hp]; exact h4 p
def InvI (r0 r : Nat → Int) (b i j : Nat) : Prop := (∀ p, p < b + j ∨ b + i < p → r p = r0 p) ∧ ∀ p, b + j < p → p ≤ b + i → r p = r0 (p - 1)
theorem RwC.rng {u u1 : Sg} {r : Nat → Int} (h : RwC u u1 r) (p : Nat) : inR (r p) := by
  rw [← h.2.2.2.1 p]
  exact h.2.2.2.2.1.2.2.2.1 11 p (by decide)
theorem typed_L39 {d : Nat} {u : Sg} {b n i : Nat} {v a1 a2 : Int} {Q : Int → Sg → Prop} {r0 : Nat → Int} (hb : b + n ≤ gL u 11) (hi : i < n) (hbn : b + n ≤ 60000) : ∀ (j f : Nat) (u1 : Sg) (r : Nat → Int), j ≤ i → j < f → RwC u u1 r → InvI r0 r b i j → (∀ p, b + j < p → p ≤ b + i → v < r p) → ∀ xx, (∀ (j' : Nat) (u2 : Sg) (r' : Nat → Int), j' ≤ i → RwC u u2 r' → InvI r0 r' b i j' → (0 < j' → r' (b + j' - 1) ≤ v) → (∀ p, b + j' < p → p ≤ b + i → v < r' p) → ((0 < j → r (b + j - 1) ≤ v) → j' = j ∧ r' = r) → wp (xx a1 a2 (b : Int) (n : Int) (i : Int) v (j' : Int) u2) Q) → wp (bX1_typed_L39 (runC d) f a1 a2 (b : Int) (n : Int) (i : Int) v (j : Int) u1 xx) Q := by
  intro j
  induction j with
  | zero =>
    intro f u1 r hj hf hR hI hgt xx k
    obtain ⟨f, rfl⟩ : ∃ f', f = f' + 1 := ⟨f - 1, by omega⟩
    rw [bX1_typed_L39, if_pos (by omega)]
    exact k 0 u1 r (by omega) hR hI (fun q => by omega) hgt (fun _ => ⟨rfl, rfl⟩)
  | succ j ih =>
    intro f u1 r hj hf hR hI hgt xx k
    obtain ⟨f, rfl⟩ : ∃ f', f = f' + 1 := ⟨f - 1, by omega⟩
    have hl : gL u1 11 = gL u 11 := hR.2.2.1
    rw [bX1_typed_L39, if_neg (by omega), wp_ar]
    refine ⟨⟨by omega, by omega⟩, ?_⟩
    rw [wp_ar]
    refine ⟨⟨by omega, by omega⟩, ?_⟩
    rw [show (b : Int) + ((j + 1 : Nat) : Int) - 1 = ((b + j : Nat) : Int) by omega, ld_nat (by omega), hR.2.2.2.1]
    refine wp_ite (fun h => ?_) (fun h => ?_)
    · exact k (j + 1) u1 r hj hR hI (fun _ => by rw [show b + (j + 1) - 1 = b + j by omega]; exact h) hgt (fun _ => ⟨rfl, rfl⟩)
    · rw [wp_ar]
      refine ⟨⟨by omega, by omega⟩, ?_⟩
      rw [wp_ar]
      refine ⟨⟨by omega, by omega⟩, ?_⟩
      rw [wp_ar]
      refine ⟨⟨by omega, by omega⟩, ?_⟩
      rw [show (b : Int) + ((j + 1 : Nat) : Int) - 1 = ((b + j : Nat) : Int) by omega, ld_nat (by omega), hR.2.2.2.1, show (b : Int) + ((j + 1 : Nat) : Int) = ((b + (j + 1) : Nat) : Int) by omega, stA_pos ⟨by omega, by omega⟩, wp_ar]
      refine ⟨⟨by omega, by omega⟩, ?_⟩
      rw [show ((j + 1 : Nat) : Int) + (-1) = (j : Int) by omega]
      refine ih f _ (rup r (b + (j + 1)) (r (b + j))) (by omega) (by omega) (hR.st (hR.rng _)) ⟨fun p hp => ?_, fun p hp hp2 => ?_⟩ (fun p hp hp2 => ?_) xx (fun j' u2 r' q1 q2 q3 q5 q6 q4 => k j' u2 r' q1 q2 q3 q5 q6 (fun q => ?_))
      · unfold rup
        rw [if_neg (by omega)]
        exact hI.1 p (by omega)
      · unfold rup
        by_cases hpe : p = b + (j + 1)
        · rw [if_pos hpe, hI.1 (b + j) (by omega), hpe]; rfl
        · rw [if_neg hpe]; exact hI.2 p (by omega) hp2
      · unfold rup
        by_cases hpe : p = b + (j + 1)
        · rw [if_pos hpe]; omega
        · rw [if_neg hpe]; exact hgt p (by omega) hp2
      · exact absurd (q (by omega)) h
/-- the row from b on holds the same numbers as before, in another order perhaps -/
def PmR (b n : Nat) (r0 r : Nat → Int) : Prop := (∀ q, q < n → ∃ q', q' < n ∧ r (b + q) = r0 (b + q')) ∧ (∀ q, q < n → ∃ q', q' < n ∧ r0 (b + q) = r (b + q')) ∧ (∀ p, p < b ∨ b + n ≤ p → r p = r0 p) ∧ ((∀ q q', q < n → q' < n → r0 (b + q) = r0 (b + q') → q = q') → ∀ q q', q < n → q' < n → r (b + q) = r (b + q') → q = q') ∧ ((∀ q, q + 1 < n → r0 (b + q) < r0 (b + q + 1)) → r = r0)
theorem PmR.rf (b n : Nat) (r : Nat → Int) : PmR b n r r := ⟨fun q h => ⟨q, h, rfl⟩, fun q h => ⟨q, h, rfl⟩, fun _ _ => rfl, fun h => h, fun _ => rfl⟩
theorem PmR.ins {b n i j : Nat} {r0 r r' : Nat → Int} (h : PmR b n r0 r) (hi : i < n) (hj : j ≤ i) (hI : InvI r r' b i j) (hasc : (∀ q, q + 1 < n → r0 (b + q) < r0 (b + q + 1)) → j = i) : PmR b n r0 (rup r' (b + j) (r (b + i))) := by
  obtain ⟨h1, h2, h3, h4, h5⟩ := h
  have e : ∀ p, rup r' (b + j) (r (b + i)) p = if p = b + j then r (b + i) else if b + j < p ∧ p ≤ b + i then r (p - 1) else r p := fun p => by
    unfold rup
    by_cases hp : p = b + j
    · rw [if_pos hp, if_pos hp]
    · rw [if_neg hp, if_neg hp]
      by_cases hq : b + j < p ∧ p ≤ b + i
      · rw [if_pos hq]; exact hI.2 p hq.1 hq.2
      · rw [if_neg hq]; exact hI.1 p (by omega)
  have eq : ∀ q, q < n → ∃ q', q' < n ∧ rup r' (b + j) (r (b + i)) (b + q) = r (b + q') ∧ ((q = j ∧ q' = i) ∨ (j < q ∧ q ≤ i ∧ q' + 1 = q) ∨ ((q < j ∨ i < q) ∧ q' = q)) := fun q hq => by
    rw [e]
    by_cases h1 : q = j
    · exact ⟨i, hi, by rw [if_pos (by omega)], Or.inl ⟨h1, rfl⟩⟩
    · rw [if_neg (by omega)]
      by_cases h2 : j < q ∧ q ≤ i
      · rw [if_pos (by omega), show b + q - 1 = b + (q - 1) by omega]
        exact ⟨q - 1, by omega, rfl, Or.inr (Or.inl ⟨h2.1, h2.2, by omega⟩)⟩
      · rw [if_neg (by omega)]
        exact ⟨q, hq, rfl, Or.inr (Or.inr ⟨by omega, rfl⟩)⟩
  have eq2 : ∀ q', q' < n → ∃ q, q < n ∧ rup r' (b + j) (r (b + i)) (b + q) = r (b + q') := fun q' hq' => by
    by_cases h1 : q' = i
    · refine ⟨j, by omega, ?_⟩
      rw [e, if_pos rfl, h1]
    · by_cases h2 : j ≤ q' ∧ q' < i
      · refine ⟨q' + 1, by omega, ?_⟩
        rw [e, if_neg (by omega), if_pos (by omega)]; rfl
      · refine ⟨q', hq', ?_⟩
        rw [e, if_neg (by omega), if_neg (by omega)]
  refine ⟨fun q hq => ?_, fun q hq => ?_, fun p hp => ?_, fun hd q q' hq hq' he => ?_, fun ha => ?_⟩
  · obtain ⟨q', hq', e1, _⟩ := eq q hq
    obtain ⟨q2, hq2, e2⟩ := h1 q' hq'
    exact ⟨q2, hq2, by rw [e1, e2]⟩
  · obtain ⟨q', hq', e1⟩ := h2 q hq
    obtain ⟨q2, hq2, e2⟩ := eq2 q' hq'
    exact ⟨q2, hq2, by rw [e1, e2]⟩
  · rw [e, if_neg (by omega), if_neg (by omega)]
    exact h3 p hp
  · obtain ⟨p1, hp1, e1, c1⟩ := eq q hq
    obtain ⟨p2, hp2, e2, c2⟩ := eq q' hq'
    rw [e1, e2] at he
    have := h4 hd p1 p2 hp1 hp2 he
    omega
  · have hji := hasc ha
    have hr := h5 ha
    funext p
    rw [e, hji]
    by_cases hp : p = b + i
    · rw [if_pos hp, hp, hr]
    · rw [if_neg hp, if_neg (by omega), hr]
theorem typed_L14 {d : Nat} {u : Sg} {b n : Nat} {a1 a2 : Int} {Q : Int → Sg → Prop} {r0 : Nat → Int} (hb : b + n ≤ gL u 11) (hbn : b + n ≤ 60000) : ∀ (m i f : Nat) (u1 : Sg) (r : Nat → Int), i + m = n ∨ (n < i ∧ m = 0) → m < f → 1 ≤ i → RwC u u1 r → PmR b n r0 r → (∀ q, q + 1 < i → q + 1 < n → r (b + q) ≤ r (b + q + 1)) → ∀ xx, (∀ (u2 : Sg) (r' : Nat → Int), RwC u u2 r' → PmR b n r0 r' → (∀ q, q + 1 < n → r' (b + q) ≤ r' (b + q + 1)) → wp (xx a1 a2 (b : Int) (n : Int) u2) Q) → wp (bX1_typed_L14 (runC d) f a1 a2 (b : Int) (n : Int) (i : Int) u1 xx) Q := by
  intro m
  induction m with
  | zero =>
    intro i f u1 r hi hf h1 hR hP hS xx k
    obtain ⟨f, rfl⟩ : ∃ f', f = f' + 1 := ⟨f - 1, by omega⟩
    rw [bX1_typed_L14, if_neg (by omega)]
    exact k u1 r hR hP (fun q hq => hS q (by omega) hq)
  | succ m ih =>
    intro i f u1 r hi hf h1 hR hP hS xx k
    obtain ⟨f, rfl⟩ : ∃ f', f = f' + 1 := ⟨f - 1, by omega⟩
    have hl : gL u1 11 = gL u 11 := hR.2.2.1
    have hKF := KF_gt
    rw [bX1_typed_L14, if_pos (by omega), wp_ar]
    refine ⟨⟨by omega, by omega⟩, ?_⟩
    rw [show (b : Int) + (i : Int) = ((b + i : Nat) : Int) by omega, ld_nat (by omega), hR.2.2.2.1]
    refine typed_L39 hb (by omega) hbn i KF u1 r (Nat.le_refl _) (Nat.lt_of_le_of_lt (by omega : _ ≤ 65536) hKF) hR ⟨fun p hp => rfl, fun p q1 q2 => by omega⟩ (fun p q1 q2 => by omega) _ (fun j' u2 r' q1 q2 q3 q5 q6 q4 => ?_)
    rw [wp_ar]
    refine ⟨⟨by omega, by omega⟩, ?_⟩
    have hl2 : gL u2 11 = gL u 11 := q2.2.2.1
    rw [show (b : Int) + (j' : Int) = ((b + j' : Nat) : Int) by omega, stA_pos ⟨by omega, by omega⟩, wp_ar]
    refine ⟨⟨by omega, by omega⟩, ?_⟩
    rw [show (i : Int) + 1 = ((i + 1 : Nat) : Int) by omega]
    refine ih (i + 1) f _ _ (by omega) (by omega) (by omega) (q2.st (hR.rng _)) (hP.ins (by omega) q1 q3 (fun ha => ?_)) (fun q z1 z2 => ?_) xx k
    · have hr := hP.2.2.2.2 ha
      refine (q4 (fun _ => ?_)).1
      rw [hr]
      have := ha (i - 1) (by omega)
      rw [show b + (i - 1) + 1 = b + i by omega, show b + (i - 1) = b + i - 1 by omega] at this
      omega
    · unfold rup
      by_cases c1 : q = j'
      · rw [if_pos (by omega), if_neg (by omega)]
        have := q6 (b + q + 1) (by omega) (by omega)
        omega
      · rw [if_neg (by omega)]
        by_cases c2 : q + 1 = j'
        · rw [if_pos (by omega)]
          have := q5 (by omega)
          rw [show b + j' - 1 = b + q by omega] at this
          exact this
        · rw [if_neg (by omega)]
          by_cases c3 : q < j'
          · rw [q3.1 (b + q) (by omega), q3.1 (b + q + 1) (by omega)]
            exact hS q (by omega) (by omega)
          · rw [q3.2 (b + q) (by omega) (by omega), q3.2 (b + q + 1) (by omega) (by omega)]
            have := hS (q - 1) (by omega) (by omega)
            rw [show b + (q - 1) = b + q - 1 by omega, show b + q - 1 + 1 = b + q + 1 - 1 by omega] at this
            exact this
theorem typed_L121 {d : Nat} {u : Sg} {b n : Nat} {a1 a2 : Int} {Q : Int → Sg → Prop} {r : Nat → Int} (hb : b + n ≤ gL u 11) (hbn : b + n ≤ 60000) (hdist : ∀ q q', q < n → q' < n → r (b + q) = r (b + q') → q = q') : ∀ (m i f : Nat) (u1 : Sg), i + m = n → m < f → RwC u u1 r → ∀ xx, (∀ (u2 : Sg), RwC u u2 r → wp (xx a1 a2 (b : Int) (n : Int) u2) Q) → wp (bX1_typed_L121 (runC d) f a1 a2 (b : Int) (n : Int) (i : Int) (i : Int) u1 xx) Q := by
  intro m
  induction m with
  | zero =>
    intro i f u1 hi hf hR xx k
    obtain ⟨f, rfl⟩ : ∃ f', f = f' + 1 := ⟨f - 1, by omega⟩
    have e : i = n := by omega
    subst e
    rw [bX1_typed_L121, if_neg (by omega)]
    exact k u1 hR
  | succ m ih =>
    intro i f u1 hi hf hR xx k
    obtain ⟨f, rfl⟩ : ∃ f', f = f' + 1 := ⟨f - 1, by omega⟩
    have hl : gL u1 11 = gL u 11 := hR.2.2.1
    have nxt : wp (ar ((b : Int) + (i : Int)) fun v3 => ar ((b : Int) + (i : Int)) fun v4 => ld u1 11 v4 fun v5 => stA u1 11 v3 v5 fun s6 => ar ((i : Int) + 1) fun v7 => ar ((i : Int) + 1) fun v8 => bX1_typed_L121 (runC d) f a1 a2 (b : Int) (n : Int) v7 v8 s6 xx) Q := by
      rw [wp_ar]
      refine ⟨⟨by omega, by omega⟩, ?_⟩
      rw [wp_ar]
      refine ⟨⟨by omega, by omega⟩, ?_⟩
      rw [show (b : Int) + (i : Int) = ((b + i : Nat) : Int) by omega, ld_nat (by omega), hR.2.2.2.1, stA_pos ⟨by omega, by omega⟩, wp_ar]
      refine ⟨⟨by omega, by omega⟩, ?_⟩
      rw [wp_ar]
      refine ⟨⟨by omega, by omega⟩, ?_⟩
      rw [show (i : Int) + 1 = ((i + 1 : Nat) : Int) by omega]
      have := hR.st (k := b + i) (hR.rng (b + i))
      rw [rup_id] at this
      exact ih (i + 1) f _ (by omega) (by omega) this xx k
    rw [bX1_typed_L121, if_pos (by omega), wp_jn]
    refine wp_ite (fun h => nxt) (fun h => ?_)
    rw [wp_ar]
    refine ⟨⟨by omega, by omega⟩, ?_⟩
    rw [show (b : Int) + (i : Int) = ((b + i : Nat) : Int) by omega, ld_nat (by omega), hR.2.2.2.1, wp_ar]
    refine ⟨⟨by omega, by omega⟩, ?_⟩
    rw [wp_ar]
    refine ⟨⟨by omega, by omega⟩, ?_⟩
    rw [show ((b + i : Nat) : Int) - 1 = ((b + (i - 1) : Nat) : Int) by omega, ld_nat (by omega), hR.2.2.2.1, if_neg (fun q => by have := hdist i (i - 1) (by omega) (by omega) q; omega)]
    exact nxt
theorem typed_L221 {d : Nat} {u : Sg} {b n : Nat} {a1 a2 : Int} {Q : Int → Sg → Prop} {r0 : Nat → Int} (hb : b + n < gL u 11) (hbn : b + n ≤ 60000) : ∀ (i f : Nat) (u1 : Sg) (r : Nat → Int), i ≤ n → i < f → RwC u u1 r → (∀ p, p ≤ b + i ∨ b + n < p → r p = r0 p) → (∀ p, b + i < p → p ≤ b + n → r p = r0 (p - 1)) → ∀ xx, (∀ (u2 : Sg) (r' : Nat → Int), RwC u u2 r' → (∀ p, p ≤ b ∨ b + n < p → r' p = r0 p) → (∀ p, b < p → p ≤ b + n → r' p = r0 (p - 1)) → wp (xx a1 a2 (b : Int) u2) Q) → wp (bX1_typed_L221 (runC d) f a1 a2 (b : Int) (i : Int) u1 xx) Q := by
  intro i
  induction i with
  | zero =>
    intro f u1 r hi hf hR h1 h2 xx k
    obtain ⟨f, rfl⟩ : ∃ f', f = f' + 1 := ⟨f - 1, by omega⟩
    rw [bX1_typed_L221, if_pos (by omega)]
    exact k u1 r hR h1 h2
  | succ i ih =>
    intro f u1 r hi hf hR h1 h2 xx k
    obtain ⟨f, rfl⟩ : ∃ f', f = f' + 1 := ⟨f - 1, by omega⟩
    have hl : gL u1 11 = gL u 11 := hR.2.2.1
    rw [bX1_typed_L221, if_neg (by omega), wp_ar]
    refine ⟨⟨by omega, by omega⟩, ?_⟩
    rw [wp_ar]
    refine ⟨⟨by omega, by omega⟩, ?_⟩
    rw [wp_ar]
    refine ⟨⟨by omega, by omega⟩, ?_⟩
    rw [show (b : Int) + ((i + 1 : Nat) : Int) - 1 = ((b + i : Nat) : Int) by omega, ld_nat (by omega), hR.2.2.2.1, show (b : Int) + ((i + 1 : Nat) : Int) = ((b + (i + 1) : Nat) : Int) by omega, stA_pos ⟨by omega, by omega⟩, wp_ar]
    refine ⟨⟨by omega, by omega⟩, ?_⟩
    rw [show ((i + 1 : Nat) : Int) + (-1) = (i : Int) by omega]
    refine ih f _ (rup r (b + (i + 1)) (r (b + i))) (by omega) (by omega) (hR.st (hR.rng _)) (fun p hp => ?_) (fun p hp hp2 => ?_) xx k
    · unfold rup
      rw [if_neg (by omega)]
      exact h1 p (by omega)
    · unfold rup
      by_cases hpe : p = b + (i + 1)
      · rw [if_pos hpe, h1 (b + i) (by omega), hpe]; rfl
      · rw [if_neg hpe]; exact h2 p (by omega) hp2
