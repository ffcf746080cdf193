/-! a form is made: room, and the new node -/
/-- as u in all that the store holds; arrays may be longer -/
def SameS (u s : Sg) : Prop := IC1 s ∧ (∀ k, k ≤ 6 → ∀ x, x < nC u → gN s k x = gN u k x) ∧ (∀ i, i < pC u → gN s 7 i = gN u 7 i) ∧ (∀ i, gN s 8 i = gN u 8 i) ∧ (∀ i, i < rC u → gN s 11 i = gN u 11 i) ∧ nC s = nC u ∧ pC s = pC u ∧ rC s = rC u
theorem SameS.raw {u s : Sg} (h : SameS u s) (h2 : IC2 u) {x : Nat} (h0 : 0 < x) (hx : x < nC u) : rawC s x = rawC u x := by
  obtain ⟨a1, a2, a3, a4, a5, a6, a7, a8⟩ := h
  unfold rawC
  rw [a2 0 (by omega) x hx, a2 1 (by omega) x hx, a2 2 (by omega) x hx, a2 3 (by omega) x hx]
  congr 2
  refine List.map_congr_left (fun i hi => ?_)
  have := List.mem_range.mp hi
  have := (h2.1 x h0 hx).2
  exact a3 _ (by omega)
theorem szE_congr {s s' : Nat → Int} {r : Int × Int × List Int} (h : ∀ p ∈ fptR r, p = 0 ∨ s p.toNat = s' p.toNat) : szE s r = szE s' r := by
  have hg : ∀ p ∈ fptR r, gz s p = gz s' p := fun p hp => by
    unfold gz
    split
    · rfl
    · rcases h p hp with q | q
      · contradiction
      · exact q
  unfold szE
  unfold fptR at hg
  split
  · rename_i hk
    simp only [hk, if_true] at hg
    rw [List.map_congr_left hg]
  · rename_i hk
    simp only [hk, if_false] at hg
    rw [List.map_congr_left hg]
theorem loF_congr {s s' : Nat → Int} {k : Int} : ∀ (l : List Int) (i : Nat) (acc : Int), (∀ p ∈ l, p = 0 ∨ s p.toNat = s' p.toNat) → loF s k i acc l = loF s' k i acc l
  | [], _, _, _ => rfl
  | p :: l, i, acc, h => by
    rw [loF, loF, loF_congr l (i + 1) _ (fun q hq => h q (List.mem_cons_of_mem _ hq))]
    rcases h p List.mem_cons_self with q | q
    · rw [if_pos q, if_pos q]
    · rw [q]
theorem loE_congr {s s' : Nat → Int} {r : Int × Int × List Int} (h : ∀ p ∈ fptR r, p = 0 ∨ s p.toNat = s' p.toNat) : loE s r = loE s' r := loF_congr _ _ _ h
theorem topOf_congr {hs hs' : Nat → Int} {n : Nat} {b y : Int} (h : ∀ z, 0 < z → z < n → hs z = hs' z) (t : topOf hs n b y) : topOf hs' n b y := by
  rcases t with ⟨e, t⟩ | ⟨m, e, m0, mn, mb, mt⟩
  · exact Or.inl ⟨e, fun z h0 hz => by rw [← h z h0 hz]; exact t z h0 hz⟩
  · exact Or.inr ⟨m, e, m0, mn, by rw [← h m m0 mn]; exact mb, fun z hm hz => by rw [← h z (by omega) hz]; exact mt z hm hz⟩
theorem fptR_sub {r : Int × Int × List Int} {p : Int} (h : p ∈ fptR r) : p ∈ r.2.2 := by
  unfold fptR at h
  split at h
  · exact List.mem_of_mem_take h
  · exact h
theorem raw_mem {σ : Sg} {x : Nat} {p : Int} (h : p ∈ (rawC σ x).2.2) : ∃ i, i < (gN σ 3 x).toNat ∧ p = gN σ 7 ((gN σ 2 x).toNat + i) := by
  unfold rawC at h
  obtain ⟨i, hi, e⟩ := List.mem_map.mp h
  exact ⟨i, List.mem_range.mp hi, e.symm⟩
theorem raw_nn {σ : Sg} (h : IC2 σ) {x : Nat} (h0 : 0 < x) (hx : x < nC σ) {p : Int} (hp : p ∈ (rawC σ x).2.2) : 0 ≤ p := by
  obtain ⟨i, hi, rfl⟩ := raw_mem hp
  have := (h.1 x h0 hx).2
  exact h.2 _ (by omega)
theorem SameS.ic {u s : Sg} (h : SameS u s) (hI : IC u) : IC s := by
  have hs := h
  obtain ⟨h1, h2, h3, h4, h5⟩ := hI
  obtain ⟨a1, a2, a3, a4, a5, a6, a7, a8⟩ := h
  have hraw : ∀ x, 0 < x → x < nC u → rawC s x = rawC u x := fun x h0 hx => hs.raw h2 h0 hx
  have hhs : ∀ z, 0 < z → z < nC u → hsx u z = hsx s z := fun z h0 hz => by unfold hsx; rw [hraw z h0 hz]
  refine ⟨a1, ⟨fun x h0 hx => ?_, fun i hi => ?_⟩, ⟨fun b hb => ?_, fun x h0 hx => ?_⟩, fun x y h0 hx h0' hy e => ?_, fun x h0 hx => ?_⟩
  · rw [a6] at hx
    rw [a2 0 (by omega) x hx, a2 1 (by omega) x hx, a2 2 (by omega) x hx, a2 3 (by omega) x hx, a7]
    exact h2.1 x h0 hx
  · rw [a7] at hi
    rw [a3 i hi]; exact h2.2 i hi
  · rw [a6, a4]
    exact topOf_congr hhs (h3.1 b hb)
  · rw [a6] at hx
    rw [a2 6 (by omega) x hx, ← hhs x h0 hx]
    exact topOf_congr (fun z z0 hz => hhs z z0 (by omega)) (h3.2 x h0 hx)
  · rw [a6] at hx hy
    rw [hraw x h0 hx, hraw y h0' hy] at e
    exact h4 x y h0 hx h0' hy e
  · rw [a6] at hx
    obtain ⟨b1, b2, b3, b4⟩ := h5 x h0 hx
    have hp : ∀ p ∈ fptR (rawC u x), p = 0 ∨ (0 < p ∧ p.toNat < nC u) := fun p hp => by
      have := b1 p hp
      have := raw_nn h2 h0 hx (fptR_sub hp)
      omega
    rw [hraw x h0 hx, a2 4 (by omega) x hx, a2 5 (by omega) x hx]
    refine ⟨b1, ?_, ?_, b4⟩
    · rw [b2]; congr 1
      exact szE_congr (fun p hpm => (hp p hpm).imp id (fun q => (a2 4 (by omega) _ q.2).symm))
    · rw [b3]
      exact loE_congr (fun p hpm => (hp p hpm).imp id (fun q => (a2 5 (by omega) _ q.2).symm))
theorem SameS.rf {u : Sg} (h : IC1 u) : SameS u u := ⟨h, fun _ _ _ _ => rfl, fun _ _ => rfl, fun _ => rfl, fun _ _ => rfl, rfl, rfl, rfl⟩
/-- the state behind a new node -/
def newS (s : Sg) (k w b sz lo : Int) (a : Nat) : Sg :=
  sI (sI (sA (sA (wr (sA (sA (sA (sA (sA (sA (sI s 9 ((nC s : Int) + 1)) 0 (nC s : Int) k) 1 (nC s : Int) w) 2 (nC s : Int) (pC s : Int)) 3 (nC s : Int) ((rC s - a : Nat) : Int)) 6 (nC s : Int) (gA s 8 b)) 8 b (nC s : Int)) (pC s) (rowC s a)) 4 (nC s : Int) sz) 5 (nC s : Int) lo) 10 ((pC s : Int) + ((rC s - a : Nat) : Int))) 12 (a : Int)
section
variable {s : Sg} {k w b sz lo : Int} {a : Nat}
theorem newS_n : nC (newS s k w b sz lo a) = nC s + 1 := by
  unfold nC newS
  simp only [gI_sI, gI_sA, gI_wr, show (9 : Nat) ≠ 12 from by decide, show (9 : Nat) ≠ 10 from by decide, if_false, if_true]
  unfold nC; omega
theorem newS_p : pC (newS s k w b sz lo a) = pC s + (rC s - a) := by
  unfold pC newS
  simp only [gI_sI, show (10 : Nat) ≠ 12 from by decide, if_false, if_true]
  unfold pC; omega
theorem newS_r : rC (newS s k w b sz lo a) = a := by
  unfold rC newS
  simp only [gI_sI, if_true]
  omega
theorem newS_L (j : Nat) : gL (newS s k w b sz lo a) j = gL s j := by
  unfold newS
  simp only [gL_sI, gL_sA, gL_wr]
theorem newS_I9 : gI (newS s k w b sz lo a) 9 = (nC s : Int) + 1 := by
  unfold newS
  simp only [gI_sI, gI_sA, gI_wr, show (9 : Nat) ≠ 12 from by decide, show (9 : Nat) ≠ 10 from by decide, if_false, if_true]
theorem newS_I10 : gI (newS s k w b sz lo a) 10 = (pC s : Int) + ((rC s - a : Nat) : Int) := by
  unfold newS
  simp only [gI_sI, show (10 : Nat) ≠ 12 from by decide, if_false, if_true]
theorem newS_I12 : gI (newS s k w b sz lo a) 12 = (a : Int) := by
  unfold newS
  simp only [gI_sI, if_true]
theorem newS_old {j x : Nat} (hj : j ≤ 6) (hx : x < nC s) : gN (newS s k w b sz lo a) j x = gN s j x := by
  unfold newS
  rcases (by omega : j = 0 ∨ j = 1 ∨ j = 2 ∨ j = 3 ∨ j = 4 ∨ j = 5 ∨ j = 6) with q | q | q | q | q | q | q <;> subst q <;>
    simp [gN_sI, gN_sAn, gN_sA, gN_wr_ne, Nat.ne_of_lt hx]
theorem newS_0 : gN (newS s k w b sz lo a) 0 (nC s) = k := by
  unfold newS; simp [gN_sI, gN_sAn, gN_sA, gN_wr_ne]
theorem newS_1 : gN (newS s k w b sz lo a) 1 (nC s) = w := by
  unfold newS; simp [gN_sI, gN_sAn, gN_sA, gN_wr_ne]
theorem newS_2 : gN (newS s k w b sz lo a) 2 (nC s) = (pC s : Int) := by
  unfold newS; simp [gN_sI, gN_sAn, gN_sA, gN_wr_ne]
theorem newS_3 : gN (newS s k w b sz lo a) 3 (nC s) = ((rC s - a : Nat) : Int) := by
  unfold newS; simp [gN_sI, gN_sAn, gN_sA, gN_wr_ne]
theorem newS_4 : gN (newS s k w b sz lo a) 4 (nC s) = sz := by
  unfold newS; simp [gN_sI, gN_sAn, gN_sA, gN_wr_ne]
theorem newS_5 : gN (newS s k w b sz lo a) 5 (nC s) = lo := by
  unfold newS; simp [gN_sI, gN_sAn, gN_sA, gN_wr_ne]
theorem newS_6 : gN (newS s k w b sz lo a) 6 (nC s) = gN s 8 b.toNat := by
  unfold newS; simp [gN_sI, gN_sAn, gN_sA, gN_wr_ne]; rfl
theorem newS_8 {j : Nat} : gN (newS s k w b sz lo a) 8 j = if j = b.toNat then (nC s : Int) else gN s 8 j := by
  unfold newS; simp [gN_sI, gN_sAn, gN_sA, gN_wr_ne]
theorem newS_7old {j : Nat} (h : j < pC s) : gN (newS s k w b sz lo a) 7 j = gN s 7 j := by
  unfold newS
  rw [gN_sI, gN_sI, gN_sAn, if_neg (by omega), gN_sAn, if_neg (by omega), gN_wr_lt _ _ _ _ h]
  simp [gN_sI, gN_sAn, gN_sA]
theorem newS_7new {i : Nat} (h : i < rC s - a) : gN (newS s k w b sz lo a) 7 (pC s + i) = gN s 11 (a + i) := by
  unfold newS
  rw [gN_sI, gN_sI, gN_sAn, if_neg (by omega), gN_sAn, if_neg (by omega)]
  exact gN_wr_at _ _ _ _ _ (row_at s h)
theorem newS_11 {j : Nat} : gN (newS s k w b sz lo a) 11 j = gN s 11 j := by
  unfold newS; simp [gN_sI, gN_sAn, gN_sA, gN_wr_ne]
theorem newS_raw (h2 : IC2 s) {x : Nat} (h0 : 0 < x) (hx : x < nC s) : rawC (newS s k w b sz lo a) x = rawC s x := by
  unfold rawC
  rw [newS_old (by omega) hx, newS_old (by omega) hx, newS_old (by omega) hx, newS_old (by omega) hx]
  congr 2
  refine List.map_congr_left (fun i hi => ?_)
  have := List.mem_range.mp hi
  have := (h2.1 x h0 hx).2
  exact newS_7old (by omega)
theorem newS_rawN : rawC (newS s k w b sz lo a) (nC s) = (k, w, rowC s a) := by
  unfold rawC rowC
  rw [newS_0, newS_1, newS_2, newS_3]
  simp only [Int.toNat_natCast]
  congr 2
  refine List.map_congr_left (fun i hi => ?_)
  exact newS_7new (List.mem_range.mp hi)
theorem newS_ic (hI : IC s) (hk : 0 ≤ k) (hw : 0 ≤ w) (hb : b = hsh (k, w, rowC s a)) (ha : a ≤ rC s) (hrow : ∀ v ∈ rowC s a, 0 ≤ v) (hfm : ∀ p ∈ fptR (k, w, rowC s a), p < (nC s : Int)) (hnew : ∀ z, 0 < z → z < nC s → rawC s z ≠ (k, w, rowC s a)) (hroom : nC s < gL s 0) (hpr : pC s + (rC s - a) ≤ gL s 7)
    (hsz : sz = mn9 (szE (gN s 4) (k, w, rowC s a))) (hlo : lo = loE (gN s 5) (k, w, rowC s a)) (hb5 : 1 ≤ sz ∧ 0 ≤ lo ∧ lo ≤ 1000000) : IC (newS s k w b sz lo a) := by
  obtain ⟨h1, h2, h3, h4, h5⟩ := hI
  have hbr := hsh_rng (k, w, rowC s a)
  rw [← hb] at hbr
  have hhs : ∀ z, 0 < z → z < nC s → hsx (newS s k w b sz lo a) z = hsx s z := fun z z0 hz => by unfold hsx; rw [newS_raw h2 z0 hz]
  have hhN : hsx (newS s k w b sz lo a) (nC s) = b := by unfold hsx; rw [newS_rawN, hb]
  refine ⟨?_, ⟨fun x h0 hx => ?_, fun i hi => ?_⟩, ⟨fun c hc => ?_, fun x h0 hx => ?_⟩, fun x y h0 hx h0' hy e => ?_, fun x h0 hx => ?_⟩
  · obtain ⟨⟨q1, q2, q3⟩, ⟨q4, q5⟩, ⟨q6, q7⟩, ⟨l1, l2, l3, l4, l5, l6⟩, l8, l11, l0, l7⟩ := h1
    unfold IC1
    simp only [newS_L, newS_n, newS_p, newS_r, newS_I9, newS_I10, newS_I12]
    exact ⟨⟨by omega, by omega, by omega⟩, ⟨by omega, by omega⟩, ⟨trivial, by omega⟩, ⟨l1, l2, l3, l4, l5, l6⟩, l8, l11, l0, l7⟩
  · rw [newS_n] at hx
    by_cases hxn : x = nC s
    · subst hxn
      rw [newS_0, newS_1, newS_2, newS_3, newS_p]
      exact ⟨⟨hk, hw, by omega, by omega⟩, by omega⟩
    · rw [newS_old (by omega) (by omega), newS_old (by omega) (by omega), newS_old (by omega) (by omega), newS_old (by omega) (by omega), newS_p]
      have := h2.1 x h0 (by omega)
      exact ⟨this.1, by omega⟩
  · rw [newS_p] at hi
    by_cases hip : i < pC s
    · rw [newS_7old hip]; exact h2.2 i hip
    · obtain ⟨j, rfl⟩ : ∃ j, i = pC s + j := ⟨i - pC s, by omega⟩
      rw [newS_7new (by omega)]
      exact hrow _ (List.mem_of_getElem? (row_at s (by omega)))
  · rw [newS_n, newS_8]
    by_cases hcb : c = b.toNat
    · rw [if_pos hcb]
      refine Or.inr ⟨nC s, rfl, h1.1.2.1, by omega, by rw [hhN, hcb]; omega, fun z z1 z2 => by omega⟩
    · rw [if_neg hcb]
      have hcb' : (c : Int) ≠ b := fun h => hcb (by omega)
      rcases topOf_congr (fun z z0 hz => (hhs z z0 hz).symm) (h3.1 c hc) with ⟨e, t⟩ | ⟨m, e, m0, mn, mb, mt⟩
      · refine Or.inl ⟨e, fun z z0 hz => ?_⟩
        by_cases hzn : z = nC s
        · rw [hzn, hhN]; exact fun h => hcb' h.symm
        · exact t z z0 (by omega)
      · refine Or.inr ⟨m, e, m0, by omega, mb, fun z z1 z2 => ?_⟩
        by_cases hzn : z = nC s
        · rw [hzn, hhN]; exact fun h => hcb' h.symm
        · exact mt z z1 (by omega)
  · rw [newS_n] at hx
    by_cases hxn : x = nC s
    · subst hxn
      rw [newS_6, hhN]
      have := h3.1 b.toNat (by omega)
      rw [show ((b.toNat : Nat) : Int) = b by omega] at this
      exact topOf_congr (fun z z0 hz => (hhs z z0 hz).symm) this
    · rw [newS_old (by omega) (by omega), hhs x h0 (by omega)]
      exact topOf_congr (fun z z0 hz => (hhs z z0 (by omega)).symm) (h3.2 x h0 (by omega))
  · rw [newS_n] at hx hy
    by_cases hxn : x = nC s
    · by_cases hyn : y = nC s
      · omega
      · rw [hxn, newS_rawN, newS_raw h2 h0' (by omega)] at e
        exact absurd e.symm (hnew y h0' (by omega))
    · by_cases hyn : y = nC s
      · rw [hyn, newS_rawN, newS_raw h2 h0 (by omega)] at e
        exact absurd e (hnew x h0 (by omega))
      · rw [newS_raw h2 h0 (by omega), newS_raw h2 h0' (by omega)] at e
        exact h4 x y h0 (by omega) h0' (by omega) e
  · rw [newS_n] at hx
    by_cases hxn : x = nC s
    · subst hxn
      rw [newS_rawN, newS_4, newS_5]
      have hp : ∀ p ∈ fptR (k, w, rowC s a), p = 0 ∨ (0 < p ∧ p.toNat < nC s) := fun p hp => by
        have := hfm p hp
        have := hrow p (fptR_sub hp)
        omega
      refine ⟨hfm, ?_, ?_, hb5⟩
      · rw [hsz]; congr 1
        exact szE_congr (fun p hpm => (hp p hpm).imp id (fun q => (newS_old (by omega) q.2).symm))
      · rw [hlo]
        exact loE_congr (fun p hpm => (hp p hpm).imp id (fun q => (newS_old (by omega) q.2).symm))
    · have hxs : x < nC s := by omega
      obtain ⟨b1, b2, b3, b4⟩ := h5 x h0 hxs
      rw [newS_raw h2 h0 hxs, newS_old (by omega) hxs, newS_old (by omega) hxs]
      have hp : ∀ p ∈ fptR (rawC s x), p = 0 ∨ (0 < p ∧ p.toNat < nC s) := fun p hp => by
        have := b1 p hp
        have := raw_nn h2 h0 hxs (fptR_sub hp)
        omega
      refine ⟨b1, ?_, ?_, b4⟩
      · rw [b2]; congr 1
        exact szE_congr (fun p hpm => (hp p hpm).imp id (fun q => (newS_old (by omega) q.2).symm))
      · rw [b3]
        exact loE_congr (fun p hpm => (hp p hpm).imp id (fun q => (newS_old (by omega) q.2).symm))
end
