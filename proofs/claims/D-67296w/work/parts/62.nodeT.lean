/-! the model's store in order -/
def okR (r : Int × List Int) : Prop := (r.1 = 1 ∨ r.1 = 2 ∨ r.1 = 4 ∨ r.1 = 5 ∨ r.1 = 7 ∨ r.1 = 8 ∨ r.1 = 9 ∨ r.1 = 10 ∨ r.1 = 11 ∨ r.1 = 12 ∨ r.1 = 13 ∨ r.1 = 15 ∨ r.1 = 16 ∨ r.1 = 17) ∧ ((r.1 = 1 ∨ r.1 = 2) → r.2.length = 1) ∧ ((r.1 = 4 ∨ r.1 = 11 ∨ r.1 = 12 ∨ r.1 = 13) → 1 ≤ r.2.length) ∧ (r.1 = 7 → 2 ≤ r.2.length) ∧ (r.1 = 8 → r.2.length = 0) ∧ r.2.length ≤ 30000
def IT1 (σ : Sg) : Prop := (gI σ 8 = (nT σ : Int) ∧ nT σ < gL σ 1) ∧ (gI σ 10 = (dT σ : Int) ∧ dT σ < gL σ 9) ∧ (gI σ 13 = (hT σ : Int) ∧ hT σ ≤ gL σ 12) ∧ (gL σ 2 = gL σ 1 ∧ gL σ 3 = gL σ 1 ∧ gL σ 4 = gL σ 1 ∧ gL σ 5 = gL σ 1 ∧ gL σ 6 = gL σ 1 ∧ gL σ 7 = gL σ 1) ∧ gL σ 11 = 8192 ∧ (1024 ≤ gL σ 12 ∧ gL σ 12 ≤ 65536) ∧ (gL σ 1 = 8192 ∨ gL σ 1 = 16384 ∨ gL σ 1 = 32768 ∨ gL σ 1 = 65536 ∨ gL σ 1 = 131072) ∧ (gL σ 9 = 32768 ∨ gL σ 9 = 65536 ∨ gL σ 9 = 131072 ∨ gL σ 9 = 262144 ∨ gL σ 9 = 524288)
def IT2 (σ : Sg) : Prop := (∀ x, 0 < x → x ≤ nT σ → okR (rawT σ x) ∧ (0 ≤ gN σ 2 x ∧ 0 ≤ gN σ 3 x) ∧ (gN σ 2 x).toNat + (gN σ 3 x).toNat ≤ dT σ) ∧ ∀ i, i < dT σ → 0 ≤ gN σ 9 i
def hsxT (σ : Sg) (z : Nat) : Int := hshT (rawT σ z)
def IT3 (σ : Sg) : Prop := (∀ b : Nat, b < 8192 → topOf (hsxT σ) (nT σ + 1) (b : Int) (gN σ 11 b)) ∧ ∀ x, 0 < x → x ≤ nT σ → topOf (hsxT σ) x (hsxT σ x) (gN σ 6 x) ∧ gN σ 7 x = hsxT σ x
def IT4 (σ : Sg) : Prop := ∀ x y, 0 < x → x ≤ nT σ → 0 < y → y ≤ nT σ → rawT σ x = rawT σ y → x = y
def IT5 (σ : Sg) : Prop := ∀ x, 0 < x → x ≤ nT σ → (∀ p ∈ fptT (rawT σ x), p < (x : Int)) ∧ gN σ 4 x = mzT (gN σ 4) (rawT σ x) ∧ gN σ 5 x = mlT (gN σ 5) (rawT σ x) ∧ (0 ≤ gN σ 5 x ∧ gN σ 5 x ≤ 1000000)
def IT (σ : Sg) : Prop := IT1 σ ∧ IT2 σ ∧ IT3 σ ∧ IT4 σ ∧ IT5 σ
theorem fptT_sub {r : Int × List Int} {p : Int} (h : p ∈ fptT r) : p ∈ r.2 := by
  unfold fptT at h
  split at h
  · exact List.mem_of_mem_drop (List.mem_of_mem_take h)
  · split at h
    · cases h
    · exact List.mem_of_mem_drop h
theorem rawT_nn {σ : Sg} (h2 : IT2 σ) {x : Nat} (x0 : 0 < x) (hx : x ≤ nT σ) {p : Int} (hp : p ∈ (rawT σ x).2) : 0 ≤ p := by
  obtain ⟨i, hi, e⟩ := List.mem_map.mp hp
  rw [← e]
  have := h2.1 x x0 hx
  have := List.mem_range.mp hi
  exact h2.2 _ (by omega)
theorem mzF_c {s s' : Nat → Int} : ∀ (l : List Int) (a : Int), (∀ p ∈ l, p ≠ 0 → s p.toNat = s' p.toNat) → mzF s a l = mzF s' a l
  | [], _, _ => rfl
  | p :: l, a, h => by
    rw [mzF, mzF]
    by_cases hz : p = 0
    · rw [if_pos hz, if_pos hz, mzF_c l a (fun q hq => h q (List.mem_cons_of_mem _ hq))]
    · rw [if_neg hz, if_neg hz, h p List.mem_cons_self hz, mzF_c l _ (fun q hq => h q (List.mem_cons_of_mem _ hq))]
theorem mlF_c {s s' : Nat → Int} {k : Int} : ∀ (l : List Int) (j : Nat) (a : Int), (∀ p ∈ l, p ≠ 0 → s p.toNat = s' p.toNat) → mlF s k j a l = mlF s' k j a l
  | [], _, _, _ => rfl
  | p :: l, j, a, h => by
    rw [mlF, mlF]
    by_cases hz : p = 0
    · rw [if_pos hz, if_pos hz, mlF_c l _ a (fun q hq => h q (List.mem_cons_of_mem _ hq))]
    · rw [if_neg hz, if_neg hz, h p List.mem_cons_self hz, mlF_c l _ _ (fun q hq => h q (List.mem_cons_of_mem _ hq))]
theorem fptT7 {l : List Int} (h : ¬ (l[1]?).getD 0 ≤ 0) : (l[1]?).getD 0 ∈ fptT (7, l) := by
  unfold fptT
  rw [if_pos rfl]
  cases l with
  | nil => simp at h
  | cons a r =>
    cases r with
    | nil => simp at h
    | cons b r => simp
theorem mzT_c {s s' : Nat → Int} {r : Int × List Int} (h : ∀ p ∈ fptT r, p ≠ 0 → s p.toNat = s' p.toNat) : mzT s r = mzT s' r := by
  unfold mzT
  by_cases k1 : r.1 = 1
  · rw [if_pos k1, if_pos k1]
  rw [if_neg k1, if_neg k1]
  by_cases k7 : r.1 = 7
  · rw [if_pos k7, if_pos k7]
    by_cases hz : (r.2[1]?).getD 0 ≤ 0
    · rw [if_pos hz, if_pos hz]
    · have e : r = (7, r.2) := Prod.ext k7 rfl
      rw [if_neg hz, if_neg hz, h _ (by rw [e]; exact fptT7 hz) (by omega)]
  rw [if_neg k7, if_neg k7]
  by_cases k2 : r.1 = 2 ∨ r.1 = 3 ∨ r.1 = 8
  · rw [if_pos k2, if_pos k2]
  rw [if_neg k2, if_neg k2]
  refine mzF_c _ _ (fun p hp => h p ?_)
  unfold fptT
  rw [if_neg k7, if_neg (by omega)]; exact hp
theorem mlT_c {s s' : Nat → Int} {r : Int × List Int} (h : ∀ p ∈ fptT r, p ≠ 0 → s p.toNat = s' p.toNat) : mlT s r = mlT s' r := by
  unfold mlT
  by_cases k1 : r.1 = 1
  · rw [if_pos k1, if_pos k1]
  rw [if_neg k1, if_neg k1]
  by_cases k7 : r.1 = 7
  · rw [if_pos k7, if_pos k7]
    by_cases hz : (r.2[1]?).getD 0 ≤ 0
    · rw [if_pos hz, if_pos hz]
    · have e : r = (7, r.2) := Prod.ext k7 rfl
      rw [if_neg hz, if_neg hz, h _ (by rw [e]; exact fptT7 hz) (by omega)]
  rw [if_neg k7, if_neg k7]
  by_cases k2 : r.1 = 2 ∨ r.1 = 3 ∨ r.1 = 8
  · rw [if_pos k2, if_pos k2]
  rw [if_neg k2, if_neg k2]
  refine mlF_c _ _ _ (fun p hp => h p ?_)
  unfold fptT
  rw [if_neg k7, if_neg (by omega)]; exact hp
theorem mlF_rng {s : Nat → Int} {k : Int} : ∀ (l : List Int) (j : Nat) (a : Int), 0 ≤ a → a ≤ 1000000 → (∀ p ∈ l, p ≠ 0 → 0 ≤ s p.toNat ∧ s p.toNat ≤ 1000000) → 0 ≤ mlF s k j a l ∧ mlF s k j a l ≤ 1000000
  | [], _, _, h0, h1, _ => ⟨h0, h1⟩
  | p :: l, j, a, h0, h1, h => by
    rw [mlF]
    by_cases hz : p = 0
    · rw [if_pos hz]; exact mlF_rng l _ a h0 h1 (fun q hq => h q (List.mem_cons_of_mem _ hq))
    · have := h p List.mem_cons_self hz
      rw [if_neg hz]
      refine mlF_rng l _ _ ?_ ?_ (fun q hq => h q (List.mem_cons_of_mem _ hq))
      · unfold mx; split <;> split <;> omega
      · unfold mx; split <;> split <;> omega
theorem wrap_id {v : Int} (h : inR v) : wrap v = v := by
  unfold wrap
  exact Int32.toInt_ofInt_of_le h.1 (by have := h.2; omega)
theorem mlT_rng {s : Nat → Int} {r : Int × List Int} (h : ∀ p ∈ fptT r, p ≠ 0 → 0 ≤ s p.toNat ∧ s p.toNat ≤ 1000000) (h1 : r.1 = 1 → (0 : Int) ≤ (r.2[0]?).getD 0 ∧ (r.2[0]?).getD 0 < (1000000 : Int)) : 0 ≤ mlT s r ∧ mlT s r ≤ 1000000 := by
  unfold mlT
  by_cases k1 : r.1 = 1
  · have := h1 k1
    rw [if_pos k1, wrap_id ⟨by omega, by omega⟩]; omega
  rw [if_neg k1]
  by_cases k7 : r.1 = 7
  · rw [if_pos k7]
    by_cases hz : (r.2[1]?).getD 0 ≤ 0
    · rw [if_pos hz]; omega
    · have e : r = (7, r.2) := Prod.ext k7 rfl
      rw [if_neg hz]
      exact h _ (by rw [e]; exact fptT7 hz) (by omega)
  rw [if_neg k7]
  by_cases k2 : r.1 = 2 ∨ r.1 = 3 ∨ r.1 = 8
  · rw [if_pos k2]; omega
  rw [if_neg k2]
  refine mlF_rng _ _ _ (by omega) (by omega) (fun p hp => h p ?_)
  unfold fptT
  rw [if_neg k7, if_neg (by omega)]; exact hp

/-- x is the node of a label in u', which is u or u and that node -/
def MkT (u : Sg) (r : Int × List Int) (x : Nat) (u' : Sg) : Prop := IT u' ∧ 0 < x ∧ x ≤ nT u' ∧ rawT u' x = r ∧ (∀ y, 0 < y → y ≤ nT u → rawT u' y = rawT u y ∧ gN u' 4 y = gN u 4 y ∧ gN u' 5 y = gN u 5 y ∧ gN u' 2 y = gN u 2 y) ∧ ((nT u' = nT u ∧ dT u' = dT u) ∨ (nT u' = nT u + 1 ∧ dT u' = dT u + r.2.length ∧ x = nT u + 1 ∧ gN u' 2 x = (dT u : Int)))
theorem topOf_c {hs hs' : Nat → Int} {n : Nat} {b y : Int} (h : ∀ z, 0 < z → z < n → hs' z = hs z) (t : topOf hs n b y) : topOf hs' n b y := by
  rcases t with ⟨e, h1⟩ | ⟨m, e, m0, mn, mb, h1⟩
  · exact Or.inl ⟨e, fun z z0 hz => by rw [h z z0 hz]; exact h1 z z0 hz⟩
  · exact Or.inr ⟨m, e, m0, mn, by rw [h m m0 mn]; exact mb, fun z z0 hz => by rw [h z (by omega) hz]; exact h1 z z0 hz⟩
theorem newT_mk {u F : Sg} {k : Int} {row : List Int} {a : Nat} (hI : IT u) (hk : okR (k, row)) (hnn : ∀ v ∈ row, 0 ≤ v) (hfm : ∀ p ∈ fptT (k, row), p ≤ (nT u : Int)) (hb : k = 1 → ∀ v ∈ row, v < 1000000) (hnew : ∀ z, 0 < z → z ≤ nT u → rawT u z ≠ (k, row))
    (f8 : gI F 8 = (nT u : Int) + 1) (f10 : gI F 10 = (dT u : Int) + (row.length : Int)) (f13 : gI F 13 = (a : Int)) (fl : nT u + 1 < gL F 1) (fl9 : dT u + row.length < gL F 9) (fl12 : gL F 12 = gL u 12) (fa : a ≤ gL u 12) (fll : gL F 2 = gL F 1 ∧ gL F 3 = gL F 1 ∧ gL F 4 = gL F 1 ∧ gL F 5 = gL F 1 ∧ gL F 6 = gL F 1 ∧ gL F 7 = gL F 1) (fl11 : gL F 11 = 8192)
    (fo1 : gL F 1 = 8192 ∨ gL F 1 = 16384 ∨ gL F 1 = 32768 ∨ gL F 1 = 65536 ∨ gL F 1 = 131072) (fo9 : gL F 9 = 32768 ∨ gL F 9 = 65536 ∨ gL F 9 = 131072 ∨ gL F 9 = 262144 ∨ gL F 9 = 524288)
    (fold : ∀ m, 1 ≤ m → m ≤ 7 → ∀ j, j ≤ nT u → gN F m j = gN u m j) (n1 : gN F 1 (nT u + 1) = k) (n2 : gN F 2 (nT u + 1) = (dT u : Int)) (n3 : gN F 3 (nT u + 1) = (row.length : Int)) (n6 : gN F 6 (nT u + 1) = gN u 11 (hshT (k, row)).toNat) (n7 : gN F 7 (nT u + 1) = hshT (k, row)) (n4 : gN F 4 (nT u + 1) = mzT (gN u 4) (k, row)) (n5 : gN F 5 (nT u + 1) = mlT (gN u 5) (k, row))
    (nd : ∀ j, j < dT u → gN F 9 j = gN u 9 j) (nr : ∀ (i : Nat) (v : Int), row[i]? = some v → gN F 9 (dT u + i) = v) (nh : ∀ b : Nat, b < 8192 → gN F 11 b = if b = (hshT (k, row)).toNat then (nT u : Int) + 1 else gN u 11 b) :
    MkT u (k, row) (nT u + 1) F ∧ hT F = a := by
  obtain ⟨h1, h2, h3, h4, h5⟩ := hI
  obtain ⟨⟨q1, q2⟩, ⟨q3, q4⟩, ⟨q5, q6⟩, ⟨l2, l3, l4, l5, l6, l7⟩, l11, l12, lo1, lo9⟩ := h1
  have hr := hshT_rng (k, row)
  have en : nT F = nT u + 1 := by unfold nT; rw [f8]; show ((nT u : Int) + 1).toNat = nT u + 1; omega
  have ed : dT F = dT u + row.length := by unfold dT; rw [f10]; show ((dT u : Int) + (row.length : Int)).toNat = dT u + row.length; omega
  have eh : hT F = a := by unfold hT; rw [f13]; omega
  have eold : ∀ y, 0 < y → y ≤ nT u → rawT F y = rawT u y := fun y y0 hy => by
    obtain ⟨_, ⟨c1, c2⟩, c3⟩ := h2.1 y y0 hy
    unfold rawT
    rw [fold 1 (by omega) (by omega) y hy, fold 2 (by omega) (by omega) y hy, fold 3 (by omega) (by omega) y hy]
    congr 1
    exact List.map_congr_left (fun i hi => nd _ (by have := List.mem_range.mp hi; omega))
  have enew : rawT F (nT u + 1) = (k, row) := by
    unfold rawT
    rw [n1, n2, n3]
    congr 1
    refine List.ext_getElem? (fun i => ?_)
    rw [Int.toNat_natCast, Int.toNat_natCast, List.getElem?_map]
    by_cases hi : i < row.length
    · rw [List.getElem?_range hi]
      have e : row[i]? = some row[i] := List.getElem?_eq_getElem hi
      rw [e]
      show some (gN F 9 (dT u + i)) = _
      rw [nr i _ e]
    · rw [List.getElem?_eq_none (by rw [List.length_range]; omega), List.getElem?_eq_none (by omega)]; rfl
  have hsO : ∀ z, 0 < z → z < nT u + 1 → hsxT F z = hsxT u z := fun z z0 hz => by unfold hsxT; rw [eold z z0 (by omega)]
  have hsN : hsxT F (nT u + 1) = hshT (k, row) := by unfold hsxT; rw [enew]
  have hpl : ∀ p ∈ fptT (k, row), p ≠ 0 → 0 < p.toNat ∧ p.toNat ≤ nT u := fun p hp hz => by
    have := hfm p hp
    have := hnn p (fptT_sub hp)
    omega
  have hI : IT F := by
    refine ⟨⟨⟨by rw [f8, en]; omega, by rw [en]; exact fl⟩, ⟨by rw [f10, ed]; omega, by rw [ed]; exact fl9⟩, ⟨by rw [f13, eh], by rw [eh, fl12]; exact fa⟩, fll, fl11, by rw [fl12]; exact l12, fo1, fo9⟩, ⟨fun x x0 hx => ?_, fun i hi => ?_⟩, ⟨fun b hb8 => ?_, fun x x0 hx => ?_⟩, fun x y x0 hx y0 hy e => ?_, fun x x0 hx => ?_⟩
    · rw [en] at hx
      rw [ed]
      by_cases hxn : x ≤ nT u
      · obtain ⟨c0, ⟨c1, c2⟩, c3⟩ := h2.1 x x0 hxn
        rw [eold x x0 hxn, fold 2 (by omega) (by omega) x hxn, fold 3 (by omega) (by omega) x hxn]
        exact ⟨c0, ⟨c1, c2⟩, by omega⟩
      · have : x = nT u + 1 := by omega
        subst this
        rw [enew, n2, n3]
        exact ⟨hk, ⟨by omega, by omega⟩, by omega⟩
    · rw [ed] at hi
      by_cases hid : i < dT u
      · rw [nd i hid]; exact h2.2 i hid
      · have hlt : i - dT u < row.length := by omega
        have e : row[i - dT u]? = some row[i - dT u] := List.getElem?_eq_getElem hlt
        have := nr (i - dT u) _ e
        rw [show dT u + (i - dT u) = i by omega] at this
        rw [this]
        exact hnn _ (List.getElem_mem hlt)
    · rw [en, nh b hb8]
      have ht := h3.1 b hb8
      by_cases hbe : b = (hshT (k, row)).toNat
      · rw [if_pos hbe]
        refine Or.inr ⟨nT u + 1, by omega, by omega, by omega, by rw [hsN]; omega, fun z z0 hz => by omega⟩
      · rw [if_neg hbe]
        have ht' := topOf_c hsO ht
        rcases ht' with ⟨e, g⟩ | ⟨m, e, m0, mn, mb, g⟩
        · refine Or.inl ⟨e, fun z z0 hz => ?_⟩
          by_cases hzn : z = nT u + 1
          · subst hzn; rw [hsN]; intro q; omega
          · exact g z z0 (by omega)
        · refine Or.inr ⟨m, e, m0, by omega, mb, fun z z0 hz => ?_⟩
          by_cases hzn : z = nT u + 1
          · subst hzn; rw [hsN]; intro q; omega
          · exact g z z0 (by omega)
    · rw [en] at hx
      by_cases hxn : x ≤ nT u
      · rw [hsO x x0 (by omega), fold 6 (by omega) (by omega) x hxn, fold 7 (by omega) (by omega) x hxn]
        obtain ⟨g1, g2⟩ := h3.2 x x0 hxn
        exact ⟨topOf_c (fun z z0 hz => hsO z z0 (by omega)) g1, g2⟩
      · have : x = nT u + 1 := by omega
        subst this
        rw [hsN, n6, n7]
        refine ⟨topOf_c hsO ?_, rfl⟩
        have := h3.1 (hshT (k, row)).toNat (by omega)
        rw [show (((hshT (k, row)).toNat : Nat) : Int) = hshT (k, row) by omega] at this
        exact this
    · rw [en] at hx hy
      by_cases hxn : x ≤ nT u
      · by_cases hyn : y ≤ nT u
        · rw [eold x x0 hxn, eold y y0 hyn] at e
          exact h4 x y x0 hxn y0 hyn e
        · have : y = nT u + 1 := by omega
          subst this
          rw [eold x x0 hxn, enew] at e
          exact absurd e (hnew x x0 hxn)
      · have : x = nT u + 1 := by omega
        subst this
        by_cases hyn : y ≤ nT u
        · rw [eold y y0 hyn, enew] at e
          exact absurd e.symm (hnew y y0 hyn)
        · omega
    · rw [en] at hx
      by_cases hxn : x ≤ nT u
      · obtain ⟨g1, g2, g3, g4⟩ := h5 x x0 hxn
        have hc : ∀ m, 1 ≤ m → m ≤ 7 → ∀ p ∈ fptT (rawT u x), p ≠ 0 → gN F m p.toNat = gN u m p.toNat := fun m m1 m7 p hp hz => by
          have a1 := g1 p hp
          have a2 := rawT_nn h2 x0 hxn (fptT_sub hp)
          exact fold m m1 m7 _ (by omega)
        rw [eold x x0 hxn, fold 4 (by omega) (by omega) x hxn, fold 5 (by omega) (by omega) x hxn, mzT_c (hc 4 (by omega) (by omega)), mlT_c (hc 5 (by omega) (by omega))]
        exact ⟨g1, g2, g3, g4⟩
      · have : x = nT u + 1 := by omega
        subst this
        have hc : ∀ m, 1 ≤ m → m ≤ 7 → ∀ p ∈ fptT (k, row), p ≠ 0 → gN F m p.toNat = gN u m p.toNat := fun m m1 m7 p hp hz => fold m m1 m7 _ (hpl p hp hz).2
        rw [enew, n4, n5, mzT_c (hc 4 (by omega) (by omega)), mlT_c (hc 5 (by omega) (by omega))]
        refine ⟨fun p hp => by have := hfm p hp; omega, rfl, rfl, mlT_rng (fun p hp hz => ?_) (fun q => ?_)⟩
        · have := (h5 p.toNat (hpl p hp hz).1 (hpl p hp hz).2).2.2.2
          exact this
        · have hl := hk.2.1 (Or.inl q)
          have hlt : 0 < row.length := by show 0 < (k, row).2.length; omega
          have e : row[0]? = some row[0] := List.getElem?_eq_getElem hlt
          show (0 : Int) ≤ (row[0]?).getD 0 ∧ (row[0]?).getD 0 < (1000000 : Int)
          rw [e]
          exact ⟨hnn _ (List.getElem_mem hlt), hb q _ (List.getElem_mem hlt)⟩
  refine ⟨⟨hI, by omega, by omega, enew, fun y y0 hy => ⟨eold y y0 hy, fold 4 (by omega) (by omega) y hy, fold 5 (by omega) (by omega) y hy, fold 2 (by omega) (by omega) y hy⟩, Or.inr ⟨en, ed, rfl, n2⟩⟩, eh⟩
