/-! a form is made -/
def fptR (r : Int × Int × List Int) : List Int := if r.1 = 8 then r.2.2.take 1 else r.2.2
def gz (s : Nat → Int) (p : Int) : Int := if p = 0 then 0 else s p.toNat
def szE (s : Nat → Int) (r : Int × Int × List Int) : Int := 1 + (if r.1 = 8 then ((r.2.2.take 1).map (gz s)).sum + ((r.2.2.drop 1).length : Int) else (r.2.2.map (gz s)).sum)
def mn9 (v : Int) : Int := if 1000000000 < v then 1000000000 else v
def mx (a b : Int) : Int := if a < b then b else a
def loF (lo : Nat → Int) (k : Int) : Nat → Int → List Int → Int
  | _, acc, [] => acc
  | i, acc, p :: l => loF lo k (i + 1) (if p = 0 then acc else mx acc (if k = 18 ∧ i = 1 then lo p.toNat - 1 else lo p.toNat)) l
def loE (lo : Nat → Int) (r : Int × Int × List Int) : Int := loF lo r.1 0 (if r.1 = 2 then r.2.1 + 1 else 0) (fptR r)
def IC2 (σ : Sg) : Prop := (∀ x, 0 < x → x < nC σ → (0 ≤ gN σ 0 x ∧ 0 ≤ gN σ 1 x ∧ 0 ≤ gN σ 2 x ∧ 0 ≤ gN σ 3 x) ∧ (gN σ 2 x).toNat + (gN σ 3 x).toNat ≤ pC σ) ∧ ∀ i, i < pC σ → 0 ≤ gN σ 7 i
def hsx (σ : Sg) (z : Nat) : Int := hsh (rawC σ z)
def IC3 (σ : Sg) : Prop := (∀ b : Nat, b < 32768 → topOf (hsx σ) (nC σ) (b : Int) (gN σ 8 b)) ∧ ∀ x, 0 < x → x < nC σ → topOf (hsx σ) x (hsx σ x) (gN σ 6 x)
def IC4 (σ : Sg) : Prop := ∀ x y, 0 < x → x < nC σ → 0 < y → y < nC σ → rawC σ x = rawC σ y → x = y
def IC5 (σ : Sg) : Prop := ∀ x, 0 < x → x < nC σ → (∀ p ∈ fptR (rawC σ x), p < (x : Int)) ∧ gN σ 4 x = mn9 (szE (gN σ 4) (rawC σ x)) ∧ gN σ 5 x = loE (gN σ 5) (rawC σ x) ∧ (1 ≤ gN σ 4 x ∧ 0 ≤ gN σ 5 x ∧ gN σ 5 x ≤ 1000000)
def IC (σ : Sg) : Prop := IC1 σ ∧ IC2 σ ∧ IC3 σ ∧ IC4 σ ∧ IC5 σ
theorem raw_len (σ : Sg) (x : Nat) : (rawC σ x).2.2.length = (gN σ 3 x).toNat := by simp [rawC]
theorem row_len (σ : Sg) (a : Nat) : (rowC σ a).length = rC σ - a := by simp [rowC]
theorem row_at (σ : Sg) {a i : Nat} (h : i < rC σ - a) : (rowC σ a)[i]? = some (gN σ 11 (a + i)) := by simp [rowC, h]
theorem raw_at (σ : Sg) {x i : Nat} (h : i < (gN σ 3 x).toNat) : (rawC σ x).2.2[i]? = some (gN σ 7 ((gN σ 2 x).toNat + i)) := by simp [rawC, h]
section
variable {d : Nat} {u : Sg}
/-- a node's parts against the row: 1 just if they are alike -/
theorem make_L74 {k w b : Int} {a n x : Nat} (h1 : IC1 u) (hx : x < nC u) (hc : (gN u 3 x).toNat = n) (hf : 0 ≤ gN u 2 x) (he : (gN u 2 x).toNat + n ≤ pC u) (hn : a + n = rC u) :
    ∀ (m i f : Nat), i + m = n → m < f → ∃ v : Int, (v = 0 ∨ v = 1) ∧ (v = 1 ↔ ∀ j, i ≤ j → j < n → gN u 7 ((gN u 2 x).toNat + j) = gN u 11 (a + j)) ∧ ∀ x0, bX2_make_L74 (runC d) f k w (a : Int) b (n : Int) (x : Int) 1 (i : Int) u x0 = x0 k w (a : Int) b (n : Int) (x : Int) v u := by
  obtain ⟨⟨q1, q2, q3⟩, ⟨q4, q5⟩, ⟨q6, q7⟩, ⟨l1, l2, l3, l4, l5, l6⟩, l8, l11, l0, l7⟩ := h1
  intro m
  induction m with
  | zero =>
    intro i f hi hf0
    obtain ⟨f, rfl⟩ : ∃ f', f = f' + 1 := ⟨f - 1, by omega⟩
    refine ⟨1, Or.inr rfl, ⟨fun _ j _ _ => by omega, fun _ => rfl⟩, fun x0 => ?_⟩
    rw [bX2_make_L74, if_neg (by omega)]
  | succ m ih =>
    intro i f hi hf0
    obtain ⟨f, rfl⟩ : ∃ f', f = f' + 1 := ⟨f - 1, by omega⟩
    have st : ∀ x0, bX2_make_L74 (runC d) (f + 1) k w (a : Int) b (n : Int) (x : Int) 1 (i : Int) u x0 = if gN u 7 ((gN u 2 x).toNat + i) = gN u 11 (a + i) then bX2_make_L74 (runC d) f k w (a : Int) b (n : Int) (x : Int) 1 ((i + 1 : Nat) : Int) u x0 else bX2_make_L74 (runC d) f k w (a : Int) b (n : Int) (x : Int) 0 ((i + 1 : Nat) : Int) u x0 := by
      intro x0
      rw [bX2_make_L74, if_pos (by omega), if_neg (by decide), jn_eq, ld_nat (by omega), ar_pos ⟨by omega, by omega⟩, show gN u 2 x + (i : Int) = (((gN u 2 x).toNat + i : Nat) : Int) by omega, ld_nat (by omega), ar_pos ⟨by omega, by omega⟩, show (a : Int) + (i : Int) = ((a + i : Nat) : Int) by omega, ld_nat (by omega)]
      dsimp only
      rw [ar_pos ⟨by omega, by omega⟩, ar_pos ⟨by omega, by omega⟩, show (i : Int) + 1 = ((i + 1 : Nat) : Int) by omega]
    by_cases he2 : gN u 7 ((gN u 2 x).toNat + i) = gN u 11 (a + i)
    · obtain ⟨v, v1, v2, v3⟩ := ih (i + 1) f (by omega) (by omega)
      refine ⟨v, v1, v2.trans ⟨fun h j h1 h2 => ?_, fun h j h1 h2 => h j (by omega) h2⟩, fun x0 => ?_⟩
      · by_cases q : j = i
        · rw [q]; exact he2
        · exact h j (by omega) h2
      · rw [st, if_pos he2, v3]
    · refine ⟨0, Or.inl rfl, ⟨(fun h => by cases h), fun h => absurd (h i (Nat.le_refl _) (by omega)) he2⟩, fun x0 => ?_⟩
      rw [st, if_neg he2]
      cases f with
      | zero => omega
      | succ f =>
        rw [bX2_make_L74]
        by_cases hlt : ((i + 1 : Nat) : Int) < (n : Int)
        · rw [if_pos hlt, if_pos rfl]
        · rw [if_neg hlt]
theorem raw_eq_row {k w : Int} {a n x : Nat} (hc : (gN u 3 x).toNat = n) (hn : a + n = rC u) (hk : gN u 0 x = k) (hw : gN u 1 x = w) : (∀ j, 0 ≤ j → j < n → gN u 7 ((gN u 2 x).toNat + j) = gN u 11 (a + j)) ↔ rawC u x = (k, w, rowC u a) := by
  constructor
  · intro h
    unfold rawC rowC
    rw [hk, hw, hc, show rC u - a = n by omega]
    congr 2
    exact List.map_congr_left (fun i hi => h i (Nat.zero_le _) (List.mem_range.mp hi))
  · intro h j _ hj
    have h2 := congrArg (fun r => r.2.2[j]?) h
    simp only at h2
    rw [raw_at u (by omega), row_at u (by omega)] at h2
    exact Option.some.inj h2
/-- the search along a bucket's chain -/
theorem make_L26 {k w : Int} {a : Nat} {b : Int} (hI : IC u) (ha : a ≤ rC u) (hb : b = hsh (k, w, rowC u a)) :
    ∀ (n f : Nat) (y : Int), n ≤ nC u → n < f → topOf (hsx u) n b y → ∀ x0 x1,
      bX2_make_L26 (runC d) f k w (a : Int) b ((rC u - a : Nat) : Int) y u x0 x1 = x0 k w (a : Int) b ((rC u - a : Nat) : Int) u ∧ (∀ z, 0 < z → z < n → rawC u z ≠ (k, w, rowC u a)) ∨
      ∃ z : Nat, 0 < z ∧ z < n ∧ rawC u z = (k, w, rowC u a) ∧ bX2_make_L26 (runC d) f k w (a : Int) b ((rC u - a : Nat) : Int) y u x0 x1 = x1 (a : Int) (z : Int) u := by
  obtain ⟨h1, h2, h3, h4, h5⟩ := hI
  have h1' := h1
  obtain ⟨⟨q1, q2, q3⟩, ⟨q4, q5⟩, ⟨q6, q7⟩, ⟨l1, l2, l3, l4, l5, l6⟩, l8, l11, l0, l7⟩ := h1'
  intro n
  induction n using Nat.strongRecOn with
  | ind n ih =>
    intro f y hn hf ht x0 x1
    obtain ⟨f, rfl⟩ : ∃ f', f = f' + 1 := ⟨f - 1, by omega⟩
    rw [bX2_make_L26]
    rcases ht with ⟨rfl, ht⟩ | ⟨m, rfl, hm0, hmn, hmb, hmt⟩
    · rw [if_pos rfl]
      refine Or.inl ⟨rfl, fun z hz0 hz he => ht z hz0 hz ?_⟩
      unfold hsx; rw [he, hb]
    · rw [if_neg (by omega), jn_eq]
      obtain ⟨⟨g0, g1, g2, g3⟩, ge⟩ := h2.1 m hm0 (by omega)
      have hch := h3.2 m hm0 (by omega)
      rw [hmb] at hch
      -- the way on along the chain
      have go : (rawC u m ≠ (k, w, rowC u a)) → ∀ X, X = (ld u 6 (m : Int) fun v3 => bX2_make_L26 (runC d) f k w (a : Int) b ((rC u - a : Nat) : Int) v3 u x0 x1) →
          X = x0 k w (a : Int) b ((rC u - a : Nat) : Int) u ∧ (∀ z, 0 < z → z < n → rawC u z ≠ (k, w, rowC u a)) ∨ ∃ z : Nat, 0 < z ∧ z < n ∧ rawC u z = (k, w, rowC u a) ∧ X = x1 (a : Int) (z : Int) u := by
        intro hne X hX
        rw [ld_nat (by omega)] at hX
        rcases ih m hmn f (gN u 6 m) (by omega) (by omega) hch x0 x1 with ⟨e1, e2⟩ | ⟨z, z1, z2, z3, z4⟩
        · refine Or.inl ⟨hX.trans e1, fun z hz0 hz he => ?_⟩
          rcases Nat.lt_trichotomy z m with c | c | c
          · exact e2 z hz0 c he
          · rw [c] at he; exact hne he
          · exact hmt z c hz (by unfold hsx; rw [he, hb])
        · exact Or.inr ⟨z, z1, by omega, z3, hX.trans z4⟩
      rw [ld_nat (by omega)]
      by_cases c0 : gN u 0 m = k
      · rw [if_pos c0, ld_nat (by omega)]
        by_cases c1 : gN u 1 m = w
        · rw [if_pos c1, ld_nat (by omega)]
          by_cases c3 : gN u 3 m = ((rC u - a : Nat) : Int)
          · have hcn : (gN u 3 m).toNat = rC u - a := by omega
            rw [if_pos c3]
            obtain ⟨v, v1, v2, v3⟩ := make_L74 (d := d) (k := k) (w := w) (b := b) h1 (by omega : m < nC u) hcn g2 (by omega) (by omega : a + (rC u - a) = rC u) (rC u - a) 0 KF (by omega) (by unfold KF; omega)
            rw [show (0 : Int) = ((0 : Nat) : Int) from rfl, v3]
            rcases v1 with v1 | v1
            · subst v1
              have hne : rawC u m ≠ (k, w, rowC u a) := fun he => by
                have := v2.mpr ((raw_eq_row hcn (by omega) c0 c1).mpr he)
                cases this
              refine go hne _ ?_
              rw [if_pos (by rfl)]
            · subst v1
              have he := (raw_eq_row hcn (by omega) c0 c1).mp (v2.mp rfl)
              refine Or.inr ⟨m, hm0, hmn, he, ?_⟩
              rw [if_neg (by decide)]
          · rw [if_neg c3]
            refine go (fun he => c3 ?_) _ rfl
            have := congrArg (fun r => r.2.2.length) he
            simp only [raw_len, row_len] at this
            omega
        · rw [if_neg c1]
          exact go (fun he => c1 (congrArg (fun r => r.2.1) he)) _ rfl
      · rw [if_neg c0]
        exact go (fun he => c0 (congrArg (fun r => r.1) he)) _ rfl
end
