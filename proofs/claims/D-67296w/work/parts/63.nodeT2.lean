section
variable {d : Nat} {u : Sg}
theorem node_L13 (h1 : IT1 u) (hl : gL u 12 ≤ 65536) {k : Int} {a n : Int} : ∀ (m f b : Nat) (h : Int), b + m = hT u → m < f → ∀ x, bX3_node_L13 (runT d) f k a n h (b : Int) u x = x k a n (hfold h (rowH u b)) u := by
  obtain ⟨⟨q1, q2⟩, ⟨q3, q4⟩, ⟨q5, q6⟩, ⟨l2, l3, l4, l5, l6, l7⟩, l11, l12, lo1, lo9⟩ := h1
  intro m
  induction m with
  | zero =>
    intro f b h hb hn x
    obtain ⟨f, rfl⟩ : ∃ f', f = f' + 1 := ⟨f - 1, by omega⟩
    rw [bX3_node_L13, un_eq, if_neg (by omega)]
    have : rowH u b = [] := by unfold rowH; rw [show hT u - b = 0 by omega]; rfl
    rw [this]; rfl
  | succ m ih =>
    intro f b h hb hn x
    obtain ⟨f, rfl⟩ : ∃ f', f = f' + 1 := ⟨f - 1, by omega⟩
    rw [bX3_node_L13, un_eq, if_pos (by omega), un_eq, ld_nat (by omega), un_eq, ar_pos ⟨by omega, by omega⟩]
    rw [show ((b : Int) + 1) = ((b + 1 : Nat) : Int) by omega, ih f (b + 1) _ (by omega) (by omega)]
    have e : rowH u b = gN u 12 b :: rowH u (b + 1) := by
      unfold rowH
      rw [show hT u - b = (hT u - (b + 1)) + 1 by omega, List.range_succ_eq_map, List.map_cons, List.map_map]
      congr 1
      refine List.map_congr_left (fun i _ => ?_)
      show gN u 12 (b + (i + 1)) = gN u 12 (b + 1 + i)
      congr 1; omega
    rw [e]; rfl
theorem node_L103 {k b : Int} {a n x : Nat} (h1 : IT1 u) (hx : x ≤ nT u) (hc : (gN u 3 x).toNat = n) (hf : 0 ≤ gN u 2 x) (he : (gN u 2 x).toNat + n ≤ dT u) (hn : a + n = hT u) :
    ∀ (m i f : Nat), i + m = n → m < f → ∃ v : Nat, v ≤ n ∧ (v = n ↔ ∀ j, i ≤ j → j < n → gN u 9 ((gN u 2 x).toNat + j) = gN u 12 (a + j)) ∧ ∀ x0, bX3_node_L103 (runT d) f k (a : Int) (n : Int) b (x : Int) (i : Int) u x0 = x0 k (a : Int) (n : Int) b (x : Int) (v : Int) u := by
  obtain ⟨⟨q1, q2⟩, ⟨q3, q4⟩, ⟨q5, q6⟩, ⟨l2, l3, l4, l5, l6, l7⟩, l11, l12, lo1, lo9⟩ := h1
  intro m
  induction m with
  | zero =>
    intro i f hi hf0
    obtain ⟨f, rfl⟩ : ∃ f', f = f' + 1 := ⟨f - 1, by omega⟩
    refine ⟨n, Nat.le_refl _, ⟨fun _ j _ _ => by omega, fun _ => rfl⟩, fun x0 => ?_⟩
    rw [bX3_node_L103, if_neg (by omega), show i = n by omega]
  | succ m ih =>
    intro i f hi hf0
    obtain ⟨f, rfl⟩ : ∃ f', f = f' + 1 := ⟨f - 1, by omega⟩
    have st : ∀ x0, bX3_node_L103 (runT d) (f + 1) k (a : Int) (n : Int) b (x : Int) (i : Int) u x0 = if gN u 9 ((gN u 2 x).toNat + i) = gN u 12 (a + i) then bX3_node_L103 (runT d) f k (a : Int) (n : Int) b (x : Int) ((i + 1 : Nat) : Int) u x0 else x0 k (a : Int) (n : Int) b (x : Int) (i : Int) u := by
      intro x0
      rw [bX3_node_L103, if_pos (by omega), ld_nat (by omega), un_eq, wrap_id ⟨by omega, by omega⟩, show gN u 2 x + (i : Int) = (((gN u 2 x).toNat + i : Nat) : Int) by omega, ld_nat (by omega), un_eq, wrap_id ⟨by omega, by omega⟩, show (a : Int) + (i : Int) = ((a + i : Nat) : Int) by omega, ld_nat (by omega), ar_pos ⟨by omega, by omega⟩, show (i : Int) + 1 = ((i + 1 : Nat) : Int) by omega]
    by_cases he2 : gN u 9 ((gN u 2 x).toNat + i) = gN u 12 (a + i)
    · obtain ⟨v, v1, v2, v3⟩ := ih (i + 1) f (by omega) (by omega)
      refine ⟨v, v1, v2.trans ⟨fun h j h1 h2 => ?_, fun h j h1 h2 => h j (by omega) h2⟩, fun x0 => ?_⟩
      · by_cases q : j = i
        · rw [q]; exact he2
        · exact h j (by omega) h2
      · rw [st, if_pos he2, v3]
    · refine ⟨i, by omega, ⟨fun h => by omega, fun h => absurd (h i (Nat.le_refl _) (by omega)) he2⟩, fun x0 => ?_⟩
      rw [st, if_neg he2]
theorem raw_eq_rowT {k : Int} {a n x : Nat} (hc : (gN u 3 x).toNat = n) (hn : a + n = hT u) (hk : gN u 1 x = k) : (∀ j, 0 ≤ j → j < n → gN u 9 ((gN u 2 x).toNat + j) = gN u 12 (a + j)) ↔ rawT u x = (k, rowH u a) := by
  constructor
  · intro h
    unfold rawT rowH
    rw [hk, hc, show hT u - a = n by omega]
    congr 1
    exact List.map_congr_left (fun i hi => h i (Nat.zero_le _) (List.mem_range.mp hi))
  · intro h j _ hj
    have h2 := congrArg (fun r => r.2[j]?) h
    simp only at h2
    rw [rawT_at u (by omega), rowH_at u (by omega)] at h2
    exact Option.some.inj h2
theorem node_L70 {k : Int} {a : Nat} {b : Int} (hI : IT u) (ha : a ≤ hT u) (hb : b = hshT (k, rowH u a)) :
    ∀ (n f : Nat) (y : Int), n ≤ nT u + 1 → n < f → topOf (hsxT u) n b y → ∀ x0 x1,
      bX3_node_L70 (runT d) f k (a : Int) ((hT u - a : Nat) : Int) b y u x0 x1 = x0 k (a : Int) ((hT u - a : Nat) : Int) b u ∧ (∀ z, 0 < z → z < n → rawT u z ≠ (k, rowH u a)) ∨
      ∃ z : Nat, 0 < z ∧ z < n ∧ rawT u z = (k, rowH u a) ∧ bX3_node_L70 (runT d) f k (a : Int) ((hT u - a : Nat) : Int) b y u x0 x1 = x1 (a : Int) (z : Int) u := by
  obtain ⟨h1, h2, h3, h4, h5⟩ := hI
  have h1' := h1
  obtain ⟨⟨q1, q2⟩, ⟨q3, q4⟩, ⟨q5, q6⟩, ⟨l2, l3, l4, l5, l6, l7⟩, l11, l12, lo1, lo9⟩ := h1'
  intro n
  induction n using Nat.strongRecOn with
  | ind n ih =>
    intro f y hn hf ht x0 x1
    obtain ⟨f, rfl⟩ : ∃ f', f = f' + 1 := ⟨f - 1, by omega⟩
    rw [bX3_node_L70]
    rcases ht with ⟨rfl, ht⟩ | ⟨m, rfl, hm0, hmn, hmb, hmt⟩
    · rw [if_pos (Int.le_refl 0)]
      refine Or.inl ⟨rfl, fun z hz0 hz he => ht z hz0 hz ?_⟩
      unfold hsxT; rw [he, hb]
    · rw [if_neg (by omega), jn_eq]
      obtain ⟨g0, ⟨g1, g2⟩, ge⟩ := h2.1 m hm0 (by omega)
      have hch := (h3.2 m hm0 (by omega)).1
      rw [hmb] at hch
      have go : (rawT u m ≠ (k, rowH u a)) → ∀ X, X = (ld u 6 (m : Int) fun v3 => bX3_node_L70 (runT d) f k (a : Int) ((hT u - a : Nat) : Int) b v3 u x0 x1) →
          X = x0 k (a : Int) ((hT u - a : Nat) : Int) b u ∧ (∀ z, 0 < z → z < n → rawT u z ≠ (k, rowH u a)) ∨ ∃ z : Nat, 0 < z ∧ z < n ∧ rawT u z = (k, rowH u a) ∧ X = x1 (a : Int) (z : Int) u := by
        intro hne X hX
        rw [ld_nat (by omega)] at hX
        rcases ih m hmn f (gN u 6 m) (by omega) (by omega) hch x0 x1 with ⟨e1, e2⟩ | ⟨z, z1, z2, z3, z4⟩
        · refine Or.inl ⟨hX.trans e1, fun z hz0 hz he => ?_⟩
          rcases Nat.lt_trichotomy z m with c | c | c
          · exact e2 z hz0 c he
          · rw [c] at he; exact hne he
          · exact hmt z c hz (by unfold hsxT; rw [he, hb])
        · exact Or.inr ⟨z, z1, by omega, z3, hX.trans z4⟩
      rw [ld_nat (by omega)]
      by_cases c0 : gN u 1 m = k
      · rw [if_pos c0, ld_nat (by omega)]
        by_cases c3 : gN u 3 m = ((hT u - a : Nat) : Int)
        · have hcn : (gN u 3 m).toNat = hT u - a := by omega
          have hKF : 200000 < KF := by decide
          rw [if_pos c3]
          obtain ⟨v, v1, v2, v3⟩ := node_L103 (d := d) (k := k) (b := b) h1 (by omega : m ≤ nT u) hcn g1 (by omega) (by omega : a + (hT u - a) = hT u) (hT u - a) 0 KF (by omega) (by omega)
          rw [show (0 : Int) = ((0 : Nat) : Int) from rfl, v3]
          by_cases v4 : v = hT u - a
          · have he := (raw_eq_rowT hcn (by omega) c0).mp (v2.mp v4)
            refine Or.inr ⟨m, hm0, hmn, he, ?_⟩
            rw [if_neg (by omega)]
          · have hne : rawT u m ≠ (k, rowH u a) := fun he => v4 (v2.mpr ((raw_eq_rowT hcn (by omega) c0).mpr he))
            refine go hne _ ?_
            rw [if_pos (by omega)]
        · rw [if_neg c3]
          refine go (fun he => c3 ?_) _ rfl
          have := congrArg (fun r => r.2.length) he
          simp only [rawT_len, rowH_len] at this
          omega
      · rw [if_neg c0]
        exact go (fun he => c0 (congrArg (fun r => r.1) he)) _ rfl
end
/-! the model's arrays grow -/
def PT (u : Sg) (N L' m : Nat) (s : Sg) : Prop := (∀ k, gL s k = if 1 ≤ k ∧ k ≤ m then L' else gL u k) ∧ (∀ k x, (x < N → gN s k x = gN u k x) ∧ (¬ (1 ≤ k ∧ k ≤ 7) → gN s k x = gN u k x)) ∧ ∀ k, gI s k = gI u k
theorem mor_st {u s : Sg} {m n N : Nat} {K : Sg → Option (Int × Sg)} {Q : Int → Sg → Prop} (h : PT u N (grT N n) m s) (hm : m < 7) (hL : gL u (m + 1) = N) (hn : n ≤ N) (hN : 16 ≤ N) (hN2 : N ≤ 1000000) (k : ∀ s', PT u N (grT N n) (m + 1) s' → wp (K s') Q) : wp (mor s (m + 1) (n : Int) K) Q := by
  have hs : gL s (m + 1) = N := by rw [h.1, if_neg (by omega), hL]
  refine wp_mor (fun h1 => ?_) (fun h1 => ?_)
  · refine k s ⟨fun j => ?_, h.2.1, h.2.2⟩
    rw [h.1 j]
    by_cases hj : 1 ≤ j ∧ j ≤ m
    · rw [if_pos hj, if_pos (by omega)]
    · rw [if_neg hj]
      by_cases hj2 : j = m + 1
      · subst hj2
        rw [if_pos (by omega), hL]
        unfold grT
        rw [if_pos (by omega)]
      · rw [if_neg (by omega)]
  · have e : morN (gL s (m + 1)) (n : Int) = 2 * N := by
      unfold morN
      rw [hs, if_pos (by omega)]
    have eg : grT N n = 2 * N := by unfold grT; rw [if_neg (by omega)]
    refine ⟨⟨by omega, by rw [e]; omega⟩, ?_⟩
    rw [e]
    refine k _ ⟨fun j => ?_, fun j x => ⟨fun hx => ?_, fun hj => ?_⟩, h.2.2⟩
    · rw [gL_sN, h.1 j]
      by_cases hj2 : j = m + 1
      · rw [if_pos hj2, if_pos (by omega), eg]
      · rw [if_neg hj2]
        by_cases hj : 1 ≤ j ∧ j ≤ m
        · rw [if_pos hj, if_pos (by omega)]
        · rw [if_neg hj, if_neg (by omega)]
    · rw [gN_sN]
      split
      · rename_i q
        rw [if_pos (by omega)]
        subst q
        exact (h.2.1 _ x).1 hx
      · exact (h.2.1 j x).1 hx
    · rw [gN_sN, if_neg (by omega)]
      exact (h.2.1 j x).2 hj
def wr9 : Sg → Nat → List Int → Sg
  | σ, _, [] => σ
  | σ, p, v :: l => wr9 (sA σ 9 (p : Int) v) (p + 1) l
theorem gI_wr9 : ∀ (l : List Int) (σ : Sg) (p k : Nat), gI (wr9 σ p l) k = gI σ k
  | [], _, _, _ => rfl
  | v :: l, σ, p, k => by rw [wr9, gI_wr9 l, gI_sA]
theorem gL_wr9 : ∀ (l : List Int) (σ : Sg) (p k : Nat), gL (wr9 σ p l) k = gL σ k
  | [], _, _, _ => rfl
  | v :: l, σ, p, k => by rw [wr9, gL_wr9 l, gL_sA]
theorem gN_wr9_ne : ∀ (l : List Int) (σ : Sg) (p k : Nat), k ≠ 9 → ∀ j, gN (wr9 σ p l) k j = gN σ k j
  | [], _, _, _, _, _ => rfl
  | v :: l, σ, p, k, h, j => by rw [wr9, gN_wr9_ne l _ _ _ h, gN_sAn, if_neg (fun q => h q.1)]
theorem gN_wr9_lt : ∀ (l : List Int) (σ : Sg) (p j : Nat), j < p → gN (wr9 σ p l) 9 j = gN σ 9 j
  | [], _, _, _, _ => rfl
  | v :: l, σ, p, j, h => by rw [wr9, gN_wr9_lt l _ _ _ (by omega), gN_sAn, if_neg (fun q => by omega)]
theorem gN_wr9_at : ∀ (l : List Int) (σ : Sg) (p i : Nat), ∀ (v : Int), l[i]? = some v → gN (wr9 σ p l) 9 (p + i) = v
  | [], _, _, _, _, h => by simp at h
  | w :: l, σ, p, 0, v, h => by
    simp only [List.getElem?_cons_zero, Option.some.injEq] at h
    rw [wr9, gN_wr9_lt l _ _ _ (by omega), gN_sAn, if_pos ⟨rfl, by omega⟩, h]
  | w :: l, σ, p, i + 1, v, h => by
    rw [wr9, show p + (i + 1) = p + 1 + i by omega]
    exact gN_wr9_at l _ (p + 1) i v (by simpa using h)
theorem node_L339 {d : Nat} {a n P0 : Nat} {b : Int} : ∀ (l : List Int) (i f : Nat) (U : Sg) (x0 : Int → Int → Int → Sg → Option (Int × Sg)), i + l.length = n → l.length < f → (∀ (j : Nat) (v : Int), l[j]? = some v → gN U 12 (a + i + j) = v) → gI U 10 = (P0 : Int) → P0 + n ≤ gL U 9 → gL U 9 ≤ 1000000 → a + n ≤ gL U 12 → gL U 12 ≤ 65536 →
    bX3_node_L339 (runT d) f (a : Int) (n : Int) b (i : Int) U x0 = x0 (a : Int) (n : Int) b (wr9 U (P0 + i) l) := by
  intro l
  induction l with
  | nil =>
    intro i f U x0 hn hf hrow hp hpl hpl2 hrl hrl2
    simp only [List.length_nil] at hn
    obtain ⟨f, rfl⟩ : ∃ f', f = f' + 1 := ⟨f - 1, by omega⟩
    rw [bX3_node_L339, if_neg (by omega), wr9]
  | cons v l ih =>
    intro i f U x0 hn hf hrow hp hpl hpl2 hrl hrl2
    simp only [List.length_cons] at hn hf
    obtain ⟨f, rfl⟩ : ∃ f', f = f' + 1 := ⟨f - 1, by omega⟩
    have hv : gN U 12 (a + i) = v := hrow 0 v rfl
    rw [bX3_node_L339, if_pos (by omega), un_eq, un_eq, un_eq, hp, wrap_id ⟨by omega, by omega⟩, wrap_id ⟨by omega, by omega⟩, show (a : Int) + (i : Int) = ((a + i : Nat) : Int) by omega, ld_nat (by omega), hv, stA_pos ⟨by omega, by omega⟩, ar_pos ⟨by omega, by omega⟩, show (P0 : Int) + (i : Int) = ((P0 + i : Nat) : Int) by omega, show (i : Int) + 1 = ((i + 1 : Nat) : Int) by omega]
    rw [ih (i + 1) f (sA U 9 ((P0 + i : Nat) : Int) v) x0 (by omega) (by omega) (fun j w hj => by rw [gN_sAn, if_neg (fun q => by omega)]; have := hrow (j + 1) w (by simpa using hj); rw [show a + i + (j + 1) = a + (i + 1) + j by omega] at this; exact this) (by rw [gI_sA]; exact hp) (by rw [gL_sA]; exact hpl) (by rw [gL_sA]; exact hpl2) (by rw [gL_sA]; exact hrl) (by rw [gL_sA]; exact hrl2), wr9, Nat.add_assoc]
