/-! THE MODEL's STORE, read off its arrays -/
def rawT (σ : Sg) (x : Nat) : Int × List Int := (gN σ 1 x, (List.range (gN σ 3 x).toNat).map fun i => gN σ 9 ((gN σ 2 x).toNat + i))
def nT (σ : Sg) : Nat := (gI σ 8).toNat
def dT (σ : Sg) : Nat := (gI σ 10).toNat
def hT (σ : Sg) : Nat := (gI σ 13).toNat
def rowH (σ : Sg) (a : Nat) : List Int := (List.range (hT σ - a)).map fun i => gN σ 12 (a + i)
def hshT (r : Int × List Int) : Int := o_and (o_xor (hfold r.1 r.2) (o_ushr (hfold r.1 r.2) 13)) 8191
theorem o_and_rng (a : Int) : 0 ≤ o_and a 8191 ∧ o_and a 8191 < 8192 := by
  unfold o_and
  generalize Int32.ofInt a = z
  have e : (z &&& Int32.ofInt 8191).toInt = ((z.toUInt32 &&& 8191).toNat : Int) := by
    have h2 : ((z.toUInt32 &&& 8191)).toNat < 8192 := by
      rw [UInt32.toNat_and]
      exact Nat.lt_of_le_of_lt Nat.and_le_right (by decide)
    have h3 : (z &&& Int32.ofInt 8191).toInt = (z.toUInt32 &&& 8191).toBitVec.toInt := rfl
    rw [h3]
    exact BitVec.toInt_eq_toNat_of_lt (by show 2 * (z.toUInt32 &&& 8191).toNat < 2 ^ 32; omega)
  rw [e]
  have h2 : ((z.toUInt32 &&& 8191)).toNat < 8192 := by
    rw [UInt32.toNat_and]
    exact Nat.lt_of_le_of_lt Nat.and_le_right (by decide)
  omega
theorem hshT_rng (r : Int × List Int) : 0 ≤ hshT r ∧ hshT r < 8192 := o_and_rng _
theorem rawT_len (σ : Sg) (x : Nat) : (rawT σ x).2.length = (gN σ 3 x).toNat := by simp [rawT]
theorem rowH_len (σ : Sg) (a : Nat) : (rowH σ a).length = hT σ - a := by simp [rowH]
theorem rowH_at (σ : Sg) {a i : Nat} (h : i < hT σ - a) : (rowH σ a)[i]? = some (gN σ 12 (a + i)) := by simp [rowH, h]
theorem rawT_at (σ : Sg) {x i : Nat} (h : i < (gN σ 3 x).toNat) : (rawT σ x).2[i]? = some (gN σ 9 ((gN σ 2 x).toNat + i)) := by simp [rawT, h]
theorem wp_mor {σ : Sg} {id : Nat} {n : Int} {K : Sg → Option (Int × Sg)} {Q : Int → Sg → Prop} (h1 : n < (gL σ id : Int) → wp (K σ) Q) (h2 : ¬ n < (gL σ id : Int) → (16 ≤ gL σ id ∧ morN (gL σ id) n ≤ 134217728) ∧ wp (K (sN σ id (morN (gL σ id) n) (fun j => if j < gL σ id then gF σ id j else 0))) Q) : wp (mor σ id n K) Q := by
  unfold mor
  split
  · exact h1 (by assumption)
  · rename_i h
    obtain ⟨a, b⟩ := h2 h
    rw [if_pos a]; exact b
/-- the length after room for n is made, when n is no more than the length -/
def grT (L n : Nat) : Nat := if n < L then L else 2 * L
theorem rX3_get {d : Nat} (hd : 3 ≤ d) {u : Sg} {x i : Nat} (h1 : x < gL u 2) (h2 : 0 ≤ gN u 2 x) (h3 : (gN u 2 x).toNat + i < gL u 9) (h4 : gL u 9 < 2147483648) : runT d 7 [(x : Int), (i : Int)] u = some (gN u 9 ((gN u 2 x).toNat + i), u) := by
  obtain ⟨d, rfl⟩ : ∃ d', d = d' + 1 := ⟨d - 1, by omega⟩
  rw [runT_eq (by omega)]
  show bX3_get (runT d) x i u = _
  unfold bX3_get
  rw [ld_nat h1, ar_pos ⟨by omega, by omega⟩, show gN u 2 x + (i : Int) = (((gN u 2 x).toNat + i : Nat) : Int) by omega, ld_nat h3]
def fsT (k : Int) : Nat := if k = 4 ∨ k = 6 ∨ k = 11 ∨ k = 14 ∨ k = 12 ∨ k = 13 ∨ k = 7 then 1 else 0
theorem rX3_first {d : Nat} (hd : 3 ≤ d) {u : Sg} {k : Int} : runT d 8 [k] u = some ((fsT k : Int), u) := by
  obtain ⟨d, rfl⟩ : ∃ d', d = d' + 1 := ⟨d - 1, by omega⟩
  rw [runT_eq (by omega)]
  show bX3_first (runT d) k u = _
  unfold bX3_first fsT
  rw [jn_eq]
  by_cases h4 : k = 4
  · simp [h4]
  by_cases h6 : k = 6
  · simp [h6]
  by_cases h11 : k = 11
  · simp [h11]
  by_cases h14 : k = 14
  · simp [h14]
  by_cases h12 : k = 12
  · simp [h12]
  by_cases h13 : k = 13
  · simp [h13]
  by_cases h7 : k = 7
  · simp [h7]
  simp [h4, h6, h11, h14, h12, h13, h7]
/-! what a node's size and binders are measured to be -/
def mzF (sz : Nat → Int) : Int → List Int → Int
  | a, [] => a
  | a, p :: l => mzF sz (if p = 0 then a else wrap (a + sz p.toNat)) l
def mlF (lo : Nat → Int) (k : Int) : Nat → Int → List Int → Int
  | _, a, [] => a
  | j, a, p :: l => mlF lo k (j + 1) (if p = 0 then a else mx a (if k = 17 ∧ j = 1 then lo p.toNat - 1 else lo p.toNat)) l
def mzT (sz : Nat → Int) (r : Int × List Int) : Int := if r.1 = 1 then 1 else if r.1 = 7 then (if (r.2[1]?).getD 0 ≤ 0 then wrap (1 + ((r.2.length : Int) - 2)) else wrap (wrap (1 + ((r.2.length : Int) - 2)) + sz ((r.2[1]?).getD 0).toNat)) else if r.1 = 2 ∨ r.1 = 3 ∨ r.1 = 8 then 1 else mzF sz 1 (r.2.drop (fsT r.1))
def mlT (lo : Nat → Int) (r : Int × List Int) : Int := if r.1 = 1 then wrap ((r.2[0]?).getD 0 + 1) else if r.1 = 7 then (if (r.2[1]?).getD 0 ≤ 0 then 0 else lo ((r.2[1]?).getD 0).toNat) else if r.1 = 2 ∨ r.1 = 3 ∨ r.1 = 8 then 0 else mlF lo r.1 (fsT r.1) 0 (r.2.drop (fsT r.1))
/-- the parts of a node that are forms -/
def fptT (r : Int × List Int) : List Int := if r.1 = 7 then (r.2.drop 1).take 1 else if r.1 = 1 ∨ r.1 = 2 ∨ r.1 = 3 ∨ r.1 = 8 then [] else r.2.drop (fsT r.1)
theorem measure_L108 {d : Nat} (hd : 3 ≤ d) {u : Sg} {k : Int} {x : Nat} (h2 : x < gL u 2) (h3 : x < gL u 3) (hf : 0 ≤ gN u 2 x) (hc : 0 ≤ gN u 3 x) (he : (gN u 2 x).toNat + (gN u 3 x).toNat ≤ gL u 9) (h9 : gL u 9 < 1000000000) :
    ∀ (l : List Int) (j f : Nat) (S L : Int) (x0 : Int → Int → Int → Sg → Option (Int × Sg)), (rawT u x).2.drop j = l → l.length < f → j + l.length = (gN u 3 x).toNat → (∀ p ∈ l, 0 ≤ p ∧ (p ≠ 0 → p.toNat < gL u 4 ∧ p.toNat < gL u 5 ∧ 0 ≤ gN u 5 p.toNat ∧ gN u 5 p.toNat ≤ 1000000)) →
      bX3_measure_L108 (runT d) f (x : Int) k S L (j : Int) u x0 = x0 (x : Int) (mzF (gN u 4) S l) (mlF (gN u 5) k j L l) u := by
  intro l
  induction l with
  | nil =>
    intro j f S L x0 hl hf0 hj hp
    obtain ⟨f, rfl⟩ : ∃ f', f = f' + 1 := ⟨f - 1, by omega⟩
    simp only [List.length_nil] at hj
    rw [bX3_measure_L108, ld_nat h3, if_neg (by omega)]
    rfl
  | cons p l ih =>
    intro j f S L x0 hl hf0 hj hp
    simp only [List.length_cons] at hf0 hj
    obtain ⟨f, rfl⟩ : ∃ f', f = f' + 1 := ⟨f - 1, by omega⟩
    have hp0 := hp p List.mem_cons_self
    have hv : gN u 9 ((gN u 2 x).toNat + j) = p := by
      have a := rawT_at u (x := x) (i := j) (by omega)
      have b := congrArg (fun q => q[0]?) hl
      simp only [List.getElem?_drop, Nat.add_zero, List.getElem?_cons_zero] at b
      rw [a] at b
      exact Option.some.inj b
    have hl' : (rawT u x).2.drop (j + 1) = l := by
      have b := congrArg (fun q => q.drop 1) hl
      simp only [List.drop_drop, List.drop_succ_cons, List.drop_zero] at b
      exact b
    have rc := fun S L => ih (j + 1) f S L x0 hl' (by omega) (by omega) (fun q hq => hp q (List.mem_cons_of_mem _ hq))
    rw [bX3_measure_L108, ld_nat h3, if_pos (by omega), cl_eq (rX3_get hd h2 hf (by omega) (by omega)), hv]
    by_cases hz : p = 0
    · rw [if_pos hz, ar_pos ⟨by omega, by omega⟩, show (j : Int) + 1 = ((j + 1 : Nat) : Int) by omega, rc, mzF, mlF, if_pos hz, if_pos hz]
    · obtain ⟨b1, b2, b3, b4⟩ := hp0.2 hz
      have e4 : gA u 4 p = gN u 4 p.toNat := rfl
      have e5 : gA u 5 p = gN u 5 p.toNat := rfl
      have tail : ∀ t1 : Int, (t1 = 0 ∨ t1 = 1) → (if k = 17 ∧ j = 1 then gN u 5 p.toNat - 1 else gN u 5 p.toNat) = gN u 5 p.toNat - t1 → (ar (gN u 5 p.toNat - t1) fun v7 => if v7 ≤ L then (ar ((j : Int) + 1) fun v8 => bX3_measure_L108 (runT d) f (x : Int) k (wrap (S + gN u 4 p.toNat)) L v8 u x0) else (ar ((j : Int) + 1) fun v9 => bX3_measure_L108 (runT d) f (x : Int) k (wrap (S + gN u 4 p.toNat)) v7 v9 u x0)) = x0 (x : Int) (mzF (gN u 4) S (p :: l)) (mlF (gN u 5) k j L (p :: l)) u := by
        intro t1 ht1 he1
        have hm : mx L (gN u 5 p.toNat - t1) = if gN u 5 p.toNat - t1 ≤ L then L else gN u 5 p.toNat - t1 := by
          unfold mx
          by_cases q : gN u 5 p.toNat - t1 ≤ L
          · rw [if_pos q, if_neg (by omega)]
          · rw [if_neg q, if_pos (by omega)]
        rw [ar_pos ⟨by omega, by omega⟩, ar_pos ⟨by omega, by omega⟩, ar_pos ⟨by omega, by omega⟩, show (j : Int) + 1 = ((j + 1 : Nat) : Int) by omega, rc, rc, mzF, mlF, if_neg hz, if_neg hz, he1, hm]
        by_cases q : gN u 5 p.toNat - t1 ≤ L
        · rw [if_pos q, if_pos q]
        · rw [if_neg q, if_neg q]
      rw [if_neg hz, jn_eq, jn_eq, ld_pos ⟨hp0.1, by omega⟩, e4, un_eq, ld_pos ⟨hp0.1, by omega⟩, e5]
      by_cases hk : k = 17
      · by_cases hj1 : j = 1
        · rw [if_pos hk, if_pos (by omega)]
          exact tail 1 (Or.inr rfl) (by rw [if_pos ⟨hk, hj1⟩])
        · rw [if_pos hk, if_neg (by omega)]
          exact tail 0 (Or.inl rfl) (by rw [if_neg (fun q => hj1 q.2), Int.sub_zero])
      · rw [if_neg hk]
        exact tail 0 (Or.inl rfl) (by rw [if_neg (fun q => hk q.1), Int.sub_zero])
