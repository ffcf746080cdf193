/-! a form is made: the new node -/
theorem gN_sA (σ : Sg) (k : Nat) (i v : Int) (j n : Nat) : gN (sA σ k i v) j n = if j = k ∧ n = i.toNat then v else gN σ j n := by
  have := gA_sA σ k i v j (n : Int)
  rw [gA_nat, gA_nat] at this
  exact this
theorem gN_sAn (σ : Sg) (k i : Nat) (v : Int) (j n : Nat) : gN (sA σ k (i : Int) v) j n = if j = k ∧ n = i then v else gN σ j n := gN_sA σ k i v j n
theorem gN_sI (σ : Sg) (k : Nat) (v : Int) (j n : Nat) : gN (sI σ k v) j n = gN σ j n := rfl
theorem gN_sN (σ : Sg) (k n : Nat) (f : Nat → Int) (j i : Nat) : gN (sN σ k n f) j i = if j = k then f i else gN σ j i := by
  unfold gN
  rw [gF_sN]
  split <;> rfl
def wr : Sg → Nat → List Int → Sg
  | σ, _, [] => σ
  | σ, p, v :: l => wr (sA σ 7 (p : Int) v) (p + 1) l
theorem gI_wr : ∀ (l : List Int) (σ : Sg) (p k : Nat), gI (wr σ p l) k = gI σ k
  | [], _, _, _ => rfl
  | v :: l, σ, p, k => by rw [wr, gI_wr l, gI_sA]
theorem gL_wr : ∀ (l : List Int) (σ : Sg) (p k : Nat), gL (wr σ p l) k = gL σ k
  | [], _, _, _ => rfl
  | v :: l, σ, p, k => by rw [wr, gL_wr l, gL_sA]
theorem gN_wr_ne : ∀ (l : List Int) (σ : Sg) (p k : Nat), k ≠ 7 → ∀ j, gN (wr σ p l) k j = gN σ k j
  | [], _, _, _, _, _ => rfl
  | v :: l, σ, p, k, h, j => by rw [wr, gN_wr_ne l _ _ _ h, gN_sAn, if_neg (fun q => h q.1)]
theorem gN_wr_lt : ∀ (l : List Int) (σ : Sg) (p j : Nat), j < p → gN (wr σ p l) 7 j = gN σ 7 j
  | [], _, _, _, _ => rfl
  | v :: l, σ, p, j, h => by rw [wr, gN_wr_lt l _ _ _ (by omega), gN_sAn, if_neg (fun q => by omega)]
theorem gN_wr_at : ∀ (l : List Int) (σ : Sg) (p i : Nat), ∀ (v : Int), l[i]? = some v → gN (wr σ p l) 7 (p + i) = v
  | [], _, _, _, _, h => by simp at h
  | w :: l, σ, p, 0, v, h => by
    simp only [List.getElem?_cons_zero, Option.some.injEq] at h
    rw [wr, gN_wr_lt l _ _ _ (by omega), gN_sAn, if_pos ⟨rfl, by omega⟩, h]
  | w :: l, σ, p, i + 1, v, h => by
    rw [wr, show p + (i + 1) = p + 1 + i by omega]
    exact gN_wr_at l _ (p + 1) i v (by simpa using h)
def stS (s : Nat → Int) (forms : Nat) : Nat → List Int → Int
  | _, [] => 0
  | i, p :: l => (if i < forms then gz s p else 1) + stS s forms (i + 1) l
def loG (lo : Nat → Int) (k : Int) (forms : Nat) : Nat → Int → List Int → Int
  | _, acc, [] => acc
  | i, acc, p :: l => loG lo k forms (i + 1) (if i < forms then (if p = 0 then acc else mx acc (if k = 18 ∧ i = 1 then lo p.toNat - 1 else lo p.toNat)) else acc) l
theorem stS_all (s : Nat → Int) (f : Nat) : ∀ (l : List Int) (i : Nat), i + l.length ≤ f → stS s f i l = (l.map (gz s)).sum
  | [], _, _ => rfl
  | p :: l, i, h => by
    simp only [List.length_cons] at h
    rw [stS, if_pos (by omega), stS_all s f l (i + 1) (by omega), List.map_cons, List.sum_cons]
theorem stS_none (s : Nat → Int) (f : Nat) : ∀ (l : List Int) (i : Nat), f ≤ i → stS s f i l = (l.length : Int)
  | [], _, _ => rfl
  | p :: l, i, h => by
    rw [stS, if_neg (by omega), stS_none s f l (i + 1) (by omega), List.length_cons]; omega
theorem loG_none (lo : Nat → Int) (k : Int) (f : Nat) : ∀ (l : List Int) (i : Nat) (acc : Int), f ≤ i → loG lo k f i acc l = acc
  | [], _, _, _ => rfl
  | p :: l, i, acc, h => by rw [loG, if_neg (by omega), loG_none lo k f l (i + 1) acc (by omega)]
theorem loG_all (lo : Nat → Int) (k : Int) (f : Nat) : ∀ (l : List Int) (i : Nat) (acc : Int), i + l.length ≤ f → loG lo k f i acc l = loF lo k i acc l
  | [], _, _, _ => rfl
  | p :: l, i, acc, h => by
    simp only [List.length_cons] at h
    rw [loG, loF, if_pos (by omega), loG_all lo k f l (i + 1) _ (by omega)]
theorem szE_st (s : Nat → Int) (k w : Int) (l : List Int) : 1 + stS s (if k = 8 then 1 else l.length) 0 l = szE s (k, w, l) := by
  unfold szE
  by_cases hk : k = 8
  · simp only [hk, if_true]
    cases l with
    | nil => rfl
    | cons p l => rw [stS, if_pos (by omega), stS_none s 1 l 1 (by omega)]; simp
  · simp only [hk, if_false]
    rw [stS_all s _ l 0 (by omega)]
theorem loE_st (lo : Nat → Int) (k w : Int) (l : List Int) : loG lo k (if k = 8 then 1 else l.length) 0 (if k = 2 then w + 1 else 0) l = loE lo (k, w, l) := by
  unfold loE fptR
  by_cases hk : k = 8
  · simp only [hk, if_true]
    cases l with
    | nil => rfl
    | cons p l => rw [loG, loG_none lo 8 1 l 1 _ (by omega)]; simp [loF]
  · simp only [hk, if_false]
    rw [loG_all lo k _ l 0 _ (by omega)]
theorem make_L418 {d : Nat} {k : Int} {a n x forms : Nat} {sz lo : Nat → Int} {M P0 : Nat} :
    ∀ (l : List Int) (i f : Nat) (S L : Int) (U : Sg) (x0 : Int → Int → Int → Int → Int → Sg → Option (Int × Sg)), i + l.length = n → l.length < f → (∀ j v, l[j]? = some v → gN U 11 (a + i + j) = v) → (∀ v ∈ l, 0 ≤ v) → (∀ j v, l[j]? = some v → i + j < forms → v < (M : Int)) → (∀ z, gN U 4 z = sz z) → (∀ z, gN U 5 z = lo z) → (∀ z, 0 < z → z < M → 0 ≤ sz z ∧ sz z ≤ 1000000000 ∧ 0 ≤ lo z ∧ lo z ≤ 1000000) →
      gI U 10 = (P0 : Int) → P0 + n ≤ gL U 7 → gL U 7 ≤ 270000 → a + n ≤ gL U 11 → gL U 11 ≤ 65536 → M ≤ gL U 4 → M ≤ gL U 5 → 0 ≤ S → S ≤ 1 + 1000000001 * i → 0 ≤ L → L ≤ 2147483647 →
      bX2_make_L418 (runC d) f k (a : Int) (n : Int) (x : Int) S L (forms : Int) (i : Int) U x0 = x0 (a : Int) (n : Int) (x : Int) (S + stS sz forms i l) (loG lo k forms i L l) (wr U (P0 + i) l) := by
  intro l
  induction l with
  | nil =>
    intro i f S L U x0 hn hf hrow hnn hfm hsz hlo hb hp hpl hpl2 hrl hrl2 hM4 hM5 hS0 hS1 hL0 hL1
    simp only [List.length_nil] at hn
    obtain ⟨f, rfl⟩ : ∃ f', f = f' + 1 := ⟨f - 1, by omega⟩
    rw [bX2_make_L418, if_neg (by omega), stS, loG, wr, Int.add_zero]
  | cons v l ih =>
    intro i f S L U x0 hn hf hrow hnn hfm hsz hlo hb hp hpl hpl2 hrl hrl2 hM4 hM5 hS0 hS1 hL0 hL1
    simp only [List.length_cons] at hn hf
    obtain ⟨f, rfl⟩ : ∃ f', f = f' + 1 := ⟨f - 1, by omega⟩
    have hv : gN U 11 (a + i) = v := hrow 0 v rfl
    have hv0 : 0 ≤ v := hnn v List.mem_cons_self
    rw [bX2_make_L418, if_pos (by omega), ar_pos ⟨by omega, by omega⟩, show (a : Int) + (i : Int) = ((a + i : Nat) : Int) by omega, ld_nat (by omega), un_eq, hp, ar_pos ⟨by omega, by omega⟩, hv, stA_pos ⟨by omega, by omega⟩, show (P0 : Int) + (i : Int) = ((P0 + i : Nat) : Int) by omega]
    have rc := fun (S' L' : Int) (h1 : 0 ≤ S') (h2 : S' ≤ 1 + 1000000001 * (i + 1 : Nat)) (h3 : 0 ≤ L') (h4 : L' ≤ 2147483647) => ih (i + 1) f S' L' (sA U 7 ((P0 + i : Nat) : Int) v) x0 (by omega) (by omega)
      (fun j w hj => by rw [gN_sAn, if_neg (fun q => by omega)]; have := hrow (j + 1) w (by simpa using hj); rw [show a + i + (j + 1) = a + (i + 1) + j by omega] at this; exact this)
      (fun w hw => hnn w (List.mem_cons_of_mem _ hw)) (fun j w hj hfj => hfm (j + 1) w (by simpa using hj) (by omega)) (fun z => by rw [gN_sAn, if_neg (fun q => by omega)]; exact hsz z) (fun z => by rw [gN_sAn, if_neg (fun q => by omega)]; exact hlo z) hb
      (by rw [gI_sA]; exact hp) (by rw [gL_sA]; exact hpl) (by rw [gL_sA]; exact hpl2) (by rw [gL_sA]; exact hrl) (by rw [gL_sA]; exact hrl2) (by rw [gL_sA]; exact hM4) (by rw [gL_sA]; exact hM5) h1 h2 h3 h4
    by_cases hfi : i < forms
    · rw [if_pos (by omega), stS, if_pos hfi, loG, if_pos hfi, wr]
      by_cases hvz : v = 0
      · rw [if_pos hvz, ar_pos ⟨by omega, by omega⟩, show (i : Int) + 1 = ((i + 1 : Nat) : Int) by omega, rc S L hS0 (by omega) hL0 hL1, gz, if_pos hvz, Int.zero_add]
        rw [if_pos hvz, Nat.add_assoc]
      · have hvM : v < (M : Int) := hfm 0 v rfl (by omega)
        obtain ⟨b1, b2, b3, b4⟩ := hb v.toNat (by omega) (by omega)
        have e4 : gA (sA U 7 ((P0 + i : Nat) : Int) v) 4 v = sz v.toNat := by rw [gA_sA, if_neg (fun q => by omega)]; exact hsz v.toNat
        have e5 : gA (sA U 7 ((P0 + i : Nat) : Int) v) 5 v = lo v.toNat := by rw [gA_sA, if_neg (fun q => by omega)]; exact hlo v.toNat
        rw [if_neg hvz, jn_eq, jn_eq, ld_pos ⟨by omega, by rw [gL_sA]; omega⟩, e4, arL_pos ⟨by omega, by omega⟩]
        dsimp only
        rw [ld_pos ⟨by omega, by rw [gL_sA]; omega⟩, ld_pos ⟨by omega, by rw [gL_sA]; omega⟩, e5, ar_pos ⟨by omega, by omega⟩]
        rw [un_eq, un_eq, ar_pos ⟨by omega, by omega⟩, ar_pos ⟨by omega, by omega⟩, show (i : Int) + 1 = ((i + 1 : Nat) : Int) by omega]
        have hm1 : ∀ q : Int, q ≤ 1000000 → 0 ≤ (if L < q then q else L) ∧ (if L < q then q else L) ≤ 2147483647 := fun q hq => by split <;> omega
        rw [rc _ _ (by omega) (by omega) (hm1 _ (by omega)).1 (hm1 _ (by omega)).2, rc _ _ (by omega) (by omega) (hm1 _ b4).1 (hm1 _ b4).2, gz, if_neg hvz, if_neg hvz]
        have e6 : S + sz v.toNat + stS sz forms (i + 1) l = S + (sz v.toNat + stS sz forms (i + 1) l) := by omega
        rw [e6]
        by_cases hk : k = 18
        · by_cases hi1 : i = 1
          · rw [if_pos hk, if_pos (show (i : Int) = 1 by omega), show (if k = 18 ∧ i = 1 then lo v.toNat - 1 else lo v.toNat) = lo v.toNat - 1 from if_pos ⟨hk, hi1⟩]; simp only [mx, Nat.add_assoc]
          · rw [if_pos hk, if_neg (show ¬ (i : Int) = 1 by omega), show (if k = 18 ∧ i = 1 then lo v.toNat - 1 else lo v.toNat) = lo v.toNat from if_neg (fun q => hi1 q.2)]; simp only [mx, Nat.add_assoc]
        · rw [if_neg hk, show (if k = 18 ∧ i = 1 then lo v.toNat - 1 else lo v.toNat) = lo v.toNat from if_neg (fun q => hk q.1)]; simp only [mx, Nat.add_assoc]
    · rw [if_neg (by omega), stS, if_neg hfi, loG, if_neg hfi, wr, arL_pos ⟨by omega, by omega⟩, ar_pos ⟨by omega, by omega⟩, show (i : Int) + 1 = ((i + 1 : Nat) : Int) by omega, rc (S + 1) L (by omega) (by omega) hL0 hL1]
      rw [show S + 1 + stS sz forms (i + 1) l = S + (1 + stS sz forms (i + 1) l) by omega]; rw [Nat.add_assoc]
