/-! THE CLASS's STORE, read off its arrays -/
def rawC (σ : Sg) (x : Nat) : Int × Int × List Int := (gN σ 0 x, gN σ 1 x, (List.range (gN σ 3 x).toNat).map fun i => gN σ 7 ((gN σ 2 x).toNat + i))
def hfold (h : Int) (l : List Int) : Int := l.foldl (fun h p => wrap (wrap (31 * h) + p)) h
def hsh (r : Int × Int × List Int) : Int := o_ushr (wrap (hfold (wrap (wrap (31 * r.1) + r.2.1)) r.2.2 * (-1640531535))) 17
/-- y is the last node below n in the bucket b (0: none) -/
def topOf (hs : Nat → Int) (n : Nat) (b y : Int) : Prop := (y = 0 ∧ ∀ z, 0 < z → z < n → hs z ≠ b) ∨ ∃ m : Nat, y = (m : Int) ∧ 0 < m ∧ m < n ∧ hs m = b ∧ ∀ z, m < z → z < n → hs z ≠ b
def nC (σ : Sg) : Nat := (gI σ 9).toNat
def pC (σ : Sg) : Nat := (gI σ 10).toNat
def rC (σ : Sg) : Nat := (gI σ 12).toNat
def rowC (σ : Sg) (a : Nat) : List Int := (List.range (rC σ - a)).map fun i => gN σ 11 (a + i)
/-- counters and lengths -/
def IC1 (σ : Sg) : Prop := (gI σ 9 = (nC σ : Int) ∧ 1 ≤ nC σ ∧ nC σ ≤ gL σ 0) ∧ (gI σ 10 = (pC σ : Int) ∧ pC σ ≤ gL σ 7) ∧ (gI σ 12 = (rC σ : Int) ∧ rC σ ≤ gL σ 11) ∧ (gL σ 1 = gL σ 0 ∧ gL σ 2 = gL σ 0 ∧ gL σ 3 = gL σ 0 ∧ gL σ 4 = gL σ 0 ∧ gL σ 5 = gL σ 0 ∧ gL σ 6 = gL σ 0) ∧ gL σ 8 = 32768 ∧ (1024 ≤ gL σ 11 ∧ gL σ 11 ≤ 65536) ∧ (gL σ 0 = 60000 ∨ gL σ 0 = 90000) ∧ (gL σ 7 = 180000 ∨ gL σ 7 = 270000)
theorem o_ushr_rng (a : Int) : 0 ≤ o_ushr a 17 ∧ o_ushr a 17 < 32768 := by
  unfold o_ushr
  have e : (Int32.ofInt 17).toUInt32 &&& Int32.toUInt32 31 = 17 := by decide +kernel
  rw [e]
  generalize (Int32.ofInt a).toUInt32 = z
  have h1 : (z >>> 17).toNat < 32768 := by
    rw [UInt32.toNat_shiftRight]
    have : z.toNat < 4294967296 := z.toNat_lt
    show z.toNat >>> 17 < 32768
    rw [Nat.shiftRight_eq_div_pow]
    omega
  have h2 : (z >>> 17).toInt32.toInt = ((z >>> 17).toNat : Int) := by
    show (z >>> 17).toBitVec.toInt = _
    exact BitVec.toInt_eq_toNat_of_lt (by show 2 * (z >>> 17).toNat < 2 ^ 32; omega)
  rw [h2]
  omega
theorem hsh_rng (r : Int × Int × List Int) : 0 ≤ hsh r ∧ hsh r < 32768 := o_ushr_rng _
/-! at, push, hash -/
theorem rX2_at {d : Nat} (hd : 3 ≤ d) {u : Sg} {x i : Nat} (h1 : x < gL u 2) (h2 : 0 ≤ gN u 2 x) (h3 : (gN u 2 x).toNat + i < gL u 7) (h4 : gL u 7 < 2147483648) : runC d 98 [(x : Int), (i : Int)] u = some (gN u 7 ((gN u 2 x).toNat + i), u) := by
  obtain ⟨d, rfl⟩ : ∃ d', d = d' + 1 := ⟨d - 1, by omega⟩
  rw [runC_eq (by omega)]
  show bX2_at (runC d) x i u = _
  unfold bX2_at
  rw [ld_nat h1, ar_pos ⟨by omega, by omega⟩, show gN u 2 x + (i : Int) = (((gN u 2 x).toNat + i : Nat) : Int) by omega, ld_nat h3]
theorem rX2_push {d : Nat} (hd : 3 ≤ d) {u : Sg} {a : Int} (h1 : gI u 12 = (rC u : Int)) (h2 : rC u ≤ gL u 11) (h3 : 1024 ≤ gL u 11) (h4 : gL u 11 ≤ 65536) (h5 : rC u ≤ 30000) :
    wp (runC d 97 [a] u) (fun _ u' => gI u' 12 = (rC u : Int) + 1 ∧ rC u' = rC u + 1 ∧ rC u' ≤ gL u' 11 ∧ 1024 ≤ gL u' 11 ∧ gL u' 11 ≤ 65536 ∧ (∀ i, i < rC u → gN u' 11 i = gN u 11 i) ∧ gN u' 11 (rC u) = a) := by
  obtain ⟨d, rfl⟩ : ∃ d', d = d' + 1 := ⟨d - 1, by omega⟩
  rw [runC_eq (by omega)]
  show wp (bX2_push (runC d) a u) _
  unfold bX2_push
  have key : ∀ s : Sg, gI s 12 = (rC u : Int) → rC u < gL s 11 → 1024 ≤ gL s 11 → gL s 11 ≤ 65536 → (∀ i, i < rC u → gN s 11 i = gN u 11 i) → wp (un (gI s 12) fun v3 => stA s 11 v3 a fun s4 => un (gI s4 12) fun v5 => ar (v5 + 1) fun v6 => un (sI s4 12 v6) fun s7 => some (0, s7)) (fun _ u' => gI u' 12 = (rC u : Int) + 1 ∧ rC u' = rC u + 1 ∧ rC u' ≤ gL u' 11 ∧ 1024 ≤ gL u' 11 ∧ gL u' 11 ≤ 65536 ∧ (∀ i, i < rC u → gN u' 11 i = gN u 11 i) ∧ gN u' 11 (rC u) = a) := by
    intro s k1 k2 k3 k3' k4
    rw [wp_un, wp_stA, wp_un, wp_ar, wp_un, wp_some, gI_sA, k1]
    have hr : rC (sI (sA s 11 (rC u : Int) a) 12 ((rC u : Int) + 1)) = rC u + 1 := by
      unfold rC; rw [gI_sI, if_pos rfl]; omega
    refine ⟨⟨by omega, by omega⟩, ⟨by omega, by omega⟩, by rw [gI_sI, if_pos rfl], hr, ?_, ?_, ?_, fun i hi => ?_, ?_⟩
    · rw [hr, gL_sI, gL_sA]; omega
    · rw [gL_sI, gL_sA]; omega
    · rw [gL_sI, gL_sA]; omega
    · rw [← k4 i hi, ← gA_nat, ← gA_nat, gA_sI, gA_sA, if_neg (fun h => by have := h.2; omega)]
    · rw [← gA_nat, gA_sI, gA_sA, if_pos ⟨rfl, rfl⟩]
  rw [wp_jn, wp_un, wp_un]
  refine wp_ite (fun h => ?_) (fun h => ?_)
  · rw [wp_un, wp_ar, wp_cpy]
    have e1 : (2 * gI u 12).toNat = 2 * rC u := by rw [h1]; omega
    have e2 : rC u = gL u 11 := by omega
    refine ⟨⟨by omega, by omega⟩, ⟨by omega, by omega, by omega⟩, ?_⟩
    refine key _ (by rw [gI_sN]; exact h1) (by rw [gL_sN, if_pos rfl]; omega) (by rw [gL_sN, if_pos rfl]; omega) (by rw [gL_sN, if_pos rfl]; omega) (fun i hi => ?_)
    rw [← gA_nat, gA_sN, if_pos rfl]
    show (if (i : Int).toNat < gL u 11 then gF u 11 (i : Int).toNat else 0) = _
    rw [if_pos (by omega)]
    rfl
  · exact key u h1 (by omega) h3 h4 (fun _ _ => rfl)
theorem rX2_hash {d : Nat} (hd : 3 ≤ d) {u : Sg} {k w : Int} {a : Nat} (h1 : gI u 12 = (rC u : Int)) (h2 : rC u ≤ gL u 11) (h3 : gL u 11 ≤ 65536) (ha : a ≤ rC u) : runC d 95 [k, w, (a : Int)] u = some (hsh (k, w, rowC u a), u) := by
  obtain ⟨d, rfl⟩ : ∃ d', d = d' + 1 := ⟨d - 1, by omega⟩
  rw [runC_eq (by omega)]
  show bX2_hash (runC d) k w a u = _
  have key : ∀ (m n : Nat) (b : Nat) (h : Int), b + m = rC u → m < n → ∀ x, bX2_hash_L11 (runC d) n h (b : Int) u x = x (hfold h (rowC u b)) u := by
    intro m
    induction m with
    | zero =>
      intro n b h hb hn x
      obtain ⟨n, rfl⟩ : ∃ n', n = n' + 1 := ⟨n - 1, by omega⟩
      rw [bX2_hash_L11, un_eq, if_neg (by omega)]
      have : rowC u b = [] := by unfold rowC; rw [show rC u - b = 0 by omega]; rfl
      rw [this]; rfl
    | succ m ih =>
      intro n b h hb hn x
      obtain ⟨n, rfl⟩ : ∃ n', n = n' + 1 := ⟨n - 1, by omega⟩
      rw [bX2_hash_L11, un_eq, if_pos (by omega), un_eq, ld_nat (by omega), un_eq, ar_pos ⟨by omega, by omega⟩]
      have := ih n (b + 1) (wrap (wrap (31 * h) + gN u 11 b)) (by omega) (by omega) x
      rw [show ((b : Int) + 1) = ((b + 1 : Nat) : Int) by omega, this]
      have e : rowC u b = gN u 11 b :: rowC u (b + 1) := by
        unfold rowC
        rw [show rC u - b = (rC u - (b + 1)) + 1 by omega, List.range_succ_eq_map, List.map_cons, List.map_map]
        congr 1
        refine List.map_congr_left (fun i _ => ?_)
        show gN u 11 (b + (i + 1)) = gN u 11 (b + 1 + i)
        congr 1; omega
      rw [e]; rfl
  unfold bX2_hash
  rw [un_eq, un_eq, key (rC u - a) KF a _ (by omega) (by unfold KF; omega)]
  rfl
