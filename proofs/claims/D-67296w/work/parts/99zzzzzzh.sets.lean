/-! sets of adjectives, as numbers -/
theorem bt_ushr (v : Int) {k j : Nat} (hk : k < 32) : bt (o_ushr v (k : Int)) j = bt v (k + j) := by
  have h1 : ∀ k : Nat, k < 32 → (((Int32.ofInt (k : Int)).toUInt32 &&& Int32.toUInt32 31).toBitVec % 32).toNat = k := by decide +kernel
  unfold bt o_ushr
  rw [Int32.ofInt_toInt]
  show ((Int32.ofInt v).toUInt32 >>> ((Int32.ofInt (k : Int)).toUInt32 &&& Int32.toUInt32 31)).toBitVec.getLsbD j = (Int32.ofInt v).toUInt32.toBitVec.getLsbD (k + j)
  rw [UInt32.toBitVec_shiftRight]
  show ((Int32.ofInt v).toUInt32.toBitVec >>> (((Int32.ofInt (k : Int)).toUInt32 &&& Int32.toUInt32 31).toBitVec % 32).toNat).getLsbD j = _
  rw [h1 k hk, BitVec.getLsbD_ushiftRight]
theorem bt_hi (v : Int) {j : Nat} (hj : 32 ≤ j) : bt v j = false := by
  unfold bt
  exact BitVec.getLsbD_of_ge _ _ hj
theorem bt_sgn {v : Int} (h : inR v) : bt v 31 = true ↔ v < 0 := by
  have ea : (Int32.ofInt v).toInt = v := Int32.toInt_ofInt_of_le (by omega) (by omega)
  have e2 : (Int32.ofInt v).toBitVec.toInt = v := ea
  unfold bt
  have hm : (Int32.ofInt v).toBitVec.getLsbD 31 = (Int32.ofInt v).toBitVec.msb := (BitVec.msb_eq_getLsbD_last _).symm
  rw [hm, BitVec.msb_eq_toInt, e2]
  simp
/-- the number is that of a set of adjectives that there are -/
def okSet (W : Wd) (s : Int) : Prop := ∀ j, 2 * wnA W ≤ j → bt s j = false
def setL (s : Int) : List Nat := (List.range 31).filter (fun j => bt s j)
theorem setL_mem {s : Int} {j : Nat} : j ∈ setL s ↔ j < 31 ∧ bt s j = true := by
  unfold setL
  rw [List.mem_filter, List.mem_range]
theorem ush_0 {s : Int} {k : Nat} (hk : k < 32) : o_ushr s (k : Int) = 0 ↔ ∀ j, k ≤ j → bt s j = false := by
  constructor
  · intro h j hj
    have := bt_ushr s (k := k) (j := j - k) hk
    rw [h] at this
    rw [show k + (j - k) = j by omega] at this
    by_cases h32 : j - k < 32
    · rw [bt_zero h32] at this; exact this.symm
    · exact bt_hi _ (by omega)
  · intro h
    refine bt_ext (o_rng _) ⟨by decide, by decide⟩ (fun j hj => ?_)
    rw [bt_ushr s hk, bt_zero hj]
    exact h _ (by omega)
theorem shl_eq : ∀ k : Nat, k < 31 → o_shl 1 (k : Int) = ((2 ^ k : Nat) : Int) := by decide +kernel
theorem bt_mask : ∀ k : Nat, k < 31 → ∀ j : Nat, j < 32 → bt (((2 ^ k : Nat) : Int) - 1) j = decide (j < k) := by decide +kernel
theorem cSet {d : Nat} (hd : 10 ≤ d) {W : Wd} {u : Sg} (h70 : gI u 70 = (wnA W : Int)) (h15 : wnA W ≤ 15) (h9 : 0 ≤ gI u 99 ∧ gI u 99 < 1000000) {s : Int} (hs : inR s) : (okSet W s → runC d 13 [s] u = some (0, u)) ∧ (¬ okSet W s → runC d 13 [s] u = some (exB + 1, tS u)) := by
  obtain ⟨d, rfl⟩ : ∃ e, d = e + 1 := ⟨d - 1, by omega⟩
  rw [runC_eq (by omega)]
  show (okSet W s → bX1_isSet (runC d) s u = some (0, u)) ∧ (¬ okSet W s → bX1_isSet (runC d) s u = some (exB + 1, tS u))
  have hsg := bt_sgn hs
  have hu := ush_0 (s := s) (k := 2 * wnA W) (by omega)
  rw [show ((2 * wnA W : Nat) : Int) = 2 * (wnA W : Int) by omega] at hu
  unfold bX1_isSet jn
  dsimp only
  refine ⟨fun hok => ?_, fun hno => ?_⟩
  · have h31 := hok 31 (by omega)
    rw [if_neg (fun q => by rw [hsg.mpr q] at h31; cases h31), un_eq, h70, ar_pos ⟨by omega, by omega⟩, un_eq, if_pos (hu.mpr hok), cl_eq (need_ok (by omega)), pr_0]
  · by_cases h0 : s < 0
    · rw [if_pos h0, cl_eq (need_no (by omega) h9), pr_x (by decide)]
    · rw [if_neg h0, un_eq, h70, ar_pos ⟨by omega, by omega⟩, un_eq, if_neg (fun q => hno (hu.mp q)), cl_eq (need_no (by omega) h9), pr_x (by decide)]
theorem tSet {d : Nat} (hd : 10 ≤ d) {W : Wd} {u : Sg} (h28 : gI u 28 = (wnA W : Int)) (h15 : wnA W ≤ 15) {s : Int} (hs : inR s) : (okSet W s → runT d 22 [s] u = some (1, u)) ∧ (¬ okSet W s → runT d 22 [s] u = some (0, u)) := by
  obtain ⟨d, rfl⟩ : ∃ e, d = e + 1 := ⟨d - 1, by omega⟩
  rw [runT_eq (by omega)]
  show (okSet W s → bX3_isSet (runT d) s u = some (1, u)) ∧ (¬ okSet W s → bX3_isSet (runT d) s u = some (0, u))
  unfold bX3_isSet
  have e1 := shl_eq (2 * wnA W) (by omega)
  rw [show ((2 * wnA W : Nat) : Int) = 2 * (wnA W : Int) by omega] at e1
  have hp : (2 ^ (2 * wnA W) : Nat) ≤ 2 ^ 30 := Nat.pow_le_pow_right (by decide) (by omega)
  have hp1 : 1 ≤ (2 ^ (2 * wnA W) : Nat) := Nat.one_le_two_pow
  have hb := bt_mask (2 * wnA W) (by omega)
  have key : o_and s (o_xor (((2 ^ (2 * wnA W) : Nat) : Int) - 1) (-1)) = 0 ↔ okSet W s := by
    constructor
    · intro h j hj
      by_cases h32 : j < 32
      · have := bt_and s (o_xor (((2 ^ (2 * wnA W) : Nat) : Int) - 1) (-1)) j
        rw [h, bt_zero h32, bt_not _ h32, hb j h32, decide_eq_false (by omega)] at this
        simpa using this.symm
      · exact bt_hi _ (by omega)
    · intro h
      refine bt_ext (o_rng _) ⟨by decide, by decide⟩ (fun j hj => ?_)
      rw [bt_and, bt_not _ hj, hb j hj, bt_zero hj]
      by_cases hjk : j < 2 * wnA W
      · rw [decide_eq_true hjk]; simp
      · rw [h j (by omega)]; simp
  generalize (2 ^ (2 * wnA W) : Nat) = P at *
  rw [un_eq, h28, ar_pos ⟨by omega, by omega⟩, un_eq, e1, ar_pos ⟨by omega, by omega⟩, un_eq, un_eq]
  exact ⟨fun h => by rw [if_pos (key.mpr h)], fun h => by rw [if_neg (fun q => h (key.mp q))]⟩
theorem setL_nd {s : Int} : (setL s).Nodup := by
  unfold setL
  exact List.Pairwise.filter _ List.nodup_range
theorem setL_len {s : Int} : (setL s).length ≤ 31 := by
  unfold setL
  exact Nat.le_trans (List.length_filter_le _ _) (by simp)
/-- the first bits of a set -/
def setN' (s : Int) (n : Nat) : List Nat := (List.range n).filter (fun j => bt s j)
theorem setN_s {s : Int} {n : Nat} : setN' s (n + 1) = setN' s n ++ (if bt s n = true then [n] else []) := by
  unfold setN'
  rw [List.range_succ, List.filter_append]
  congr 1
  by_cases h : bt s n = true
  · rw [if_pos h]; simp [h]
  · rw [if_neg h]; simp [h]
theorem setN_end {W : Wd} {s : Int} (h : okSet W s) (h15 : wnA W ≤ 15) : setN' s (2 * wnA W) = setL s := by
  have key : ∀ k, 2 * wnA W + k ≤ 31 → setN' s (2 * wnA W + k) = setN' s (2 * wnA W) := by
    intro k
    induction k with
    | zero => intro _; rfl
    | succ k ih =>
      intro hk
      rw [← Nat.add_assoc, setN_s, h _ (by omega), ih (by omega)]
      simp
  have := key (31 - 2 * wnA W) (by omega)
  rw [show 2 * wnA W + (31 - 2 * wnA W) = 31 by omega] at this
  exact this.symm
theorem asc_app {L : List Nat} {n : Nat} (h : ∀ (q a b : Nat), L[q]? = some a → L[q + 1]? = some b → a < b) (hn : ∀ v ∈ L, v < n) : ∀ (q a b : Nat), (L ++ [n])[q]? = some a → (L ++ [n])[q + 1]? = some b → a < b := by
  intro q a b ha hb
  have hl := (List.getElem?_eq_some_iff.mp hb).1
  rw [List.length_append] at hl
  have hl : q + 1 < L.length + 1 := hl
  rw [List.getElem?_append_left (by omega)] at ha
  by_cases hq : q + 1 < L.length
  · rw [List.getElem?_append_left hq] at hb
    exact h q a b ha hb
  · rw [List.getElem?_append_right (by omega), show q + 1 - L.length = 0 by omega] at hb
    rw [← Option.some.inj hb]
    exact hn a (List.mem_of_getElem? ha)
theorem setN_asc {s : Int} : ∀ (n : Nat), (∀ (q a b : Nat), (setN' s n)[q]? = some a → (setN' s n)[q + 1]? = some b → a < b) ∧ ∀ v ∈ setN' s n, v < n
  | 0 => ⟨fun q a b h => by simp [setN'] at h, fun v hv => by simp [setN'] at hv⟩
  | n + 1 => by
    obtain ⟨h1, h2⟩ := setN_asc (s := s) n
    rw [setN_s]
    by_cases h : bt s n = true
    · rw [if_pos h]
      exact ⟨asc_app h1 h2, fun v hv => by
        rcases List.mem_append.mp hv with q | q
        · have := h2 v q; omega
        · rw [List.mem_singleton.mp q]; omega⟩
    · rw [if_neg h, List.append_nil]
      exact ⟨h1, fun v hv => by have := h2 v hv; omega⟩
