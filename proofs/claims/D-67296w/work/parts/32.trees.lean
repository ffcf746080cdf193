/-! TREES: a form is a number, by an injective code; its parts are smaller -/
def pq (a b : Nat) : Nat := 2 ^ a * (2 * b + 1)
theorem pq_pos (a b : Nat) : 0 < pq a b := Nat.mul_pos (Nat.pow_pos (by decide)) (by omega)
theorem pq_lt1 (a b : Nat) : a < pq a b := by
  have h : a < 2 ^ a := Nat.lt_two_pow_self
  have : 2 ^ a * 1 ≤ pq a b := Nat.mul_le_mul_left _ (by omega)
  omega
theorem pq_lt2 (a b : Nat) : b < pq a b := by
  have h : 1 * (2 * b + 1) ≤ pq a b := Nat.mul_le_mul_right _ (Nat.one_le_two_pow)
  omega
/-- the two halves of a code, by halving -/
def uq : Nat → Nat → Nat × Nat
  | 0, _ => (0, 0)
  | f + 1, n => if n % 2 = 1 then (0, n / 2) else ((uq f (n / 2)).1 + 1, (uq f (n / 2)).2)
theorem uq_pq : ∀ (f a b : Nat), a < f → uq f (pq a b) = (a, b)
  | 0, _, _, h => absurd h (Nat.not_lt_zero _)
  | f + 1, 0, b, _ => by
    have e : pq 0 b = 2 * b + 1 := by simp [pq]
    rw [e, uq, if_pos (by omega)]
    congr 1
    omega
  | f + 1, a + 1, b, h => by
    have e : pq (a + 1) b = 2 * pq a b := by simp only [pq, Nat.pow_succ]; rw [Nat.mul_comm (2 ^ a) 2, Nat.mul_assoc]
    rw [e, uq, if_neg (by omega), show 2 * pq a b / 2 = pq a b by omega, uq_pq f a b (by omega)]
def u1 (n : Nat) : Nat := (uq n n).1
def u2 (n : Nat) : Nat := (uq n n).2
theorem u1_pq (a b : Nat) : u1 (pq a b) = a := by unfold u1; rw [uq_pq _ _ _ (pq_lt1 a b)]
theorem u2_pq (a b : Nat) : u2 (pq a b) = b := by unfold u2; rw [uq_pq _ _ _ (pq_lt1 a b)]
theorem pq_inj {a b c d : Nat} (h : pq a b = pq c d) : a = c ∧ b = d := by
  have h1 := congrArg u1 h
  have h2 := congrArg u2 h
  rw [u1_pq, u1_pq] at h1
  rw [u2_pq, u2_pq] at h2
  exact ⟨h1, h2⟩
theorem uq_lt : ∀ (f n : Nat), 0 < n → (uq f n).2 < n ∧ (uq f n).1 < n
  | 0, n, h => ⟨h, h⟩
  | f + 1, n, h => by
    rw [uq]
    split
    · exact ⟨by show n / 2 < n; omega, h⟩
    · have h2 : 0 < n / 2 := by omega
      have := uq_lt f (n / 2) h2
      exact ⟨by show (uq f (n / 2)).2 < n; omega, by show (uq f (n / 2)).1 + 1 < n; omega⟩
theorem u2_lt {n : Nat} (h : 0 < n) : u2 n < n := (uq_lt n n h).1
theorem u1_lt {n : Nat} (h : 0 < n) : u1 n < n := (uq_lt n n h).2
def enc : List Nat → Nat
  | [] => 0
  | a :: l => pq a (enc l)
def dec : Nat → Nat → List Nat
  | 0, _ => []
  | f + 1, n => if n = 0 then [] else u1 n :: dec f (u2 n)
theorem dec_enc : ∀ (l : List Nat) (f : Nat), enc l ≤ f → dec f (enc l) = l
  | [], f, _ => by cases f <;> simp [dec, enc]
  | a :: l, f, h => by
    have h0 := pq_pos a (enc l)
    have h1 := pq_lt2 a (enc l)
    cases f with
    | zero => simp only [enc] at h; omega
    | succ f =>
      simp only [enc] at h ⊢
      rw [dec, if_neg (by omega), u1_pq, u2_pq, dec_enc l f (by omega)]
theorem dec_lt : ∀ (f n p : Nat), p ∈ dec f n → p < n
  | 0, _, p, h => by cases h
  | f + 1, n, p, h => by
    rw [dec] at h
    split at h
    · cases h
    · rename_i hn
      rcases List.mem_cons.mp h with q | q
      · rw [q]; exact u1_lt (by omega)
      · have := dec_lt f _ p q
        have := u2_lt (n := n) (by omega)
        omega
/-- a form: its kind, a number, its parts (0: none) -/
def mk (k w : Nat) (l : List Nat) : Nat := pq k (pq w (enc l))
def kd (t : Nat) : Nat := u1 t
def wh (t : Nat) : Nat := u1 (u2 t)
def ps (t : Nat) : List Nat := dec (u2 (u2 t)) (u2 (u2 t))
theorem kd_mk (k w : Nat) (l : List Nat) : kd (mk k w l) = k := u1_pq _ _
theorem wh_mk (k w : Nat) (l : List Nat) : wh (mk k w l) = w := by unfold wh mk; rw [u2_pq, u1_pq]
theorem ps_mk (k w : Nat) (l : List Nat) : ps (mk k w l) = l := by unfold ps mk; rw [u2_pq, u2_pq]; exact dec_enc l _ (Nat.le_refl _)
theorem mk_pos (k w : Nat) (l : List Nat) : 0 < mk k w l := pq_pos _ _
theorem mk_inj {k w k' w' : Nat} {l l' : List Nat} (h : mk k w l = mk k' w' l') : k = k' ∧ w = w' ∧ l = l' := by
  have h1 := congrArg kd h
  have h2 := congrArg wh h
  have h3 := congrArg ps h
  rw [kd_mk, kd_mk] at h1
  rw [wh_mk, wh_mk] at h2
  rw [ps_mk, ps_mk] at h3
  exact ⟨h1, h2, h3⟩
theorem ps_lt {t p : Nat} (h : p ∈ ps t) : p < t := by
  have h1 := dec_lt _ _ p h
  have h2 : 0 < t := by
    rcases Nat.eq_zero_or_pos t with q | q
    · subst q
      have : u2 (u2 0) = 0 := by decide
      rw [this] at h1; omega
    · exact q
  have h3 := u2_lt h2
  rcases Nat.eq_zero_or_pos (u2 t) with q | q
  · rw [q] at h1
    have : u2 0 = 0 := by decide
    omega
  · have := u2_lt q
    omega
theorem mk_lt {k w : Nat} {l : List Nat} {p : Nat} (h : p ∈ l) : p < mk k w l := ps_lt (by rw [ps_mk]; exact h)
