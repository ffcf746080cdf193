/-! STORES: labels by node, and the trees they stand for -/
abbrev Lb : Type := Nat × Nat × List Nat
abbrev Sto : Type := Nat × (Nat → Lb)
/-- the parts that are forms (of a type its adjectives are numbers) -/
def fpt (l : Lb) : List Nat := if l.1 = 8 then l.2.2.take 1 else l.2.2
def pmp (g : Nat → Nat) (k : Nat) (l : List Nat) : List Nat := if k = 8 then (l.take 1).map g ++ l.drop 1 else l.map g
theorem pmp_congr {g g' : Nat → Nat} {k w : Nat} {l : List Nat} (h : ∀ p ∈ fpt (k, w, l), g p = g' p) : pmp g k l = pmp g' k l := by
  unfold pmp
  unfold fpt at h
  split
  · rename_i hk
    simp only [hk, if_true] at h
    rw [List.map_congr_left h]
  · rename_i hk
    simp only [hk, if_false] at h
    exact List.map_congr_left h
def trF (f : Nat → Lb) : Nat → Nat → Nat
  | 0, _ => 0
  | n + 1, x => if x = 0 then 0 else mk (f x).1 (f x).2.1 (pmp (trF f n) (f x).1 (f x).2.2)
def tr (S : Sto) (x : Nat) : Nat := trF S.2 x x
/-- parts stand before what they are parts of -/
def OKp (S : Sto) : Prop := ∀ x, 0 < x → x ≤ S.1 → ∀ p ∈ fpt (S.2 x), p < x
theorem trF_st {S : Sto} (h : OKp S) : ∀ (x : Nat), x ≤ S.1 → ∀ n m, x ≤ n → x ≤ m → trF S.2 n x = trF S.2 m x := by
  intro x
  induction x using Nat.strongRecOn with
  | ind x ih =>
    intro hx n m hn hm
    rcases Nat.eq_zero_or_pos x with q | q
    · subst q
      cases n <;> cases m <;> simp [trF]
    · cases n with
      | zero => omega
      | succ n =>
        cases m with
        | zero => omega
        | succ m =>
          rw [trF, trF, if_neg (by omega), if_neg (by omega)]
          congr 1
          refine pmp_congr (w := (S.2 x).2.1) (fun p hp => ?_)
          have := h x q hx p hp
          exact ih p this (by omega) n m (by omega) (by omega)
theorem tr_zero (S : Sto) : tr S 0 = 0 := rfl
theorem tr_eq {S : Sto} (h : OKp S) {x : Nat} (h0 : 0 < x) (hx : x ≤ S.1) : tr S x = mk (S.2 x).1 (S.2 x).2.1 (pmp (tr S) (S.2 x).1 (S.2 x).2.2) := by
  unfold tr
  cases x with
  | zero => omega
  | succ n =>
    rw [trF, if_neg (by omega)]
    congr 1
    refine pmp_congr (w := (S.2 (n + 1)).2.1) (fun p hp => ?_)
    have := h (n + 1) h0 hx p hp
    exact trF_st h p (by omega) n p (by omega) (Nat.le_refl _)
theorem tr_pos {S : Sto} (h : OKp S) {x : Nat} (h0 : 0 < x) (hx : x ≤ S.1) : 0 < tr S x := by rw [tr_eq h h0 hx]; exact mk_pos _ _ _
theorem map_inj2 {g : Nat → Nat} : ∀ (l l' : List Nat), (∀ p ∈ l, ∀ p' ∈ l', g p = g p' → p = p') → l.map g = l'.map g → l = l'
  | [], [], _, _ => rfl
  | [], _ :: _, _, h => by simp at h
  | _ :: _, [], _, h => by simp at h
  | a :: l, b :: l', hi, h => by
    simp only [List.map_cons, List.cons.injEq] at h
    rw [hi a List.mem_cons_self b List.mem_cons_self h.1, map_inj2 l l' (fun p hp p' hp' => hi p (List.mem_cons_of_mem _ hp) p' (List.mem_cons_of_mem _ hp')) h.2]
theorem append_inj2 {a a' b b' : List Nat} (h : a ++ b = a' ++ b') (hl : a.length = a'.length) : a = a' ∧ b = b' := List.append_inj h hl
/-- what is the same stands once -/
def Inj (S : Sto) : Prop := ∀ x y, 0 < x → x ≤ S.1 → 0 < y → y ≤ S.1 → S.2 x = S.2 y → x = y
theorem pmp_inj {g : Nat → Nat} {k w w' : Nat} {l l' : List Nat} (hi : ∀ p ∈ fpt (k, w, l), ∀ p' ∈ fpt (k, w', l'), g p = g p' → p = p') (h : pmp g k l = pmp g k l') : l = l' := by
  unfold pmp at h
  unfold fpt at hi
  split at h
  · rename_i hk
    simp only [hk, if_true] at hi
    have hlen := congrArg List.length h
    simp only [List.length_append, List.length_map, List.length_take, List.length_drop] at hlen
    have hl : (l.take 1).length = (l'.take 1).length := by
      simp only [List.length_take]; omega
    obtain ⟨h1, h2⟩ := List.append_inj h (by simp only [List.length_map]; exact hl)
    have h3 := map_inj2 _ _ hi h1
    rw [← List.take_append_drop 1 l, h3, h2, List.take_append_drop]
  · rename_i hk
    simp only [hk, if_false] at hi
    exact map_inj2 _ _ hi h
theorem tr_inj {S : Sto} (h : OKp S) (hi : Inj S) : ∀ (x y : Nat), x ≤ S.1 → y ≤ S.1 → tr S x = tr S y → x = y := by
  intro x
  induction x using Nat.strongRecOn with
  | ind x ih =>
    intro y hx hy e
    rcases Nat.eq_zero_or_pos x with q | q
    · subst q
      rcases Nat.eq_zero_or_pos y with q2 | q2
      · exact q2.symm
      · have := tr_pos h q2 hy
        rw [tr_zero] at e; omega
    · rcases Nat.eq_zero_or_pos y with q2 | q2
      · subst q2
        have := tr_pos h q hx
        rw [tr_zero] at e; omega
      · rw [tr_eq h q hx, tr_eq h q2 hy] at e
        obtain ⟨e1, e2, e3⟩ := mk_inj e
        refine hi x y q hx q2 hy ?_
        have e4 : (S.2 x).2.2 = (S.2 y).2.2 := by
          rw [← e1] at e3
          refine pmp_inj (w := (S.2 x).2.1) (w' := (S.2 y).2.1) (fun p hp p' hp' e5 => ?_) e3
          have a1 := h x q hx p hp
          have a2 := h y q2 hy p' (by unfold fpt at hp' ⊢; rw [← e1]; exact hp')
          exact ih p a1 p' (by omega) (by omega) e5
        exact Prod.ext e1 (Prod.ext e2 e4)
/-- a store that has grown -/
def Ext (S S' : Sto) : Prop := S.1 ≤ S'.1 ∧ ∀ x, 0 < x → x ≤ S.1 → S'.2 x = S.2 x
theorem Ext.rf {S : Sto} : Ext S S := ⟨Nat.le_refl _, fun _ _ _ => rfl⟩
theorem Ext.tr {S S1 S2 : Sto} (h : Ext S S1) (h' : Ext S1 S2) : Ext S S2 := ⟨Nat.le_trans h.1 h'.1, fun x h0 hx => (h'.2 x h0 (Nat.le_trans hx h.1)).trans (h.2 x h0 hx)⟩
theorem tr_ext {S S' : Sto} (h : OKp S) (h' : OKp S') (e : Ext S S') : ∀ (x : Nat), x ≤ S.1 → tr S' x = tr S x := by
  intro x
  induction x using Nat.strongRecOn with
  | ind x ih =>
    intro hx
    rcases Nat.eq_zero_or_pos x with q | q
    · subst q; rfl
    · rw [tr_eq h q hx, tr_eq h' q (Nat.le_trans hx e.1), e.2 x q hx]
      congr 1
      refine pmp_congr (w := (S.2 x).2.1) (fun p hp => ?_)
      have := h x q hx p hp
      exact ih p this (by omega)
/-- x is the node of a label in S', which is S or S and that node -/
def Mk (S : Sto) (l : Lb) (x : Nat) (S' : Sto) : Prop := Ext S S' ∧ 0 < x ∧ x ≤ S'.1 ∧ S'.2 x = l ∧ (S'.1 = S.1 ∨ (S'.1 = S.1 + 1 ∧ x = S.1 + 1))
theorem Mk.ok {S S' : Sto} {l : Lb} {x : Nat} (h : OKp S) (hl : ∀ p ∈ fpt l, p ≤ S.1) (m : Mk S l x S') : OKp S' := by
  intro y h0 hy p hp
  by_cases hys : y ≤ S.1
  · rw [m.1.2 y h0 hys] at hp
    exact h y h0 hys p hp
  · rcases m.2.2.2.2 with q | ⟨q, qx⟩
    · omega
    · have : y = x := by omega
      subst this
      rw [m.2.2.2.1] at hp
      have := hl p hp
      omega
theorem Mk.tr {S S' : Sto} {l : Lb} {x : Nat} (h : OKp S) (hl : ∀ p ∈ fpt l, p ≤ S.1) (m : Mk S l x S') : tr S' x = mk l.1 l.2.1 (pmp (tr S) l.1 l.2.2) := by
  have h' := m.ok h hl
  rw [tr_eq h' m.2.1 m.2.2.1, m.2.2.2.1]
  congr 1
  exact pmp_congr (w := l.2.1) (fun p hp => tr_ext h h' m.1 p (hl p hp))
