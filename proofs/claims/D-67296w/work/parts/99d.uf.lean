/-! classes of equal terms by parents -/
def rtF (p : Nat → Nat) : Nat → Nat → Nat
  | 0, i => i
  | n + 1, i => if p i = i then i else rtF p n (p i)
def rt (p : Nat → Nat) (i : Nat) : Nat := rtF p i i
def DecP (p : Nat → Nat) (n : Nat) : Prop := ∀ i, i < n → p i ≤ i
theorem rtF_st {p : Nat → Nat} {N : Nat} (hp : DecP p N) : ∀ (n m i : Nat), i < N → i ≤ n → i ≤ m → rtF p n i = rtF p m i := by
  intro n
  induction n with
  | zero =>
    intro m i hN hn hm
    have : i = 0 := by omega
    subst this
    cases m with
    | zero => rfl
    | succ m =>
      rw [rtF, rtF]
      have := hp 0 hN
      rw [if_pos (by omega)]
  | succ n ih =>
    intro m i hN hn hm
    cases m with
    | zero =>
      have : i = 0 := by omega
      subst this
      rw [rtF, rtF]
      have := hp 0 hN
      rw [if_pos (by omega)]
    | succ m =>
      rw [rtF, rtF]
      by_cases h : p i = i
      · rw [if_pos h, if_pos h]
      · rw [if_neg h, if_neg h]
        have := hp i hN
        exact ih m (p i) (by omega) (by omega) (by omega)
theorem rt_eq {p : Nat → Nat} {N i : Nat} (hp : DecP p N) (hi : i < N) : rt p i = if p i = i then i else rt p (p i) := by
  unfold rt
  cases i with
  | zero =>
    have := hp 0 hi
    have e : p 0 = 0 := by omega
    rw [if_pos e]; rfl
  | succ i =>
    rw [rtF]
    by_cases h : p (i + 1) = i + 1
    · rw [if_pos h, if_pos h]
    · rw [if_neg h, if_neg h]
      have := hp (i + 1) hi
      exact rtF_st hp _ _ _ (by omega) (by omega) (Nat.le_refl _)
theorem rt_le {p : Nat → Nat} {N : Nat} (hp : DecP p N) : ∀ (i : Nat), i < N → rt p i ≤ i ∧ p (rt p i) = rt p i := by
  intro i
  induction i using Nat.strongRecOn with
  | ind i ih =>
    intro hi
    rw [rt_eq hp hi]
    by_cases h : p i = i
    · rw [if_pos h]; exact ⟨Nat.le_refl _, h⟩
    · rw [if_neg h]
      have := hp i hi
      have q := ih (p i) (by omega) (by omega)
      exact ⟨by omega, q.2⟩
theorem rt_root {p : Nat → Nat} {N i : Nat} (hp : DecP p N) (hi : i < N) (h : p i = i) : rt p i = i := by rw [rt_eq hp hi, if_pos h]
theorem rt_rt {p : Nat → Nat} {N i : Nat} (hp : DecP p N) (hi : i < N) : rt p (rt p i) = rt p i := rt_root hp (by have := (rt_le hp i hi).1; omega) (rt_le hp i hi).2
/-- one root goes under another -/
def puP (p : Nat → Nat) (a b : Nat) : Nat → Nat := fun i => if i = a then b else p i
theorem puP_dec {p : Nat → Nat} {N a b : Nat} (hp : DecP p N) (hab : b ≤ a) : DecP (puP p a b) N := fun i hi => by
  unfold puP
  split
  · omega
  · exact hp i hi
theorem rt_puP {p : Nat → Nat} {N a b : Nat} (hp : DecP p N) (ha : a < N) (hab : b < a) (pa' : p a = a) (pb : p b = b) : ∀ (i : Nat), i < N → rt (puP p a b) i = if rt p i = a then b else rt p i := by
  have hd := puP_dec (a := a) (b := b) hp (Nat.le_of_lt hab)
  have ub : puP p a b b = b := by unfold puP; rw [if_neg (by omega)]; exact pb
  intro i
  induction i using Nat.strongRecOn with
  | ind i ih =>
    intro hi
    rw [rt_eq hd hi, rt_eq hp hi]
    by_cases hia : i = a
    · subst hia
      have e : puP p i b i = b := by unfold puP; rw [if_pos rfl]
      rw [e, if_neg (by omega), if_pos pa', if_pos rfl]
      exact rt_root hd (by omega) ub
    · have e : puP p a b i = p i := by unfold puP; rw [if_neg hia]
      rw [e]
      by_cases h : p i = i
      · rw [if_pos h, if_pos h, if_neg hia]
      · rw [if_neg h, if_neg h]
        have := hp i hi
        exact ih (p i) (by omega) (by omega)
/-- equal in a list of terms with parents -/
def eqL (H : List Nat) (p : Nat → Nat) (s t : Nat) : Prop := ∃ i j, H[i]? = some s ∧ H[j]? = some t ∧ rt p i = rt p j
theorem eqL.rf {H : List Nat} {p : Nat → Nat} {t : Nat} (h : t ∈ H) : eqL H p t t := by
  obtain ⟨i, hi⟩ := List.getElem?_of_mem h
  exact ⟨i, i, hi, hi, rfl⟩
theorem eqL.sy {H : List Nat} {p : Nat → Nat} {s t : Nat} (h : eqL H p s t) : eqL H p t s := by
  obtain ⟨i, j, a, b, c⟩ := h
  exact ⟨j, i, b, a, c.symm⟩
theorem eqL.trn {H : List Nat} {p : Nat → Nat} {s t r : Nat} (hn : H.Nodup) (h : eqL H p s t) (h' : eqL H p t r) : eqL H p s r := by
  obtain ⟨i, j, a, b, c⟩ := h
  obtain ⟨i', j', a', b', c'⟩ := h'
  have e := nodup_at hn b a'
  subst e
  exact ⟨i, j', a, b', c.trans c'⟩
theorem eqL.mem {H : List Nat} {p : Nat → Nat} {s t : Nat} (h : eqL H p s t) : s ∈ H ∧ t ∈ H := by
  obtain ⟨i, j, a, b, _⟩ := h
  exact ⟨List.mem_of_getElem? a, List.mem_of_getElem? b⟩
/-- after a join: what was equal, and the two classes are one -/
theorem eqL_join {H : List Nat} {p : Nat → Nat} {a b i0 j0 s0 t0 : Nat} (hn : H.Nodup) (hp : DecP p H.length) (h1 : H[i0]? = some s0) (h2 : H[j0]? = some t0) (hab : (rt p i0 = a ∧ rt p j0 = b ∨ rt p i0 = b ∧ rt p j0 = a)) (hlt : b < a) (s t : Nat) : eqL H (puP p a b) s t ↔ eqL H p s t ∨ (eqL H p s s0 ∧ eqL H p t0 t) ∨ (eqL H p s t0 ∧ eqL H p s0 t) := by
  have hi0 := (List.getElem?_eq_some_iff.mp h1).1
  have hj0 := (List.getElem?_eq_some_iff.mp h2).1
  have ra := rt_le hp i0 hi0
  have rb := rt_le hp j0 hj0
  have hA : a < H.length ∧ p a = a ∧ p b = b := by
    rcases hab with ⟨q1, q2⟩ | ⟨q1, q2⟩
    · rw [q1] at ra; rw [q2] at rb; exact ⟨by omega, ra.2, rb.2⟩
    · rw [q1] at ra; rw [q2] at rb; exact ⟨by omega, rb.2, ra.2⟩
  have key := rt_puP hp hA.1 hlt hA.2.1 hA.2.2
  constructor
  · rintro ⟨i, j, e1, e2, e3⟩
    have hi := (List.getElem?_eq_some_iff.mp e1).1
    have hj := (List.getElem?_eq_some_iff.mp e2).1
    rw [key i hi, key j hj] at e3
    by_cases c1 : rt p i = a
    · rw [if_pos c1] at e3
      by_cases c2 : rt p j = a
      · exact Or.inl ⟨i, j, e1, e2, by rw [c1, c2]⟩
      · rw [if_neg c2] at e3
        rcases hab with ⟨q1, q2⟩ | ⟨q1, q2⟩
        · exact Or.inr (Or.inl ⟨⟨i, i0, e1, h1, by rw [c1, q1]⟩, ⟨j0, j, h2, e2, by rw [q2, e3]⟩⟩)
        · exact Or.inr (Or.inr ⟨⟨i, j0, e1, h2, by rw [c1, q2]⟩, ⟨i0, j, h1, e2, by rw [q1, e3]⟩⟩)
    · rw [if_neg c1] at e3
      by_cases c2 : rt p j = a
      · rw [if_pos c2] at e3
        rcases hab with ⟨q1, q2⟩ | ⟨q1, q2⟩
        · exact Or.inr (Or.inr ⟨⟨i, j0, e1, h2, by rw [e3, q2]⟩, ⟨i0, j, h1, e2, by rw [q1, c2]⟩⟩)
        · exact Or.inr (Or.inl ⟨⟨i, i0, e1, h1, by rw [e3, q1]⟩, ⟨j0, j, h2, e2, by rw [q2, c2]⟩⟩)
      · rw [if_neg c2] at e3
        exact Or.inl ⟨i, j, e1, e2, e3⟩
  · have old : ∀ {x y : Nat}, eqL H p x y → eqL H (puP p a b) x y := fun {x y} ⟨i, j, e1, e2, e3⟩ => by
      have hi := (List.getElem?_eq_some_iff.mp e1).1
      have hj := (List.getElem?_eq_some_iff.mp e2).1
      exact ⟨i, j, e1, e2, by rw [key i hi, key j hj, e3]⟩
    have new : eqL H (puP p a b) s0 t0 := by
      refine ⟨i0, j0, h1, h2, ?_⟩
      rw [key i0 hi0, key j0 hj0]
      rcases hab with ⟨q1, q2⟩ | ⟨q1, q2⟩
      · rw [q1, q2, if_pos rfl, if_neg (by omega)]
      · rw [q1, q2, if_pos rfl, if_neg (by omega)]
    rintro (q | ⟨q1, q2⟩ | ⟨q1, q2⟩)
    · exact old q
    · exact ((old q1).trn hn new).trn hn (old q2)
    · exact ((old q1).trn hn new.sy).trn hn (old q2)
/-- a new term at the end stands for itself -/
theorem eqL_new {H : List Nat} {p : Nat → Nat} {x : Nat} (hp : DecP p H.length) (hx : x ∉ H) (s t : Nat) : eqL (H ++ [x]) (puP p H.length H.length) s t ↔ eqL H p s t ∨ (s = x ∧ t = x) := by
  have hd : DecP (puP p H.length H.length) (H.length + 1) := fun i hi => by
    unfold puP
    split
    · omega
    · exact hp i (by omega)
  have old : ∀ i, i < H.length → rt (puP p H.length H.length) i = rt p i := by
    intro i
    induction i using Nat.strongRecOn with
    | ind i ih =>
      intro hi
      have e : puP p H.length H.length i = p i := by unfold puP; rw [if_neg (by omega)]
      rw [rt_eq hd (by omega), rt_eq hp hi, e]
      by_cases h : p i = i
      · rw [if_pos h, if_pos h]
      · rw [if_neg h, if_neg h]
        have := hp i hi
        exact ih (p i) (by omega) (by omega)
  have self : rt (puP p H.length H.length) H.length = H.length := rt_root hd (by omega) (by unfold puP; rw [if_pos rfl])
  have at' : ∀ (i s : Nat), (H ++ [x])[i]? = some s → (i < H.length ∧ H[i]? = some s) ∨ (i = H.length ∧ s = x) := fun i s h => by
    by_cases hi : i < H.length
    · rw [List.getElem?_append_left hi] at h; exact Or.inl ⟨hi, h⟩
    · rw [List.getElem?_append_right (by omega)] at h
      have h0 : i - H.length = 0 := by have := (List.getElem?_eq_some_iff.mp h).1; simp at this; omega
      rw [h0] at h
      simp at h
      exact Or.inr ⟨by omega, h.symm⟩
  constructor
  · rintro ⟨i, j, e1, e2, e3⟩
    rcases at' i s e1 with ⟨a1, a2⟩ | ⟨a1, a2⟩
    · rcases at' j t e2 with ⟨b1, b2⟩ | ⟨b1, b2⟩
      · rw [old i a1, old j b1] at e3
        exact Or.inl ⟨i, j, a2, b2, e3⟩
      · rw [old i a1, b1, self] at e3
        have := (rt_le hp i a1).1
        omega
    · rcases at' j t e2 with ⟨b1, b2⟩ | ⟨b1, b2⟩
      · rw [old j b1, a1, self] at e3
        have := (rt_le hp j b1).1
        omega
      · exact Or.inr ⟨a2, b2⟩
  · rintro (⟨i, j, e1, e2, e3⟩ | ⟨e1, e2⟩)
    · have hi := (List.getElem?_eq_some_iff.mp e1).1
      have hj := (List.getElem?_eq_some_iff.mp e2).1
      exact ⟨i, j, by rw [List.getElem?_append_left hi]; exact e1, by rw [List.getElem?_append_left hj]; exact e2, by rw [old i hi, old j hj, e3]⟩
    · exact ⟨H.length, H.length, by rw [e1]; simp, by rw [e2]; simp, rfl⟩
