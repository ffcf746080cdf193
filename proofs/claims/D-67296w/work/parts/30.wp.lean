/-! THE PLAIN LAW, first part: what a pure body computes -/
def wp (o : Option (Int × Sg)) (Q : Int → Sg → Prop) : Prop := ∃ r σ, o = some (r, σ) ∧ Q r σ
theorem wp_some {r : Int} {σ : Sg} {Q : Int → Sg → Prop} : wp (some (r, σ)) Q ↔ Q r σ :=
  ⟨fun ⟨r', σ', h, q⟩ => by cases h; exact q, fun h => ⟨r, σ, rfl, h⟩⟩
theorem wp_none {Q : Int → Sg → Prop} : wp none Q ↔ False := ⟨(fun ⟨_, _, h, _⟩ => by cases h), False.elim⟩
theorem wp_un {α : Type} {x : α} {K : α → Option (Int × Sg)} {Q : Int → Sg → Prop} : wp (un x K) Q ↔ wp (K x) Q := Iff.rfl
theorem wp_jn {β : Type} {k : β} {K : β → Option (Int × Sg)} {Q : Int → Sg → Prop} : wp (jn k K) Q ↔ wp (K k) Q := Iff.rfl
theorem wp_ar {v : Int} {K : Int → Option (Int × Sg)} {Q : Int → Sg → Prop} : wp (ar v K) Q ↔ inR v ∧ wp (K v) Q := by
  unfold ar
  split
  · exact ⟨fun h => ⟨by assumption, h⟩, fun h => h.2⟩
  · rw [wp_none]; exact ⟨False.elim, fun h => absurd h.1 (by assumption)⟩
theorem wp_arL {v : Int} {K : Int → Option (Int × Sg)} {Q : Int → Sg → Prop} : wp (arL v K) Q ↔ inL v ∧ wp (K v) Q := by
  unfold arL
  split
  · exact ⟨fun h => ⟨by assumption, h⟩, fun h => h.2⟩
  · rw [wp_none]; exact ⟨False.elim, fun h => absurd h.1 (by assumption)⟩
theorem wp_gd {c : Prop} {hc : Decidable c} {K : Option (Int × Sg)} {Q : Int → Sg → Prop} : wp (gd c K) Q ↔ c ∧ wp K Q := by
  unfold gd
  split
  · exact ⟨fun h => ⟨by assumption, h⟩, fun h => h.2⟩
  · rw [wp_none]; exact ⟨False.elim, fun h => absurd h.1 (by assumption)⟩
theorem wp_ld {σ : Sg} {k : Nat} {i : Int} {K : Int → Option (Int × Sg)} {Q : Int → Sg → Prop} : wp (ld σ k i K) Q ↔ (0 ≤ i ∧ i < (gL σ k : Int)) ∧ wp (K (gA σ k i)) Q := by
  unfold ld
  split
  · exact ⟨fun h => ⟨by assumption, h⟩, fun h => h.2⟩
  · rw [wp_none]; exact ⟨False.elim, fun h => absurd h.1 (by assumption)⟩
theorem wp_stA {σ : Sg} {k : Nat} {i v : Int} {K : Sg → Option (Int × Sg)} {Q : Int → Sg → Prop} : wp (stA σ k i v K) Q ↔ (0 ≤ i ∧ i < (gL σ k : Int)) ∧ wp (K (sA σ k i v)) Q := by
  unfold stA
  split
  · exact ⟨fun h => ⟨by assumption, h⟩, fun h => h.2⟩
  · rw [wp_none]; exact ⟨False.elim, fun h => absurd h.1 (by assumption)⟩
theorem wp_cl {o : Option (Int × Sg)} {K : Int → Sg → Option (Int × Sg)} {Q : Int → Sg → Prop} : wp (cl o K) Q ↔ wp o (fun r σ => wp (K r σ) Q) := by
  cases o with
  | none => exact ⟨(fun ⟨_, _, h, _⟩ => by cases h), (fun ⟨_, _, h, _⟩ => by cases h)⟩
  | some q => exact (wp_some (Q := fun r σ => wp (K r σ) Q)).symm
theorem wp_mono {o : Option (Int × Sg)} {Q Q' : Int → Sg → Prop} (h : wp o Q) (hq : ∀ r σ, Q r σ → Q' r σ) : wp o Q' := by
  obtain ⟨r, σ, e, q⟩ := h
  exact ⟨r, σ, e, hq r σ q⟩
theorem wp_ite {c : Prop} {hc : Decidable c} {A B : Option (Int × Sg)} {Q : Int → Sg → Prop} (h1 : c → wp A Q) (h2 : ¬ c → wp B Q) : wp (if c then A else B) Q := by
  split
  · exact h1 (by assumption)
  · exact h2 (by assumption)
theorem wp_call {o : Option (Int × Sg)} {K : Int → Sg → Option (Int × Sg)} {P : Int → Sg → Prop} {Q : Int → Sg → Prop} (h : wp o P) (k : ∀ r σ, P r σ → wp (K r σ) Q) : wp (cl o K) Q :=
  wp_cl.mpr (wp_mono h k)
theorem cl_eq {o : Option (Int × Sg)} {v : Int} {σ : Sg} {K : Int → Sg → Option (Int × Sg)} (h : o = some (v, σ)) : cl o K = K v σ := by rw [h]; rfl
theorem wp_cpy {σ : Sg} {id : Nat} {n : Int} {K : Sg → Option (Int × Sg)} {Q : Int → Sg → Prop} : wp (cpy σ id n K) Q ↔ (3 * gL σ id ≤ 2 * n.toNat ∧ gL σ id + 16 ≤ n.toNat ∧ n ≤ 134217728) ∧ wp (K (sN σ id n.toNat (fun j => if j < gL σ id then gF σ id j else 0))) Q := by
  unfold cpy
  split
  · exact ⟨fun h => ⟨by assumption, h⟩, fun h => h.2⟩
  · rw [wp_none]; exact ⟨False.elim, fun h => absurd h.1 (by assumption)⟩
/-- the way on from a call, when the contract says what it answers -/
theorem wp_eq {o : Option (Int × Sg)} {v : Int} {σ : Sg} {K : Int → Sg → Option (Int × Sg)} {Q : Int → Sg → Prop} (h : o = some (v, σ)) (k : wp (K v σ) Q) : wp (cl o K) Q := by rw [h]; exact k
/-! fields after updates -/
theorem gA_sA (σ : Sg) (k : Nat) (i v : Int) (j : Nat) (n : Int) : gA (sA σ k i v) j n = if j = k ∧ n.toNat = i.toNat then v else gA σ j n := by
  unfold gA
  rw [gF_sA]
  by_cases h : j = k
  · subst h
    rw [if_pos rfl]
    unfold va_up
    by_cases h2 : n.toNat = i.toNat
    · rw [if_pos h2, if_pos ⟨rfl, h2⟩]
    · rw [if_neg h2, if_neg (fun q => h2 q.2)]
  · rw [if_neg h, if_neg (fun q => h q.1)]
theorem gA_sN (σ : Sg) (k n : Nat) (f : Nat → Int) (j : Nat) (i : Int) : gA (sN σ k n f) j i = if j = k then f i.toNat else gA σ j i := by
  unfold gA
  rw [gF_sN]
  split <;> rfl
/-- an array's entry by a natural number -/
def gN (σ : Sg) (k i : Nat) : Int := gF σ k i
theorem gA_nat (σ : Sg) (k i : Nat) : gA σ k (i : Int) = gN σ k i := rfl
theorem un_eq {α β : Type} {x : α} {K : α → Option β} : un x K = K x := rfl
theorem jn_eq {α β : Type} {x : α} {K : α → Option β} : jn x K = K x := rfl
theorem ar_pos {β : Type} {v : Int} {K : Int → Option β} (h : inR v) : ar v K = K v := if_pos h
theorem arL_pos {β : Type} {v : Int} {K : Int → Option β} (h : inL v) : arL v K = K v := if_pos h
theorem ld_pos {β : Type} {σ : Sg} {k : Nat} {i : Int} {K : Int → Option β} (h : 0 ≤ i ∧ i < (gL σ k : Int)) : ld σ k i K = K (gA σ k i) := if_pos h
theorem ld_nat {β : Type} {σ : Sg} {k i : Nat} {K : Int → Option β} (h : i < gL σ k) : ld σ k (i : Int) K = K (gN σ k i) := if_pos ⟨by omega, by omega⟩
theorem stA_pos {β : Type} {σ : Sg} {k : Nat} {i v : Int} {K : Sg → Option β} (h : 0 ≤ i ∧ i < (gL σ k : Int)) : stA σ k i v K = K (sA σ k i v) := if_pos h
theorem gd_pos {β : Type} {c : Prop} {hc : Decidable c} {K : Option β} (h : c) : gd c K = K := if_pos h
theorem cl_some_eq {α β : Type} {v : α} {σ : Sg} {K : α → Sg → Option β} : cl (some (v, σ)) K = K v σ := rfl
