/-! counting openings: atoms and types pay for themselves, by how many inner forms have many leaves -/
def dmL (τ t : Nat) : List Nat := (dP t).filter (fun s => decide (τ < lf s))
theorem AtW_of {k kr P Q Z τ m A : Nat} (ho : okT A) (hV : VnB kr A) (hm : 8 ≤ kd A → kd A ≤ 14 → (dmL τ A).length ≤ m) (c1 : Q * min τ kr ≤ P) (c2 : ∀ v a, v ≤ kr → a ≤ m → Q * v * (1 + a) + v * Z ≤ P * (a + v) ∧ Q * v * (2 + a) + v * Z ≤ P * (1 + a + v)) : AtW k P Q Z A := fun h8 h14 d i _ => by
  have hk : ¬ kd A ≤ 3 := by omega
  have z := sz_dP ho hk
  have lv := vn_lf (d := d) (i := i) ho h14
  have hr := hV d i
  have ew : wkT k i A d = mvT k A d i + ((dP A).map (fun s => mvT k s d i)).sum := by
    rw [wk_eq]; unfold wkS; rw [if_pos h14]
  obtain ⟨s1, s2⟩ := sum_split (f := fun s => mvT k s d i) (p := fun s => decide (τ < lf s)) (dP A)
  have a4 : (dmL τ A).length ≤ m := hm h8 h14
  have e4 : (dP A).filter (fun s => decide (τ < lf s)) = dmL τ A := rfl
  rw [e4] at s1 s2
  have hin : ∀ s ∈ dP A, okT s ∧ subT s A ∧ kd s ≤ 14 := fun s hs => by
    obtain ⟨c, hc, h1, _⟩ := (dP_mem ho).mp hs
    have hsub := sub_c hc h1
    exact ⟨sub_ok A ho hsub, hsub, kd_sub14 ho h14 hsub⟩
  have vs : ∀ s ∈ dP A, mvT k s d i ≤ mvT k A d i ∧ vnT s d i ≤ vnT A d i := fun s hs => by
    obtain ⟨o1, o2, o3⟩ := hin s hs
    have : vnT s d i ≤ vnT A d i := vn_mono (fun r hr hv => ⟨r, hr, hv_sub ho h14 o2 hv, rfl⟩)
    unfold mvT
    omega
  have b1 : ((dmL τ A).map (fun s => mvT k s d i)).sum ≤ mvT k A d i * (dmL τ A).length := sum_le_c (fun s hs => (vs s (List.mem_filter.mp hs).1).1)
  have b2 : (((dP A).filter (fun s => !decide (τ < lf s))).map (fun s => mvT k s d i)).sum ≤ min τ kr * ((dP A).filter (fun s => !decide (τ < lf s))).length := sum_le_c (fun s hs => by
    obtain ⟨q1, q2⟩ := List.mem_filter.mp hs
    obtain ⟨o1, o2, o3⟩ := hin s q1
    have h3 : ¬ τ < lf s := by simpa using q2
    have := vn_lf (d := d) (i := i) o1 o3
    have := (vs s q1).2
    unfold mvT
    omega)
  have hv : mvT k A d i ≤ kr := by unfold mvT; omega
  have hvl : mvT k A d i ≤ lf A := by unfold mvT; omega
  generalize mvT k A d i = v at *
  generalize (dmL τ A).length = a at *
  generalize ((dP A).filter (fun s => !decide (τ < lf s))).length = o at *
  generalize min τ kr = x at *
  obtain ⟨g1, g2⟩ := c2 v a hv a4
  have w1 : wkT k i A d ≤ v * (1 + a) + x * o := by rw [ew, s1, Nat.mul_add, Nat.mul_one]; omega
  have w2 : Q * wkT k i A d ≤ Q * v * (1 + a) + Q * (x * o) := by
    have := Nat.mul_le_mul_left Q w1
    rw [Nat.mul_add, ← Nat.mul_assoc] at this
    exact this
  have w3 : Q * (x * o) ≤ P * o := by
    rw [← Nat.mul_assoc]
    exact Nat.mul_le_mul_right o c1
  have w4 : P * (1 + a + o + v) ≤ P * szT A := Nat.mul_le_mul_left P (by omega)
  have w5 : P * (1 + a + o + v) = P * (1 + a + v) + P * o := by simp only [Nat.mul_add]; omega
  have w6 : P * (1 + a + v) = P * (a + v) + P := by simp only [Nat.mul_add, Nat.mul_one]; omega
  have w7 : Q * v * (2 + a) = Q * v * (1 + a) + Q * v := by simp only [Nat.mul_add, Nat.mul_one]; omega
  omega
