/-! counting openings: atoms and types pay for themselves, by all their leaves -/
def PhS (inc : Nat → Nat) (L : Nat) : Nat := ((List.range (L + 1)).map inc).sum
theorem PhS_s {inc : Nat → Nat} {L : Nat} : PhS inc (L + 1) = PhS inc L + inc (L + 1) := by
  unfold PhS
  rw [List.range_succ, List.map_append, List.sum_append]
  simp
/-- no leaf alone counts, more leaves count more -/
def IncOK (inc : Nat → Nat) : Prop := inc 0 = 0 ∧ inc 1 = 0 ∧ ∀ i, inc i ≤ inc (i + 1)
theorem IncOK.le {inc : Nat → Nat} (h : IncOK inc) {a b : Nat} (hab : a ≤ b) : inc a ≤ inc b := by
  induction hab with
  | refl => exact Nat.le_refl _
  | step _ ih => exact Nat.le_trans ih (h.2.2 _)
theorem PhS_0 {inc : Nat → Nat} (h : IncOK inc) : PhS inc 0 = 0 := by
  show inc 0 + 0 = 0
  rw [h.1]
theorem PhS_add {inc : Nat → Nat} (h : IncOK inc) {a : Nat} (ha : 1 ≤ a) : ∀ b, 1 ≤ b → PhS inc a + PhS inc b + inc (a + b) ≤ PhS inc (a + b)
  | 0, hb => by omega
  | 1, _ => by
    have e1 : PhS inc 1 = PhS inc 0 + inc 1 := PhS_s
    have e2 : PhS inc (a + 1) = PhS inc a + inc (a + 1) := PhS_s
    rw [PhS_0 h, h.2.1] at e1
    omega
  | b + 2, _ => by
    have ih := PhS_add h ha (b + 1) (by omega)
    have e1 : PhS inc (b + 2) = PhS inc (b + 1) + inc (b + 2) := PhS_s
    have e2 : PhS inc (a + (b + 2)) = PhS inc (a + (b + 1)) + inc (a + (b + 2)) := PhS_s
    have e3 := h.le (a := b + 2) (b := a + (b + 1)) (by omega)
    omega
def mgW (inc : Nat → Nat) (t : Nat) : Nat := (((iL t).filter isM).map (fun s => inc (lf s))).sum
theorem mgs_li {inc : Nat → Nat} (hi : IncOK inc) : ∀ (l : List Nat), (∀ c ∈ l, mgW inc c ≤ PhS inc (lf c)) → (l.map (mgW inc)).sum + (if 2 ≤ (l.filter (fun c => decide (1 ≤ lf c))).length then inc (l.map lf).sum else 0) ≤ PhS inc (l.map lf).sum
  | [], _ => by simp
  | c :: l, h => by
    have ih := mgs_li hi l (fun d hd => h d (List.mem_cons_of_mem _ hd))
    have hc := h c List.mem_cons_self
    rw [List.map_cons, List.sum_cons, List.map_cons, List.sum_cons]
    rcases Nat.lt_or_ge (lf c) 1 with q | q
    · have e0 : lf c = 0 := by omega
      have ef : (c :: l).filter (fun c => decide (1 ≤ lf c)) = l.filter (fun c => decide (1 ≤ lf c)) := by
        rw [List.filter_cons, if_neg (by simp; omega)]
      rw [e0, PhS_0 hi] at hc
      rw [ef, e0, Nat.zero_add]
      omega
    · have ef : ((c :: l).filter (fun c => decide (1 ≤ lf c))).length = (l.filter (fun c => decide (1 ≤ lf c))).length + 1 := by
        rw [List.filter_cons, if_pos (by simpa using q), List.length_cons]
      rw [ef]
      rcases Nat.lt_or_ge (l.map lf).sum 1 with w | w
      · have z : (l.filter (fun c => decide (1 ≤ lf c))).length = 0 := by
          rw [List.length_eq_zero_iff, List.filter_eq_nil_iff]
          intro d hd q2
          have := le_sum_mem (f := lf) hd
          simp at q2
          omega
        have e0 : (l.map lf).sum = 0 := by omega
        rw [z, if_neg (by omega), e0, Nat.add_zero, Nat.add_zero]
        rw [e0, PhS_0 hi] at ih
        omega
      · have ad := PhS_add hi q (l.map lf).sum w
        split
        · omega
        · omega
theorem mgs {inc : Nat → Nat} (hi : IncOK inc) : ∀ (t : Nat), okT t → mgW inc t ≤ PhS inc (lf t) := by
  intro t
  induction t using Nat.strongRecOn with
  | ind t ih =>
    intro ho
    by_cases hk : kd t ≤ 3
    · unfold mgW
      rw [iL_eq, if_pos hk]
      exact Nat.zero_le _
    · have li := mgs_li hi (fms t) (fun c hc => ih c (fms_lt hc) (ho.c hc))
      rw [← lf_fms hk] at li
      have e1 : (((fms t).flatMap iL).filter isM).map (fun s => inc (lf s)) = (fms t).flatMap (fun c => ((iL c).filter isM).map (fun s => inc (lf s))) := by
        generalize fms t = l
        induction l with
        | nil => rfl
        | cons a l ihl => rw [List.flatMap_cons, List.filter_append, List.map_append, ihl, List.flatMap_cons]
      have e2 : ((fms t).flatMap (fun c => ((iL c).filter isM).map (fun s => inc (lf s)))).sum = ((fms t).map (mgW inc)).sum := by
        generalize fms t = l
        induction l with
        | nil => rfl
        | cons a l ihl => rw [List.flatMap_cons, List.sum_append, ihl, List.map_cons, List.sum_cons]; rfl
      have em : isM t = true ↔ 2 ≤ ((fms t).filter (fun c => decide (1 ≤ lf c))).length := by unfold isM; simp
      unfold mgW
      rw [iL_eq, if_neg hk, List.filter_cons]
      by_cases hm : isM t = true
      · rw [if_pos (em.mp hm)] at li
        rw [if_pos hm, List.map_cons, List.sum_cons, e1, e2]
        omega
      · rw [if_neg (fun q => hm (em.mpr q))] at li
        rw [if_neg hm, e1, e2]
        omega
/-- what an inner form costs above its size -/
def inc3 (Q P v : Nat) (l : Nat) : Nat := Q * min l v - P
theorem inc3_ok {Q P v : Nat} (h : Q ≤ P) : IncOK (inc3 Q P v) := by
  refine ⟨?_, ?_, fun i => ?_⟩
  · show Q * min 0 v - P = 0
    rw [Nat.zero_min, Nat.mul_zero, Nat.zero_sub]
  · show Q * min 1 v - P = 0
    have : Q * min 1 v ≤ Q * 1 := Nat.mul_le_mul_left _ (by omega)
    omega
  · show Q * min i v - P ≤ Q * min (i + 1) v - P
    have : Q * min i v ≤ Q * min (i + 1) v := Nat.mul_le_mul_left _ (by omega)
    omega
/-- inner forms of an atom, all of them -/
theorem dP_in {Fo : List Nat} {inc : Nat → Nat} {A : Nat} (hi : IncOK inc) (ho : okT A) (h8 : 8 ≤ kd A) (h14 : kd A ≤ 14) (hU : AtU Fo A) : ((dP A).map (fun s => inc (lf s))).sum ≤ PhS inc (lf A) + uSm inc Fo (lf A) := by
  have s1 := (sum_split (f := fun s => inc (lf s)) (p := isM) (dP A)).1
  have s2 := (sum_split (f := fun s => inc (lf s)) (p := fun s => decide (2 ≤ lf s)) ((dP A).filter (fun s => !isM s))).1
  have h1 : (((dP A).filter isM).map (fun s => inc (lf s))).sum ≤ (((iL A).filter isM).map (fun s => inc (lf s))).sum := sum_sub ((dd_nd _).filter _) (fun s hs => by
    obtain ⟨q1, q2⟩ := List.mem_filter.mp hs
    refine List.mem_filter.mpr ⟨?_, q2⟩
    rw [iL_eq, if_neg (by omega)]
    exact List.mem_cons_of_mem _ (dd_mem.mp q1))
  have h2 := mgs hi A ho
  unfold mgW at h2
  have h3 : ((((dP A).filter (fun s => !isM s)).filter (fun s => decide (2 ≤ lf s))).map (fun s => inc (lf s))).sum ≤ ((dU A).map (fun s => inc (lf s))).sum := sum_sub (((dd_nd _).filter _).filter _) (fun s hs => by
    obtain ⟨q1, q2⟩ := List.mem_filter.mp hs
    obtain ⟨q3, q4⟩ := List.mem_filter.mp q1
    obtain ⟨c, hc, h1, h2⟩ := (dP_mem ho).mp q3
    exact List.mem_filter.mpr ⟨(dQ_mem ho).mpr ⟨⟨c, hc, h1, h2⟩, by simpa using q2⟩, q4⟩)
  have h4 := hU h8 h14 inc
  have h5 : ((((dP A).filter (fun s => !isM s)).filter (fun s => !decide (2 ≤ lf s))).map (fun s => inc (lf s))).sum ≤ 0 * (((dP A).filter (fun s => !isM s)).filter (fun s => !decide (2 ≤ lf s))).length := sum_le_c (fun s hs => by
    have q := (List.mem_filter.mp hs).2
    have l1 : lf s ≤ 1 := by simp at q; omega
    have := hi.le l1
    rw [hi.2.1] at this
    exact this)
  omega
section ATL
variable {Fo : List Nat} {k kl ko m P Q Z Y : Nat}
/-- the names of all inner forms of an atom -/
theorem wk_atU {A d i : Nat} (ho : okT A) (h8 : 8 ≤ kd A) (h14 : kd A ≤ 14) (hU : AtU Fo A) (hQP : Q ≤ P) : Q * wkT k i A d ≤ Q * mvT k A d i + P * (dP A).length + (PhS (inc3 Q P (mvT k A d i)) (lf A) + uSm (inc3 Q P (mvT k A d i)) Fo (lf A)) := by
  have hk : ¬ kd A ≤ 3 := by omega
  have ew : wkT k i A d = mvT k A d i + ((dP A).map (fun s => mvT k s d i)).sum := by
    rw [wk_eq]; unfold wkS; rw [if_pos h14]
  have h1 := dP_in (inc3_ok (v := mvT k A d i) hQP) ho h8 h14 hU
  have h2 : ∀ (l : List Nat), (∀ s ∈ l, s ∈ dP A) → Q * (l.map (fun s => mvT k s d i)).sum ≤ P * l.length + (l.map (fun s => inc3 Q P (mvT k A d i) (lf s))).sum := by
    intro l
    induction l with
    | nil => intro _; simp
    | cons s l ih =>
      intro hl
      have ih := ih (fun r hr => hl r (List.mem_cons_of_mem _ hr))
      obtain ⟨c, hc, hs, _⟩ := (dP_mem ho).mp (hl s List.mem_cons_self)
      have hsub := sub_c hc hs
      have os := sub_ok A ho hsub
      have k14 := kd_sub14 ho h14 hsub
      have v1 : vnT s d i ≤ vnT A d i := vn_mono (fun r hr hv => ⟨r, hr, hv_sub ho h14 hsub hv, rfl⟩)
      have v2 := vn_lf (d := d) (i := i) os k14
      have v3 : mvT k s d i ≤ min (lf s) (mvT k A d i) := by unfold mvT; omega
      have v4 : Q * mvT k s d i ≤ Q * min (lf s) (mvT k A d i) := Nat.mul_le_mul_left _ v3
      rw [List.map_cons, List.sum_cons, List.map_cons, List.sum_cons, List.length_cons, Nat.mul_add, Nat.mul_add]
      have e : inc3 Q P (mvT k A d i) (lf s) = Q * min (lf s) (mvT k A d i) - P := rfl
      rw [e]
      omega
  have h3 := h2 (dP A) (fun s hs => hs)
  rw [ew, Nat.mul_add]
  omega
/-- numbers that let atoms of leaves pay -/
def CnL (Fo : List Nat) (kl m P Q Z : Nat) : Prop := Q ≤ P ∧ ∀ v L, v ≤ kl → v ≤ 2 + m → v ≤ L → 1 ≤ L → Q * v + v * Z + (Q * v - P) + (PhS (inc3 Q P v) L + uSm (inc3 Q P v) Fo L) ≤ P * L
/-- numbers that let opened types pay -/
def CnT (Fo : List Nat) (ko m P Q Y : Nat) : Prop := Q ≤ P ∧ ∀ v L, v ≤ ko → v ≤ 1 + m → v ≤ L → 1 ≤ L → Q * v + v * Y + (PhS (inc3 Q P v) L + uSm (inc3 Q P v) Fo L) ≤ P * L
theorem wk_lf0 {A d i : Nat} (ho : okT A) (h8 : 8 ≤ kd A) (h14 : kd A ≤ 14) (h0 : lf A = 0) : mvT k A d i = 0 ∧ wkT k i A d = 0 := by
  have z : ∀ s, okT s → kd s ≤ 14 → lf s = 0 → mvT k s d i = 0 := fun s os k14 hs => by
    have := vn_lf (d := d) (i := i) os k14
    unfold mvT
    omega
  refine ⟨z A ho h14 h0, ?_⟩
  have ew : wkT k i A d = mvT k A d i + ((dP A).map (fun s => mvT k s d i)).sum := by
    rw [wk_eq]; unfold wkS; rw [if_pos h14]
  have : ((dP A).map (fun s => mvT k s d i)).sum ≤ 0 * (dP A).length := sum_le_c (fun s hs => by
    obtain ⟨c, hc, h1, _⟩ := (dP_mem ho).mp hs
    have hsub := sub_c hc h1
    have := lf_sub A ho hsub
    rw [z s (sub_ok A ho hsub) (kd_sub14 ho h14 hsub) (by omega)]
    exact Nat.le_refl _)
  rw [ew, z A ho h14 h0]
  omega
theorem AtL.of {A : Nat} (ho : okT A) (hU : AtU Fo A) (hN : NmK m A) (hC : CnL Fo kl m P Q Z) : AtL k kl P Q Z A := fun h8 h14 d i hi hv => by
  have hk : ¬ kd A ≤ 3 := by omega
  have z := sz_dP ho hk
  have zP : P * (1 + (dP A).length + lf A) ≤ P * szT A := Nat.mul_le_mul_left P z
  rw [Nat.mul_add, Nat.mul_add, Nat.mul_one] at zP
  rcases Nat.lt_or_ge (lf A) 1 with q | q
  · obtain ⟨e1, e2⟩ := wk_lf0 (k := k) (d := d) (i := i) ho h8 h14 (by omega)
    rw [e1, e2]
    omega
  · have h1 := wk_atU (k := k) (d := d) (i := i) (P := P) ho h8 h14 hU hC.1
    have hvn := (hN.2 h14).vn d i
    have hvl := vn_lf (d := d) (i := i) ho h14
    have h2 := hC.2 (mvT k A d i) (lf A) (by unfold mvT; omega) (by unfold mvT; omega) (by unfold mvT; omega) q
    omega
theorem AtT.of {A : Nat} (ho : okT A) (hU : AtU Fo A) (hN : NmK m A) (hV : VnB ko A) (hC : CnT Fo ko m P Q Y) : AtT k P Q Y A := fun k8 i hi => by
  have hk : ¬ kd A ≤ 3 := by omega
  have z := sz_dP ho hk
  have zP : P * (1 + (dP A).length + lf A) ≤ P * szT A := Nat.mul_le_mul_left P z
  rw [Nat.mul_add, Nat.mul_add, Nat.mul_one] at zP
  rcases Nat.lt_or_ge (lf A) 1 with q | q
  · obtain ⟨e1, e2⟩ := wk_lf0 (k := k) (d := 0) (i := i) ho (by omega) (by omega) (by omega)
    rw [e1, e2]
    omega
  · have h1 := wk_atU (k := k) (d := 0) (i := i) (P := P) ho (by omega) (by omega) hU hC.1
    have hvn := (hN.1 (by omega)).vn 0 i
    have hvk := hV 0 i
    have hvl := vn_lf (d := 0) (i := i) ho (by omega)
    have h2 := hC.2 (mvT k A 0 i) (lf A) (by unfold mvT; omega) (by unfold mvT; omega) (by unfold mvT; omega) q
    omega
end ATL
