/-! counting openings: how often variables stand in the inner forms of a formula -/
def d4L (t : Nat) : List Nat := (dP t).filter (fun s => decide (4 ≤ lf s))
def At4 (m : Nat) (s : Nat) : Prop := 8 ≤ kd s → kd s ≤ 14 → (d4L s).length ≤ m
noncomputable def wkS (k i : Nat) (f : Nat → Nat → Nat) (t : Nat) : Nat → Nat := fun d => if kd t ≤ 14 then mvT k t d i + ((dP t).map (fun s => mvT k s d i)).sum else if kd t = 18 then mvT k t d i + (((ps t).take 1).map (fun c => f c d)).sum + (((ps t).drop 1).map (fun c => f c (d + 1))).sum else mvT k t d i + ((ps t).map (fun c => f c d)).sum
noncomputable def wkT (k i t d : Nat) : Nat := rcT (wkS k i) (fun _ => 0) t d
theorem wk_eq (k i t d : Nat) : wkT k i t d = wkS k i (wkT k i) t d := by
  unfold wkT
  rw [rc_eq (fun f f' t h => by
    unfold wkS
    funext d
    have h1 : ((ps t).take 1).map (fun c => f c d) = ((ps t).take 1).map (fun c => f' c d) := List.map_congr_left fun c hc => by rw [h c (List.mem_of_mem_take hc)]
    have h2 : ((ps t).drop 1).map (fun c => f c (d + 1)) = ((ps t).drop 1).map (fun c => f' c (d + 1)) := List.map_congr_left fun c hc => by rw [h c (List.mem_of_mem_drop hc)]
    have h3 : (ps t).map (fun c => f c d) = (ps t).map (fun c => f' c d) := List.map_congr_left fun c hc => by rw [h c hc]
    rw [h1, h2, h3]) t]
def hgS (f : Nat → Nat) (t : Nat) : Nat := if kd t ≤ 14 then 0 else if kd t = 16 then ((ps t).map f).foldl max 0 else 1 + ((ps t).map f).foldl max 0
/-- levels: ANDs and ALLs one within the other -/
def hgT (t : Nat) : Nat := rcT hgS 0 t
theorem hg_eq (t : Nat) : hgT t = hgS hgT t := rc_eq (fun f f' t h => by
  unfold hgS
  have h3 : (ps t).map f = (ps t).map f' := List.map_congr_left h
  rw [h3]) t
theorem le_fmax : ∀ {l : List Nat} {a x : Nat}, (x ∈ l ∨ x ≤ a) → x ≤ l.foldl max a
  | [], a, x, h => h.elim (fun q => by cases q) id
  | b :: l, a, x, h => by
    rw [List.foldl_cons]
    refine le_fmax ?_
    rcases h with h | h
    · rcases List.mem_cons.mp h with q | q
      · exact Or.inr (by rw [q]; exact Nat.le_max_right _ _)
      · exact Or.inl q
    · exact Or.inr (Nat.le_trans h (Nat.le_max_left _ _))
theorem hg_part {t c : Nat} (h : ¬ kd t ≤ 14) (hc : c ∈ ps t) : hgT c + (if kd t = 16 then 0 else 1) ≤ hgT t := by
  have h1 : hgT c ≤ ((ps t).map hgT).foldl max 0 := le_fmax (Or.inl (List.mem_map.mpr ⟨c, hc, rfl⟩))
  rw [hg_eq t]
  unfold hgS
  rw [if_neg h]
  split <;> omega
/-- the condition on the numbers -/
def CQ (k P Q G H m : Nat) : Prop := 2 * Q * k ≤ G + 3 * P ∧ Q * min 3 k ≤ P ∧ ∀ v a, v ≤ k → a ≤ m → k * Q * v * (1 + a) + G * v * H ≤ k * P * (a + v) ∧ k * Q * v * (2 + a) + G * v * H ≤ k * P * (1 + a + v)
theorem min_add {k a b : Nat} : min k (a + b) ≤ min k a + min k b := by omega
theorem mv_sum {k d i : Nat} : ∀ (l : List Nat), min k ((l.map (fun c => vnT c d i)).sum) ≤ (l.map (fun c => mvT k c d i)).sum
  | [] => by simp
  | a :: l => by
    have := mv_sum (k := k) (d := d) (i := i) l
    simp only [List.map_cons, List.sum_cons]
    have h2 := min_add (k := k) (a := vnT a d i) (b := (l.map (fun c => vnT c d i)).sum)
    unfold mvT at *
    omega
theorem mv_pl {k t d i : Nat} (hk : ¬ kd t ≤ 3) (h18 : kd t ≠ 18) : mvT k t d i ≤ ((fms t).map (fun c => mvT k c d i)).sum := by
  have h1 := vn_pl (d := d) (i := i) hk h18
  have h2 := mv_sum (k := k) (d := d) (i := i) (fms t)
  unfold mvT at *
  omega
theorem mv_k {k t d i : Nat} : mvT k t d i ≤ k := by unfold mvT; omega
theorem sum_split {f : Nat → Nat} {p : Nat → Bool} : ∀ (l : List Nat), (l.map f).sum = ((l.filter p).map f).sum + ((l.filter (fun s => !p s)).map f).sum ∧ l.length = (l.filter p).length + (l.filter (fun s => !p s)).length
  | [] => ⟨rfl, rfl⟩
  | a :: l => by
    obtain ⟨h1, h2⟩ := sum_split (f := f) (p := p) l
    rw [List.filter_cons, List.filter_cons]
    cases hp : p a
    · simp only [Bool.not_false, if_true, List.map_cons, List.sum_cons, List.length_cons]
      refine ⟨?_, ?_⟩
      · rw [h1]; simp; omega
      · rw [h2]; simp; omega
    · simp only [Bool.not_true, if_true, List.map_cons, List.sum_cons, List.length_cons]
      refine ⟨?_, ?_⟩
      · rw [h1]; simp; omega
      · rw [h2]; simp; omega
theorem sum_le_c {f : Nat → Nat} {x : Nat} : ∀ {l : List Nat}, (∀ s ∈ l, f s ≤ x) → (l.map f).sum ≤ x * l.length
  | [], _ => Nat.zero_le _
  | a :: l, h => by
    have h1 := h a List.mem_cons_self
    have h2 := sum_le_c (l := l) (fun s hs => h s (List.mem_cons_of_mem _ hs))
    simp only [List.map_cons, List.sum_cons, List.length_cons, Nat.mul_add]
    omega
section OPN
variable {k P Q G H m i : Nat}
/-- an atom or a type -/
theorem wk_at (hC : CQ k P Q G H m) {A d : Nat} (ho : okT A) (h8 : 8 ≤ kd A) (h14 : kd A ≤ 14) (hA : Alls (At4 m) A) : k * Q * wkT k i A d + G * mvT k A d i * H + k * P + (k * Q * mvT k A d i - k * P) ≤ k * P * szT A := by
  have hk : ¬ kd A ≤ 3 := by omega
  obtain ⟨c1, c2, c3⟩ := hC
  have z := sz_dP ho hk
  have lv := vn_lf (d := d) (i := i) ho h14
  have ew : wkT k i A d = mvT k A d i + ((dP A).map (fun s => mvT k s d i)).sum := by
    rw [wk_eq]; unfold wkS; rw [if_pos h14]
  obtain ⟨s1, s2⟩ := sum_split (f := fun s => mvT k s d i) (p := fun s => decide (4 ≤ lf s)) (dP A)
  have a4 : (d4L A).length ≤ m := hA A (sub_rf A) h8 h14
  have e4 : (dP A).filter (fun s => decide (4 ≤ lf s)) = d4L A := rfl
  rw [e4] at s1 s2
  have hin : ∀ s ∈ dP A, okT s ∧ subT s A ∧ kd s ≤ 14 := fun s hs => by
    obtain ⟨c, hc, h1, _⟩ := (dP_mem ho).mp hs
    have hsub := sub_c hc h1
    exact ⟨sub_ok A ho hsub, hsub, kd_sub14 ho h14 hsub⟩
  have b1 : ((d4L A).map (fun s => mvT k s d i)).sum ≤ mvT k A d i * (d4L A).length := sum_le_c (fun s hs => by
    obtain ⟨o1, o2, o3⟩ := hin s (List.mem_filter.mp hs).1
    have : vnT s d i ≤ vnT A d i := vn_mono (fun r hr hv => ⟨r, hr, hv_sub ho h14 o2 hv, rfl⟩)
    unfold mvT
    omega)
  have b2 : (((dP A).filter (fun s => !decide (4 ≤ lf s))).map (fun s => mvT k s d i)).sum ≤ min 3 k * ((dP A).filter (fun s => !decide (4 ≤ lf s))).length := sum_le_c (fun s hs => by
    obtain ⟨q1, q2⟩ := List.mem_filter.mp hs
    obtain ⟨o1, o2, o3⟩ := hin s q1
    have h3 : lf s < 4 := by simpa using q2
    have := vn_lf (d := d) (i := i) o1 o3
    unfold mvT
    omega)
  have hv : mvT k A d i ≤ k := mv_k
  have hvl : mvT k A d i ≤ lf A := by unfold mvT; omega
  generalize mvT k A d i = v at *
  generalize (d4L A).length = a at *
  generalize ((dP A).filter (fun s => !decide (4 ≤ lf s))).length = o at *
  obtain ⟨g1, g2⟩ := c3 v a hv a4
  have w1 : wkT k i A d ≤ v * (1 + a) + min 3 k * o := by rw [ew, s1, Nat.mul_add, Nat.mul_one]; omega
  have w2 : k * Q * wkT k i A d ≤ k * Q * v * (1 + a) + k * Q * (min 3 k * o) := by
    have := Nat.mul_le_mul_left (k * Q) w1
    rw [Nat.mul_add, ← Nat.mul_assoc] at this
    exact this
  have w3 : k * Q * (min 3 k * o) ≤ k * P * o := by
    have e1 : k * Q * (min 3 k * o) = k * (Q * min 3 k) * o := by simp only [Nat.mul_assoc]
    rw [e1]
    exact Nat.mul_le_mul_right o (Nat.mul_le_mul_left k c2)
  have w4 : k * P * (1 + a + o + v) ≤ k * P * szT A := Nat.mul_le_mul_left (k * P) (by omega)
  have w5 : k * P * (1 + a + o + v) = k * P * (1 + a + v) + k * P * o := by simp only [Nat.mul_add]; omega
  have w6 : k * P * (1 + a + v) = k * P * (a + v) + k * P := by simp only [Nat.mul_add, Nat.mul_one]; omega
  have w7 : k * Q * v * (2 + a) = k * Q * v * (1 + a) + k * Q * v := by simp only [Nat.mul_add, Nat.mul_one]; omega
  omega
theorem wk_li {X d : Nat} : ∀ {l : List Nat}, (∀ p ∈ l, k * Q * wkT k i p d + G * mvT k p d i * X + k * P ≤ k * P * szT p) → k * Q * (l.map (fun p => wkT k i p d)).sum + G * (l.map (fun p => mvT k p d i)).sum * X + k * P * l.length ≤ k * P * (l.map szT).sum
  | [], _ => by simp
  | p :: l, h => by
    have h1 := h p List.mem_cons_self
    have h2 := wk_li (X := X) (l := l) (fun q hq => h q (List.mem_cons_of_mem _ hq))
    simp only [List.map_cons, List.sum_cons, List.length_cons, Nat.mul_add, Nat.add_mul]
    omega
/-- the step for a level: AND or ALL -/
theorem wk_step {v s S X : Nat} (hC : CQ k P Q G H m) (hv : v ≤ k) (hx : s + G * v * X + G * v + 2 * (k * P) ≤ S) : k * Q * v + s + G * v * X + k * P + (k * Q * v - k * P) ≤ k * P + S := by
  have c1 := Nat.mul_le_mul_right v hC.1
  have e1 : 2 * Q * k * v = k * Q * v + k * Q * v := by
    have : 2 * Q * k * v = 2 * (k * Q * v) := by
      rw [Nat.mul_assoc 2 Q k, Nat.mul_assoc, Nat.mul_comm Q k]
    omega
  have e2 : (G + 3 * P) * v = G * v + 3 * (P * v) := by rw [Nat.add_mul, Nat.mul_assoc]
  have e3 : P * v ≤ k * P := by rw [Nat.mul_comm k P]; exact Nat.mul_le_mul_left P hv
  rw [e1, e2] at c1
  omega
/-- THE COUNT for variables: by induction over a formula -/
theorem wk_fo (hC : CQ k P Q G H m) : ∀ (b : Nat), okT b → isFo b → Alls (At4 m) b → ∀ d, hgT b ≤ H → (kd b ≠ 16 → k * Q * wkT k i b d + G * mvT k b d i * (H - hgT b) + k * P + (k * Q * mvT k b d i - k * P) ≤ k * P * szT b) ∧ k * Q * wkT k i b d + G * mvT k b d i * (H - hgT b) + k * P ≤ k * P * szT b := by
  intro b
  induction b using Nat.strongRecOn with
  | ind b ih =>
    intro ho hf hA d hH
    have b0 := okT_0 ho
    by_cases k14 : kd b ≤ 14
    · have h9 : 9 ≤ kd b := by unfold isFo at hf; omega
      have h0 : hgT b = 0 := by rw [hg_eq]; unfold hgS; rw [if_pos k14]
      have := wk_at (i := i) hC (d := d) ho (by omega) k14 hA
      rw [h0, Nat.sub_zero]
      exact ⟨fun _ => this, by omega⟩
    by_cases k16 : kd b = 16
    · obtain ⟨f, hp, ff, kf, mf⟩ := ps_not1 ho k16
      have of := ho.c mf
      have hh : hgT f ≤ hgT b := by have := hg_part (t := b) (by omega) (c := f) (by rw [hp]; simp); rw [if_pos k16] at this; exact this
      have h1 := (ih f (fms_lt mf) of ff (hA.sub (sub_c mf (sub_rf f))) d (by omega)).1 kf
      have ev : vnT b d i = vnT f d i := by
        have e1 : ∀ j, hvT b j ↔ hvT f j := fun j => by
          rw [hv_pl (by omega) (by omega)]
          have : fms b = [f] := by
            unfold fms
            rw [if_neg (by omega), hp]
            simp [okT_0 of]
          rw [this]
          simp
        exact Nat.le_antisymm (vn_mono (fun r hr hv => ⟨r, hr, (e1 _).mp hv, rfl⟩)) (vn_mono (fun r hr hv => ⟨r, hr, (e1 _).mpr hv, rfl⟩))
      have em : mvT k b d i = mvT k f d i := by unfold mvT; rw [ev]
      have ew : wkT k i b d = mvT k b d i + wkT k i f d := by
        rw [wk_eq]; unfold wkS; rw [if_neg k14, if_neg (by omega), hp]; simp
      have hs1 : szT b = 1 + szT f := by rw [sz_pl b0 (by omega), hp]; simp
      refine ⟨fun q => absurd k16 q, ?_⟩
      rw [ew, em, hs1]
      generalize mvT k f d i = v at *
      have g1 : G * v * (H - hgT b) ≤ G * v * (H - hgT f) := Nat.mul_le_mul_left (G * v) (by omega)
      simp only [Nat.mul_add, Nat.mul_one]
      omega
    have hvk : mvT k b d i ≤ k := mv_k
    have main : k * Q * wkT k i b d + G * mvT k b d i * (H - hgT b) + k * P + (k * Q * mvT k b d i - k * P) ≤ k * P * szT b := by
      by_cases k17 : kd b = 17
      · have hl : 2 ≤ (ps b).length ∧ ∀ f ∈ ps b, isFo f ∧ kd f ≠ 17 ∧ f ≠ yesT ∧ f ≠ noT := by
          rcases ho.n.2 with q | q | q | q | q | q | q | q | q | q | q | q | q | q <;> first | omega | exact q.2.2
        have mf : ∀ p ∈ ps b, p ∈ fms b := fun p hp => fms_mem hp (by omega) (isFo_pos (hl.2 p hp).1)
        have efm : fms b = ps b := by
          unfold fms
          rw [if_neg (by omega)]
          exact List.filter_eq_self.mpr (fun c hc => by simpa using isFo_pos (hl.2 c hc).1)
        have hm := mv_pl (k := k) (d := d) (i := i) (t := b) (by omega) (by omega)
        rw [efm] at hm
        have hg1 : 1 ≤ hgT b := by
          have hne : ps b ≠ [] := fun q => by rw [q] at hl; simp at hl
          obtain ⟨c, hc⟩ := List.exists_mem_of_ne_nil _ hne
          have := hg_part (t := b) (by omega) hc
          rw [if_neg k16] at this
          omega
        have li := wk_li (k := k) (Q := Q) (G := G) (P := P) (i := i) (d := d) (X := H - hgT b + 1) (l := ps b) (fun p hp => by
          have hh := hg_part (t := b) (by omega) hp
          rw [if_neg k16] at hh
          have h2 := (ih p (fms_lt (mf p hp)) (ho.c (mf p hp)) (hl.2 p hp).1 (hA.sub (sub_c (mf p hp) (sub_rf p))) d (by omega)).2
          have g1 : G * mvT k p d i * (H - hgT b + 1) ≤ G * mvT k p d i * (H - hgT p) := Nat.mul_le_mul_left _ (by omega)
          omega)
        have ew : wkT k i b d = mvT k b d i + ((ps b).map (fun c => wkT k i c d)).sum := by
          rw [wk_eq]; unfold wkS; rw [if_neg k14, if_neg (by omega)]
        rw [ew, sz_pl b0 (by omega)]
        generalize mvT k b d i = v at *
        generalize ((ps b).map (fun c => wkT k i c d)).sum = S at *
        generalize ((ps b).map (fun c => mvT k c d i)).sum = V at *
        generalize ((ps b).map szT).sum = Z at *
        have g1 : G * v * (H - hgT b + 1) ≤ G * V * (H - hgT b + 1) := Nat.mul_le_mul_right _ (Nat.mul_le_mul_left G hm)
        have g2 : k * P * 2 ≤ k * P * (ps b).length := Nat.mul_le_mul_left _ hl.1
        have g3 : G * v * (H - hgT b + 1) = G * v * (H - hgT b) + G * v := by rw [Nat.mul_add, Nat.mul_one]
        have st := wk_step (k := k) (P := P) (Q := Q) (G := G) (v := v) (s := k * Q * S) (S := k * P * Z) (X := H - hgT b) hC hvk (by omega)
        simp only [Nat.mul_add, Nat.mul_one]
        omega
      · have k18 : kd b = 18 := by unfold isFo at hf; omega
        obtain ⟨y, f, hp, y8, ff, my, mf⟩ := ps_all1 ho k18
        have oy := ho.c my
        have of := ho.c mf
        have hhf := hg_part (t := b) (by omega) (c := f) (by rw [hp]; simp)
        rw [if_neg k16] at hhf
        have ty := wk_at (i := i) hC (d := d) oy (by omega) (by omega) (hA.sub (sub_c my (sub_rf y)))
        have bo := (ih f (fms_lt mf) of ff (hA.sub (sub_c mf (sub_rf f))) (d + 1) (by omega)).2
        have ew : wkT k i b d = mvT k b d i + wkT k i y d + wkT k i f (d + 1) := by
          rw [wk_eq]; unfold wkS; rw [if_neg k14, if_pos k18, hp]; simp
        have hm : mvT k b d i ≤ mvT k y d i + mvT k f (d + 1) i := by
          have h1 : vnT b d i ≤ (([0, 1] : List Nat).map (fun c => ((List.range i).filter (fun r => @decide ((if c = 0 then hvT y (d + r) else hvT f (d + 1 + r))) (Classical.propDecidable _))).length)).sum := flt_or (q := fun c r => if c = 0 then hvT y (d + r) else hvT f (d + 1 + r)) [0, 1] (List.range i) (fun r _ h => by
            rcases (hv_all k18 hp).mp h with q | q
            · exact ⟨0, by simp, by rw [if_pos rfl]; exact q⟩
            · exact ⟨1, by simp, by rw [if_neg (by decide)]; rw [show d + 1 + r = d + r + 1 by omega]; exact q⟩)
          have h2 : vnT b d i ≤ vnT y d i + vnT f (d + 1) i := by simpa [vnT] using h1
          unfold mvT
          omega
        have hsz : szT b = 1 + (szT y + szT f) := by rw [sz_pl b0 (by omega), hp]; simp
        rw [ew, hsz]
        generalize mvT k b d i = v at *
        generalize mvT k y d i = vy at *
        generalize mvT k f (d + 1) i = vf at *
        generalize wkT k i y d = wy at *
        generalize wkT k i f (d + 1) = wf at *
        have g1 : G * v * (H - hgT b + 1) ≤ G * (vy + vf) * (H - hgT b + 1) := Nat.mul_le_mul_right _ (Nat.mul_le_mul_left G hm)
        have g2 : G * vy * (H - hgT b + 1) ≤ G * vy * H := Nat.mul_le_mul_left _ (by omega)
        have g4 : G * vf * (H - hgT b + 1) ≤ G * vf * (H - hgT f) := Nat.mul_le_mul_left _ (by omega)
        have g3 : G * v * (H - hgT b + 1) = G * v * (H - hgT b) + G * v := by rw [Nat.mul_add, Nat.mul_one]
        have g5 : G * (vy + vf) * (H - hgT b + 1) = G * vy * (H - hgT b + 1) + G * vf * (H - hgT b + 1) := by rw [Nat.mul_add G, Nat.add_mul]
        have st := wk_step (k := k) (P := P) (Q := Q) (G := G) (v := v) (s := k * Q * wy + k * Q * wf) (S := k * P * szT y + k * P * szT f) (X := H - hgT b) hC hvk (by omega)
        simp only [Nat.mul_add, Nat.mul_one]
        omega
    exact ⟨fun _ => main, by omega⟩
end OPN
