/-! counting openings: what the binders in front leave over -/
def sIr (k P Q G i : Nat) : Nat := min (min (2 * (k * P)) (2 * (k * P) + G * i - k * Q * i)) (3 * (P * (k - i)))
def suS (k P Q G : Nat) (f : Nat → Bool → Nat → Nat) (t : Nat) : Bool → Nat → Nat := fun pol i => if kd t = 16 then ((ps t).map (fun c => f c (!pol) i)).sum else if kd t = 17 then ((ps t).map (fun c => f c pol i)).sum else if kd t = 18 ∧ pol = false then sIr k P Q G i + (((ps t).drop 1).map (fun c => f c false (i + 1))).sum else 0
def suT (k P Q G t : Nat) (pol : Bool) (i : Nat) : Nat := rcT (suS k P Q G) (fun _ _ => 0) t pol i
theorem suT_eq (k P Q G t : Nat) (pol : Bool) (i : Nat) : suT k P Q G t pol i = suS k P Q G (suT k P Q G) t pol i := by
  unfold suT
  rw [rc_eq (fun f f' t h => by
    unfold suS
    funext pol i
    have h1 : ∀ b, (ps t).map (fun c => f c b i) = (ps t).map (fun c => f' c b i) := fun b => List.map_congr_left fun c hc => by rw [h c hc]
    have h2 : ((ps t).drop 1).map (fun c => f c false (i + 1)) = ((ps t).drop 1).map (fun c => f' c false (i + 1)) := List.map_congr_left fun c hc => by rw [h c (List.mem_of_mem_drop hc)]
    rw [h1, h1, h2]) t]
theorem fmax_in : ∀ (l : List Nat), l.foldl max 0 = 0 ∨ l.foldl max 0 ∈ l := by
  have g : ∀ (l : List Nat) (a : Nat), l.foldl max a = a ∨ l.foldl max a ∈ l := fun l => by
    induction l with
    | nil => exact fun a => Or.inl rfl
    | cons b l ih =>
      intro a
      rw [List.foldl_cons]
      rcases ih (max a b) with q | q
      · rcases Nat.le_total a b with w | w
        · rw [Nat.max_eq_right w] at q
          exact Or.inr (by rw [Nat.max_eq_right w, q]; exact List.mem_cons_self)
        · rw [Nat.max_eq_left w] at q
          exact Or.inl (by rw [Nat.max_eq_left w, q])
      · exact Or.inr (List.mem_cons_of_mem _ q)
  exact fun l => g l 0
section OPN
variable {k P Q G H m : Nat}
theorem wk_step2 {v s S X i : Nat} (hC : CQ k P Q G H m) (hv : v ≤ k) (hi : v ≤ i) (hx : s + G * v * X + G * v + 2 * (k * P) ≤ S) : k * Q * v + s + G * v * X + k * P + (k * Q * v - k * P) + sIr k P Q G i ≤ k * P + S := by
  have c1 := Nat.mul_le_mul_right v hC.1
  have e1 : 2 * Q * k * v = k * Q * v + k * Q * v := by
    have : 2 * Q * k * v = 2 * (k * Q * v) := by
      rw [Nat.mul_assoc 2 Q k, Nat.mul_assoc, Nat.mul_comm Q k]
    omega
  have e2 : (G + 3 * P) * v = G * v + 3 * (P * v) := by rw [Nat.add_mul, Nat.mul_assoc]
  have e3 : P * v + P * (k - v) = k * P := by rw [← Nat.mul_add, show v + (k - v) = k by omega, Nat.mul_comm]
  have e4 : P * (k - i) ≤ P * (k - v) := Nat.mul_le_mul_left P (by omega)
  have g1 : G * v ≤ G * i := Nat.mul_le_mul_left G hi
  have g2 : k * Q * v ≤ k * Q * i := Nat.mul_le_mul_left (k * Q) hi
  have sb : sIr k P Q G i + k * Q * v ≤ 2 * (k * P) + G * v := by
    unfold sIr
    rcases Nat.le_total G (k * Q) with w | w
    · -- the more variables the less
      obtain ⟨x, hx⟩ : ∃ x, k * Q = G + x := ⟨k * Q - G, by omega⟩
      have a1 : k * Q * i = G * i + x * i := by rw [hx, Nat.add_mul]
      have a2 : k * Q * v = G * v + x * v := by rw [hx, Nat.add_mul]
      have a3 : x * v ≤ x * i := Nat.mul_le_mul_left x hi
      rcases Nat.le_total (x * i) (2 * (k * P)) with z | z
      · omega
      · have : 2 * (k * P) + G * i - k * Q * i = 0 := by omega
        have h0 : min (min (2 * (k * P)) (2 * (k * P) + G * i - k * Q * i)) (3 * (P * (k - i))) = 0 := by rw [this]; omega
        rw [h0]
        rw [e1, e2] at c1
        have := Nat.mul_le_mul_left P hv
        have e5 : P * k = k * P := Nat.mul_comm _ _
        omega
    · have a2 : k * Q * v ≤ G * v := Nat.mul_le_mul_right v w
      omega
  have sa : sIr k P Q G i ≤ 3 * (P * (k - i)) := by unfold sIr; omega
  rw [e1, e2] at c1
  omega
theorem wk_li3 {F V U : Nat → Nat} {X : Nat} : ∀ {l : List Nat}, (∀ p ∈ l, k * Q * F p + G * V p * X + k * P + U p ≤ k * P * szT p) → k * Q * (l.map F).sum + G * (l.map V).sum * X + k * P * l.length + (l.map U).sum ≤ k * P * (l.map szT).sum
  | [], _ => by simp
  | p :: l, h => by
    have h1 := h p List.mem_cons_self
    have h2 := wk_li3 (X := X) (l := l) (fun q hq => h q (List.mem_cons_of_mem _ hq))
    simp only [List.map_cons, List.sum_cons, List.length_cons, Nat.mul_add, Nat.add_mul]
    omega
theorem ev_fo2 (hC : CQ k P Q G H m) : ∀ (b : Nat), okT b → isFo b → Alls (At4 m) b → ∀ (pol : Bool) (i : Nat), i + scT b pol ≤ k → hgT b ≤ H → (kd b ≠ 16 → k * Q * (wkT k i b 0 + evT b pol) + G * mvT k b 0 i * (H - hgT b) + k * P + (k * Q * mvT k b 0 i - k * P) + suT k P Q G b pol i ≤ k * P * szT b) ∧ k * Q * (wkT k i b 0 + evT b pol) + G * mvT k b 0 i * (H - hgT b) + k * P + suT k P Q G b pol i ≤ k * P * szT b := by
  intro b
  induction b using Nat.strongRecOn with
  | ind b ih =>
    intro ho hf hA pol i hsc hH
    have b0 := okT_0 ho
    by_cases k14 : kd b ≤ 14
    · have e0 : evT b pol = 0 := by
        rw [ev_eq]; unfold evS
        rw [if_neg (by omega), if_neg (by omega), if_neg (fun q => by have := q.1; omega)]
      have s0 : suT k P Q G b pol i = 0 := by
        rw [suT_eq]; unfold suS
        rw [if_neg (by omega), if_neg (by omega), if_neg (fun q => by have := q.1; omega)]
      rw [e0, s0, Nat.add_zero]
      exact wk_fo hC b ho hf hA 0 hH
    by_cases k16 : kd b = 16
    · obtain ⟨f, hp, ff, kf, mf⟩ := ps_not1 ho k16
      have of := ho.c mf
      have hh : hgT f ≤ hgT b := by have := hg_part (t := b) (by omega) (c := f) (by rw [hp]; simp); rw [if_pos k16] at this; exact this
      have es : scT b pol = scT f (!pol) := by rw [scT_eq]; unfold scS; rw [if_pos k16, hp]; simp
      have ee : evT b pol = evT f (!pol) := by rw [ev_eq]; unfold evS; rw [if_pos k16, hp]; simp
      have eu : suT k P Q G b pol i = suT k P Q G f (!pol) i := by rw [suT_eq]; unfold suS; rw [if_pos k16, hp]; simp
      have h1 := (ih f (fms_lt mf) of ff (hA.sub (sub_c mf (sub_rf f))) (!pol) i (by rw [← es]; exact hsc) (by omega)).1 kf
      have ev : vnT b 0 i = vnT f 0 i := by
        have e1 : ∀ j, hvT b j ↔ hvT f j := fun j => by
          rw [hv_pl (by omega) (by omega)]
          have : fms b = [f] := by
            unfold fms
            rw [if_neg (by omega), hp]
            simp [okT_0 of]
          rw [this]
          simp
        exact Nat.le_antisymm (vn_mono (fun r hr hv => ⟨r, hr, (e1 _).mp hv, rfl⟩)) (vn_mono (fun r hr hv => ⟨r, hr, (e1 _).mpr hv, rfl⟩))
      have em : mvT k b 0 i = mvT k f 0 i := by unfold mvT; rw [ev]
      have ew : wkT k i b 0 = mvT k b 0 i + wkT k i f 0 := by
        rw [wk_eq]; unfold wkS; rw [if_neg k14, if_neg (by omega), hp]; simp
      have hs1 : szT b = 1 + szT f := by rw [sz_pl b0 (by omega), hp]; simp
      refine ⟨fun q => absurd k16 q, ?_⟩
      rw [ew, em, hs1, ee, eu]
      generalize suT k P Q G f (!pol) i = su at *
      generalize mvT k f 0 i = v at *
      generalize wkT k i f 0 = w at *
      generalize evT f (!pol) = x at *
      have g1 : G * v * (H - hgT b) ≤ G * v * (H - hgT f) := Nat.mul_le_mul_left (G * v) (by omega)
      simp only [Nat.mul_add, Nat.mul_one] at h1 ⊢
      omega
    have hvk : mvT k b 0 i ≤ k := mv_k
    have main : k * Q * (wkT k i b 0 + evT b pol) + G * mvT k b 0 i * (H - hgT b) + k * P + (k * Q * mvT k b 0 i - k * P) + suT k P Q G b pol i ≤ k * P * szT b := by
      by_cases k17 : kd b = 17
      · have hl : 2 ≤ (ps b).length ∧ ∀ f ∈ ps b, isFo f ∧ kd f ≠ 17 ∧ f ≠ yesT ∧ f ≠ noT := by
          rcases ho.n.2 with q | q | q | q | q | q | q | q | q | q | q | q | q | q <;> first | omega | exact q.2.2
        have mf : ∀ p ∈ ps b, p ∈ fms b := fun p hp => fms_mem hp (by omega) (isFo_pos (hl.2 p hp).1)
        have efm : fms b = ps b := by
          unfold fms
          rw [if_neg (by omega)]
          exact List.filter_eq_self.mpr (fun c hc => by simpa using isFo_pos (hl.2 c hc).1)
        have hm := mv_pl (k := k) (d := 0) (i := i) (t := b) (by omega) (by omega)
        rw [efm] at hm
        have hg1 : 1 ≤ hgT b := by
          have hne : ps b ≠ [] := fun q => by rw [q] at hl; simp at hl
          obtain ⟨c, hc⟩ := List.exists_mem_of_ne_nil _ hne
          have := hg_part (t := b) (by omega) hc
          rw [if_neg k16] at this
          omega
        have esc : ∀ p ∈ ps b, scT p pol ≤ scT b pol := fun p hp => by
          rw [scT_eq b]; unfold scS; rw [if_neg k16, if_pos k17]
          exact le_fmax (Or.inl (List.mem_map.mpr ⟨p, hp, rfl⟩))
        have li := wk_li3 (k := k) (Q := Q) (G := G) (P := P) (F := fun p => wkT k i p 0 + evT p pol) (V := fun p => mvT k p 0 i) (U := fun p => suT k P Q G p pol i) (X := H - hgT b + 1) (l := ps b) (fun p hp => by
          have hh := hg_part (t := b) (by omega) hp
          rw [if_neg k16] at hh
          have hs := esc p hp
          have h2 := (ih p (fms_lt (mf p hp)) (ho.c (mf p hp)) (hl.2 p hp).1 (hA.sub (sub_c (mf p hp) (sub_rf p))) pol i (by omega) (by omega)).2
          have g1 : G * mvT k p 0 i * (H - hgT b + 1) ≤ G * mvT k p 0 i * (H - hgT p) := Nat.mul_le_mul_left _ (by omega)
          show k * Q * (wkT k i p 0 + evT p pol) + G * mvT k p 0 i * (H - hgT b + 1) + k * P + suT k P Q G p pol i ≤ k * P * szT p
          omega)
        have ew : wkT k i b 0 = mvT k b 0 i + ((ps b).map (fun c => wkT k i c 0)).sum := by
          rw [wk_eq]; unfold wkS; rw [if_neg k14, if_neg (by omega)]
        have ee : evT b pol = ((ps b).map (fun c => evT c pol)).sum := by rw [ev_eq]; unfold evS; rw [if_neg k16, if_pos k17]
        have eu : suT k P Q G b pol i = ((ps b).map (fun c => suT k P Q G c pol i)).sum := by rw [suT_eq]; unfold suS; rw [if_neg k16, if_pos k17]
        have es : ((ps b).map (fun p => wkT k i p 0 + evT p pol)).sum = ((ps b).map (fun c => wkT k i c 0)).sum + ((ps b).map (fun c => evT c pol)).sum := sum_map_add _
        rw [es] at li
        rw [ew, ee, eu, sz_pl b0 (by omega)]
        generalize ((ps b).map (fun c => suT k P Q G c pol i)).sum = su at *
        generalize mvT k b 0 i = v at *
        generalize ((ps b).map (fun c => wkT k i c 0)).sum = S at *
        generalize ((ps b).map (fun c => evT c pol)).sum = S2 at *
        generalize ((ps b).map (fun c => mvT k c 0 i)).sum = V at *
        generalize ((ps b).map szT).sum = Z at *
        have g1 : G * v * (H - hgT b + 1) ≤ G * V * (H - hgT b + 1) := Nat.mul_le_mul_right _ (Nat.mul_le_mul_left G hm)
        have g2 : k * P * 2 ≤ k * P * (ps b).length := Nat.mul_le_mul_left _ hl.1
        have g3 : G * v * (H - hgT b + 1) = G * v * (H - hgT b) + G * v := by rw [Nat.mul_add, Nat.mul_one]
        have st := wk_step (k := k) (P := P) (Q := Q) (G := G) (v := v) (s := k * Q * (S + S2) + su) (S := k * P * Z) (X := H - hgT b) hC hvk (by omega)
        simp only [Nat.mul_add, Nat.mul_one] at st ⊢
        omega
      · have k18 : kd b = 18 := by unfold isFo at hf; omega
        cases pol with
        | true =>
          have e0 : evT b true = 0 := by
            rw [ev_eq]; unfold evS
            rw [if_neg k16, if_neg k17, if_neg (fun q => by cases q.2)]
          have s0 : suT k P Q G b true i = 0 := by
            rw [suT_eq]; unfold suS
            rw [if_neg k16, if_neg k17, if_neg (fun q => by cases q.2)]
          rw [e0, s0, Nat.add_zero]
          exact (wk_fo hC b ho hf hA 0 hH).1 k16
        | false =>
          obtain ⟨y, f, hp, y8, ff, my, mf⟩ := ps_all1 ho k18
          have oy := ho.c my
          have of := ho.c mf
          have hhf := hg_part (t := b) (by omega) (c := f) (by rw [hp]; simp)
          rw [if_neg k16] at hhf
          have es : scT b false = 1 + scT f false := by rw [scT_eq]; unfold scS; rw [if_neg k16, if_neg k17, if_pos ⟨k18, rfl⟩, hp]; simp
          have ee : evT b false = wkT 1 1 f 0 + evT f false := by rw [ev_eq]; unfold evS; rw [if_neg k16, if_neg k17, if_pos ⟨k18, rfl⟩, hp]; simp
          have eu : suT k P Q G b false i = sIr k P Q G i + suT k P Q G f false (i + 1) := by rw [suT_eq]; unfold suS; rw [if_neg k16, if_neg k17, if_pos ⟨k18, rfl⟩, hp]; simp
          have hvi : mvT k b 0 i ≤ i := by have := vn_i (s := b) (d := 0) (i := i); unfold mvT; omega
          have ty := wk_at (i := i) hC (d := 0) oy (by omega) (by omega) (hA.sub (sub_c my (sub_rf y)))
          have bo := (ih f (fms_lt mf) of ff (hA.sub (sub_c mf (sub_rf f))) false (i + 1) (by omega) (by omega)).2
          have wa := wk_add (k := k) (i := i) (by omega) f 0
          have ew : wkT k i b 0 = mvT k b 0 i + wkT k i y 0 + wkT k i f 1 := by
            rw [wk_eq]; unfold wkS; rw [if_neg k14, if_pos k18, hp]; simp
          have hm : mvT k b 0 i ≤ mvT k y 0 i + mvT k f 0 (i + 1) := by
            have h1 : vnT b 0 i ≤ (([0, 1] : List Nat).map (fun c => ((List.range i).filter (fun r => @decide ((if c = 0 then hvT y (0 + r) else hvT f (1 + r))) (Classical.propDecidable _))).length)).sum := flt_or (q := fun c r => if c = 0 then hvT y (0 + r) else hvT f (1 + r)) [0, 1] (List.range i) (fun r _ h => by
              rcases (hv_all k18 hp).mp h with q | q
              · exact ⟨0, by simp, by rw [if_pos rfl]; exact q⟩
              · exact ⟨1, by simp, by rw [if_neg (by decide)]; rw [show 1 + r = 0 + r + 1 by omega]; exact q⟩)
            have h2 : vnT b 0 i ≤ vnT y 0 i + vnT f 1 i := by simpa [vnT] using h1
            have h3 := vn_s (s := f) (d := 0) (i := i)
            have h4 : vnT f (0 + 1) i = vnT f 1 i := rfl
            unfold mvT
            omega
          have hsz : szT b = 1 + (szT y + szT f) := by rw [sz_pl b0 (by omega), hp]; simp
          have wa : wkT k i f 1 + wkT 1 1 f 0 ≤ wkT k (i + 1) f 0 := wa
          rw [ew, ee, eu, hsz]
          generalize suT k P Q G f false (i + 1) = su at *
          generalize mvT k b 0 i = v at *
          generalize mvT k y 0 i = vy at *
          generalize mvT k f 0 (i + 1) = vf at *
          generalize wkT k i y 0 = wy at *
          generalize wkT k i f 1 = wf at *
          generalize wkT 1 1 f 0 = w1 at *
          generalize wkT k (i + 1) f 0 = w2 at *
          generalize evT f false = x at *
          have g0 : k * Q * (wf + w1) ≤ k * Q * w2 := Nat.mul_le_mul_left _ wa
          have g1 : G * v * (H - hgT b + 1) ≤ G * (vy + vf) * (H - hgT b + 1) := Nat.mul_le_mul_right _ (Nat.mul_le_mul_left G hm)
          have g2 : G * vy * (H - hgT b + 1) ≤ G * vy * H := Nat.mul_le_mul_left _ (by omega)
          have g4 : G * vf * (H - hgT b + 1) ≤ G * vf * (H - hgT f) := Nat.mul_le_mul_left _ (by omega)
          have g3 : G * v * (H - hgT b + 1) = G * v * (H - hgT b) + G * v := by rw [Nat.mul_add, Nat.mul_one]
          have g5 : G * (vy + vf) * (H - hgT b + 1) = G * vy * (H - hgT b + 1) + G * vf * (H - hgT b + 1) := by rw [Nat.mul_add G, Nat.add_mul]
          have st := wk_step2 (k := k) (P := P) (Q := Q) (G := G) (v := v) (i := i) (s := k * Q * wy + k * Q * (w2 + x) + su) (S := k * P * szT y + k * P * szT f) (X := H - hgT b) hC hvk hvi (by omega)
          simp only [Nat.mul_add, Nat.mul_one] at st g0 ⊢
          omega
    exact ⟨fun _ => main, by omega⟩
theorem su_chain : ∀ (F : Nat), okT F → isFo F → ∀ (pol : Bool) (i : Nat), ((List.range (scT F pol)).map (fun j => sIr k P Q G (i + j))).sum ≤ suT k P Q G F pol i := by
  intro F
  induction F using Nat.strongRecOn with
  | ind F ih =>
    intro ho hf pol i
    have mx : ∀ (l : List Nat) (b : Bool), (∀ p ∈ l, ((List.range (scT p b)).map (fun j => sIr k P Q G (i + j))).sum ≤ suT k P Q G p b i) → ((List.range ((l.map (fun c => scT c b)).foldl max 0)).map (fun j => sIr k P Q G (i + j))).sum ≤ (l.map (fun c => suT k P Q G c b i)).sum := fun l b h => by
      rcases fmax_in (l.map (fun c => scT c b)) with q | q
      · rw [q]; exact Nat.zero_le _
      · obtain ⟨p, hp, e⟩ := List.mem_map.mp q
        rw [← e]
        exact Nat.le_trans (h p hp) (le_sum_mem (f := fun c => suT k P Q G c b i) hp)
    by_cases k16 : kd F = 16
    · obtain ⟨f, hp, ff, kf, mf⟩ := ps_not1 ho k16
      rw [scT_eq, suT_eq]
      unfold scS suS
      rw [if_pos k16, if_pos k16]
      refine mx (ps F) (!pol) (fun p hp' => ?_)
      rw [hp, List.mem_singleton] at hp'
      rw [hp']
      exact ih f (fms_lt mf) (ho.c mf) ff (!pol) i
    by_cases k17 : kd F = 17
    · have hl : ∀ f ∈ ps F, isFo f := by
        rcases ho.n.2 with q | q | q | q | q | q | q | q | q | q | q | q | q | q <;> first | omega | exact fun p hp => (q.2.2.2 p hp).1
      have mf : ∀ p ∈ ps F, p ∈ fms F := fun p hp => fms_mem hp (by omega) (isFo_pos (hl p hp))
      rw [scT_eq, suT_eq]
      unfold scS suS
      rw [if_neg k16, if_neg k16, if_pos k17, if_pos k17]
      exact mx (ps F) pol (fun p hp => ih p (fms_lt (mf p hp)) (ho.c (mf p hp)) (hl p hp) pol i)
    by_cases k18 : kd F = 18 ∧ pol = false
    · obtain ⟨y, f, hp, y8, ff, my, mf⟩ := ps_all1 ho k18.1
      have es : scT F pol = scT f false + 1 := by rw [scT_eq]; unfold scS; rw [if_neg k16, if_neg k17, if_pos k18, hp]; simp; omega
      have eu : suT k P Q G F pol i = sIr k P Q G i + suT k P Q G f false (i + 1) := by rw [suT_eq]; unfold suS; rw [if_neg k16, if_neg k17, if_pos k18, hp]; simp
      have h1 := ih f (fms_lt mf) (ho.c mf) ff false (i + 1)
      rw [es, eu, List.range_succ_eq_map, List.map_cons, List.sum_cons, List.map_map]
      have e3 : ((List.range (scT f false)).map ((fun j => sIr k P Q G (i + j)) ∘ Nat.succ)).sum = ((List.range (scT f false)).map (fun j => sIr k P Q G (i + 1 + j))).sum := by
        congr 1
        exact List.map_congr_left (fun j _ => by show sIr k P Q G (i + Nat.succ j) = _; rw [show i + Nat.succ j = i + 1 + j by omega])
      rw [e3]
      simp only [Nat.add_zero]
      omega
    · have es : scT F pol = 0 := by rw [scT_eq]; unfold scS; rw [if_neg k16, if_neg k17, if_neg k18]
      rw [es]; exact Nat.zero_le _
/-- all puts of an opening, with what the binders in front leave over -/
theorem ev_le2 (hC : CQ k P Q G H m) {F : Nat} (ho : okT F) (hf : isFo F) (hA : Alls (At4 m) F) (pol : Bool) (hs : scT F pol ≤ k) (hH : hgT F ≤ H) : k * Q * evT F pol + k * P + ((List.range (scT F pol)).map (fun j => sIr k P Q G j)).sum ≤ k * P * szT F := by
  have h := (ev_fo2 hC F ho hf hA pol 0 (by omega) hH).2
  rw [wk_0, Nat.zero_add] at h
  have h1 := su_chain (k := k) (P := P) (Q := Q) (G := G) F ho hf pol 0
  simp only [Nat.zero_add] at h1
  omega
end OPN
