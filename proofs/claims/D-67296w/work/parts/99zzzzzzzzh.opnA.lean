/-! counting openings once more: by the binders opened above, few levels are left -/
/-- the prices: Q a form, P a size, G i a level under i opened binders, sI i what is left over at an opened binder -/
def GQ (k kr P Q : Nat) (G sI : Nat → Nat) : Prop := (∀ i, i ≤ k → ∀ v, v ≤ i → v ≤ kr → 2 * Q * v ≤ G i * v + 3 * P) ∧ (∀ i, i < k → G i ≤ G (i + 1)) ∧ ∀ i, i < k → ∀ v, v ≤ i → v ≤ kr → sI i + Q * v ≤ 2 * P + G i * v ∧ sI i + 2 * (Q * v) ≤ 3 * P + G i * v
/-- a form speaks of few of the binders around it -/
def VnB (kr : Nat) (s : Nat) : Prop := ∀ d i, vnT s d i ≤ kr
/-- what the levels above cost -/
def Rv (G : Nat → Nat) (i : Nat) : Nat := ((List.range i).map G).sum
theorem Rv_s {G : Nat → Nat} {i : Nat} : Rv G (i + 1) = Rv G i + G i := by
  unfold Rv
  rw [List.range_succ, List.map_append, List.sum_append]
  simp
/-- atoms and types pay for themselves -/
def AtW (k P Q Z : Nat) (A : Nat) : Prop := 8 ≤ kd A → kd A ≤ 14 → ∀ d i, i ≤ k → Q * wkT k i A d + mvT k A d i * Z + P + (Q * mvT k A d i - P) ≤ P * szT A
def suZ (sI : Nat → Nat) (f : Nat → Bool → Nat → Nat) (t : Nat) : Bool → Nat → Nat := fun pol i => if kd t = 16 then ((ps t).map (fun c => f c (!pol) i)).sum else if kd t = 17 then ((ps t).map (fun c => f c pol i)).sum else if kd t = 18 ∧ pol = false then sI i + (((ps t).drop 1).map (fun c => f c false (i + 1))).sum else 0
def suG (sI : Nat → Nat) (t : Nat) (pol : Bool) (i : Nat) : Nat := rcT (suZ sI) (fun _ _ => 0) t pol i
theorem suG_eq (sI : Nat → Nat) (t : Nat) (pol : Bool) (i : Nat) : suG sI t pol i = suZ sI (suG sI) t pol i := by
  unfold suG
  rw [rc_eq (fun f f' t h => by
    unfold suZ
    funext pol i
    have h1 : ∀ b, (ps t).map (fun c => f c b i) = (ps t).map (fun c => f' c b i) := fun b => List.map_congr_left fun c hc => by rw [h c hc]
    have h2 : ((ps t).drop 1).map (fun c => f c false (i + 1)) = ((ps t).drop 1).map (fun c => f' c false (i + 1)) := List.map_congr_left fun c hc => by rw [h c (List.mem_of_mem_drop hc)]
    rw [h1, h1, h2]) t]
section OPG
variable {k kr P Q H Z : Nat} {G sI : Nat → Nat}
theorem wkg_step {v s S X Y i : Nat} (hG : GQ k kr P Q G sI) (hi : i ≤ k) (hv : v ≤ i) (hr : v ≤ kr) (hx : s + v * X + v * G i + 2 * P ≤ S) (hY : Y ≤ X) : Q * v + s + v * Y + P + (Q * v - P) ≤ P + S := by
  have c1 := hG.1 i hi v hv hr
  have e1 : 2 * Q * v = Q * v + Q * v := by rw [Nat.mul_assoc, Nat.two_mul]
  have e2 : G i * v = v * G i := Nat.mul_comm _ _
  have e3 : v * Y ≤ v * X := Nat.mul_le_mul_left v hY
  omega
theorem wkg_step2 {v s S X Y i : Nat} (hG : GQ k kr P Q G sI) (hi : i < k) (hv : v ≤ i) (hr : v ≤ kr) (hx : s + v * X + v * G i + 2 * P ≤ S) (hY : Y ≤ X) : Q * v + s + v * Y + P + (Q * v - P) + sI i ≤ P + S := by
  obtain ⟨c1, c2⟩ := hG.2.2 i hi v hv hr
  have e2 : G i * v = v * G i := Nat.mul_comm _ _
  have e3 : v * Y ≤ v * X := Nat.mul_le_mul_left v hY
  omega
theorem wkg_li {F V U : Nat → Nat} {X : Nat} : ∀ {l : List Nat}, (∀ p ∈ l, Q * F p + V p * X + P + U p ≤ P * szT p) → Q * (l.map F).sum + (l.map V).sum * X + P * l.length + (l.map U).sum ≤ P * (l.map szT).sum
  | [], _ => by simp
  | p :: l, h => by
    have h1 := h p List.mem_cons_self
    have h2 := wkg_li (X := X) (l := l) (fun q hq => h q (List.mem_cons_of_mem _ hq))
    simp only [List.map_cons, List.sum_cons, List.length_cons, Nat.mul_add, Nat.add_mul]
    omega
/-- what is held back for the levels above, at a form under i opened binders -/
def rsv (G : Nat → Nat) (H i h : Nat) : Nat := Rv G i + G i * (H - i - h)
theorem rsv_mono {i h h' : Nat} (hh : h' ≤ h) : rsv G H i h ≤ rsv G H i h' := by
  unfold rsv
  have : G i * (H - i - h) ≤ G i * (H - i - h') := Nat.mul_le_mul_left _ (by omega)
  omega
theorem rsv_up {i h h' : Nat} (hh : h' + 1 ≤ h) (hH : h + i ≤ H) : rsv G H i h + G i ≤ rsv G H i h' := by
  unfold rsv
  have h1 : G i * (H - i - h + 1) ≤ G i * (H - i - h') := Nat.mul_le_mul_left _ (by omega)
  rw [Nat.mul_add, Nat.mul_one] at h1
  omega
theorem rsv_in (hG : GQ k kr P Q G sI) {i h h' : Nat} (hi : i < k) (hh : h' + 1 ≤ h) (hH : h + i ≤ H) : rsv G H i h + G i ≤ rsv G H (i + 1) h' := by
  unfold rsv
  rw [Rv_s]
  have h1 : G i * (H - i - h) ≤ G (i + 1) * (H - (i + 1) - h') := Nat.mul_le_mul (hG.2.1 i hi) (by omega)
  omega
theorem rsv_top (hG : GQ k kr P Q G sI) (hk : k ≤ H) : ∀ {m i h : Nat}, i + m = k → rsv G H i h ≤ Rv G k + G k * (H - k) := by
  intro m
  induction m with
  | zero =>
    intro i h e
    have : i = k := by omega
    unfold rsv
    rw [this]
    have : G k * (H - k - h) ≤ G k * (H - k) := Nat.mul_le_mul_left _ (by omega)
    omega
  | succ m ih =>
    intro i h e
    have h1 := ih (i := i + 1) (h := 0) (by omega)
    have h2 : rsv G H i h ≤ rsv G H (i + 1) 0 := by
      unfold rsv
      rw [Rv_s]
      have a1 : G i * (H - i - h) ≤ G i * (H - i) := Nat.mul_le_mul_left _ (by omega)
      have a2 : G i * (H - i) = G i * (H - (i + 1)) + G i := by
        rw [show H - i = H - (i + 1) + 1 by omega, Nat.mul_add, Nat.mul_one]
      have a3 : G i * (H - (i + 1)) ≤ G (i + 1) * (H - (i + 1)) := Nat.mul_le_mul_right _ (hG.2.1 i (by omega))
      rw [Nat.sub_zero]
      omega
    omega
/-- THE COUNT for variables, under i opened binders -/
theorem wkg_fo (hG : GQ k kr P Q G sI) (hk : k ≤ H) (hZ : Rv G k + G k * (H - k) ≤ Z) : ∀ (b : Nat), okT b → isFo b → Alls (AtW k P Q Z) b → Alls (VnB kr) b → ∀ i d, i ≤ k → hgT b + i ≤ H → (kd b ≠ 16 → Q * wkT k i b d + mvT k b d i * rsv G H i (hgT b) + P + (Q * mvT k b d i - P) ≤ P * szT b) ∧ Q * wkT k i b d + mvT k b d i * rsv G H i (hgT b) + P ≤ P * szT b := by
  intro b
  induction b using Nat.strongRecOn with
  | ind b ih =>
    intro ho hf hA hV i d hi hH
    have b0 := okT_0 ho
    have rt : ∀ h, rsv G H i h ≤ Z := fun h => Nat.le_trans (rsv_top hG hk (m := k - i) (i := i) (by omega)) hZ
    have atm : ∀ A, subT A b → 8 ≤ kd A → kd A ≤ 14 → ∀ h d, Q * wkT k i A d + mvT k A d i * rsv G H i h + P + (Q * mvT k A d i - P) ≤ P * szT A := fun A sA a8 a14 h d => by
      have h1 := hA A sA a8 a14 d i hi
      have h2 : mvT k A d i * rsv G H i h ≤ mvT k A d i * Z := Nat.mul_le_mul_left _ (rt h)
      omega
    have vr : ∀ d, mvT k b d i ≤ kr := fun d => by have := hV b (sub_rf b) d i; unfold mvT; omega
    have vi : ∀ s d, mvT k s d i ≤ i := fun s d => by have := vn_i (s := s) (d := d) (i := i); unfold mvT; omega
    by_cases k14 : kd b ≤ 14
    · have h9 : 9 ≤ kd b := by unfold isFo at hf; omega
      have := atm b (sub_rf b) (by omega) k14 (hgT b) d
      exact ⟨fun _ => this, by omega⟩
    by_cases k16 : kd b = 16
    · obtain ⟨f, hp, ff, kf, mf⟩ := ps_not1 ho k16
      have of := ho.c mf
      have hh : hgT f ≤ hgT b := by have := hg_part (t := b) (by omega) (c := f) (by rw [hp]; simp); rw [if_pos k16] at this; exact this
      have h1 := (ih f (fms_lt mf) of ff (hA.sub (sub_c mf (sub_rf f))) (hV.sub (sub_c mf (sub_rf f))) i d hi (by omega)).1 kf
      have ev : vnT b d i = vnT f d i := by
        have e1 : ∀ j, hvT b j ↔ hvT f j := fun j => by
          rw [hv_pl (by omega) (by omega)]
          have : fms b = [f] := by
            unfold fms
            rw [if_neg (by omega), hp]
            simp [okT_0 of]
          rw [this]
          simp
        exact Nat.le_antisymm (vn_mono (fun r hr hv => ⟨r, hr, (e1 _).mp hv, rfl⟩)) (vn_mono (fun r hr hv => ⟨r, hr, (e1 _).mpr hv, rfl⟩))
      have em : mvT k b d i = mvT k f d i := by unfold mvT; rw [ev]
      have ew : wkT k i b d = mvT k b d i + wkT k i f d := by
        rw [wk_eq]; unfold wkS; rw [if_neg k14, if_neg (by omega), hp]; simp
      have hs1 : szT b = 1 + szT f := by rw [sz_pl b0 (by omega), hp]; simp
      refine ⟨fun q => absurd k16 q, ?_⟩
      rw [ew, em, hs1]
      have g1 : mvT k f d i * rsv G H i (hgT b) ≤ mvT k f d i * rsv G H i (hgT f) := Nat.mul_le_mul_left _ (rsv_mono hh)
      generalize mvT k f d i = v at *
      simp only [Nat.mul_add, Nat.mul_one]
      omega
    have main : Q * wkT k i b d + mvT k b d i * rsv G H i (hgT b) + P + (Q * mvT k b d i - P) ≤ P * szT b := by
      by_cases k17 : kd b = 17
      · have hl : 2 ≤ (ps b).length ∧ ∀ f ∈ ps b, isFo f ∧ kd f ≠ 17 ∧ f ≠ yesT ∧ f ≠ noT := by
          rcases ho.n.2 with q | q | q | q | q | q | q | q | q | q | q | q | q | q <;> first | omega | exact q.2.2
        have mf : ∀ p ∈ ps b, p ∈ fms b := fun p hp => fms_mem hp (by omega) (isFo_pos (hl.2 p hp).1)
        have efm : fms b = ps b := by
          unfold fms
          rw [if_neg (by omega)]
          exact List.filter_eq_self.mpr (fun c hc => by simpa using isFo_pos (hl.2 c hc).1)
        have hm := mv_pl (k := k) (d := d) (i := i) (t := b) (by omega) (by omega)
        rw [efm] at hm
        have up : ∀ p ∈ ps b, rsv G H i (hgT b) + G i ≤ rsv G H i (hgT p) := fun p hp => by
          have hh := hg_part (t := b) (by omega) hp
          rw [if_neg k16] at hh
          exact rsv_up hh hH
        have li := wkg_li (Q := Q) (P := P) (F := fun p => wkT k i p d) (V := fun p => mvT k p d i) (U := fun _ => 0) (X := rsv G H i (hgT b) + G i) (l := ps b) (fun p hp => by
          have hh := hg_part (t := b) (by omega) hp
          rw [if_neg k16] at hh
          have h2 := (ih p (fms_lt (mf p hp)) (ho.c (mf p hp)) (hl.2 p hp).1 (hA.sub (sub_c (mf p hp) (sub_rf p))) (hV.sub (sub_c (mf p hp) (sub_rf p))) i d hi (by omega)).2
          have g1 : mvT k p d i * (rsv G H i (hgT b) + G i) ≤ mvT k p d i * rsv G H i (hgT p) := Nat.mul_le_mul_left _ (up p hp)
          show Q * wkT k i p d + mvT k p d i * (rsv G H i (hgT b) + G i) + P + 0 ≤ P * szT p
          omega)
        have ew : wkT k i b d = mvT k b d i + ((ps b).map (fun c => wkT k i c d)).sum := by
          rw [wk_eq]; unfold wkS; rw [if_neg k14, if_neg (by omega)]
        have hvi := vi b d
        have hvr := vr d
        rw [ew, sz_pl b0 (by omega)]
        generalize mvT k b d i = v at *
        generalize ((ps b).map (fun c => wkT k i c d)).sum = S at *
        generalize ((ps b).map (fun c => mvT k c d i)).sum = V at *
        generalize ((ps b).map szT).sum = T at *
        generalize rsv G H i (hgT b) = X at *
        have g1 : v * (X + G i) ≤ V * (X + G i) := Nat.mul_le_mul_right _ hm
        have g2 : P * 2 ≤ P * (ps b).length := Nat.mul_le_mul_left _ hl.1
        have st := wkg_step (P := P) (Q := Q) (v := v) (s := Q * S) (S := P * T) (X := X) (Y := X) hG hi hvi hvr (by rw [Nat.mul_add] at g1; omega) (Nat.le_refl _)
        simp only [Nat.mul_add, Nat.mul_one]
        omega
      · have k18 : kd b = 18 := by unfold isFo at hf; omega
        obtain ⟨y, f, hp, y8, ff, my, mf⟩ := ps_all1 ho k18
        have of := ho.c mf
        have hhf := hg_part (t := b) (by omega) (c := f) (by rw [hp]; simp)
        rw [if_neg k16] at hhf
        have ty := atm y (sub_c my (sub_rf y)) (by omega) (by omega) (hgT f) d
        have bo := (ih f (fms_lt mf) of ff (hA.sub (sub_c mf (sub_rf f))) (hV.sub (sub_c mf (sub_rf f))) i (d + 1) hi (by omega)).2
        have ew : wkT k i b d = mvT k b d i + wkT k i y d + wkT k i f (d + 1) := by
          rw [wk_eq]; unfold wkS; rw [if_neg k14, if_pos k18, hp]; simp
        have hm : mvT k b d i ≤ mvT k y d i + mvT k f (d + 1) i := by
          have h1 : vnT b d i ≤ (([0, 1] : List Nat).map (fun c => ((List.range i).filter (fun r => @decide ((if c = 0 then hvT y (d + r) else hvT f (d + 1 + r))) (Classical.propDecidable _))).length)).sum := flt_or (q := fun c r => if c = 0 then hvT y (d + r) else hvT f (d + 1 + r)) [0, 1] (List.range i) (fun r _ h => by
            rcases (hv_all k18 hp).mp h with q | q
            · exact ⟨0, by simp, by rw [if_pos rfl]; exact q⟩
            · exact ⟨1, by simp, by rw [if_neg (by decide)]; rw [show d + 1 + r = d + r + 1 by omega]; exact q⟩)
          have h2 : vnT b d i ≤ vnT y d i + vnT f (d + 1) i := by simpa [vnT] using h1
          unfold mvT
          omega
        have hsz : szT b = 1 + (szT y + szT f) := by rw [sz_pl b0 (by omega), hp]; simp
        have hvi := vi b d
        have hvr := vr d
        have up := rsv_up (G := G) (H := H) hhf hH
        rw [ew, hsz]
        generalize mvT k b d i = v at *
        generalize mvT k y d i = vy at *
        generalize mvT k f (d + 1) i = vf at *
        generalize wkT k i y d = wy at *
        generalize wkT k i f (d + 1) = wf at *
        generalize rsv G H i (hgT b) = X at *
        generalize rsv G H i (hgT f) = X' at *
        have g1 : v * (X + G i) ≤ (vy + vf) * X' := Nat.mul_le_mul hm up
        have g5 : (vy + vf) * X' = vy * X' + vf * X' := Nat.add_mul _ _ _
        have st := wkg_step (P := P) (Q := Q) (v := v) (s := Q * wy + Q * wf) (S := P * szT y + P * szT f) (X := X) (Y := X) hG hi hvi hvr (by rw [Nat.mul_add] at g1; omega) (Nat.le_refl _)
        simp only [Nat.mul_add, Nat.mul_one]
        omega
    exact ⟨fun _ => main, by omega⟩
/-- all puts of an opening, under i opened binders -/
theorem evg_fo (hG : GQ k kr P Q G sI) (hk : k ≤ H) (hZ : Rv G k + G k * (H - k) ≤ Z) : ∀ (b : Nat), okT b → isFo b → Alls (AtW k P Q Z) b → Alls (VnB kr) b → ∀ (pol : Bool) (i : Nat), i + scT b pol ≤ k → hgT b + i ≤ H → (kd b ≠ 16 → Q * (wkT k i b 0 + evT b pol) + mvT k b 0 i * rsv G H i (hgT b) + P + (Q * mvT k b 0 i - P) + suG sI b pol i ≤ P * szT b) ∧ Q * (wkT k i b 0 + evT b pol) + mvT k b 0 i * rsv G H i (hgT b) + P + suG sI b pol i ≤ P * szT b := by
  intro b
  induction b using Nat.strongRecOn with
  | ind b ih =>
    intro ho hf hA hV pol i hsc hH
    have b0 := okT_0 ho
    have hi : i ≤ k := by omega
    have vr : ∀ d, mvT k b d i ≤ kr := fun d => by have := hV b (sub_rf b) d i; unfold mvT; omega
    have vi : ∀ s d, mvT k s d i ≤ i := fun s d => by have := vn_i (s := s) (d := d) (i := i); unfold mvT; omega
    by_cases k14 : kd b ≤ 14
    · have e0 : evT b pol = 0 := by
        rw [ev_eq]; unfold evS
        rw [if_neg (by omega), if_neg (by omega), if_neg (fun q => by have := q.1; omega)]
      have s0 : suG sI b pol i = 0 := by
        rw [suG_eq]; unfold suZ
        rw [if_neg (by omega), if_neg (by omega), if_neg (fun q => by have := q.1; omega)]
      rw [e0, s0, Nat.add_zero]
      exact wkg_fo hG hk hZ b ho hf hA hV i 0 hi hH
    by_cases k16 : kd b = 16
    · obtain ⟨f, hp, ff, kf, mf⟩ := ps_not1 ho k16
      have of := ho.c mf
      have hh : hgT f ≤ hgT b := by have := hg_part (t := b) (by omega) (c := f) (by rw [hp]; simp); rw [if_pos k16] at this; exact this
      have es : scT b pol = scT f (!pol) := by rw [scT_eq]; unfold scS; rw [if_pos k16, hp]; simp
      have ee : evT b pol = evT f (!pol) := by rw [ev_eq]; unfold evS; rw [if_pos k16, hp]; simp
      have eu : suG sI b pol i = suG sI f (!pol) i := by rw [suG_eq]; unfold suZ; rw [if_pos k16, hp]; simp
      have h1 := (ih f (fms_lt mf) of ff (hA.sub (sub_c mf (sub_rf f))) (hV.sub (sub_c mf (sub_rf f))) (!pol) i (by rw [← es]; exact hsc) (by omega)).1 kf
      have ev : vnT b 0 i = vnT f 0 i := by
        have e1 : ∀ j, hvT b j ↔ hvT f j := fun j => by
          rw [hv_pl (by omega) (by omega)]
          have : fms b = [f] := by
            unfold fms
            rw [if_neg (by omega), hp]
            simp [okT_0 of]
          rw [this]
          simp
        exact Nat.le_antisymm (vn_mono (fun r hr hv => ⟨r, hr, (e1 _).mp hv, rfl⟩)) (vn_mono (fun r hr hv => ⟨r, hr, (e1 _).mpr hv, rfl⟩))
      have em : mvT k b 0 i = mvT k f 0 i := by unfold mvT; rw [ev]
      have ew : wkT k i b 0 = mvT k b 0 i + wkT k i f 0 := by
        rw [wk_eq]; unfold wkS; rw [if_neg k14, if_neg (by omega), hp]; simp
      have hs1 : szT b = 1 + szT f := by rw [sz_pl b0 (by omega), hp]; simp
      refine ⟨fun q => absurd k16 q, ?_⟩
      rw [ew, em, hs1, ee, eu]
      have g1 : mvT k f 0 i * rsv G H i (hgT b) ≤ mvT k f 0 i * rsv G H i (hgT f) := Nat.mul_le_mul_left _ (rsv_mono hh)
      generalize suG sI f (!pol) i = su at *
      generalize mvT k f 0 i = v at *
      generalize wkT k i f 0 = w at *
      generalize evT f (!pol) = x at *
      simp only [Nat.mul_add, Nat.mul_one] at h1 ⊢
      omega
    have main : Q * (wkT k i b 0 + evT b pol) + mvT k b 0 i * rsv G H i (hgT b) + P + (Q * mvT k b 0 i - P) + suG sI b pol i ≤ P * szT b := by
      by_cases k17 : kd b = 17
      · have hl : 2 ≤ (ps b).length ∧ ∀ f ∈ ps b, isFo f ∧ kd f ≠ 17 ∧ f ≠ yesT ∧ f ≠ noT := by
          rcases ho.n.2 with q | q | q | q | q | q | q | q | q | q | q | q | q | q <;> first | omega | exact q.2.2
        have mf : ∀ p ∈ ps b, p ∈ fms b := fun p hp => fms_mem hp (by omega) (isFo_pos (hl.2 p hp).1)
        have efm : fms b = ps b := by
          unfold fms
          rw [if_neg (by omega)]
          exact List.filter_eq_self.mpr (fun c hc => by simpa using isFo_pos (hl.2 c hc).1)
        have hm := mv_pl (k := k) (d := 0) (i := i) (t := b) (by omega) (by omega)
        rw [efm] at hm
        have esc : ∀ p ∈ ps b, scT p pol ≤ scT b pol := fun p hp => by
          rw [scT_eq b]; unfold scS; rw [if_neg k16, if_pos k17]
          exact le_fmax (Or.inl (List.mem_map.mpr ⟨p, hp, rfl⟩))
        have li := wkg_li (Q := Q) (P := P) (F := fun p => wkT k i p 0 + evT p pol) (V := fun p => mvT k p 0 i) (U := fun p => suG sI p pol i) (X := rsv G H i (hgT b) + G i) (l := ps b) (fun p hp => by
          have hh := hg_part (t := b) (by omega) hp
          rw [if_neg k16] at hh
          have hs := esc p hp
          have h2 := (ih p (fms_lt (mf p hp)) (ho.c (mf p hp)) (hl.2 p hp).1 (hA.sub (sub_c (mf p hp) (sub_rf p))) (hV.sub (sub_c (mf p hp) (sub_rf p))) pol i (by omega) (by omega)).2
          have g1 : mvT k p 0 i * (rsv G H i (hgT b) + G i) ≤ mvT k p 0 i * rsv G H i (hgT p) := Nat.mul_le_mul_left _ (rsv_up hh hH)
          show Q * (wkT k i p 0 + evT p pol) + mvT k p 0 i * (rsv G H i (hgT b) + G i) + P + suG sI p pol i ≤ P * szT p
          omega)
        have ew : wkT k i b 0 = mvT k b 0 i + ((ps b).map (fun c => wkT k i c 0)).sum := by
          rw [wk_eq]; unfold wkS; rw [if_neg k14, if_neg (by omega)]
        have ee : evT b pol = ((ps b).map (fun c => evT c pol)).sum := by rw [ev_eq]; unfold evS; rw [if_neg k16, if_pos k17]
        have eu : suG sI b pol i = ((ps b).map (fun c => suG sI c pol i)).sum := by rw [suG_eq]; unfold suZ; rw [if_neg k16, if_pos k17]
        have es : ((ps b).map (fun p => wkT k i p 0 + evT p pol)).sum = ((ps b).map (fun c => wkT k i c 0)).sum + ((ps b).map (fun c => evT c pol)).sum := sum_map_add _
        have hvi := vi b 0
        have hvr := vr 0
        rw [es] at li
        rw [ew, ee, eu, sz_pl b0 (by omega)]
        generalize ((ps b).map (fun c => suG sI c pol i)).sum = su at *
        generalize mvT k b 0 i = v at *
        generalize ((ps b).map (fun c => wkT k i c 0)).sum = S at *
        generalize ((ps b).map (fun c => evT c pol)).sum = S2 at *
        generalize ((ps b).map (fun c => mvT k c 0 i)).sum = V at *
        generalize ((ps b).map szT).sum = T at *
        generalize rsv G H i (hgT b) = X at *
        have g1 : v * (X + G i) ≤ V * (X + G i) := Nat.mul_le_mul_right _ hm
        have g2 : P * 2 ≤ P * (ps b).length := Nat.mul_le_mul_left _ hl.1
        have st := wkg_step (P := P) (Q := Q) (v := v) (s := Q * (S + S2) + su) (S := P * T) (X := X) (Y := X) hG hi hvi hvr (by rw [Nat.mul_add] at g1; omega) (Nat.le_refl _)
        simp only [Nat.mul_add, Nat.mul_one] at st ⊢
        omega
      · have k18 : kd b = 18 := by unfold isFo at hf; omega
        cases pol with
        | true =>
          have e0 : evT b true = 0 := by
            rw [ev_eq]; unfold evS
            rw [if_neg k16, if_neg k17, if_neg (fun q => by cases q.2)]
          have s0 : suG sI b true i = 0 := by
            rw [suG_eq]; unfold suZ
            rw [if_neg k16, if_neg k17, if_neg (fun q => by cases q.2)]
          rw [e0, s0, Nat.add_zero]
          exact (wkg_fo hG hk hZ b ho hf hA hV i 0 hi hH).1 k16
        | false =>
          obtain ⟨y, f, hp, y8, ff, my, mf⟩ := ps_all1 ho k18
          have of := ho.c mf
          have hhf := hg_part (t := b) (by omega) (c := f) (by rw [hp]; simp)
          rw [if_neg k16] at hhf
          have es : scT b false = 1 + scT f false := by rw [scT_eq]; unfold scS; rw [if_neg k16, if_neg k17, if_pos ⟨k18, rfl⟩, hp]; simp
          have hik : i < k := by omega
          have ee : evT b false = wkT 1 1 f 0 + evT f false := by rw [ev_eq]; unfold evS; rw [if_neg k16, if_neg k17, if_pos ⟨k18, rfl⟩, hp]; simp
          have eu : suG sI b false i = sI i + suG sI f false (i + 1) := by rw [suG_eq]; unfold suZ; rw [if_neg k16, if_neg k17, if_pos ⟨k18, rfl⟩, hp]; simp
          have hvi := vi b 0
          have hvr := vr 0
          have rt : rsv G H (i + 1) (hgT f) ≤ Z := Nat.le_trans (rsv_top hG hk (m := k - (i + 1)) (i := i + 1) (by omega)) hZ
          have ty : Q * wkT k i y 0 + mvT k y 0 i * rsv G H (i + 1) (hgT f) + P + (Q * mvT k y 0 i - P) ≤ P * szT y := by
            have h1 := hA y (sub_c my (sub_rf y)) (by omega) (by omega) 0 i hi
            have h2 : mvT k y 0 i * rsv G H (i + 1) (hgT f) ≤ mvT k y 0 i * Z := Nat.mul_le_mul_left _ rt
            omega
          have bo := (ih f (fms_lt mf) of ff (hA.sub (sub_c mf (sub_rf f))) (hV.sub (sub_c mf (sub_rf f))) false (i + 1) (by omega) (by omega)).2
          have wa := wk_add (k := k) (i := i) (by omega) f 0
          have ew : wkT k i b 0 = mvT k b 0 i + wkT k i y 0 + wkT k i f 1 := by
            rw [wk_eq]; unfold wkS; rw [if_neg k14, if_pos k18, hp]; simp
          have hm : mvT k b 0 i ≤ mvT k y 0 i + mvT k f 0 (i + 1) := by
            have h1 : vnT b 0 i ≤ (([0, 1] : List Nat).map (fun c => ((List.range i).filter (fun r => @decide ((if c = 0 then hvT y (0 + r) else hvT f (1 + r))) (Classical.propDecidable _))).length)).sum := flt_or (q := fun c r => if c = 0 then hvT y (0 + r) else hvT f (1 + r)) [0, 1] (List.range i) (fun r _ h => by
              rcases (hv_all k18 hp).mp h with q | q
              · exact ⟨0, by simp, by rw [if_pos rfl]; exact q⟩
              · exact ⟨1, by simp, by rw [if_neg (by decide)]; rw [show 1 + r = 0 + r + 1 by omega]; exact q⟩)
            have h2 : vnT b 0 i ≤ vnT y 0 i + vnT f 1 i := by simpa [vnT] using h1
            have h3 := vn_s (s := f) (d := 0) (i := i)
            have h4 : vnT f (0 + 1) i = vnT f 1 i := rfl
            unfold mvT
            omega
          have hsz : szT b = 1 + (szT y + szT f) := by rw [sz_pl b0 (by omega), hp]; simp
          have wa : wkT k i f 1 + wkT 1 1 f 0 ≤ wkT k (i + 1) f 0 := wa
          have up := rsv_in (H := H) hG hik hhf hH
          rw [ew, ee, eu, hsz]
          generalize suG sI f false (i + 1) = su at *
          generalize mvT k b 0 i = v at *
          generalize mvT k y 0 i = vy at *
          generalize mvT k f 0 (i + 1) = vf at *
          generalize wkT k i y 0 = wy at *
          generalize wkT k i f 1 = wf at *
          generalize wkT 1 1 f 0 = w1 at *
          generalize wkT k (i + 1) f 0 = w2 at *
          generalize evT f false = x at *
          generalize rsv G H i (hgT b) = X at *
          generalize rsv G H (i + 1) (hgT f) = X' at *
          have g0 : Q * (wf + w1) ≤ Q * w2 := Nat.mul_le_mul_left _ wa
          have g1 : v * (X + G i) ≤ (vy + vf) * X' := Nat.mul_le_mul hm up
          have g5 : (vy + vf) * X' = vy * X' + vf * X' := Nat.add_mul _ _ _
          have st := wkg_step2 (P := P) (Q := Q) (v := v) (s := Q * wy + Q * (w2 + x) + su) (S := P * szT y + P * szT f) (X := X) (Y := X) hG hik hvi hvr (by simp only [Nat.mul_add] at bo g0 g1 ⊢; omega) (Nat.le_refl _)
          simp only [Nat.mul_add, Nat.mul_one] at st g0 ⊢
          omega
    exact ⟨fun _ => main, by omega⟩
theorem sug_chain : ∀ (F : Nat), okT F → isFo F → ∀ (pol : Bool) (i : Nat), ((List.range (scT F pol)).map (fun j => sI (i + j))).sum ≤ suG sI F pol i := by
  intro F
  induction F using Nat.strongRecOn with
  | ind F ih =>
    intro ho hf pol i
    have mx : ∀ (l : List Nat) (b : Bool), (∀ p ∈ l, ((List.range (scT p b)).map (fun j => sI (i + j))).sum ≤ suG sI p b i) → ((List.range ((l.map (fun c => scT c b)).foldl max 0)).map (fun j => sI (i + j))).sum ≤ (l.map (fun c => suG sI c b i)).sum := fun l b h => by
      rcases fmax_in (l.map (fun c => scT c b)) with q | q
      · rw [q]; exact Nat.zero_le _
      · obtain ⟨p, hp, e⟩ := List.mem_map.mp q
        rw [← e]
        exact Nat.le_trans (h p hp) (le_sum_mem (f := fun c => suG sI c b i) hp)
    by_cases k16 : kd F = 16
    · obtain ⟨f, hp, ff, kf, mf⟩ := ps_not1 ho k16
      rw [scT_eq, suG_eq]
      unfold scS suZ
      rw [if_pos k16, if_pos k16]
      refine mx (ps F) (!pol) (fun p hp' => ?_)
      rw [hp, List.mem_singleton] at hp'
      rw [hp']
      exact ih f (fms_lt mf) (ho.c mf) ff (!pol) i
    by_cases k17 : kd F = 17
    · have hl : ∀ f ∈ ps F, isFo f := by
        rcases ho.n.2 with q | q | q | q | q | q | q | q | q | q | q | q | q | q <;> first | omega | exact fun p hp => (q.2.2.2 p hp).1
      have mf : ∀ p ∈ ps F, p ∈ fms F := fun p hp => fms_mem hp (by omega) (isFo_pos (hl p hp))
      rw [scT_eq, suG_eq]
      unfold scS suZ
      rw [if_neg k16, if_neg k16, if_pos k17, if_pos k17]
      exact mx (ps F) pol (fun p hp => ih p (fms_lt (mf p hp)) (ho.c (mf p hp)) (hl p hp) pol i)
    by_cases k18 : kd F = 18 ∧ pol = false
    · obtain ⟨y, f, hp, y8, ff, my, mf⟩ := ps_all1 ho k18.1
      have es : scT F pol = scT f false + 1 := by rw [scT_eq]; unfold scS; rw [if_neg k16, if_neg k17, if_pos k18, hp]; simp; omega
      have eu : suG sI F pol i = sI i + suG sI f false (i + 1) := by rw [suG_eq]; unfold suZ; rw [if_neg k16, if_neg k17, if_pos k18, hp]; simp
      have h1 := ih f (fms_lt mf) (ho.c mf) ff false (i + 1)
      rw [es, eu, List.range_succ_eq_map, List.map_cons, List.sum_cons, List.map_map]
      have e3 : ((List.range (scT f false)).map ((fun j => sI (i + j)) ∘ Nat.succ)).sum = ((List.range (scT f false)).map (fun j => sI (i + 1 + j))).sum := by
        congr 1
        exact List.map_congr_left (fun j _ => by show sI (i + Nat.succ j) = _; rw [show i + Nat.succ j = i + 1 + j by omega])
      rw [e3]
      simp only [Nat.add_zero]
      omega
    · have es : scT F pol = 0 := by rw [scT_eq]; unfold scS; rw [if_neg k16, if_neg k17, if_neg k18]
      rw [es]; exact Nat.zero_le _
/-- all puts of an opening -/
theorem evg_le (hG : GQ k kr P Q G sI) (hk : k ≤ H) (hZ : Rv G k + G k * (H - k) ≤ Z) {F : Nat} (ho : okT F) (hf : isFo F) (hA : Alls (AtW k P Q Z) F) (hV : Alls (VnB kr) F) (pol : Bool) (hs : scT F pol ≤ k) (hH : hgT F ≤ H) : Q * evT F pol + P + ((List.range (scT F pol)).map (fun j => sI j)).sum ≤ P * szT F := by
  have h := (evg_fo hG hk hZ F ho hf hA hV pol 0 (by omega) (by omega)).2
  rw [wk_0, Nat.zero_add] at h
  have h1 := sug_chain (sI := sI) F ho hf pol 0
  simp only [Nat.zero_add] at h1
  omega
end OPG
