/-! counting openings: leaves speak of few opened binders, opened forms of more -/
/-- prices in what is not opened -/
def GL (kl P Q g : Nat) : Prop := ∀ v, v ≤ kl → 2 * Q * v ≤ g * v + 3 * P
/-- atoms and types of leaves pay for themselves -/
def AtL (k kl P Q Z : Nat) (A : Nat) : Prop := 8 ≤ kd A → kd A ≤ 14 → ∀ d i, i ≤ k → vnT A d i ≤ kl → Q * wkT k i A d + mvT k A d i * Z + P + (Q * mvT k A d i - P) ≤ P * szT A
/-- types of opened binders pay for themselves -/
def AtT (k P Q Y : Nat) (y : Nat) : Prop := kd y = 8 → ∀ i, i ≤ k → Q * wkT k i y 0 + mvT k y 0 i * Y + P ≤ P * szT y
def rsl (Y g H h : Nat) : Nat := Y + g * (H - h)
theorem rsl_mono {Y g H h h' : Nat} (hh : h' ≤ h) : rsl Y g H h ≤ rsl Y g H h' := by
  unfold rsl
  have : g * (H - h) ≤ g * (H - h') := Nat.mul_le_mul_left _ (by omega)
  omega
theorem rsl_up {Y g H h h' : Nat} (hh : h' + 1 ≤ h) (hH : h ≤ H) : rsl Y g H h + g ≤ rsl Y g H h' := by
  unfold rsl
  have h1 : g * (H - h + 1) ≤ g * (H - h') := Nat.mul_le_mul_left _ (by omega)
  rw [Nat.mul_add, Nat.mul_one] at h1
  omega
theorem rsl_top {Y g H h : Nat} : rsl Y g H h ≤ Y + g * H := by
  unfold rsl
  have : g * (H - h) ≤ g * H := Nat.mul_le_mul_left _ (by omega)
  omega
theorem vn_sh {s t d d' i : Nat} (h : ∀ r, r < i → hvT s (d + r) → hvT t (d' + r)) : vnT s d i ≤ vnT t d' i := by
  unfold vnT
  refine nd_lenL _ _ vn_nd (fun x hx => ?_)
  obtain ⟨q1, q2⟩ := vn_mem.mp hx
  exact vn_mem.mpr ⟨q1, h x q1 q2⟩
section OPC
variable {k ko kl P Q H Z Y g : Nat} {G sI : Nat → Nat}
theorem wkl_step {v s S X Y : Nat} (hG : GL kl P Q g) (hr : v ≤ kl) (hx : s + v * X + v * g + 2 * P ≤ S) (hY : Y ≤ X) : Q * v + s + v * Y + P + (Q * v - P) ≤ P + S := by
  have c1 := hG v hr
  have e1 : 2 * Q * v = Q * v + Q * v := by rw [Nat.mul_assoc, Nat.two_mul]
  have e2 : g * v = v * g := Nat.mul_comm _ _
  have e3 : v * Y ≤ v * X := Nat.mul_le_mul_left v hY
  omega
/-- THE COUNT for variables in what is not opened -/
theorem wkl_fo (hG : GL kl P Q g) (hZ : Y + g * H ≤ Z) : ∀ (b : Nat), okT b → isFo b → Alls (AtL k kl P Q Z) b → ∀ i d, i ≤ k → vnT b d i ≤ kl → hgT b ≤ H → (kd b ≠ 16 → Q * wkT k i b d + mvT k b d i * rsl Y g H (hgT b) + P + (Q * mvT k b d i - P) ≤ P * szT b) ∧ Q * wkT k i b d + mvT k b d i * rsl Y g H (hgT b) + P ≤ P * szT b := by
  intro b
  induction b using Nat.strongRecOn with
  | ind b ih =>
    intro ho hf hA i d hi hV hH
    have b0 := okT_0 ho
    have rt : ∀ h, rsl Y g H h ≤ Z := fun h => Nat.le_trans rsl_top hZ
    have atm : ∀ A, subT A b → 8 ≤ kd A → kd A ≤ 14 → ∀ h d, vnT A d i ≤ kl → Q * wkT k i A d + mvT k A d i * rsl Y g H h + P + (Q * mvT k A d i - P) ≤ P * szT A := fun A sA a8 a14 h d hv => by
      have h1 := hA A sA a8 a14 d i hi hv
      have h2 : mvT k A d i * rsl Y g H h ≤ mvT k A d i * Z := Nat.mul_le_mul_left _ (rt h)
      omega
    have vr : mvT k b d i ≤ kl := by unfold mvT; omega
    by_cases k14 : kd b ≤ 14
    · have h9 : 9 ≤ kd b := by unfold isFo at hf; omega
      have := atm b (sub_rf b) (by omega) k14 (hgT b) d hV
      exact ⟨fun _ => this, by omega⟩
    by_cases k16 : kd b = 16
    · obtain ⟨f, hp, ff, kf, mf⟩ := ps_not1 ho k16
      have of := ho.c mf
      have hh : hgT f ≤ hgT b := by have := hg_part (t := b) (by omega) (c := f) (by rw [hp]; simp); rw [if_pos k16] at this; exact this
      have ev : vnT b d i = vnT f d i := by
        have e1 : ∀ j, hvT b j ↔ hvT f j := fun j => by
          rw [hv_pl (by omega) (by omega)]
          have : fms b = [f] := by
            unfold fms
            rw [if_neg (by omega), hp]
            simp [okT_0 of]
          rw [this]
          simp
        exact Nat.le_antisymm (vn_mono (fun r hr hv => ⟨r, hr, (e1 _).mp hv, rfl⟩)) (vn_mono (fun r hr hv => ⟨r, hr, (e1 _).mpr hv, rfl⟩))
      have h1 := (ih f (fms_lt mf) of ff (hA.sub (sub_c mf (sub_rf f))) i d hi (by rw [← ev]; exact hV) (by omega)).1 kf
      have em : mvT k b d i = mvT k f d i := by unfold mvT; rw [ev]
      have ew : wkT k i b d = mvT k b d i + wkT k i f d := by
        rw [wk_eq]; unfold wkS; rw [if_neg k14, if_neg (by omega), hp]; simp
      have hs1 : szT b = 1 + szT f := by rw [sz_pl b0 (by omega), hp]; simp
      refine ⟨fun q => absurd k16 q, ?_⟩
      rw [ew, em, hs1]
      have g1 : mvT k f d i * rsl Y g H (hgT b) ≤ mvT k f d i * rsl Y g H (hgT f) := Nat.mul_le_mul_left _ (rsl_mono hh)
      generalize mvT k f d i = v at *
      simp only [Nat.mul_add, Nat.mul_one]
      omega
    have main : Q * wkT k i b d + mvT k b d i * rsl Y g H (hgT b) + P + (Q * mvT k b d i - P) ≤ P * szT b := by
      by_cases k17 : kd b = 17
      · have hl : 2 ≤ (ps b).length ∧ ∀ f ∈ ps b, isFo f ∧ kd f ≠ 17 ∧ f ≠ yesT ∧ f ≠ noT := by
          rcases ho.n.2 with q | q | q | q | q | q | q | q | q | q | q | q | q | q <;> first | omega | exact q.2.2
        have mf : ∀ p ∈ ps b, p ∈ fms b := fun p hp => fms_mem hp (by omega) (isFo_pos (hl.2 p hp).1)
        have efm : fms b = ps b := by
          unfold fms
          rw [if_neg (by omega)]
          exact List.filter_eq_self.mpr (fun c hc => by simpa using isFo_pos (hl.2 c hc).1)
        have hm := mv_pl (k := k) (d := d) (i := i) (t := b) (by omega) (by omega)
        rw [efm] at hm
        have up : ∀ p ∈ ps b, rsl Y g H (hgT b) + g ≤ rsl Y g H (hgT p) := fun p hp => by
          have hh := hg_part (t := b) (by omega) hp
          rw [if_neg k16] at hh
          exact rsl_up hh hH
        have li := wkg_li (Q := Q) (P := P) (F := fun p => wkT k i p d) (V := fun p => mvT k p d i) (U := fun _ => 0) (X := rsl Y g H (hgT b) + g) (l := ps b) (fun p hp => by
          have hh := hg_part (t := b) (by omega) hp
          rw [if_neg k16] at hh
          have hv : vnT p d i ≤ kl := Nat.le_trans (vn_mono (fun r hr hv => ⟨r, hr, (hv_pl (by omega) (by omega)).mpr ⟨p, mf p hp, hv⟩, rfl⟩)) hV
          have h2 := (ih p (fms_lt (mf p hp)) (ho.c (mf p hp)) (hl.2 p hp).1 (hA.sub (sub_c (mf p hp) (sub_rf p))) i d hi hv (by omega)).2
          have g1 : mvT k p d i * (rsl Y g H (hgT b) + g) ≤ mvT k p d i * rsl Y g H (hgT p) := Nat.mul_le_mul_left _ (up p hp)
          show Q * wkT k i p d + mvT k p d i * (rsl Y g H (hgT b) + g) + P + 0 ≤ P * szT p
          omega)
        have ew : wkT k i b d = mvT k b d i + ((ps b).map (fun c => wkT k i c d)).sum := by
          rw [wk_eq]; unfold wkS; rw [if_neg k14, if_neg (by omega)]
        have hvr := vr
        rw [ew, sz_pl b0 (by omega)]
        generalize mvT k b d i = v at *
        generalize ((ps b).map (fun c => wkT k i c d)).sum = S at *
        generalize ((ps b).map (fun c => mvT k c d i)).sum = V at *
        generalize ((ps b).map szT).sum = T at *
        generalize rsl Y g H (hgT b) = X at *
        have g1 : v * (X + g) ≤ V * (X + g) := Nat.mul_le_mul_right _ hm
        have g2 : P * 2 ≤ P * (ps b).length := Nat.mul_le_mul_left _ hl.1
        have st := wkl_step (P := P) (Q := Q) (v := v) (s := Q * S) (S := P * T) (X := X) (Y := X) hG hvr (by rw [Nat.mul_add] at g1; omega) (Nat.le_refl _)
        simp only [Nat.mul_add, Nat.mul_one]
        omega
      · have k18 : kd b = 18 := by unfold isFo at hf; omega
        obtain ⟨y, f, hp, y8, ff, my, mf⟩ := ps_all1 ho k18
        have of := ho.c mf
        have hhf := hg_part (t := b) (by omega) (c := f) (by rw [hp]; simp)
        rw [if_neg k16] at hhf
        have hvy : vnT y d i ≤ kl := Nat.le_trans (vn_mono (fun r hr hv => ⟨r, hr, (hv_all k18 hp).mpr (Or.inl hv), rfl⟩)) hV
        have hvf : vnT f (d + 1) i ≤ kl := Nat.le_trans (vn_sh (fun r hr hv => (hv_all k18 hp).mpr (Or.inr (by rw [show d + r + 1 = d + 1 + r by omega]; exact hv)))) hV
        have ty := atm y (sub_c my (sub_rf y)) (by omega) (by omega) (hgT f) d hvy
        have bo := (ih f (fms_lt mf) of ff (hA.sub (sub_c mf (sub_rf f))) i (d + 1) hi hvf (by omega)).2
        have ew : wkT k i b d = mvT k b d i + wkT k i y d + wkT k i f (d + 1) := by
          rw [wk_eq]; unfold wkS; rw [if_neg k14, if_pos k18, hp]; simp
        have hm : mvT k b d i ≤ mvT k y d i + mvT k f (d + 1) i := by
          have h1 : vnT b d i ≤ (([0, 1] : List Nat).map (fun c => ((List.range i).filter (fun r => @decide ((if c = 0 then hvT y (d + r) else hvT f (d + 1 + r))) (Classical.propDecidable _))).length)).sum := flt_or (q := fun c r => if c = 0 then hvT y (d + r) else hvT f (d + 1 + r)) [0, 1] (List.range i) (fun r _ h => by
            rcases (hv_all k18 hp).mp h with q | q
            · exact ⟨0, by simp, by rw [if_pos rfl]; exact q⟩
            · exact ⟨1, by simp, by rw [if_neg (by decide)]; rw [show d + 1 + r = d + r + 1 by omega]; exact q⟩)
          have h2 : vnT b d i ≤ vnT y d i + vnT f (d + 1) i := by simpa [vnT] using h1
          unfold mvT
          omega
        have hsz : szT b = 1 + (szT y + szT f) := by rw [sz_pl b0 (by omega), hp]; simp
        have hvr := vr
        have up := rsl_up (Y := Y) (g := g) (H := H) hhf hH
        rw [ew, hsz]
        generalize mvT k b d i = v at *
        generalize mvT k y d i = vy at *
        generalize mvT k f (d + 1) i = vf at *
        generalize wkT k i y d = wy at *
        generalize wkT k i f (d + 1) = wf at *
        generalize rsl Y g H (hgT b) = X at *
        generalize rsl Y g H (hgT f) = X' at *
        have g1 : v * (X + g) ≤ (vy + vf) * X' := Nat.mul_le_mul hm up
        have g5 : (vy + vf) * X' = vy * X' + vf * X' := Nat.add_mul _ _ _
        have st := wkl_step (P := P) (Q := Q) (v := v) (s := Q * wy + Q * wf) (S := P * szT y + P * szT f) (X := X) (Y := X) hG hvr (by rw [Nat.mul_add] at g1; omega) (Nat.le_refl _)
        simp only [Nat.mul_add, Nat.mul_one]
        omega
    exact ⟨fun _ => main, by omega⟩
end OPC
