/-! openings: credit that single units leave over -/
def wuS (w : Nat → Nat) (f : Nat → Nat) (t : Nat) : Nat := if kd t ≤ 14 then w t else ((ps t).map f).sum
/-- what the units of a formula leave over -/
def wuT (w : Nat → Nat) (t : Nat) : Nat := rcT (wuS w) 0 t
theorem wu_eq (w : Nat → Nat) (t : Nat) : wuT w t = wuS w (wuT w) t := by
  unfold wuT
  exact rc_eq (fun f f' t h => by
    unfold wuS
    have h1 : (ps t).map f = (ps t).map f' := List.map_congr_left fun c hc => h c hc
    rw [h1]) t
theorem wu_lo {w : Nat → Nat} {t : Nat} (h : kd t ≤ 14) : wuT w t = w t := by
  rw [wu_eq]; unfold wuS; rw [if_pos h]
theorem wu_hi {w : Nat → Nat} {t : Nat} (h : ¬ kd t ≤ 14) : wuT w t = ((ps t).map (wuT w)).sum := by
  rw [wu_eq]; unfold wuS; rw [if_neg h]
def AtLw (w : Nat → Nat) (k kl P Q Z : Nat) (A : Nat) : Prop := 8 ≤ kd A → kd A ≤ 14 → ∀ d i, i ≤ k → vnT A d i ≤ kl → Q * wkT k i A d + mvT k A d i * Z + P + (Q * mvT k A d i - P) + w A ≤ P * szT A
def AtAw (w : Nat → Nat) (k P Q Y : Nat) (s : Nat) : Prop := kd s = 18 → kd (pa s 0) = 8 → ∀ i, i < k → Q * wkT k i (pa s 0) 0 + mvT k (pa s 0) 0 i * Y + P + w (pa s 0) ≤ P * szT (pa s 0)
section OPC
variable {w : Nat → Nat} {k ko kl P Q H Z Y g : Nat} {G sI : Nat → Nat}
/-- THE COUNT for variables in what is not opened -/
theorem wklw_fo (hG : GL kl P Q g) (hZ : Y + g * H ≤ Z) : ∀ (b : Nat), okT b → isFo b → Alls (AtLw w k kl P Q Z) b → ∀ i d, i ≤ k → vnT b d i ≤ kl → hgT b ≤ H → (kd b ≠ 16 → Q * wkT k i b d + mvT k b d i * rsl Y g H (hgT b) + P + (Q * mvT k b d i - P) + wuT w b ≤ P * szT b) ∧ Q * wkT k i b d + mvT k b d i * rsl Y g H (hgT b) + P + wuT w b ≤ P * szT b := by
  intro b
  induction b using Nat.strongRecOn with
  | ind b ih =>
    intro ho hf hA i d hi hV hH
    have b0 := okT_0 ho
    have rt : ∀ h, rsl Y g H h ≤ Z := fun h => Nat.le_trans rsl_top hZ
    have atm : ∀ A, subT A b → 8 ≤ kd A → kd A ≤ 14 → ∀ h d, vnT A d i ≤ kl → Q * wkT k i A d + mvT k A d i * rsl Y g H h + P + (Q * mvT k A d i - P) + w A ≤ P * szT A := fun A sA a8 a14 h d hv => by
      have h1 := hA A sA a8 a14 d i hi hv
      have h2 : mvT k A d i * rsl Y g H h ≤ mvT k A d i * Z := Nat.mul_le_mul_left _ (rt h)
      omega
    have vr : mvT k b d i ≤ kl := by unfold mvT; omega
    by_cases k14 : kd b ≤ 14
    · have h9 : 9 ≤ kd b := by unfold isFo at hf; omega
      have := atm b (sub_rf b) (by omega) k14 (hgT b) d hV
      rw [wu_lo k14]
      exact ⟨fun _ => this, by omega⟩
    by_cases k16 : kd b = 16
    · obtain ⟨f, hp, ff, kf, mf⟩ := ps_not1 ho k16
      have of := ho.c mf
      have hh : hgT f ≤ hgT b := by have := hg_part (t := b) (by omega) (c := f) (by rw [hp]; simp); rw [if_pos k16] at this; exact this
      have ev : vnT b d i = vnT f d i := by
        have e1 : ∀ j, hvT b j ↔ hvT f j := fun j => by
          rw [hv_pl (by omega) (by omega)]
          have : fms b = [f] := by
            unfold fms
            rw [if_neg (by omega), hp]
            simp [okT_0 of]
          rw [this]
          simp
        exact Nat.le_antisymm (vn_mono (fun r hr hv => ⟨r, hr, (e1 _).mp hv, rfl⟩)) (vn_mono (fun r hr hv => ⟨r, hr, (e1 _).mpr hv, rfl⟩))
      have h1 := (ih f (fms_lt mf) of ff (hA.sub (sub_c mf (sub_rf f))) i d hi (by rw [← ev]; exact hV) (by omega)).1 kf
      have em : mvT k b d i = mvT k f d i := by unfold mvT; rw [ev]
      have ew : wkT k i b d = mvT k b d i + wkT k i f d := by
        rw [wk_eq]; unfold wkS; rw [if_neg k14, if_neg (by omega), hp]; simp
      have hs1 : szT b = 1 + szT f := by rw [sz_pl b0 (by omega), hp]; simp
      refine ⟨fun q => absurd k16 q, ?_⟩
      have ewu : wuT w b = wuT w f := by rw [wu_hi k14, hp]; simp
      rw [ew, em, hs1, ewu]
      have g1 : mvT k f d i * rsl Y g H (hgT b) ≤ mvT k f d i * rsl Y g H (hgT f) := Nat.mul_le_mul_left _ (rsl_mono hh)
      generalize mvT k f d i = v at *
      simp only [Nat.mul_add, Nat.mul_one]
      omega
    have main : Q * wkT k i b d + mvT k b d i * rsl Y g H (hgT b) + P + (Q * mvT k b d i - P) + wuT w b ≤ P * szT b := by
      by_cases k17 : kd b = 17
      · have hl : 2 ≤ (ps b).length ∧ ∀ f ∈ ps b, isFo f ∧ kd f ≠ 17 ∧ f ≠ yesT ∧ f ≠ noT := by
          rcases ho.n.2 with q | q | q | q | q | q | q | q | q | q | q | q | q | q <;> first | omega | exact q.2.2
        have mf : ∀ p ∈ ps b, p ∈ fms b := fun p hp => fms_mem hp (by omega) (isFo_pos (hl.2 p hp).1)
        have efm : fms b = ps b := by
          unfold fms
          rw [if_neg (by omega)]
          exact List.filter_eq_self.mpr (fun c hc => by simpa using isFo_pos (hl.2 c hc).1)
        have hm := mv_pl (k := k) (d := d) (i := i) (t := b) (by omega) (by omega)
        rw [efm] at hm
        have up : ∀ p ∈ ps b, rsl Y g H (hgT b) + g ≤ rsl Y g H (hgT p) := fun p hp => by
          have hh := hg_part (t := b) (by omega) hp
          rw [if_neg k16] at hh
          exact rsl_up hh hH
        have li := wkg_li (Q := Q) (P := P) (F := fun p => wkT k i p d) (V := fun p => mvT k p d i) (U := wuT w) (X := rsl Y g H (hgT b) + g) (l := ps b) (fun p hp => by
          have hh := hg_part (t := b) (by omega) hp
          rw [if_neg k16] at hh
          have hv : vnT p d i ≤ kl := Nat.le_trans (vn_mono (fun r hr hv => ⟨r, hr, (hv_pl (by omega) (by omega)).mpr ⟨p, mf p hp, hv⟩, rfl⟩)) hV
          have h2 := (ih p (fms_lt (mf p hp)) (ho.c (mf p hp)) (hl.2 p hp).1 (hA.sub (sub_c (mf p hp) (sub_rf p))) i d hi hv (by omega)).2
          have g1 : mvT k p d i * (rsl Y g H (hgT b) + g) ≤ mvT k p d i * rsl Y g H (hgT p) := Nat.mul_le_mul_left _ (up p hp)
          show Q * wkT k i p d + mvT k p d i * (rsl Y g H (hgT b) + g) + P + wuT w p ≤ P * szT p
          omega)
        have ew : wkT k i b d = mvT k b d i + ((ps b).map (fun c => wkT k i c d)).sum := by
          rw [wk_eq]; unfold wkS; rw [if_neg k14, if_neg (by omega)]
        have hvr := vr
        rw [ew, sz_pl b0 (by omega), wu_hi k14]
        generalize ((ps b).map (wuT w)).sum = wu at *
        generalize mvT k b d i = v at *
        generalize ((ps b).map (fun c => wkT k i c d)).sum = S at *
        generalize ((ps b).map (fun c => mvT k c d i)).sum = V at *
        generalize ((ps b).map szT).sum = T at *
        generalize rsl Y g H (hgT b) = X at *
        have g1 : v * (X + g) ≤ V * (X + g) := Nat.mul_le_mul_right _ hm
        have g2 : P * 2 ≤ P * (ps b).length := Nat.mul_le_mul_left _ hl.1
        have st := wkl_step (P := P) (Q := Q) (v := v) (s := Q * S + wu) (S := P * T) (X := X) (Y := X) hG hvr (by rw [Nat.mul_add] at g1; omega) (Nat.le_refl _)
        simp only [Nat.mul_add, Nat.mul_one]
        omega
      · have k18 : kd b = 18 := by unfold isFo at hf; omega
        obtain ⟨y, f, hp, y8, ff, my, mf⟩ := ps_all1 ho k18
        have of := ho.c mf
        have hhf := hg_part (t := b) (by omega) (c := f) (by rw [hp]; simp)
        rw [if_neg k16] at hhf
        have hvy : vnT y d i ≤ kl := Nat.le_trans (vn_mono (fun r hr hv => ⟨r, hr, (hv_all k18 hp).mpr (Or.inl hv), rfl⟩)) hV
        have hvf : vnT f (d + 1) i ≤ kl := Nat.le_trans (vn_sh (fun r hr hv => (hv_all k18 hp).mpr (Or.inr (by rw [show d + r + 1 = d + 1 + r by omega]; exact hv)))) hV
        have ty := atm y (sub_c my (sub_rf y)) (by omega) (by omega) (hgT f) d hvy
        have bo := (ih f (fms_lt mf) of ff (hA.sub (sub_c mf (sub_rf f))) i (d + 1) hi hvf (by omega)).2
        have ew : wkT k i b d = mvT k b d i + wkT k i y d + wkT k i f (d + 1) := by
          rw [wk_eq]; unfold wkS; rw [if_neg k14, if_pos k18, hp]; simp
        have hm : mvT k b d i ≤ mvT k y d i + mvT k f (d + 1) i := by
          have h1 : vnT b d i ≤ (([0, 1] : List Nat).map (fun c => ((List.range i).filter (fun r => @decide ((if c = 0 then hvT y (d + r) else hvT f (d + 1 + r))) (Classical.propDecidable _))).length)).sum := flt_or (q := fun c r => if c = 0 then hvT y (d + r) else hvT f (d + 1 + r)) [0, 1] (List.range i) (fun r _ h => by
            rcases (hv_all k18 hp).mp h with q | q
            · exact ⟨0, by simp, by rw [if_pos rfl]; exact q⟩
            · exact ⟨1, by simp, by rw [if_neg (by decide)]; rw [show d + 1 + r = d + r + 1 by omega]; exact q⟩)
          have h2 : vnT b d i ≤ vnT y d i + vnT f (d + 1) i := by simpa [vnT] using h1
          unfold mvT
          omega
        have hsz : szT b = 1 + (szT y + szT f) := by rw [sz_pl b0 (by omega), hp]; simp
        have hvr := vr
        have up := rsl_up (Y := Y) (g := g) (H := H) hhf hH
        have ewu : wuT w b = w y + wuT w f := by rw [wu_hi k14, hp]; simp; exact wu_lo (by omega)
        rw [ew, hsz, ewu]
        generalize wuT w f = wf2 at *
        generalize w y = wy2 at *
        generalize mvT k b d i = v at *
        generalize mvT k y d i = vy at *
        generalize mvT k f (d + 1) i = vf at *
        generalize wkT k i y d = wy at *
        generalize wkT k i f (d + 1) = wf at *
        generalize rsl Y g H (hgT b) = X at *
        generalize rsl Y g H (hgT f) = X' at *
        have g1 : v * (X + g) ≤ (vy + vf) * X' := Nat.mul_le_mul hm up
        have g5 : (vy + vf) * X' = vy * X' + vf * X' := Nat.add_mul _ _ _
        have st := wkl_step (P := P) (Q := Q) (v := v) (s := Q * wy + Q * wf + (wy2 + wf2)) (S := P * szT y + P * szT f) (X := X) (Y := X) hG hvr (by rw [Nat.mul_add] at g1; omega) (Nat.le_refl _)
        simp only [Nat.mul_add, Nat.mul_one]
        omega
    exact ⟨fun _ => main, by omega⟩
end OPC
section OPJ
variable {w : Nat → Nat} {k ko kl P Q H Y : Nat} {G sI : Nat → Nat}
/-- all puts of an opening, under i opened binders -/
theorem evqw_fo {Cd : Nat → Prop} (hO : ∀ b pol i, okT b → isFo b → Alls Cd b → lnN b pol i ≤ kl → vnT b 0 i ≤ ko) (hG : GQ k ko P Q G sI) (hk : k ≤ H) (hY : Rv G k + G k * (H - k) ≤ Y) : ∀ (b : Nat), okT b → isFo b → Alls (AtLw w k kl P Q Y) b → Alls (AtAw w k P Q Y) b → Alls Cd b → ∀ (pol : Bool) (i : Nat), i + scT b pol ≤ k → lnN b pol i + kpT b pol ≤ kl → hgT b + i ≤ H → (kd b ≠ 16 → Q * (wkT k i b 0 + evT b pol) + mvT k b 0 i * rsv G H i (hgT b) + P + (Q * mvT k b 0 i - P) + suG sI b pol i + wuT w b ≤ P * szT b) ∧ Q * (wkT k i b 0 + evT b pol) + mvT k b 0 i * rsv G H i (hgT b) + P + suG sI b pol i + wuT w b ≤ P * szT b := by
  intro b
  induction b using Nat.strongRecOn with
  | ind b ih =>
    intro ho hf hA hT hV pol i hsc hln hH
    have b0 := okT_0 ho
    have hi : i ≤ k := by omega
    have vr : mvT k b 0 i ≤ ko := by have := hO b pol i ho hf hV (by omega); unfold mvT; omega
    have vi : ∀ s d, mvT k s d i ≤ i := fun s d => by have := vn_i (s := s) (d := d) (i := i); unfold mvT; omega
    have lfc : kd b ≠ 16 → kd b ≠ 17 → ¬ (kd b = 18 ∧ pol = false) → (kd b ≠ 16 → Q * wkT k i b 0 + mvT k b 0 i * rsv G H i (hgT b) + P + (Q * mvT k b 0 i - P) + wuT w b ≤ P * szT b) ∧ Q * wkT k i b 0 + mvT k b 0 i * rsv G H i (hgT b) + P + wuT w b ≤ P * szT b := fun a1 a2 a3 => by
      have hv : vnT b 0 i ≤ kl := by
        have h1 : vnT b 0 i ≤ lnN b pol i := ln_leaf a1 a2 a3
        omega
      have hvk : vnT b 0 i ≤ min kl (min i ko) := by
        have h1 := vn_i (s := b) (d := 0) (i := i)
        have h2 := hO b pol i ho hf hV (by omega)
        omega
      have hGL : GL (min kl (min i ko)) P Q (G i) := fun v hv => hG.1 i hi v (by omega) (by omega)
      have hAk : Alls (AtLw w k (min kl (min i ko)) P Q Y) b := fun A sA a8 a14 d i' hi' hv' => hA A sA a8 a14 d i' hi' (by omega)
      have hZ' : rsv G H i (hgT b) + G i * hgT b ≤ Y := by
        have h1 := rsv_top (h := 0) hG hk (m := k - i) (i := i) (by omega)
        unfold rsv at h1 ⊢
        have e1 : G i * (H - i - hgT b) + G i * hgT b = G i * (H - i) := by rw [← Nat.mul_add]; congr 1; omega
        have e2 : G i * (H - i - 0) = G i * (H - i) := rfl
        omega
      have h2 := wklw_fo (k := k) (Z := Y) (Y := rsv G H i (hgT b)) (H := hgT b) hGL hZ' b ho hf hAk i 0 hi hvk (Nat.le_refl _)
      have h3 : rsl (rsv G H i (hgT b)) (G i) (hgT b) (hgT b) = rsv G H i (hgT b) := by unfold rsl; rw [Nat.sub_self, Nat.mul_zero, Nat.add_zero]
      rw [h3] at h2
      exact ⟨fun z => by have := h2.1 z; omega, by omega⟩
    by_cases k14 : kd b ≤ 14
    · have e0 : evT b pol = 0 := by
        rw [ev_eq]; unfold evS
        rw [if_neg (by omega), if_neg (by omega), if_neg (fun q => by have := q.1; omega)]
      have s0 : suG sI b pol i = 0 := by
        rw [suG_eq]; unfold suZ
        rw [if_neg (by omega), if_neg (by omega), if_neg (fun q => by have := q.1; omega)]
      rw [e0, s0, Nat.add_zero, Nat.add_zero, Nat.add_zero]
      exact lfc (by omega) (by omega) (by omega)
    by_cases k16 : kd b = 16
    · obtain ⟨f, hp, ff, kf, mf⟩ := ps_not1 ho k16
      have of := ho.c mf
      have hh : hgT f ≤ hgT b := by have := hg_part (t := b) (by omega) (c := f) (by rw [hp]; simp); rw [if_pos k16] at this; exact this
      have es : scT b pol = scT f (!pol) := by rw [scT_eq]; unfold scS; rw [if_pos k16, hp]; simp
      have ee : evT b pol = evT f (!pol) := by rw [ev_eq]; unfold evS; rw [if_pos k16, hp]; simp
      have eu : suG sI b pol i = suG sI f (!pol) i := by rw [suG_eq]; unfold suZ; rw [if_pos k16, hp]; simp
      have h1 := (ih f (fms_lt mf) of ff (hA.sub (sub_c mf (sub_rf f))) (hT.sub (sub_c mf (sub_rf f))) (hV.sub (sub_c mf (sub_rf f))) (!pol) i (by rw [← es]; exact hsc) (by have := ln_not (pol := pol) (i := i) k16 hp; omega) (by omega)).1 kf
      have ev : vnT b 0 i = vnT f 0 i := by
        have e1 : ∀ j, hvT b j ↔ hvT f j := fun j => by
          rw [hv_pl (by omega) (by omega)]
          have : fms b = [f] := by
            unfold fms
            rw [if_neg (by omega), hp]
            simp [okT_0 of]
          rw [this]
          simp
        exact Nat.le_antisymm (vn_mono (fun r hr hv => ⟨r, hr, (e1 _).mp hv, rfl⟩)) (vn_mono (fun r hr hv => ⟨r, hr, (e1 _).mpr hv, rfl⟩))
      have em : mvT k b 0 i = mvT k f 0 i := by unfold mvT; rw [ev]
      have ew : wkT k i b 0 = mvT k b 0 i + wkT k i f 0 := by
        rw [wk_eq]; unfold wkS; rw [if_neg k14, if_neg (by omega), hp]; simp
      have hs1 : szT b = 1 + szT f := by rw [sz_pl b0 (by omega), hp]; simp
      refine ⟨fun q => absurd k16 q, ?_⟩
      have ewu : wuT w b = wuT w f := by rw [wu_hi k14, hp]; simp
      rw [ew, em, hs1, ee, eu, ewu]
      generalize wuT w f = wu at *
      have g1 : mvT k f 0 i * rsv G H i (hgT b) ≤ mvT k f 0 i * rsv G H i (hgT f) := Nat.mul_le_mul_left _ (rsv_mono hh)
      generalize suG sI f (!pol) i = su at *
      generalize mvT k f 0 i = v at *
      generalize wkT k i f 0 = w at *
      generalize evT f (!pol) = x at *
      simp only [Nat.mul_add, Nat.mul_one] at h1 ⊢
      omega
    have main : Q * (wkT k i b 0 + evT b pol) + mvT k b 0 i * rsv G H i (hgT b) + P + (Q * mvT k b 0 i - P) + suG sI b pol i + wuT w b ≤ P * szT b := by
      by_cases k17 : kd b = 17
      · have hl : 2 ≤ (ps b).length ∧ ∀ f ∈ ps b, isFo f ∧ kd f ≠ 17 ∧ f ≠ yesT ∧ f ≠ noT := by
          rcases ho.n.2 with q | q | q | q | q | q | q | q | q | q | q | q | q | q <;> first | omega | exact q.2.2
        have mf : ∀ p ∈ ps b, p ∈ fms b := fun p hp => fms_mem hp (by omega) (isFo_pos (hl.2 p hp).1)
        have efm : fms b = ps b := by
          unfold fms
          rw [if_neg (by omega)]
          exact List.filter_eq_self.mpr (fun c hc => by simpa using isFo_pos (hl.2 c hc).1)
        have hm := mv_pl (k := k) (d := 0) (i := i) (t := b) (by omega) (by omega)
        rw [efm] at hm
        have esc : ∀ p ∈ ps b, scT p pol ≤ scT b pol := fun p hp => by
          rw [scT_eq b]; unfold scS; rw [if_neg k16, if_pos k17]
          exact le_fmax (Or.inl (List.mem_map.mpr ⟨p, hp, rfl⟩))
        have li := wkg_li (Q := Q) (P := P) (F := fun p => wkT k i p 0 + evT p pol) (V := fun p => mvT k p 0 i) (U := fun p => suG sI p pol i + wuT w p) (X := rsv G H i (hgT b) + G i) (l := ps b) (fun p hp => by
          have hh := hg_part (t := b) (by omega) hp
          rw [if_neg k16] at hh
          have hs := esc p hp
          have h2 := (ih p (fms_lt (mf p hp)) (ho.c (mf p hp)) (hl.2 p hp).1 (hA.sub (sub_c (mf p hp) (sub_rf p))) (hT.sub (sub_c (mf p hp) (sub_rf p))) (hV.sub (sub_c (mf p hp) (sub_rf p))) pol i (by omega) (by have := ln_and (pol := pol) (i := i) k17 hp; omega) (by omega)).2
          have g1 : mvT k p 0 i * (rsv G H i (hgT b) + G i) ≤ mvT k p 0 i * rsv G H i (hgT p) := Nat.mul_le_mul_left _ (rsv_up hh hH)
          show Q * (wkT k i p 0 + evT p pol) + mvT k p 0 i * (rsv G H i (hgT b) + G i) + P + (suG sI p pol i + wuT w p) ≤ P * szT p
          omega)
        have ew : wkT k i b 0 = mvT k b 0 i + ((ps b).map (fun c => wkT k i c 0)).sum := by
          rw [wk_eq]; unfold wkS; rw [if_neg k14, if_neg (by omega)]
        have ee : evT b pol = ((ps b).map (fun c => evT c pol)).sum := by rw [ev_eq]; unfold evS; rw [if_neg k16, if_pos k17]
        have eu : suG sI b pol i = ((ps b).map (fun c => suG sI c pol i)).sum := by rw [suG_eq]; unfold suZ; rw [if_neg k16, if_pos k17]
        have es : ((ps b).map (fun p => wkT k i p 0 + evT p pol)).sum = ((ps b).map (fun c => wkT k i c 0)).sum + ((ps b).map (fun c => evT c pol)).sum := sum_map_add _
        have hvi := vi b 0
        have hvr := vr
        have es2 : ((ps b).map (fun p => suG sI p pol i + wuT w p)).sum = ((ps b).map (fun c => suG sI c pol i)).sum + ((ps b).map (wuT w)).sum := sum_map_add _
        rw [es, es2] at li
        rw [ew, ee, eu, sz_pl b0 (by omega), wu_hi k14]
        generalize ((ps b).map (wuT w)).sum = wu at *
        generalize ((ps b).map (fun c => suG sI c pol i)).sum = su at *
        generalize mvT k b 0 i = v at *
        generalize ((ps b).map (fun c => wkT k i c 0)).sum = S at *
        generalize ((ps b).map (fun c => evT c pol)).sum = S2 at *
        generalize ((ps b).map (fun c => mvT k c 0 i)).sum = V at *
        generalize ((ps b).map szT).sum = T at *
        generalize rsv G H i (hgT b) = X at *
        have g1 : v * (X + G i) ≤ V * (X + G i) := Nat.mul_le_mul_right _ hm
        have g2 : P * 2 ≤ P * (ps b).length := Nat.mul_le_mul_left _ hl.1
        have st := wkg_step (P := P) (Q := Q) (v := v) (s := Q * (S + S2) + su + wu) (S := P * T) (X := X) (Y := X) hG hi hvi hvr (by rw [Nat.mul_add] at g1; omega) (Nat.le_refl _)
        simp only [Nat.mul_add, Nat.mul_one] at st ⊢
        omega
      · have k18 : kd b = 18 := by unfold isFo at hf; omega
        cases pol with
        | true =>
          have e0 : evT b true = 0 := by
            rw [ev_eq]; unfold evS
            rw [if_neg k16, if_neg k17, if_neg (fun q => by cases q.2)]
          have s0 : suG sI b true i = 0 := by
            rw [suG_eq]; unfold suZ
            rw [if_neg k16, if_neg k17, if_neg (fun q => by cases q.2)]
          rw [e0, s0, Nat.add_zero, Nat.add_zero]
          exact (lfc k16 k17 (fun q => by cases q.2)).1 k16
        | false =>
          obtain ⟨y, f, hp, y8, ff, my, mf⟩ := ps_all1 ho k18
          have of := ho.c mf
          have hhf := hg_part (t := b) (by omega) (c := f) (by rw [hp]; simp)
          rw [if_neg k16] at hhf
          have es : scT b false = 1 + scT f false := by rw [scT_eq]; unfold scS; rw [if_neg k16, if_neg k17, if_pos ⟨k18, rfl⟩, hp]; simp
          have hik : i < k := by omega
          have ee : evT b false = wkT 1 1 f 0 + evT f false := by rw [ev_eq]; unfold evS; rw [if_neg k16, if_neg k17, if_pos ⟨k18, rfl⟩, hp]; simp
          have eu : suG sI b false i = sI i + suG sI f false (i + 1) := by rw [suG_eq]; unfold suZ; rw [if_neg k16, if_neg k17, if_pos ⟨k18, rfl⟩, hp]; simp
          have hvi := vi b 0
          have hvr := vr
          have rt : rsv G H (i + 1) (hgT f) ≤ Y := Nat.le_trans (rsv_top hG hk (m := k - (i + 1)) (i := i + 1) (by omega)) hY
          have ty : Q * wkT k i y 0 + mvT k y 0 i * rsv G H (i + 1) (hgT f) + P + w y ≤ P * szT y := by
            have h1 : Q * wkT k i y 0 + mvT k y 0 i * Y + P + w y ≤ P * szT y := by
              have ey : pa b 0 = y := by unfold pa; rw [hp]; rfl
              have := hT b (sub_rf b) k18
              rw [ey] at this
              exact this y8 i hik
            have h2 : mvT k y 0 i * rsv G H (i + 1) (hgT f) ≤ mvT k y 0 i * Y := Nat.mul_le_mul_left _ rt
            omega
          have bo := (ih f (fms_lt mf) of ff (hA.sub (sub_c mf (sub_rf f))) (hT.sub (sub_c mf (sub_rf f))) (hV.sub (sub_c mf (sub_rf f))) false (i + 1) (by omega) (by have := ln_all (i := i) k18 hp; omega) (by omega)).2
          have wa := wk_add (k := k) (i := i) (by omega) f 0
          have ew : wkT k i b 0 = mvT k b 0 i + wkT k i y 0 + wkT k i f 1 := by
            rw [wk_eq]; unfold wkS; rw [if_neg k14, if_pos k18, hp]; simp
          have hm : mvT k b 0 i ≤ mvT k y 0 i + mvT k f 0 (i + 1) := by
            have h1 : vnT b 0 i ≤ (([0, 1] : List Nat).map (fun c => ((List.range i).filter (fun r => @decide ((if c = 0 then hvT y (0 + r) else hvT f (1 + r))) (Classical.propDecidable _))).length)).sum := flt_or (q := fun c r => if c = 0 then hvT y (0 + r) else hvT f (1 + r)) [0, 1] (List.range i) (fun r _ h => by
              rcases (hv_all k18 hp).mp h with q | q
              · exact ⟨0, by simp, by rw [if_pos rfl]; exact q⟩
              · exact ⟨1, by simp, by rw [if_neg (by decide)]; rw [show 1 + r = 0 + r + 1 by omega]; exact q⟩)
            have h2 : vnT b 0 i ≤ vnT y 0 i + vnT f 1 i := by simpa [vnT] using h1
            have h3 := vn_s (s := f) (d := 0) (i := i)
            have h4 : vnT f (0 + 1) i = vnT f 1 i := rfl
            unfold mvT
            omega
          have hsz : szT b = 1 + (szT y + szT f) := by rw [sz_pl b0 (by omega), hp]; simp
          have wa : wkT k i f 1 + wkT 1 1 f 0 ≤ wkT k (i + 1) f 0 := wa
          have up := rsv_in (H := H) hG hik hhf hH
          have ewu : wuT w b = w y + wuT w f := by rw [wu_hi k14, hp]; simp; exact wu_lo (by omega)
          rw [ew, ee, eu, hsz, ewu]
          generalize wuT w f = wf2 at *
          generalize w y = wy2 at *
          generalize suG sI f false (i + 1) = su at *
          generalize mvT k b 0 i = v at *
          generalize mvT k y 0 i = vy at *
          generalize mvT k f 0 (i + 1) = vf at *
          generalize wkT k i y 0 = wy at *
          generalize wkT k i f 1 = wf at *
          generalize wkT 1 1 f 0 = w1 at *
          generalize wkT k (i + 1) f 0 = w2 at *
          generalize evT f false = x at *
          generalize rsv G H i (hgT b) = X at *
          generalize rsv G H (i + 1) (hgT f) = X' at *
          have g0 : Q * (wf + w1) ≤ Q * w2 := Nat.mul_le_mul_left _ wa
          have g1 : v * (X + G i) ≤ (vy + vf) * X' := Nat.mul_le_mul hm up
          have g5 : (vy + vf) * X' = vy * X' + vf * X' := Nat.add_mul _ _ _
          have st := wkg_step2 (P := P) (Q := Q) (v := v) (s := Q * wy + Q * (w2 + x) + su + (wy2 + wf2)) (S := P * szT y + P * szT f) (X := X) (Y := X) hG hik hvi hvr (by simp only [Nat.mul_add] at bo g0 g1 ⊢; omega) (Nat.le_refl _)
          simp only [Nat.mul_add, Nat.mul_one] at st g0 ⊢
          omega
    exact ⟨fun _ => main, by omega⟩
/-- all puts of an opening -/
theorem evqw_le {Cd : Nat → Prop} (hO : ∀ b pol i, okT b → isFo b → Alls Cd b → lnN b pol i ≤ kl → vnT b 0 i ≤ ko) (hG : GQ k ko P Q G sI) (hk : k ≤ H) (hY : Rv G k + G k * (H - k) ≤ Y) {F : Nat} (ho : okT F) (hf : isFo F) (hA : Alls (AtLw w k kl P Q Y) F) (hT : Alls (AtAw w k P Q Y) F) (hV : Alls Cd F) (pol : Bool) (hs : scT F pol ≤ k) (hl : kpT F pol ≤ kl) (hH : hgT F ≤ H) : Q * evT F pol + P + suG sI F pol 0 + wuT w F ≤ P * szT F := by
  have h0 : lnN F pol 0 = 0 := rfl
  have h := (evqw_fo hO hG hk hY F ho hf hA hT hV pol 0 (by omega) (by omega) (by omega)).2
  rw [wk_0, Nat.zero_add] at h
  omega
end OPJ
section OPH
variable {w : Nat → Nat} {k ko kl P Q H Y Z : Nat} {G sI U V : Nat → Nat}
theorem evhw_fo {Cd : Nat → Prop} (hO : ∀ b pol i, okT b → isFo b → Alls Cd b → lnN b pol i ≤ kl → vnT b 0 i ≤ ko) (hG : GQ k ko P Q G sI) (hU : ∀ i, i ≤ k → V i + G i ≤ U i) (hW : ∀ i, i < k → U i + G i ≤ V (i + 1)) (hY : V k ≤ Y) (hZ : ∀ i, i ≤ k → U i + G i * H ≤ Z) : ∀ (b : Nat), okT b → isFo b → Alls (AtLw w k kl P Q Z) b → Alls (AtAw w k P Q Y) b → Alls Cd b → ∀ (pol : Bool) (i : Nat), i + scT b pol ≤ k → lnN b pol i + kpT b pol ≤ kl → hgT b ≤ H → kaT b pol ≤ 1 → (kd b ≠ 16 → Q * (wkT k i b 0 + evT b pol) + mvT k b 0 i * prS U V b pol i + P + (Q * mvT k b 0 i - P) + suG sI b pol i + wuT w b ≤ P * szT b) ∧ Q * (wkT k i b 0 + evT b pol) + mvT k b 0 i * prS U V b pol i + P + suG sI b pol i + wuT w b ≤ P * szT b := by
  have vmono : ∀ m i, i + m ≤ k → V i ≤ V (i + m) := by
    intro m
    induction m with
    | zero => intro i _; exact Nat.le_refl _
    | succ m ihm =>
      intro i hi
      have h1 := ihm i (by omega)
      have h2 := hU (i + m) (by omega)
      have h3 := hW (i + m) (by omega)
      rw [show i + (m + 1) = i + m + 1 by omega]
      omega
  intro b
  induction b using Nat.strongRecOn with
  | ind b ih =>
    intro ho hf hA hT hV pol i hsc hln hH hka
    have b0 := okT_0 ho
    have hi : i ≤ k := by omega
    have vr : mvT k b 0 i ≤ ko := by have := hO b pol i ho hf hV (by omega); unfold mvT; omega
    have vi : ∀ s d, mvT k s d i ≤ i := fun s d => by have := vn_i (s := s) (d := d) (i := i); unfold mvT; omega
    have lfc : kd b ≠ 16 → kd b ≠ 17 → ¬ (kd b = 18 ∧ pol = false) → (kd b ≠ 16 → Q * wkT k i b 0 + mvT k b 0 i * prS U V b pol i + P + (Q * mvT k b 0 i - P) + wuT w b ≤ P * szT b) ∧ Q * wkT k i b 0 + mvT k b 0 i * prS U V b pol i + P + wuT w b ≤ P * szT b := fun a1 a2 a3 => by
      have hvk : vnT b 0 i ≤ min kl (min i ko) := by
        have h0 : vnT b 0 i ≤ lnN b pol i := ln_leaf a1 a2 a3
        have h1 := vn_i (s := b) (d := 0) (i := i)
        have h2 := hO b pol i ho hf hV (by omega)
        omega
      have hGL : GL (min kl (min i ko)) P Q (G i) := fun v hv => hG.1 i hi v (by omega) (by omega)
      have hAk : Alls (AtLw w k (min kl (min i ko)) P Q Z) b := fun A sA a8 a14 d i' hi' hv' => hA A sA a8 a14 d i' hi' (by omega)
      have hZ' : U i + G i * hgT b ≤ Z := by
        have h1 := hZ i hi
        have h2 : G i * hgT b ≤ G i * H := Nat.mul_le_mul_left _ hH
        omega
      have h2 := wklw_fo (k := k) (Z := Z) (Y := U i) (H := hgT b) hGL hZ' b ho hf hAk i 0 hi hvk (Nat.le_refl _)
      have h3 : rsl (U i) (G i) (hgT b) (hgT b) = U i := by unfold rsl; rw [Nat.sub_self, Nat.mul_zero, Nat.add_zero]
      rw [h3] at h2
      have h4 : prS U V b pol i = U i := by unfold prS; rw [if_neg (fun q => q.elim (fun w => a2 w.2) (fun w => a1 w.2.1))]
      rw [h4]
      exact ⟨fun z => by have := h2.1 z; omega, by omega⟩
    by_cases k14 : kd b ≤ 14
    · have e0 : evT b pol = 0 := by
        rw [ev_eq]; unfold evS
        rw [if_neg (by omega), if_neg (by omega), if_neg (fun q => by have := q.1; omega)]
      have s0 : suG sI b pol i = 0 := by
        rw [suG_eq]; unfold suZ
        rw [if_neg (by omega), if_neg (by omega), if_neg (fun q => by have := q.1; omega)]
      rw [e0, s0, Nat.add_zero, Nat.add_zero, Nat.add_zero]
      exact lfc (by omega) (by omega) (by omega)
    by_cases k16 : kd b = 16
    · obtain ⟨f, hp, ff, kf, mf⟩ := ps_not1 ho k16
      have of := ho.c mf
      have hh : hgT f ≤ hgT b := by have := hg_part (t := b) (by omega) (c := f) (by rw [hp]; simp); rw [if_pos k16] at this; exact this
      have ek : kaT b pol = kaT f (!pol) := by rw [kaT_eq]; unfold kaS; rw [if_pos k16, hp]; simp [prN1]
      have epa : pa b 0 = f := by unfold pa; rw [hp]; rfl
      have epr : prS U V b pol i = prS U V f (!pol) i := by
        unfold prS
        rw [epa]
        cases pol
        · by_cases kf17 : kd f = 17
          · rw [if_pos (Or.inr ⟨rfl, k16, kf17⟩), if_pos (Or.inl ⟨rfl, kf17⟩)]
          · rw [if_neg (by simp [kf17]), if_neg (by simp [kf17])]
        · rw [if_neg (by simp [k16]), if_neg (by simp [kf])]
      have es : scT b pol = scT f (!pol) := by rw [scT_eq]; unfold scS; rw [if_pos k16, hp]; simp
      have ee : evT b pol = evT f (!pol) := by rw [ev_eq]; unfold evS; rw [if_pos k16, hp]; simp
      have eu : suG sI b pol i = suG sI f (!pol) i := by rw [suG_eq]; unfold suZ; rw [if_pos k16, hp]; simp
      have h1 := (ih f (fms_lt mf) of ff (hA.sub (sub_c mf (sub_rf f))) (hT.sub (sub_c mf (sub_rf f))) (hV.sub (sub_c mf (sub_rf f))) (!pol) i (by rw [← es]; exact hsc) (by have := ln_not (pol := pol) (i := i) k16 hp; omega) (by omega) (by omega)).1 kf
      have ev : vnT b 0 i = vnT f 0 i := by
        have e1 : ∀ j, hvT b j ↔ hvT f j := fun j => by
          rw [hv_pl (by omega) (by omega)]
          have : fms b = [f] := by
            unfold fms
            rw [if_neg (by omega), hp]
            simp [okT_0 of]
          rw [this]
          simp
        exact Nat.le_antisymm (vn_mono (fun r hr hv => ⟨r, hr, (e1 _).mp hv, rfl⟩)) (vn_mono (fun r hr hv => ⟨r, hr, (e1 _).mpr hv, rfl⟩))
      have em : mvT k b 0 i = mvT k f 0 i := by unfold mvT; rw [ev]
      have ew : wkT k i b 0 = mvT k b 0 i + wkT k i f 0 := by
        rw [wk_eq]; unfold wkS; rw [if_neg k14, if_neg (by omega), hp]; simp
      have hs1 : szT b = 1 + szT f := by rw [sz_pl b0 (by omega), hp]; simp
      refine ⟨fun q => absurd k16 q, ?_⟩
      have ewu : wuT w b = wuT w f := by rw [wu_hi k14, hp]; simp
      rw [ew, em, hs1, ee, eu, epr, ewu]
      generalize wuT w f = wu at *
      generalize mvT k f 0 i * prS U V f (!pol) i = vX at *
      generalize suG sI f (!pol) i = su at *
      generalize mvT k f 0 i = v at *
      generalize wkT k i f 0 = w at *
      generalize evT f (!pol) = x at *
      simp only [Nat.mul_add, Nat.mul_one] at h1 ⊢
      omega
    have main : Q * (wkT k i b 0 + evT b pol) + mvT k b 0 i * prS U V b pol i + P + (Q * mvT k b 0 i - P) + suG sI b pol i + wuT w b ≤ P * szT b := by
      by_cases k17 : kd b = 17
      · have hl : 2 ≤ (ps b).length ∧ ∀ f ∈ ps b, isFo f ∧ kd f ≠ 17 ∧ f ≠ yesT ∧ f ≠ noT := by
          rcases ho.n.2 with q | q | q | q | q | q | q | q | q | q | q | q | q | q <;> first | omega | exact q.2.2
        have mf : ∀ p ∈ ps b, p ∈ fms b := fun p hp => fms_mem hp (by omega) (isFo_pos (hl.2 p hp).1)
        have kpos : ∀ q p, p ∈ ps b → 1 ≤ kaT p q := fun q p hp => ka_pos p (ho.c (mf p hp)) (hl.2 p hp).1 q
        have hpt : pol = true := by
          cases pol with
          | true => rfl
          | false =>
            exfalso
            have e1 : kaT b false = ((ps b).map (fun c => kaT c false)).sum := by rw [kaT_eq]; unfold kaS; rw [if_neg k16, if_pos k17]; simp
            have h2 : ∀ l : List Nat, (∀ p ∈ l, p ∈ ps b) → l.length ≤ (l.map (fun c => kaT c false)).sum := by
              intro l
              induction l with
              | nil => intro _; exact Nat.zero_le _
              | cons a l ihl =>
                intro hl'
                have := ihl (fun p hp => hl' p (List.mem_cons_of_mem _ hp))
                have := kpos false a (hl' a List.mem_cons_self)
                rw [List.length_cons, List.map_cons, List.sum_cons]
                omega
            have := h2 (ps b) (fun p hp => hp)
            have := hl.1
            omega
        have kone : ∀ p ∈ ps b, kaT p pol ≤ 1 := fun p hp => by
          rw [hpt] at hka ⊢
          have e1 : kaT b true = prN1 ((ps b).map (fun c => kaT c true)) := by rw [kaT_eq]; unfold kaS; rw [if_neg k16, if_pos k17]; simp
          rw [e1] at hka
          exact prN1_one (fun x hx => by
            obtain ⟨c, hc, e⟩ := List.mem_map.mp hx
            rw [← e]; exact kpos true c hc) hka _ (List.mem_map.mpr ⟨p, hp, rfl⟩)
        have eb : prS U V b pol i = V i := by unfold prS; rw [if_pos (Or.inl ⟨hpt, k17⟩)]
        have ep : ∀ p ∈ ps b, prS U V p pol i = U i := fun p hp => by unfold prS; rw [if_neg (by rw [hpt]; simp [(hl.2 p hp).2.1])]
        have efm : fms b = ps b := by
          unfold fms
          rw [if_neg (by omega)]
          exact List.filter_eq_self.mpr (fun c hc => by simpa using isFo_pos (hl.2 c hc).1)
        have hm := mv_pl (k := k) (d := 0) (i := i) (t := b) (by omega) (by omega)
        rw [efm] at hm
        have esc : ∀ p ∈ ps b, scT p pol ≤ scT b pol := fun p hp => by
          rw [scT_eq b]; unfold scS; rw [if_neg k16, if_pos k17]
          exact le_fmax (Or.inl (List.mem_map.mpr ⟨p, hp, rfl⟩))
        have li := wkg_li (Q := Q) (P := P) (F := fun p => wkT k i p 0 + evT p pol) (V := fun p => mvT k p 0 i) (U := fun p => suG sI p pol i + wuT w p) (X := V i + G i) (l := ps b) (fun p hp => by
          have hh := hg_part (t := b) (by omega) hp
          rw [if_neg k16] at hh
          have hs := esc p hp
          have h2 := (ih p (fms_lt (mf p hp)) (ho.c (mf p hp)) (hl.2 p hp).1 (hA.sub (sub_c (mf p hp) (sub_rf p))) (hT.sub (sub_c (mf p hp) (sub_rf p))) (hV.sub (sub_c (mf p hp) (sub_rf p))) pol i (by omega) (by have := ln_and (pol := pol) (i := i) k17 hp; omega) (by omega) (kone p hp)).2
          rw [ep p hp] at h2
          have g1 : mvT k p 0 i * (V i + G i) ≤ mvT k p 0 i * U i := Nat.mul_le_mul_left _ (hU i hi)
          show Q * (wkT k i p 0 + evT p pol) + mvT k p 0 i * (V i + G i) + P + (suG sI p pol i + wuT w p) ≤ P * szT p
          omega)
        have ew : wkT k i b 0 = mvT k b 0 i + ((ps b).map (fun c => wkT k i c 0)).sum := by
          rw [wk_eq]; unfold wkS; rw [if_neg k14, if_neg (by omega)]
        have ee : evT b pol = ((ps b).map (fun c => evT c pol)).sum := by rw [ev_eq]; unfold evS; rw [if_neg k16, if_pos k17]
        have eu : suG sI b pol i = ((ps b).map (fun c => suG sI c pol i)).sum := by rw [suG_eq]; unfold suZ; rw [if_neg k16, if_pos k17]
        have es : ((ps b).map (fun p => wkT k i p 0 + evT p pol)).sum = ((ps b).map (fun c => wkT k i c 0)).sum + ((ps b).map (fun c => evT c pol)).sum := sum_map_add _
        have hvi := vi b 0
        have hvr := vr
        have es2 : ((ps b).map (fun p => suG sI p pol i + wuT w p)).sum = ((ps b).map (fun c => suG sI c pol i)).sum + ((ps b).map (wuT w)).sum := sum_map_add _
        rw [es, es2] at li
        rw [ew, ee, eu, eb, sz_pl b0 (by omega), wu_hi k14]
        generalize ((ps b).map (wuT w)).sum = wu at *
        generalize ((ps b).map (fun c => suG sI c pol i)).sum = su at *
        generalize mvT k b 0 i = v at *
        generalize ((ps b).map (fun c => wkT k i c 0)).sum = S at *
        generalize ((ps b).map (fun c => evT c pol)).sum = S2 at *
        generalize ((ps b).map (fun c => mvT k c 0 i)).sum = VV at *
        generalize ((ps b).map szT).sum = T at *
        generalize V i = X at *
        have g1 : v * (X + G i) ≤ VV * (X + G i) := Nat.mul_le_mul_right _ hm
        have g2 : P * 2 ≤ P * (ps b).length := Nat.mul_le_mul_left _ hl.1
        have st := wkg_step (P := P) (Q := Q) (v := v) (s := Q * (S + S2) + su + wu) (S := P * T) (X := X) (Y := X) hG hi hvi hvr (by rw [Nat.mul_add] at g1; omega) (Nat.le_refl _)
        simp only [Nat.mul_add, Nat.mul_one] at st ⊢
        omega
      · have k18 : kd b = 18 := by unfold isFo at hf; omega
        cases pol with
        | true =>
          have e0 : evT b true = 0 := by
            rw [ev_eq]; unfold evS
            rw [if_neg k16, if_neg k17, if_neg (fun q => by cases q.2)]
          have s0 : suG sI b true i = 0 := by
            rw [suG_eq]; unfold suZ
            rw [if_neg k16, if_neg k17, if_neg (fun q => by cases q.2)]
          rw [e0, s0, Nat.add_zero, Nat.add_zero]
          exact (lfc k16 k17 (fun q => by cases q.2)).1 k16
        | false =>
          obtain ⟨y, f, hp, y8, ff, my, mf⟩ := ps_all1 ho k18
          have of := ho.c mf
          have hhf := hg_part (t := b) (by omega) (c := f) (by rw [hp]; simp)
          rw [if_neg k16] at hhf
          have es : scT b false = 1 + scT f false := by rw [scT_eq]; unfold scS; rw [if_neg k16, if_neg k17, if_pos ⟨k18, rfl⟩, hp]; simp
          have hik : i < k := by omega
          have ek : kaT b false = kaT f false := by rw [kaT_eq]; unfold kaS; rw [if_neg k16, if_neg k17, if_pos ⟨k18, rfl⟩, hp]; simp [prN1]
          have ee : evT b false = wkT 1 1 f 0 + evT f false := by rw [ev_eq]; unfold evS; rw [if_neg k16, if_neg k17, if_pos ⟨k18, rfl⟩, hp]; simp
          have eu : suG sI b false i = sI i + suG sI f false (i + 1) := by rw [suG_eq]; unfold suZ; rw [if_neg k16, if_neg k17, if_pos ⟨k18, rfl⟩, hp]; simp
          have hvi := vi b 0
          have hvr := vr
          have rt : V (i + 1) ≤ Y := by
            have h1 := vmono (k - (i + 1)) (i + 1) (by omega)
            rw [show i + 1 + (k - (i + 1)) = k by omega] at h1
            exact Nat.le_trans h1 hY
          have ty : Q * wkT k i y 0 + mvT k y 0 i * V (i + 1) + P + w y ≤ P * szT y := by
            have h1 : Q * wkT k i y 0 + mvT k y 0 i * Y + P + w y ≤ P * szT y := by
              have ey : pa b 0 = y := by unfold pa; rw [hp]; rfl
              have := hT b (sub_rf b) k18
              rw [ey] at this
              exact this y8 i hik
            have h2 : mvT k y 0 i * V (i + 1) ≤ mvT k y 0 i * Y := Nat.mul_le_mul_left _ rt
            omega
          have bo := (ih f (fms_lt mf) of ff (hA.sub (sub_c mf (sub_rf f))) (hT.sub (sub_c mf (sub_rf f))) (hV.sub (sub_c mf (sub_rf f))) false (i + 1) (by omega) (by have := ln_all (i := i) k18 hp; omega) (by omega) (by rw [← ek]; exact hka)).2
          have wa := wk_add (k := k) (i := i) (by omega) f 0
          have ew : wkT k i b 0 = mvT k b 0 i + wkT k i y 0 + wkT k i f 1 := by
            rw [wk_eq]; unfold wkS; rw [if_neg k14, if_pos k18, hp]; simp
          have hm : mvT k b 0 i ≤ mvT k y 0 i + mvT k f 0 (i + 1) := by
            have h1 : vnT b 0 i ≤ (([0, 1] : List Nat).map (fun c => ((List.range i).filter (fun r => @decide ((if c = 0 then hvT y (0 + r) else hvT f (1 + r))) (Classical.propDecidable _))).length)).sum := flt_or (q := fun c r => if c = 0 then hvT y (0 + r) else hvT f (1 + r)) [0, 1] (List.range i) (fun r _ h => by
              rcases (hv_all k18 hp).mp h with q | q
              · exact ⟨0, by simp, by rw [if_pos rfl]; exact q⟩
              · exact ⟨1, by simp, by rw [if_neg (by decide)]; rw [show 1 + r = 0 + r + 1 by omega]; exact q⟩)
            have h2 : vnT b 0 i ≤ vnT y 0 i + vnT f 1 i := by simpa [vnT] using h1
            have h3 := vn_s (s := f) (d := 0) (i := i)
            have h4 : vnT f (0 + 1) i = vnT f 1 i := rfl
            unfold mvT
            omega
          have hsz : szT b = 1 + (szT y + szT f) := by rw [sz_pl b0 (by omega), hp]; simp
          have wa : wkT k i f 1 + wkT 1 1 f 0 ≤ wkT k (i + 1) f 0 := wa
          have up := hW i hik
          have eb : prS U V b false i = U i := by unfold prS; rw [if_neg (by simp [k18])]
          have pf : V (i + 1) ≤ prS U V f false (i + 1) := by
            unfold prS
            split
            · exact Nat.le_refl _
            · have := hU (i + 1) (by omega); omega
          have bo : Q * (wkT k (i + 1) f 0 + evT f false) + mvT k f 0 (i + 1) * V (i + 1) + P + suG sI f false (i + 1) + wuT w f ≤ P * szT f := by
            have g1 : mvT k f 0 (i + 1) * V (i + 1) ≤ mvT k f 0 (i + 1) * prS U V f false (i + 1) := Nat.mul_le_mul_left _ pf
            omega
          rw [eb]
          have ewu : wuT w b = w y + wuT w f := by rw [wu_hi k14, hp]; simp; exact wu_lo (by omega)
          rw [ew, ee, eu, hsz, ewu]
          generalize wuT w f = wf2 at *
          generalize w y = wy2 at *
          generalize suG sI f false (i + 1) = su at *
          generalize mvT k b 0 i = v at *
          generalize mvT k y 0 i = vy at *
          generalize mvT k f 0 (i + 1) = vf at *
          generalize wkT k i y 0 = wy at *
          generalize wkT k i f 1 = wf at *
          generalize wkT 1 1 f 0 = w1 at *
          generalize wkT k (i + 1) f 0 = w2 at *
          generalize evT f false = x at *
          generalize U i = X at *
          generalize V (i + 1) = X' at *
          have g0 : Q * (wf + w1) ≤ Q * w2 := Nat.mul_le_mul_left _ wa
          have g1 : v * (X + G i) ≤ (vy + vf) * X' := Nat.mul_le_mul hm up
          have g5 : (vy + vf) * X' = vy * X' + vf * X' := Nat.add_mul _ _ _
          have st := wkg_step2 (P := P) (Q := Q) (v := v) (s := Q * wy + Q * (w2 + x) + su + (wy2 + wf2)) (S := P * szT y + P * szT f) (X := X) (Y := X) hG hik hvi hvr (by simp only [Nat.mul_add] at bo g0 g1 ⊢; omega) (Nat.le_refl _)
          simp only [Nat.mul_add, Nat.mul_one] at st g0 ⊢
          omega
    exact ⟨fun _ => main, by omega⟩
theorem evhw_le {Cd : Nat → Prop} (hO : ∀ b pol i, okT b → isFo b → Alls Cd b → lnN b pol i ≤ kl → vnT b 0 i ≤ ko) (hG : GQ k ko P Q G sI) (hU : ∀ i, i ≤ k → V i + G i ≤ U i) (hW : ∀ i, i < k → U i + G i ≤ V (i + 1)) (hY : V k ≤ Y) (hZ : ∀ i, i ≤ k → U i + G i * H ≤ Z) {F : Nat} (ho : okT F) (hf : isFo F) (hA : Alls (AtLw w k kl P Q Z) F) (hT : Alls (AtAw w k P Q Y) F) (hV : Alls Cd F) (pol : Bool) (hs : scT F pol ≤ k) (hl : kpT F pol ≤ kl) (hH : hgT F ≤ H) (hka : kaT F pol ≤ 1) : Q * evT F pol + P + suG sI F pol 0 + wuT w F ≤ P * szT F := by
  have h0 : lnN F pol 0 = 0 := rfl
  have h := (evhw_fo hO hG hU hW hY hZ F ho hf hA hT hV pol 0 (by omega) (by omega) hH hka).2
  rw [wk_0, Nat.zero_add] at h
  omega
end OPH
/-- long units with two leaves leave something over -/
theorem lu_pay {M A k i d : Nat} (ho : okT A) (h : isLU M A) (hM : 5 ≤ M) : mvT k A d i ≤ 2 ∧ ∃ D, M ≤ D + 5 ∧ wkT k i A d ≤ 2 + 2 * D ∧ D + 3 ≤ szT A := by
  obtain ⟨h8, h14, h2, h3⟩ := h
  have hk : ¬ kd A ≤ 3 := by omega
  have z := sz_dP ho hk
  have ew : wkT k i A d = mvT k A d i + ((dP A).map (fun s => mvT k s d i)).sum := by
    rw [wk_eq]; unfold wkS; rw [if_pos h14]
  have vA : mvT k A d i ≤ 2 := by
    have := vn_lf (d := d) (i := i) ho h14
    unfold mvT
    omega
  have hs : ((dP A).map (fun s => mvT k s d i)).sum ≤ 2 * (dP A).length := sum_le_c (fun s hs => by
    obtain ⟨c, hc, hs, _⟩ := (dP_mem ho).mp hs
    have hsub := sub_c hc hs
    have v1 : vnT s d i ≤ vnT A d i := vn_mono (fun r hr hv => ⟨r, hr, hv_sub ho h14 hsub hv, rfl⟩)
    have v2 := vn_lf (d := d) (i := i) ho h14
    unfold mvT
    omega)
  have hd : (dQ A).length ≤ (dP A).length := by
    refine nd_lenL _ _ (by unfold dQ; exact dd_nd _) (fun s hs => ?_)
    obtain ⟨⟨c, hc, h1, h2⟩, _⟩ := (dQ_mem ho).mp hs
    exact (dP_mem ho).mpr ⟨c, hc, h1, h2⟩
  refine ⟨vA, (dP A).length, by omega, by omega, by omega⟩
