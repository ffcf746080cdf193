/-! nodes of all binds of a formula: the names of all its binders -/
noncomputable def beS (f : Nat → Nat) (t : Nat) : Nat := if kd t = 16 ∨ kd t = 17 then ((ps t).map f).sum else if kd t = 18 then (((ps t).drop 1).map (fun c => wkT 1 1 c 0 + f c)).sum else 0
/-- inner forms with the variable, over all binders -/
noncomputable def beT (t : Nat) : Nat := rcT beS 0 t
theorem be_eq (t : Nat) : beT t = beS beT t := rc_eq (fun f f' t h => by
  unfold beS
  have h1 : (ps t).map f = (ps t).map f' := List.map_congr_left fun c hc => by rw [h c hc]
  have h2 : ((ps t).drop 1).map (fun c => wkT 1 1 c 0 + f c) = ((ps t).drop 1).map (fun c => wkT 1 1 c 0 + f' c) := List.map_congr_left fun c hc => by rw [h c (List.mem_of_mem_drop hc)]
  rw [h1, h2]) t
section BEK
variable {k ko P Q H Y : Nat} {G sI : Nat → Nat}
theorem evB_fo (hG : GQ k ko P Q G sI) (hk : k ≤ H) (hY : Rv G k + G k * (H - k) ≤ Y) : ∀ (b : Nat), okT b → isFo b → Alls (AtL k ko P Q Y) b → Alls (AtA k P Q Y) b → Alls (VnB ko) b → ∀ (i : Nat), i + abT b ≤ k → hgT b + i ≤ H → (kd b ≠ 16 → Q * (wkT k i b 0 + beT b) + mvT k b 0 i * rsv G H i (hgT b) + P + (Q * mvT k b 0 i - P) ≤ P * szT b) ∧ Q * (wkT k i b 0 + beT b) + mvT k b 0 i * rsv G H i (hgT b) + P ≤ P * szT b := by
  intro b
  induction b using Nat.strongRecOn with
  | ind b ih =>
    intro ho hf hA hT hV i hsc hH
    have b0 := okT_0 ho
    have hi : i ≤ k := by omega
    have vr : mvT k b 0 i ≤ ko := by have := hV b (sub_rf b) 0 i; unfold mvT; omega
    have vi : ∀ s d, mvT k s d i ≤ i := fun s d => by have := vn_i (s := s) (d := d) (i := i); unfold mvT; omega
    by_cases k14 : kd b ≤ 14
    · have e0 : beT b = 0 := by
        rw [be_eq]; unfold beS
        rw [if_neg (by omega), if_neg (by omega)]
      have h9 : 9 ≤ kd b := by unfold isFo at hf; omega
      have h1 := hA b (sub_rf b) (by omega) k14 0 i hi (hV b (sub_rf b) 0 i)
      have h2 : rsv G H i (hgT b) ≤ Y := Nat.le_trans (rsv_top hG hk (m := k - i) (i := i) (by omega)) hY
      have h3 : mvT k b 0 i * rsv G H i (hgT b) ≤ mvT k b 0 i * Y := Nat.mul_le_mul_left _ h2
      rw [e0, Nat.add_zero]
      exact ⟨fun _ => by omega, by omega⟩
    by_cases k16 : kd b = 16
    · obtain ⟨f, hp, ff, kf, mf⟩ := ps_not1 ho k16
      have of := ho.c mf
      have hh : hgT f ≤ hgT b := by have := hg_part (t := b) (by omega) (c := f) (by rw [hp]; simp); rw [if_pos k16] at this; exact this
      have es : abT f ≤ abT b := by have := ab_part (t := b) (c := f) (by omega) (by rw [hp]; simp); omega
      have ee : beT b = beT f := by rw [be_eq]; unfold beS; rw [if_pos (Or.inl k16), hp]; simp
      have h1 := (ih f (fms_lt mf) of ff (hA.sub (sub_c mf (sub_rf f))) (hT.sub (sub_c mf (sub_rf f))) (hV.sub (sub_c mf (sub_rf f))) i (by omega) (by omega)).1 kf
      have ev : vnT b 0 i = vnT f 0 i := by
        have e1 : ∀ j, hvT b j ↔ hvT f j := fun j => by
          rw [hv_pl (by omega) (by omega)]
          have : fms b = [f] := by
            unfold fms
            rw [if_neg (by omega), hp]
            simp [okT_0 of]
          rw [this]
          simp
        exact Nat.le_antisymm (vn_mono (fun r hr hv => ⟨r, hr, (e1 _).mp hv, rfl⟩)) (vn_mono (fun r hr hv => ⟨r, hr, (e1 _).mpr hv, rfl⟩))
      have em : mvT k b 0 i = mvT k f 0 i := by unfold mvT; rw [ev]
      have ew : wkT k i b 0 = mvT k b 0 i + wkT k i f 0 := by
        rw [wk_eq]; unfold wkS; rw [if_neg k14, if_neg (by omega), hp]; simp
      have hs1 : szT b = 1 + szT f := by rw [sz_pl b0 (by omega), hp]; simp
      refine ⟨fun q => absurd k16 q, ?_⟩
      rw [ew, em, hs1, ee]
      have g1 : mvT k f 0 i * rsv G H i (hgT b) ≤ mvT k f 0 i * rsv G H i (hgT f) := Nat.mul_le_mul_left _ (rsv_mono hh)
      generalize mvT k f 0 i = v at *
      generalize wkT k i f 0 = w at *
      generalize beT f = x at *
      simp only [Nat.mul_add, Nat.mul_one] at h1 ⊢
      omega
    have main : Q * (wkT k i b 0 + beT b) + mvT k b 0 i * rsv G H i (hgT b) + P + (Q * mvT k b 0 i - P) ≤ P * szT b := by
      by_cases k17 : kd b = 17
      · have hl : 2 ≤ (ps b).length ∧ ∀ f ∈ ps b, isFo f ∧ kd f ≠ 17 ∧ f ≠ yesT ∧ f ≠ noT := by
          rcases ho.n.2 with q | q | q | q | q | q | q | q | q | q | q | q | q | q <;> first | omega | exact q.2.2
        have mf : ∀ p ∈ ps b, p ∈ fms b := fun p hp => fms_mem hp (by omega) (isFo_pos (hl.2 p hp).1)
        have efm : fms b = ps b := by
          unfold fms
          rw [if_neg (by omega)]
          exact List.filter_eq_self.mpr (fun c hc => by simpa using isFo_pos (hl.2 c hc).1)
        have hm := mv_pl (k := k) (d := 0) (i := i) (t := b) (by omega) (by omega)
        rw [efm] at hm
        have esc : ∀ p ∈ ps b, abT p ≤ abT b := fun p hp => by have := ab_part (t := b) (c := p) (by omega) hp; omega
        have li := wkg_li (Q := Q) (P := P) (F := fun p => wkT k i p 0 + beT p) (V := fun p => mvT k p 0 i) (U := fun _ => 0) (X := rsv G H i (hgT b) + G i) (l := ps b) (fun p hp => by
          have hh := hg_part (t := b) (by omega) hp
          rw [if_neg k16] at hh
          have hs := esc p hp
          have h2 := (ih p (fms_lt (mf p hp)) (ho.c (mf p hp)) (hl.2 p hp).1 (hA.sub (sub_c (mf p hp) (sub_rf p))) (hT.sub (sub_c (mf p hp) (sub_rf p))) (hV.sub (sub_c (mf p hp) (sub_rf p))) i (by omega) (by omega)).2
          have g1 : mvT k p 0 i * (rsv G H i (hgT b) + G i) ≤ mvT k p 0 i * rsv G H i (hgT p) := Nat.mul_le_mul_left _ (rsv_up hh hH)
          show Q * (wkT k i p 0 + beT p) + mvT k p 0 i * (rsv G H i (hgT b) + G i) + P + 0 ≤ P * szT p
          omega)
        have ew : wkT k i b 0 = mvT k b 0 i + ((ps b).map (fun c => wkT k i c 0)).sum := by
          rw [wk_eq]; unfold wkS; rw [if_neg k14, if_neg (by omega)]
        have ee : beT b = ((ps b).map beT).sum := by rw [be_eq]; unfold beS; rw [if_pos (Or.inr k17)]
        have u0 : ((ps b).map (fun _ : Nat => 0)).sum = 0 := by
          have : ((ps b).map (fun _ : Nat => 0)).sum ≤ 0 * (ps b).length := sum_le_c (fun _ _ => Nat.le_refl _)
          omega
        have es : ((ps b).map (fun p => wkT k i p 0 + beT p)).sum = ((ps b).map (fun c => wkT k i c 0)).sum + ((ps b).map beT).sum := sum_map_add _
        have hvi := vi b 0
        have hvr := vr
        rw [es, u0] at li
        rw [ew, ee, sz_pl b0 (by omega)]
        generalize mvT k b 0 i = v at *
        generalize ((ps b).map (fun c => wkT k i c 0)).sum = S at *
        generalize ((ps b).map beT).sum = S2 at *
        generalize ((ps b).map (fun c => mvT k c 0 i)).sum = V at *
        generalize ((ps b).map szT).sum = T at *
        generalize rsv G H i (hgT b) = X at *
        have g1 : v * (X + G i) ≤ V * (X + G i) := Nat.mul_le_mul_right _ hm
        have g2 : P * 2 ≤ P * (ps b).length := Nat.mul_le_mul_left _ hl.1
        have st := wkg_step (P := P) (Q := Q) (v := v) (s := Q * (S + S2)) (S := P * T) (X := X) (Y := X) hG hi hvi hvr (by rw [Nat.mul_add] at g1; omega) (Nat.le_refl _)
        simp only [Nat.mul_add, Nat.mul_one] at st ⊢
        omega
      · have k18 : kd b = 18 := by unfold isFo at hf; omega
        obtain ⟨y, f, hp, y8, ff, my, mf⟩ := ps_all1 ho k18
        have of := ho.c mf
        have hhf := hg_part (t := b) (by omega) (c := f) (by rw [hp]; simp)
        rw [if_neg k16] at hhf
        have es : abT f + 1 ≤ abT b := by have := ab_part (t := b) (c := f) (by omega) (by rw [hp]; simp); rw [if_neg (by omega)] at this; exact this
        have hik : i < k := by omega
        have ee : beT b = wkT 1 1 f 0 + beT f := by rw [be_eq]; unfold beS; rw [if_neg (by omega), if_pos k18, hp]; simp
        have hvi := vi b 0
        have hvr := vr
        have rt : rsv G H (i + 1) (hgT f) ≤ Y := Nat.le_trans (rsv_top hG hk (m := k - (i + 1)) (i := i + 1) (by omega)) hY
        have ty : Q * wkT k i y 0 + mvT k y 0 i * rsv G H (i + 1) (hgT f) + P ≤ P * szT y := by
          have h1 : Q * wkT k i y 0 + mvT k y 0 i * Y + P ≤ P * szT y := by
            have ey : pa b 0 = y := by unfold pa; rw [hp]; rfl
            have := hT b (sub_rf b) k18
            rw [ey] at this
            exact this y8 i hik
          have h2 : mvT k y 0 i * rsv G H (i + 1) (hgT f) ≤ mvT k y 0 i * Y := Nat.mul_le_mul_left _ rt
          omega
        have bo := (ih f (fms_lt mf) of ff (hA.sub (sub_c mf (sub_rf f))) (hT.sub (sub_c mf (sub_rf f))) (hV.sub (sub_c mf (sub_rf f))) (i + 1) (by omega) (by omega)).2
        have wa := wk_add (k := k) (i := i) (by omega) f 0
        have ew : wkT k i b 0 = mvT k b 0 i + wkT k i y 0 + wkT k i f 1 := by
          rw [wk_eq]; unfold wkS; rw [if_neg k14, if_pos k18, hp]; simp
        have hm : mvT k b 0 i ≤ mvT k y 0 i + mvT k f 0 (i + 1) := by
          have h1 : vnT b 0 i ≤ (([0, 1] : List Nat).map (fun c => ((List.range i).filter (fun r => @decide ((if c = 0 then hvT y (0 + r) else hvT f (1 + r))) (Classical.propDecidable _))).length)).sum := flt_or (q := fun c r => if c = 0 then hvT y (0 + r) else hvT f (1 + r)) [0, 1] (List.range i) (fun r _ h => by
            rcases (hv_all k18 hp).mp h with q | q
            · exact ⟨0, by simp, by rw [if_pos rfl]; exact q⟩
            · exact ⟨1, by simp, by rw [if_neg (by decide)]; rw [show 1 + r = 0 + r + 1 by omega]; exact q⟩)
          have h2 : vnT b 0 i ≤ vnT y 0 i + vnT f 1 i := by simpa [vnT] using h1
          have h3 := vn_s (s := f) (d := 0) (i := i)
          have h4 : vnT f (0 + 1) i = vnT f 1 i := rfl
          unfold mvT
          omega
        have hsz : szT b = 1 + (szT y + szT f) := by rw [sz_pl b0 (by omega), hp]; simp
        have wa : wkT k i f 1 + wkT 1 1 f 0 ≤ wkT k (i + 1) f 0 := wa
        have up := rsv_in (H := H) hG hik hhf hH
        rw [ew, ee, hsz]
        generalize mvT k b 0 i = v at *
        generalize mvT k y 0 i = vy at *
        generalize mvT k f 0 (i + 1) = vf at *
        generalize wkT k i y 0 = wy at *
        generalize wkT k i f 1 = wf at *
        generalize wkT 1 1 f 0 = w1 at *
        generalize wkT k (i + 1) f 0 = w2 at *
        generalize beT f = x at *
        generalize rsv G H i (hgT b) = X at *
        generalize rsv G H (i + 1) (hgT f) = X' at *
        have g0 : Q * (wf + w1) ≤ Q * w2 := Nat.mul_le_mul_left _ wa
        have g1 : v * (X + G i) ≤ (vy + vf) * X' := Nat.mul_le_mul hm up
        have g5 : (vy + vf) * X' = vy * X' + vf * X' := Nat.add_mul _ _ _
        have st := wkg_step2 (P := P) (Q := Q) (v := v) (s := Q * wy + Q * (w2 + x)) (S := P * szT y + P * szT f) (X := X) (Y := X) hG hik hvi hvr (by simp only [Nat.mul_add] at bo g0 g1 ⊢; omega) (Nat.le_refl _)
        simp only [Nat.mul_add, Nat.mul_one] at st g0 ⊢
        omega
    exact ⟨fun _ => main, by omega⟩
theorem evB_le (hG : GQ k ko P Q G sI) (hk : k ≤ H) (hY : Rv G k + G k * (H - k) ≤ Y) {F : Nat} (ho : okT F) (hf : isFo F) (hA : Alls (AtL k ko P Q Y) F) (hT : Alls (AtA k P Q Y) F) (hV : Alls (VnB ko) F) (hs : abT F ≤ k) (hH : hgT F ≤ H) : Q * beT F + P ≤ P * szT F := by
  have h := (evB_fo hG hk hY F ho hf hA hT hV 0 (by omega) (by omega)).2
  rw [wk_0, Nat.zero_add] at h
  omega
end BEK
