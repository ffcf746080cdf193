/-! openings: what is made beside (constants, NOTs, ANDs) is paid, too -/
def suXS (sI : Nat → Nat) (sA : Nat) (f : Nat → Bool → Nat → Nat) (t : Nat) : Bool → Nat → Nat := fun pol i => if kd t = 16 then ((ps t).map (fun c => f c (!pol) i)).sum else if kd t = 17 then sA + ((ps t).map (fun c => f c pol i)).sum else if kd t = 18 ∧ pol = false then sI i + (((ps t).drop 1).map (fun c => f c false (i + 1))).sum else 0
/-- what opened binders (sI) and ANDs (sA) leave over -/
def suX (sI : Nat → Nat) (sA : Nat) (t : Nat) (pol : Bool) (i : Nat) : Nat := rcT (suXS sI sA) (fun _ _ => 0) t pol i
theorem suX_eq (sI : Nat → Nat) (sA : Nat) (t : Nat) (pol : Bool) (i : Nat) : suX sI sA t pol i = suXS sI sA (suX sI sA) t pol i := by
  unfold suX
  rw [rc_eq (fun f f' t h => by
    unfold suXS
    funext pol i
    have h1 : ∀ b, (ps t).map (fun c => f c b i) = (ps t).map (fun c => f' c b i) := fun b => List.map_congr_left fun c hc => by rw [h c hc]
    have h2 : ((ps t).drop 1).map (fun c => f c false (i + 1)) = ((ps t).drop 1).map (fun c => f' c false (i + 1)) := List.map_congr_left fun c hc => by rw [h c (List.mem_of_mem_drop hc)]
    rw [h1, h1, h2]) t]
/-- ANDs leave something over -/
def GA (k kr P Q sA : Nat) (G : Nat → Nat) : Prop := ∀ i, i ≤ k → ∀ v, v ≤ i → v ≤ kr → 2 * Q * v + sA ≤ G i * v + 3 * P
theorem wkg_step3 {k kr P Q sA : Nat} {G : Nat → Nat} {v s S X Y i : Nat} (hG : GA k kr P Q sA G) (hi : i ≤ k) (hv : v ≤ i) (hr : v ≤ kr) (hsA : sA ≤ P) (hx : s + v * X + v * G i + 2 * P ≤ S) (hY : Y ≤ X) : Q * v + s + v * Y + P + (Q * v - P) + sA ≤ P + S := by
  have c1 := hG i hi v hv hr
  have e1 : 2 * Q * v = Q * v + Q * v := by rw [Nat.mul_assoc, Nat.two_mul]
  have e2 : G i * v = v * G i := Nat.mul_comm _ _
  have e3 : v * Y ≤ v * X := Nat.mul_le_mul_left v hY
  omega
section OPJ
variable {w : Nat → Nat} {k ko kl P Q H Y sA : Nat} {G sI : Nat → Nat}
/-- all puts of an opening, under i opened binders -/
theorem evqx_fo {Cd : Nat → Prop} (hO : ∀ b pol i, okT b → isFo b → Alls Cd b → lnN b pol i ≤ kl → vnT b 0 i ≤ ko) (hG : GQ k ko P Q G sI) (hGA : GA k ko P Q sA G) (hsA : sA ≤ P) (hk : k ≤ H) (hY : Rv G k + G k * (H - k) ≤ Y) : ∀ (b : Nat), okT b → isFo b → Alls (AtLw w k kl P Q Y) b → Alls (AtAw w k P Q Y) b → Alls Cd b → ∀ (pol : Bool) (i : Nat), i + scT b pol ≤ k → lnN b pol i + kpT b pol ≤ kl → hgT b + i ≤ H → (kd b ≠ 16 → Q * (wkT k i b 0 + evT b pol) + mvT k b 0 i * rsv G H i (hgT b) + P + (Q * mvT k b 0 i - P) + suX sI sA b pol i + wuT w b ≤ P * szT b) ∧ Q * (wkT k i b 0 + evT b pol) + mvT k b 0 i * rsv G H i (hgT b) + P + suX sI sA b pol i + wuT w b ≤ P * szT b := by
  intro b
  induction b using Nat.strongRecOn with
  | ind b ih =>
    intro ho hf hA hT hV pol i hsc hln hH
    have b0 := okT_0 ho
    have hi : i ≤ k := by omega
    have vr : mvT k b 0 i ≤ ko := by have := hO b pol i ho hf hV (by omega); unfold mvT; omega
    have vi : ∀ s d, mvT k s d i ≤ i := fun s d => by have := vn_i (s := s) (d := d) (i := i); unfold mvT; omega
    have lfc : kd b ≠ 16 → kd b ≠ 17 → ¬ (kd b = 18 ∧ pol = false) → (kd b ≠ 16 → Q * wkT k i b 0 + mvT k b 0 i * rsv G H i (hgT b) + P + (Q * mvT k b 0 i - P) + wuT w b ≤ P * szT b) ∧ Q * wkT k i b 0 + mvT k b 0 i * rsv G H i (hgT b) + P + wuT w b ≤ P * szT b := fun a1 a2 a3 => by
      have hv : vnT b 0 i ≤ kl := by
        have h1 : vnT b 0 i ≤ lnN b pol i := ln_leaf a1 a2 a3
        omega
      have hvk : vnT b 0 i ≤ min kl (min i ko) := by
        have h1 := vn_i (s := b) (d := 0) (i := i)
        have h2 := hO b pol i ho hf hV (by omega)
        omega
      have hGL : GL (min kl (min i ko)) P Q (G i) := fun v hv => hG.1 i hi v (by omega) (by omega)
      have hAk : Alls (AtLw w k (min kl (min i ko)) P Q Y) b := fun A sA a8 a14 d i' hi' hv' => hA A sA a8 a14 d i' hi' (by omega)
      have hZ' : rsv G H i (hgT b) + G i * hgT b ≤ Y := by
        have h1 := rsv_top (h := 0) hG hk (m := k - i) (i := i) (by omega)
        unfold rsv at h1 ⊢
        have e1 : G i * (H - i - hgT b) + G i * hgT b = G i * (H - i) := by rw [← Nat.mul_add]; congr 1; omega
        have e2 : G i * (H - i - 0) = G i * (H - i) := rfl
        omega
      have h2 := wklw_fo (k := k) (Z := Y) (Y := rsv G H i (hgT b)) (H := hgT b) hGL hZ' b ho hf hAk i 0 hi hvk (Nat.le_refl _)
      have h3 : rsl (rsv G H i (hgT b)) (G i) (hgT b) (hgT b) = rsv G H i (hgT b) := by unfold rsl; rw [Nat.sub_self, Nat.mul_zero, Nat.add_zero]
      rw [h3] at h2
      exact ⟨fun z => by have := h2.1 z; omega, by omega⟩
    by_cases k14 : kd b ≤ 14
    · have e0 : evT b pol = 0 := by
        rw [ev_eq]; unfold evS
        rw [if_neg (by omega), if_neg (by omega), if_neg (fun q => by have := q.1; omega)]
      have s0 : suX sI sA b pol i = 0 := by
        rw [suX_eq]; unfold suXS
        rw [if_neg (by omega), if_neg (by omega), if_neg (fun q => by have := q.1; omega)]
      rw [e0, s0, Nat.add_zero, Nat.add_zero, Nat.add_zero]
      exact lfc (by omega) (by omega) (by omega)
    by_cases k16 : kd b = 16
    · obtain ⟨f, hp, ff, kf, mf⟩ := ps_not1 ho k16
      have of := ho.c mf
      have hh : hgT f ≤ hgT b := by have := hg_part (t := b) (by omega) (c := f) (by rw [hp]; simp); rw [if_pos k16] at this; exact this
      have es : scT b pol = scT f (!pol) := by rw [scT_eq]; unfold scS; rw [if_pos k16, hp]; simp
      have ee : evT b pol = evT f (!pol) := by rw [ev_eq]; unfold evS; rw [if_pos k16, hp]; simp
      have eu : suX sI sA b pol i = suX sI sA f (!pol) i := by rw [suX_eq]; unfold suXS; rw [if_pos k16, hp]; simp
      have h1 := (ih f (fms_lt mf) of ff (hA.sub (sub_c mf (sub_rf f))) (hT.sub (sub_c mf (sub_rf f))) (hV.sub (sub_c mf (sub_rf f))) (!pol) i (by rw [← es]; exact hsc) (by have := ln_not (pol := pol) (i := i) k16 hp; omega) (by omega)).1 kf
      have ev : vnT b 0 i = vnT f 0 i := by
        have e1 : ∀ j, hvT b j ↔ hvT f j := fun j => by
          rw [hv_pl (by omega) (by omega)]
          have : fms b = [f] := by
            unfold fms
            rw [if_neg (by omega), hp]
            simp [okT_0 of]
          rw [this]
          simp
        exact Nat.le_antisymm (vn_mono (fun r hr hv => ⟨r, hr, (e1 _).mp hv, rfl⟩)) (vn_mono (fun r hr hv => ⟨r, hr, (e1 _).mpr hv, rfl⟩))
      have em : mvT k b 0 i = mvT k f 0 i := by unfold mvT; rw [ev]
      have ew : wkT k i b 0 = mvT k b 0 i + wkT k i f 0 := by
        rw [wk_eq]; unfold wkS; rw [if_neg k14, if_neg (by omega), hp]; simp
      have hs1 : szT b = 1 + szT f := by rw [sz_pl b0 (by omega), hp]; simp
      refine ⟨fun q => absurd k16 q, ?_⟩
      have ewu : wuT w b = wuT w f := by rw [wu_hi k14, hp]; simp
      rw [ew, em, hs1, ee, eu, ewu]
      generalize wuT w f = wu at *
      have g1 : mvT k f 0 i * rsv G H i (hgT b) ≤ mvT k f 0 i * rsv G H i (hgT f) := Nat.mul_le_mul_left _ (rsv_mono hh)
      generalize suX sI sA f (!pol) i = su at *
      generalize mvT k f 0 i = v at *
      generalize wkT k i f 0 = w at *
      generalize evT f (!pol) = x at *
      simp only [Nat.mul_add, Nat.mul_one] at h1 ⊢
      omega
    have main : Q * (wkT k i b 0 + evT b pol) + mvT k b 0 i * rsv G H i (hgT b) + P + (Q * mvT k b 0 i - P) + suX sI sA b pol i + wuT w b ≤ P * szT b := by
      by_cases k17 : kd b = 17
      · have hl : 2 ≤ (ps b).length ∧ ∀ f ∈ ps b, isFo f ∧ kd f ≠ 17 ∧ f ≠ yesT ∧ f ≠ noT := by
          rcases ho.n.2 with q | q | q | q | q | q | q | q | q | q | q | q | q | q <;> first | omega | exact q.2.2
        have mf : ∀ p ∈ ps b, p ∈ fms b := fun p hp => fms_mem hp (by omega) (isFo_pos (hl.2 p hp).1)
        have efm : fms b = ps b := by
          unfold fms
          rw [if_neg (by omega)]
          exact List.filter_eq_self.mpr (fun c hc => by simpa using isFo_pos (hl.2 c hc).1)
        have hm := mv_pl (k := k) (d := 0) (i := i) (t := b) (by omega) (by omega)
        rw [efm] at hm
        have esc : ∀ p ∈ ps b, scT p pol ≤ scT b pol := fun p hp => by
          rw [scT_eq b]; unfold scS; rw [if_neg k16, if_pos k17]
          exact le_fmax (Or.inl (List.mem_map.mpr ⟨p, hp, rfl⟩))
        have li := wkg_li (Q := Q) (P := P) (F := fun p => wkT k i p 0 + evT p pol) (V := fun p => mvT k p 0 i) (U := fun p => suX sI sA p pol i + wuT w p) (X := rsv G H i (hgT b) + G i) (l := ps b) (fun p hp => by
          have hh := hg_part (t := b) (by omega) hp
          rw [if_neg k16] at hh
          have hs := esc p hp
          have h2 := (ih p (fms_lt (mf p hp)) (ho.c (mf p hp)) (hl.2 p hp).1 (hA.sub (sub_c (mf p hp) (sub_rf p))) (hT.sub (sub_c (mf p hp) (sub_rf p))) (hV.sub (sub_c (mf p hp) (sub_rf p))) pol i (by omega) (by have := ln_and (pol := pol) (i := i) k17 hp; omega) (by omega)).2
          have g1 : mvT k p 0 i * (rsv G H i (hgT b) + G i) ≤ mvT k p 0 i * rsv G H i (hgT p) := Nat.mul_le_mul_left _ (rsv_up hh hH)
          show Q * (wkT k i p 0 + evT p pol) + mvT k p 0 i * (rsv G H i (hgT b) + G i) + P + (suX sI sA p pol i + wuT w p) ≤ P * szT p
          omega)
        have ew : wkT k i b 0 = mvT k b 0 i + ((ps b).map (fun c => wkT k i c 0)).sum := by
          rw [wk_eq]; unfold wkS; rw [if_neg k14, if_neg (by omega)]
        have ee : evT b pol = ((ps b).map (fun c => evT c pol)).sum := by rw [ev_eq]; unfold evS; rw [if_neg k16, if_pos k17]
        have eu : suX sI sA b pol i = sA + ((ps b).map (fun c => suX sI sA c pol i)).sum := by rw [suX_eq]; unfold suXS; rw [if_neg k16, if_pos k17]
        have es : ((ps b).map (fun p => wkT k i p 0 + evT p pol)).sum = ((ps b).map (fun c => wkT k i c 0)).sum + ((ps b).map (fun c => evT c pol)).sum := sum_map_add _
        have hvi := vi b 0
        have hvr := vr
        have es2 : ((ps b).map (fun p => suX sI sA p pol i + wuT w p)).sum = ((ps b).map (fun c => suX sI sA c pol i)).sum + ((ps b).map (wuT w)).sum := sum_map_add _
        rw [es, es2] at li
        rw [ew, ee, eu, sz_pl b0 (by omega), wu_hi k14]
        generalize ((ps b).map (wuT w)).sum = wu at *
        generalize ((ps b).map (fun c => suX sI sA c pol i)).sum = su at *
        generalize mvT k b 0 i = v at *
        generalize ((ps b).map (fun c => wkT k i c 0)).sum = S at *
        generalize ((ps b).map (fun c => evT c pol)).sum = S2 at *
        generalize ((ps b).map (fun c => mvT k c 0 i)).sum = V at *
        generalize ((ps b).map szT).sum = T at *
        generalize rsv G H i (hgT b) = X at *
        have g1 : v * (X + G i) ≤ V * (X + G i) := Nat.mul_le_mul_right _ hm
        have g2 : P * 2 ≤ P * (ps b).length := Nat.mul_le_mul_left _ hl.1
        have st := wkg_step3 (P := P) (Q := Q) (v := v) (s := Q * (S + S2) + su + wu) (S := P * T) (X := X) (Y := X) hGA hi hvi hvr hsA (by rw [Nat.mul_add] at g1; omega) (Nat.le_refl _)
        simp only [Nat.mul_add, Nat.mul_one] at st ⊢
        omega
      · have k18 : kd b = 18 := by unfold isFo at hf; omega
        cases pol with
        | true =>
          have e0 : evT b true = 0 := by
            rw [ev_eq]; unfold evS
            rw [if_neg k16, if_neg k17, if_neg (fun q => by cases q.2)]
          have s0 : suX sI sA b true i = 0 := by
            rw [suX_eq]; unfold suXS
            rw [if_neg k16, if_neg k17, if_neg (fun q => by cases q.2)]
          rw [e0, s0, Nat.add_zero, Nat.add_zero]
          exact (lfc k16 k17 (fun q => by cases q.2)).1 k16
        | false =>
          obtain ⟨y, f, hp, y8, ff, my, mf⟩ := ps_all1 ho k18
          have of := ho.c mf
          have hhf := hg_part (t := b) (by omega) (c := f) (by rw [hp]; simp)
          rw [if_neg k16] at hhf
          have es : scT b false = 1 + scT f false := by rw [scT_eq]; unfold scS; rw [if_neg k16, if_neg k17, if_pos ⟨k18, rfl⟩, hp]; simp
          have hik : i < k := by omega
          have ee : evT b false = wkT 1 1 f 0 + evT f false := by rw [ev_eq]; unfold evS; rw [if_neg k16, if_neg k17, if_pos ⟨k18, rfl⟩, hp]; simp
          have eu : suX sI sA b false i = sI i + suX sI sA f false (i + 1) := by rw [suX_eq]; unfold suXS; rw [if_neg k16, if_neg k17, if_pos ⟨k18, rfl⟩, hp]; simp
          have hvi := vi b 0
          have hvr := vr
          have rt : rsv G H (i + 1) (hgT f) ≤ Y := Nat.le_trans (rsv_top hG hk (m := k - (i + 1)) (i := i + 1) (by omega)) hY
          have ty : Q * wkT k i y 0 + mvT k y 0 i * rsv G H (i + 1) (hgT f) + P + w y ≤ P * szT y := by
            have h1 : Q * wkT k i y 0 + mvT k y 0 i * Y + P + w y ≤ P * szT y := by
              have ey : pa b 0 = y := by unfold pa; rw [hp]; rfl
              have := hT b (sub_rf b) k18
              rw [ey] at this
              exact this y8 i hik
            have h2 : mvT k y 0 i * rsv G H (i + 1) (hgT f) ≤ mvT k y 0 i * Y := Nat.mul_le_mul_left _ rt
            omega
          have bo := (ih f (fms_lt mf) of ff (hA.sub (sub_c mf (sub_rf f))) (hT.sub (sub_c mf (sub_rf f))) (hV.sub (sub_c mf (sub_rf f))) false (i + 1) (by omega) (by have := ln_all (i := i) k18 hp; omega) (by omega)).2
          have wa := wk_add (k := k) (i := i) (by omega) f 0
          have ew : wkT k i b 0 = mvT k b 0 i + wkT k i y 0 + wkT k i f 1 := by
            rw [wk_eq]; unfold wkS; rw [if_neg k14, if_pos k18, hp]; simp
          have hm : mvT k b 0 i ≤ mvT k y 0 i + mvT k f 0 (i + 1) := by
            have h1 : vnT b 0 i ≤ (([0, 1] : List Nat).map (fun c => ((List.range i).filter (fun r => @decide ((if c = 0 then hvT y (0 + r) else hvT f (1 + r))) (Classical.propDecidable _))).length)).sum := flt_or (q := fun c r => if c = 0 then hvT y (0 + r) else hvT f (1 + r)) [0, 1] (List.range i) (fun r _ h => by
              rcases (hv_all k18 hp).mp h with q | q
              · exact ⟨0, by simp, by rw [if_pos rfl]; exact q⟩
              · exact ⟨1, by simp, by rw [if_neg (by decide)]; rw [show 1 + r = 0 + r + 1 by omega]; exact q⟩)
            have h2 : vnT b 0 i ≤ vnT y 0 i + vnT f 1 i := by simpa [vnT] using h1
            have h3 := vn_s (s := f) (d := 0) (i := i)
            have h4 : vnT f (0 + 1) i = vnT f 1 i := rfl
            unfold mvT
            omega
          have hsz : szT b = 1 + (szT y + szT f) := by rw [sz_pl b0 (by omega), hp]; simp
          have wa : wkT k i f 1 + wkT 1 1 f 0 ≤ wkT k (i + 1) f 0 := wa
          have up := rsv_in (H := H) hG hik hhf hH
          have ewu : wuT w b = w y + wuT w f := by rw [wu_hi k14, hp]; simp; exact wu_lo (by omega)
          rw [ew, ee, eu, hsz, ewu]
          generalize wuT w f = wf2 at *
          generalize w y = wy2 at *
          generalize suX sI sA f false (i + 1) = su at *
          generalize mvT k b 0 i = v at *
          generalize mvT k y 0 i = vy at *
          generalize mvT k f 0 (i + 1) = vf at *
          generalize wkT k i y 0 = wy at *
          generalize wkT k i f 1 = wf at *
          generalize wkT 1 1 f 0 = w1 at *
          generalize wkT k (i + 1) f 0 = w2 at *
          generalize evT f false = x at *
          generalize rsv G H i (hgT b) = X at *
          generalize rsv G H (i + 1) (hgT f) = X' at *
          have g0 : Q * (wf + w1) ≤ Q * w2 := Nat.mul_le_mul_left _ wa
          have g1 : v * (X + G i) ≤ (vy + vf) * X' := Nat.mul_le_mul hm up
          have g5 : (vy + vf) * X' = vy * X' + vf * X' := Nat.add_mul _ _ _
          have st := wkg_step2 (P := P) (Q := Q) (v := v) (s := Q * wy + Q * (w2 + x) + su + (wy2 + wf2)) (S := P * szT y + P * szT f) (X := X) (Y := X) hG hik hvi hvr (by simp only [Nat.mul_add] at bo g0 g1 ⊢; omega) (Nat.le_refl _)
          simp only [Nat.mul_add, Nat.mul_one] at st g0 ⊢
          omega
    exact ⟨fun _ => main, by omega⟩
/-- all puts of an opening -/
theorem evqx_le {Cd : Nat → Prop} (hO : ∀ b pol i, okT b → isFo b → Alls Cd b → lnN b pol i ≤ kl → vnT b 0 i ≤ ko) (hG : GQ k ko P Q G sI) (hGA : GA k ko P Q sA G) (hsA : sA ≤ P) (hk : k ≤ H) (hY : Rv G k + G k * (H - k) ≤ Y) {F : Nat} (ho : okT F) (hf : isFo F) (hA : Alls (AtLw w k kl P Q Y) F) (hT : Alls (AtAw w k P Q Y) F) (hV : Alls Cd F) (pol : Bool) (hs : scT F pol ≤ k) (hl : kpT F pol ≤ kl) (hH : hgT F ≤ H) : Q * evT F pol + P + suX sI sA F pol 0 + wuT w F ≤ P * szT F := by
  have h0 : lnN F pol 0 = 0 := rfl
  have h := (evqx_fo hO hG hGA hsA hk hY F ho hf hA hT hV pol 0 (by omega) (by omega) (by omega)).2
  rw [wk_0, Nat.zero_add] at h
  omega
end OPJ
section OPH
variable {w : Nat → Nat} {k ko kl P Q H Y Z sA : Nat} {G sI U V : Nat → Nat}
theorem evhx_fo {Cd : Nat → Prop} (hO : ∀ b pol i, okT b → isFo b → Alls Cd b → lnN b pol i ≤ kl → vnT b 0 i ≤ ko) (hG : GQ k ko P Q G sI) (hGA : GA k ko P Q sA G) (hsA : sA ≤ P) (hU : ∀ i, i ≤ k → V i + G i ≤ U i) (hW : ∀ i, i < k → U i + G i ≤ V (i + 1)) (hY : V k ≤ Y) (hZ : ∀ i, i ≤ k → U i + G i * H ≤ Z) : ∀ (b : Nat), okT b → isFo b → Alls (AtLw w k kl P Q Z) b → Alls (AtAw w k P Q Y) b → Alls Cd b → ∀ (pol : Bool) (i : Nat), i + scT b pol ≤ k → lnN b pol i + kpT b pol ≤ kl → hgT b ≤ H → kaT b pol ≤ 1 → (kd b ≠ 16 → Q * (wkT k i b 0 + evT b pol) + mvT k b 0 i * prS U V b pol i + P + (Q * mvT k b 0 i - P) + suX sI sA b pol i + wuT w b ≤ P * szT b) ∧ Q * (wkT k i b 0 + evT b pol) + mvT k b 0 i * prS U V b pol i + P + suX sI sA b pol i + wuT w b ≤ P * szT b := by
  have vmono : ∀ m i, i + m ≤ k → V i ≤ V (i + m) := by
    intro m
    induction m with
    | zero => intro i _; exact Nat.le_refl _
    | succ m ihm =>
      intro i hi
      have h1 := ihm i (by omega)
      have h2 := hU (i + m) (by omega)
      have h3 := hW (i + m) (by omega)
      rw [show i + (m + 1) = i + m + 1 by omega]
      omega
  intro b
  induction b using Nat.strongRecOn with
  | ind b ih =>
    intro ho hf hA hT hV pol i hsc hln hH hka
    have b0 := okT_0 ho
    have hi : i ≤ k := by omega
    have vr : mvT k b 0 i ≤ ko := by have := hO b pol i ho hf hV (by omega); unfold mvT; omega
    have vi : ∀ s d, mvT k s d i ≤ i := fun s d => by have := vn_i (s := s) (d := d) (i := i); unfold mvT; omega
    have lfc : kd b ≠ 16 → kd b ≠ 17 → ¬ (kd b = 18 ∧ pol = false) → (kd b ≠ 16 → Q * wkT k i b 0 + mvT k b 0 i * prS U V b pol i + P + (Q * mvT k b 0 i - P) + wuT w b ≤ P * szT b) ∧ Q * wkT k i b 0 + mvT k b 0 i * prS U V b pol i + P + wuT w b ≤ P * szT b := fun a1 a2 a3 => by
      have hvk : vnT b 0 i ≤ min kl (min i ko) := by
        have h0 : vnT b 0 i ≤ lnN b pol i := ln_leaf a1 a2 a3
        have h1 := vn_i (s := b) (d := 0) (i := i)
        have h2 := hO b pol i ho hf hV (by omega)
        omega
      have hGL : GL (min kl (min i ko)) P Q (G i) := fun v hv => hG.1 i hi v (by omega) (by omega)
      have hAk : Alls (AtLw w k (min kl (min i ko)) P Q Z) b := fun A sA a8 a14 d i' hi' hv' => hA A sA a8 a14 d i' hi' (by omega)
      have hZ' : U i + G i * hgT b ≤ Z := by
        have h1 := hZ i hi
        have h2 : G i * hgT b ≤ G i * H := Nat.mul_le_mul_left _ hH
        omega
      have h2 := wklw_fo (k := k) (Z := Z) (Y := U i) (H := hgT b) hGL hZ' b ho hf hAk i 0 hi hvk (Nat.le_refl _)
      have h3 : rsl (U i) (G i) (hgT b) (hgT b) = U i := by unfold rsl; rw [Nat.sub_self, Nat.mul_zero, Nat.add_zero]
      rw [h3] at h2
      have h4 : prS U V b pol i = U i := by unfold prS; rw [if_neg (fun q => q.elim (fun w => a2 w.2) (fun w => a1 w.2.1))]
      rw [h4]
      exact ⟨fun z => by have := h2.1 z; omega, by omega⟩
    by_cases k14 : kd b ≤ 14
    · have e0 : evT b pol = 0 := by
        rw [ev_eq]; unfold evS
        rw [if_neg (by omega), if_neg (by omega), if_neg (fun q => by have := q.1; omega)]
      have s0 : suX sI sA b pol i = 0 := by
        rw [suX_eq]; unfold suXS
        rw [if_neg (by omega), if_neg (by omega), if_neg (fun q => by have := q.1; omega)]
      rw [e0, s0, Nat.add_zero, Nat.add_zero, Nat.add_zero]
      exact lfc (by omega) (by omega) (by omega)
    by_cases k16 : kd b = 16
    · obtain ⟨f, hp, ff, kf, mf⟩ := ps_not1 ho k16
      have of := ho.c mf
      have hh : hgT f ≤ hgT b := by have := hg_part (t := b) (by omega) (c := f) (by rw [hp]; simp); rw [if_pos k16] at this; exact this
      have ek : kaT b pol = kaT f (!pol) := by rw [kaT_eq]; unfold kaS; rw [if_pos k16, hp]; simp [prN1]
      have epa : pa b 0 = f := by unfold pa; rw [hp]; rfl
      have epr : prS U V b pol i = prS U V f (!pol) i := by
        unfold prS
        rw [epa]
        cases pol
        · by_cases kf17 : kd f = 17
          · rw [if_pos (Or.inr ⟨rfl, k16, kf17⟩), if_pos (Or.inl ⟨rfl, kf17⟩)]
          · rw [if_neg (by simp [kf17]), if_neg (by simp [kf17])]
        · rw [if_neg (by simp [k16]), if_neg (by simp [kf])]
      have es : scT b pol = scT f (!pol) := by rw [scT_eq]; unfold scS; rw [if_pos k16, hp]; simp
      have ee : evT b pol = evT f (!pol) := by rw [ev_eq]; unfold evS; rw [if_pos k16, hp]; simp
      have eu : suX sI sA b pol i = suX sI sA f (!pol) i := by rw [suX_eq]; unfold suXS; rw [if_pos k16, hp]; simp
      have h1 := (ih f (fms_lt mf) of ff (hA.sub (sub_c mf (sub_rf f))) (hT.sub (sub_c mf (sub_rf f))) (hV.sub (sub_c mf (sub_rf f))) (!pol) i (by rw [← es]; exact hsc) (by have := ln_not (pol := pol) (i := i) k16 hp; omega) (by omega) (by omega)).1 kf
      have ev : vnT b 0 i = vnT f 0 i := by
        have e1 : ∀ j, hvT b j ↔ hvT f j := fun j => by
          rw [hv_pl (by omega) (by omega)]
          have : fms b = [f] := by
            unfold fms
            rw [if_neg (by omega), hp]
            simp [okT_0 of]
          rw [this]
          simp
        exact Nat.le_antisymm (vn_mono (fun r hr hv => ⟨r, hr, (e1 _).mp hv, rfl⟩)) (vn_mono (fun r hr hv => ⟨r, hr, (e1 _).mpr hv, rfl⟩))
      have em : mvT k b 0 i = mvT k f 0 i := by unfold mvT; rw [ev]
      have ew : wkT k i b 0 = mvT k b 0 i + wkT k i f 0 := by
        rw [wk_eq]; unfold wkS; rw [if_neg k14, if_neg (by omega), hp]; simp
      have hs1 : szT b = 1 + szT f := by rw [sz_pl b0 (by omega), hp]; simp
      refine ⟨fun q => absurd k16 q, ?_⟩
      have ewu : wuT w b = wuT w f := by rw [wu_hi k14, hp]; simp
      rw [ew, em, hs1, ee, eu, epr, ewu]
      generalize wuT w f = wu at *
      generalize mvT k f 0 i * prS U V f (!pol) i = vX at *
      generalize suX sI sA f (!pol) i = su at *
      generalize mvT k f 0 i = v at *
      generalize wkT k i f 0 = w at *
      generalize evT f (!pol) = x at *
      simp only [Nat.mul_add, Nat.mul_one] at h1 ⊢
      omega
    have main : Q * (wkT k i b 0 + evT b pol) + mvT k b 0 i * prS U V b pol i + P + (Q * mvT k b 0 i - P) + suX sI sA b pol i + wuT w b ≤ P * szT b := by
      by_cases k17 : kd b = 17
      · have hl : 2 ≤ (ps b).length ∧ ∀ f ∈ ps b, isFo f ∧ kd f ≠ 17 ∧ f ≠ yesT ∧ f ≠ noT := by
          rcases ho.n.2 with q | q | q | q | q | q | q | q | q | q | q | q | q | q <;> first | omega | exact q.2.2
        have mf : ∀ p ∈ ps b, p ∈ fms b := fun p hp => fms_mem hp (by omega) (isFo_pos (hl.2 p hp).1)
        have kpos : ∀ q p, p ∈ ps b → 1 ≤ kaT p q := fun q p hp => ka_pos p (ho.c (mf p hp)) (hl.2 p hp).1 q
        have hpt : pol = true := by
          cases pol with
          | true => rfl
          | false =>
            exfalso
            have e1 : kaT b false = ((ps b).map (fun c => kaT c false)).sum := by rw [kaT_eq]; unfold kaS; rw [if_neg k16, if_pos k17]; simp
            have h2 : ∀ l : List Nat, (∀ p ∈ l, p ∈ ps b) → l.length ≤ (l.map (fun c => kaT c false)).sum := by
              intro l
              induction l with
              | nil => intro _; exact Nat.zero_le _
              | cons a l ihl =>
                intro hl'
                have := ihl (fun p hp => hl' p (List.mem_cons_of_mem _ hp))
                have := kpos false a (hl' a List.mem_cons_self)
                rw [List.length_cons, List.map_cons, List.sum_cons]
                omega
            have := h2 (ps b) (fun p hp => hp)
            have := hl.1
            omega
        have kone : ∀ p ∈ ps b, kaT p pol ≤ 1 := fun p hp => by
          rw [hpt] at hka ⊢
          have e1 : kaT b true = prN1 ((ps b).map (fun c => kaT c true)) := by rw [kaT_eq]; unfold kaS; rw [if_neg k16, if_pos k17]; simp
          rw [e1] at hka
          exact prN1_one (fun x hx => by
            obtain ⟨c, hc, e⟩ := List.mem_map.mp hx
            rw [← e]; exact kpos true c hc) hka _ (List.mem_map.mpr ⟨p, hp, rfl⟩)
        have eb : prS U V b pol i = V i := by unfold prS; rw [if_pos (Or.inl ⟨hpt, k17⟩)]
        have ep : ∀ p ∈ ps b, prS U V p pol i = U i := fun p hp => by unfold prS; rw [if_neg (by rw [hpt]; simp [(hl.2 p hp).2.1])]
        have efm : fms b = ps b := by
          unfold fms
          rw [if_neg (by omega)]
          exact List.filter_eq_self.mpr (fun c hc => by simpa using isFo_pos (hl.2 c hc).1)
        have hm := mv_pl (k := k) (d := 0) (i := i) (t := b) (by omega) (by omega)
        rw [efm] at hm
        have esc : ∀ p ∈ ps b, scT p pol ≤ scT b pol := fun p hp => by
          rw [scT_eq b]; unfold scS; rw [if_neg k16, if_pos k17]
          exact le_fmax (Or.inl (List.mem_map.mpr ⟨p, hp, rfl⟩))
        have li := wkg_li (Q := Q) (P := P) (F := fun p => wkT k i p 0 + evT p pol) (V := fun p => mvT k p 0 i) (U := fun p => suX sI sA p pol i + wuT w p) (X := V i + G i) (l := ps b) (fun p hp => by
          have hh := hg_part (t := b) (by omega) hp
          rw [if_neg k16] at hh
          have hs := esc p hp
          have h2 := (ih p (fms_lt (mf p hp)) (ho.c (mf p hp)) (hl.2 p hp).1 (hA.sub (sub_c (mf p hp) (sub_rf p))) (hT.sub (sub_c (mf p hp) (sub_rf p))) (hV.sub (sub_c (mf p hp) (sub_rf p))) pol i (by omega) (by have := ln_and (pol := pol) (i := i) k17 hp; omega) (by omega) (kone p hp)).2
          rw [ep p hp] at h2
          have g1 : mvT k p 0 i * (V i + G i) ≤ mvT k p 0 i * U i := Nat.mul_le_mul_left _ (hU i hi)
          show Q * (wkT k i p 0 + evT p pol) + mvT k p 0 i * (V i + G i) + P + (suX sI sA p pol i + wuT w p) ≤ P * szT p
          omega)
        have ew : wkT k i b 0 = mvT k b 0 i + ((ps b).map (fun c => wkT k i c 0)).sum := by
          rw [wk_eq]; unfold wkS; rw [if_neg k14, if_neg (by omega)]
        have ee : evT b pol = ((ps b).map (fun c => evT c pol)).sum := by rw [ev_eq]; unfold evS; rw [if_neg k16, if_pos k17]
        have eu : suX sI sA b pol i = sA + ((ps b).map (fun c => suX sI sA c pol i)).sum := by rw [suX_eq]; unfold suXS; rw [if_neg k16, if_pos k17]
        have es : ((ps b).map (fun p => wkT k i p 0 + evT p pol)).sum = ((ps b).map (fun c => wkT k i c 0)).sum + ((ps b).map (fun c => evT c pol)).sum := sum_map_add _
        have hvi := vi b 0
        have hvr := vr
        have es2 : ((ps b).map (fun p => suX sI sA p pol i + wuT w p)).sum = ((ps b).map (fun c => suX sI sA c pol i)).sum + ((ps b).map (wuT w)).sum := sum_map_add _
        rw [es, es2] at li
        rw [ew, ee, eu, eb, sz_pl b0 (by omega), wu_hi k14]
        generalize ((ps b).map (wuT w)).sum = wu at *
        generalize ((ps b).map (fun c => suX sI sA c pol i)).sum = su at *
        generalize mvT k b 0 i = v at *
        generalize ((ps b).map (fun c => wkT k i c 0)).sum = S at *
        generalize ((ps b).map (fun c => evT c pol)).sum = S2 at *
        generalize ((ps b).map (fun c => mvT k c 0 i)).sum = VV at *
        generalize ((ps b).map szT).sum = T at *
        generalize V i = X at *
        have g1 : v * (X + G i) ≤ VV * (X + G i) := Nat.mul_le_mul_right _ hm
        have g2 : P * 2 ≤ P * (ps b).length := Nat.mul_le_mul_left _ hl.1
        have st := wkg_step3 (P := P) (Q := Q) (v := v) (s := Q * (S + S2) + su + wu) (S := P * T) (X := X) (Y := X) hGA hi hvi hvr hsA (by rw [Nat.mul_add] at g1; omega) (Nat.le_refl _)
        simp only [Nat.mul_add, Nat.mul_one] at st ⊢
        omega
      · have k18 : kd b = 18 := by unfold isFo at hf; omega
        cases pol with
        | true =>
          have e0 : evT b true = 0 := by
            rw [ev_eq]; unfold evS
            rw [if_neg k16, if_neg k17, if_neg (fun q => by cases q.2)]
          have s0 : suX sI sA b true i = 0 := by
            rw [suX_eq]; unfold suXS
            rw [if_neg k16, if_neg k17, if_neg (fun q => by cases q.2)]
          rw [e0, s0, Nat.add_zero, Nat.add_zero]
          exact (lfc k16 k17 (fun q => by cases q.2)).1 k16
        | false =>
          obtain ⟨y, f, hp, y8, ff, my, mf⟩ := ps_all1 ho k18
          have of := ho.c mf
          have hhf := hg_part (t := b) (by omega) (c := f) (by rw [hp]; simp)
          rw [if_neg k16] at hhf
          have es : scT b false = 1 + scT f false := by rw [scT_eq]; unfold scS; rw [if_neg k16, if_neg k17, if_pos ⟨k18, rfl⟩, hp]; simp
          have hik : i < k := by omega
          have ek : kaT b false = kaT f false := by rw [kaT_eq]; unfold kaS; rw [if_neg k16, if_neg k17, if_pos ⟨k18, rfl⟩, hp]; simp [prN1]
          have ee : evT b false = wkT 1 1 f 0 + evT f false := by rw [ev_eq]; unfold evS; rw [if_neg k16, if_neg k17, if_pos ⟨k18, rfl⟩, hp]; simp
          have eu : suX sI sA b false i = sI i + suX sI sA f false (i + 1) := by rw [suX_eq]; unfold suXS; rw [if_neg k16, if_neg k17, if_pos ⟨k18, rfl⟩, hp]; simp
          have hvi := vi b 0
          have hvr := vr
          have rt : V (i + 1) ≤ Y := by
            have h1 := vmono (k - (i + 1)) (i + 1) (by omega)
            rw [show i + 1 + (k - (i + 1)) = k by omega] at h1
            exact Nat.le_trans h1 hY
          have ty : Q * wkT k i y 0 + mvT k y 0 i * V (i + 1) + P + w y ≤ P * szT y := by
            have h1 : Q * wkT k i y 0 + mvT k y 0 i * Y + P + w y ≤ P * szT y := by
              have ey : pa b 0 = y := by unfold pa; rw [hp]; rfl
              have := hT b (sub_rf b) k18
              rw [ey] at this
              exact this y8 i hik
            have h2 : mvT k y 0 i * V (i + 1) ≤ mvT k y 0 i * Y := Nat.mul_le_mul_left _ rt
            omega
          have bo := (ih f (fms_lt mf) of ff (hA.sub (sub_c mf (sub_rf f))) (hT.sub (sub_c mf (sub_rf f))) (hV.sub (sub_c mf (sub_rf f))) false (i + 1) (by omega) (by have := ln_all (i := i) k18 hp; omega) (by omega) (by rw [← ek]; exact hka)).2
          have wa := wk_add (k := k) (i := i) (by omega) f 0
          have ew : wkT k i b 0 = mvT k b 0 i + wkT k i y 0 + wkT k i f 1 := by
            rw [wk_eq]; unfold wkS; rw [if_neg k14, if_pos k18, hp]; simp
          have hm : mvT k b 0 i ≤ mvT k y 0 i + mvT k f 0 (i + 1) := by
            have h1 : vnT b 0 i ≤ (([0, 1] : List Nat).map (fun c => ((List.range i).filter (fun r => @decide ((if c = 0 then hvT y (0 + r) else hvT f (1 + r))) (Classical.propDecidable _))).length)).sum := flt_or (q := fun c r => if c = 0 then hvT y (0 + r) else hvT f (1 + r)) [0, 1] (List.range i) (fun r _ h => by
              rcases (hv_all k18 hp).mp h with q | q
              · exact ⟨0, by simp, by rw [if_pos rfl]; exact q⟩
              · exact ⟨1, by simp, by rw [if_neg (by decide)]; rw [show 1 + r = 0 + r + 1 by omega]; exact q⟩)
            have h2 : vnT b 0 i ≤ vnT y 0 i + vnT f 1 i := by simpa [vnT] using h1
            have h3 := vn_s (s := f) (d := 0) (i := i)
            have h4 : vnT f (0 + 1) i = vnT f 1 i := rfl
            unfold mvT
            omega
          have hsz : szT b = 1 + (szT y + szT f) := by rw [sz_pl b0 (by omega), hp]; simp
          have wa : wkT k i f 1 + wkT 1 1 f 0 ≤ wkT k (i + 1) f 0 := wa
          have up := hW i hik
          have eb : prS U V b false i = U i := by unfold prS; rw [if_neg (by simp [k18])]
          have pf : V (i + 1) ≤ prS U V f false (i + 1) := by
            unfold prS
            split
            · exact Nat.le_refl _
            · have := hU (i + 1) (by omega); omega
          have bo : Q * (wkT k (i + 1) f 0 + evT f false) + mvT k f 0 (i + 1) * V (i + 1) + P + suX sI sA f false (i + 1) + wuT w f ≤ P * szT f := by
            have g1 : mvT k f 0 (i + 1) * V (i + 1) ≤ mvT k f 0 (i + 1) * prS U V f false (i + 1) := Nat.mul_le_mul_left _ pf
            omega
          rw [eb]
          have ewu : wuT w b = w y + wuT w f := by rw [wu_hi k14, hp]; simp; exact wu_lo (by omega)
          rw [ew, ee, eu, hsz, ewu]
          generalize wuT w f = wf2 at *
          generalize w y = wy2 at *
          generalize suX sI sA f false (i + 1) = su at *
          generalize mvT k b 0 i = v at *
          generalize mvT k y 0 i = vy at *
          generalize mvT k f 0 (i + 1) = vf at *
          generalize wkT k i y 0 = wy at *
          generalize wkT k i f 1 = wf at *
          generalize wkT 1 1 f 0 = w1 at *
          generalize wkT k (i + 1) f 0 = w2 at *
          generalize evT f false = x at *
          generalize U i = X at *
          generalize V (i + 1) = X' at *
          have g0 : Q * (wf + w1) ≤ Q * w2 := Nat.mul_le_mul_left _ wa
          have g1 : v * (X + G i) ≤ (vy + vf) * X' := Nat.mul_le_mul hm up
          have g5 : (vy + vf) * X' = vy * X' + vf * X' := Nat.add_mul _ _ _
          have st := wkg_step2 (P := P) (Q := Q) (v := v) (s := Q * wy + Q * (w2 + x) + su + (wy2 + wf2)) (S := P * szT y + P * szT f) (X := X) (Y := X) hG hik hvi hvr (by simp only [Nat.mul_add] at bo g0 g1 ⊢; omega) (Nat.le_refl _)
          simp only [Nat.mul_add, Nat.mul_one] at st g0 ⊢
          omega
    exact ⟨fun _ => main, by omega⟩
theorem evhx_le {Cd : Nat → Prop} (hO : ∀ b pol i, okT b → isFo b → Alls Cd b → lnN b pol i ≤ kl → vnT b 0 i ≤ ko) (hG : GQ k ko P Q G sI) (hGA : GA k ko P Q sA G) (hsA : sA ≤ P) (hU : ∀ i, i ≤ k → V i + G i ≤ U i) (hW : ∀ i, i < k → U i + G i ≤ V (i + 1)) (hY : V k ≤ Y) (hZ : ∀ i, i ≤ k → U i + G i * H ≤ Z) {F : Nat} (ho : okT F) (hf : isFo F) (hA : Alls (AtLw w k kl P Q Z) F) (hT : Alls (AtAw w k P Q Y) F) (hV : Alls Cd F) (pol : Bool) (hs : scT F pol ≤ k) (hl : kpT F pol ≤ kl) (hH : hgT F ≤ H) (hka : kaT F pol ≤ 1) : Q * evT F pol + P + suX sI sA F pol 0 + wuT w F ≤ P * szT F := by
  have h0 : lnN F pol 0 = 0 := rfl
  have h := (evhx_fo hO hG hGA hsA hU hW hY hZ F ho hf hA hT hV pol 0 (by omega) (by omega) hH hka).2
  rw [wk_0, Nat.zero_add] at h
  omega
end OPH
/-- with one case: what is made beside is counted by opened binders and ANDs -/
theorem exo_suX {Q : Nat} : ∀ (F : Nat), okT F → isFo F → ∀ (pol : Bool) (i : Nat), kaT F pol ≤ 1 → Q * exoT F pol ≤ suX (fun _ => 2 * Q) Q F pol i := by
  intro F
  induction F using Nat.strongRecOn with
  | ind b ih =>
    intro ho hf pol i hka
    rw [exoT_eq, suX_eq]
    unfold exoS suXS
    by_cases k16 : kd b = 16
    · obtain ⟨f, hp, ff, kf, mf⟩ := ps_not1 ho k16
      have ek : kaT b pol = kaT f (!pol) := by rw [kaT_eq]; unfold kaS; rw [if_pos k16, hp]; simp [prN1]
      have h1 := ih f (fms_lt mf) (ho.c mf) ff (!pol) i (by rw [← ek]; exact hka)
      rw [if_pos k16, if_pos k16, hp]
      simpa using h1
    rw [if_neg k16, if_neg k16]
    by_cases k17 : kd b = 17
    · rw [if_pos k17, if_pos k17]
      have hl : 2 ≤ (ps b).length ∧ ∀ f ∈ ps b, isFo f := by
        rcases ho.n.2 with q | q | q | q | q | q | q | q | q | q | q | q | q | q <;> first | omega | exact ⟨q.2.2.1, fun p hp => (q.2.2.2 p hp).1⟩
      have mf : ∀ p ∈ ps b, p ∈ fms b := fun p hp => fms_mem hp (by omega) (isFo_pos (hl.2 p hp))
      have kpos : ∀ q p, p ∈ ps b → 1 ≤ kaT p q := fun q p hp => ka_pos p (ho.c (mf p hp)) (hl.2 p hp) q
      have hpt : pol = true := by
        cases pol with
        | true => rfl
        | false =>
          exfalso
          have e1 : kaT b false = ((ps b).map (fun c => kaT c false)).sum := by rw [kaT_eq]; unfold kaS; rw [if_neg k16, if_pos k17]; simp
          have h2 : ∀ l : List Nat, (∀ p ∈ l, p ∈ ps b) → l.length ≤ (l.map (fun c => kaT c false)).sum := by
            intro l
            induction l with
            | nil => intro _; exact Nat.zero_le _
            | cons a l ihl =>
              intro hl'
              have := ihl (fun p hp => hl' p (List.mem_cons_of_mem _ hp))
              have := kpos false a (hl' a List.mem_cons_self)
              rw [List.length_cons, List.map_cons, List.sum_cons]
              omega
          have := h2 (ps b) (fun p hp => hp)
          have := hl.1
          omega
      subst hpt
      have e1 : kaT b true = prN1 ((ps b).map (fun c => kaT c true)) := by rw [kaT_eq]; unfold kaS; rw [if_neg k16, if_pos k17]; simp
      rw [e1] at hka
      have kone : ∀ p ∈ ps b, kaT p true ≤ 1 := fun p hp => prN1_one (fun x hx => by
        obtain ⟨c, hc, e⟩ := List.mem_map.mp hx
        rw [← e]; exact kpos true c hc) hka _ (List.mem_map.mpr ⟨p, hp, rfl⟩)
      have h3 : ∀ l : List Nat, (∀ p ∈ l, p ∈ ps b) → Q * (l.map (fun c => exoT c true)).sum ≤ (l.map (fun c => suX (fun _ => 2 * Q) Q c true i)).sum := by
        intro l
        induction l with
        | nil => intro _; simp
        | cons a l ihl =>
          intro hl'
          have h4 := ihl (fun p hp => hl' p (List.mem_cons_of_mem _ hp))
          have ma := hl' a List.mem_cons_self
          have h5 := ih a (fms_lt (mf a ma)) (ho.c (mf a ma)) (hl.2 a ma) true i (kone a ma)
          rw [List.map_cons, List.sum_cons, List.map_cons, List.sum_cons, Nat.mul_add]
          omega
      have h6 := h3 (ps b) (fun p hp => hp)
      rw [if_pos rfl, Nat.mul_add]
      omega
    rw [if_neg k17, if_neg k17]
    by_cases k18 : kd b = 18 ∧ pol = false
    · obtain ⟨k18, kp⟩ := k18
      subst kp
      obtain ⟨y, f, hp, y8, ff, my, mf⟩ := ps_all1 ho k18
      have ek : kaT b false = kaT f false := by rw [kaT_eq]; unfold kaS; rw [if_neg k16, if_neg k17, if_pos ⟨k18, rfl⟩, hp]; simp [prN1]
      have h1 := ih f (fms_lt mf) (ho.c mf) ff false (i + 1) (by rw [← ek]; exact hka)
      rw [if_pos ⟨k18, rfl⟩, if_pos ⟨k18, rfl⟩, hp]
      simp [Nat.mul_add, Nat.mul_comm Q 2]
      exact h1
    · rw [if_neg k18, if_neg k18]
      simp
