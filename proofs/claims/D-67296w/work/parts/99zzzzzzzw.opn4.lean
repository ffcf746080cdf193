/-! counting openings: all the puts of an opening together -/
noncomputable def evS (f : Nat → Bool → Nat) (t : Nat) : Bool → Nat := fun pol => if kd t = 16 then ((ps t).map (fun c => f c (!pol))).sum else if kd t = 17 then ((ps t).map (fun c => f c pol)).sum else if kd t = 18 ∧ pol = false then (((ps t).drop 1).map (fun c => wkT 1 1 c 0 + f c false)).sum else 0
/-- inner forms that the puts make when a formula (false: NOT of it) is opened -/
noncomputable def evT (t : Nat) (pol : Bool) : Nat := rcT evS (fun _ => 0) t pol
theorem ev_eq (t : Nat) (pol : Bool) : evT t pol = evS evT t pol := by
  unfold evT
  rw [rc_eq (fun f f' t h => by
    unfold evS
    funext pol
    have h1 : (ps t).map (fun c => f c (!pol)) = (ps t).map (fun c => f' c (!pol)) := List.map_congr_left fun c hc => by rw [h c hc]
    have h2 : ((ps t).drop 1).map (fun c => wkT 1 1 c 0 + f c false) = ((ps t).drop 1).map (fun c => wkT 1 1 c 0 + f' c false) := List.map_congr_left fun c hc => by rw [h c (List.mem_of_mem_drop hc)]
    have h3 : (ps t).map (fun c => f c pol) = (ps t).map (fun c => f' c pol) := List.map_congr_left fun c hc => by rw [h c hc]
    rw [h1, h2, h3]) t]
def scS (f : Nat → Bool → Nat) (t : Nat) : Bool → Nat := fun pol => if kd t = 16 then ((ps t).map (fun c => f c (!pol))).foldl max 0 else if kd t = 17 then ((ps t).map (fun c => f c pol)).foldl max 0 else if kd t = 18 ∧ pol = false then 1 + (((ps t).drop 1).map (fun c => f c false)).foldl max 0 else 0
/-- how many puts stand one within the other -/
def scT (t : Nat) (pol : Bool) : Nat := rcT scS (fun _ => 0) t pol
theorem scT_eq (t : Nat) (pol : Bool) : scT t pol = scS scT t pol := by
  unfold scT
  rw [rc_eq (fun f f' t h => by
    unfold scS
    funext pol
    have h1 : (ps t).map (fun c => f c (!pol)) = (ps t).map (fun c => f' c (!pol)) := List.map_congr_left fun c hc => by rw [h c hc]
    have h2 : ((ps t).drop 1).map (fun c => f c false) = ((ps t).drop 1).map (fun c => f' c false) := List.map_congr_left fun c hc => by rw [h c (List.mem_of_mem_drop hc)]
    have h3 : (ps t).map (fun c => f c pol) = (ps t).map (fun c => f' c pol) := List.map_congr_left fun c hc => by rw [h c hc]
    rw [h1, h2, h3]) t]
section OPN
variable {k P Q G H m : Nat}
theorem wk_li2 {F V : Nat → Nat} {X : Nat} : ∀ {l : List Nat}, (∀ p ∈ l, k * Q * F p + G * V p * X + k * P ≤ k * P * szT p) → k * Q * (l.map F).sum + G * (l.map V).sum * X + k * P * l.length ≤ k * P * (l.map szT).sum
  | [], _ => by simp
  | p :: l, h => by
    have h1 := h p List.mem_cons_self
    have h2 := wk_li2 (X := X) (l := l) (fun q hq => h q (List.mem_cons_of_mem _ hq))
    simp only [List.map_cons, List.sum_cons, List.length_cons, Nat.mul_add, Nat.add_mul]
    omega
theorem ev_fo (hC : CQ k P Q G H m) : ∀ (b : Nat), okT b → isFo b → Alls (At4 m) b → ∀ (pol : Bool) (i : Nat), i + scT b pol ≤ k → hgT b ≤ H → (kd b ≠ 16 → k * Q * (wkT k i b 0 + evT b pol) + G * mvT k b 0 i * (H - hgT b) + k * P + (k * Q * mvT k b 0 i - k * P) ≤ k * P * szT b) ∧ k * Q * (wkT k i b 0 + evT b pol) + G * mvT k b 0 i * (H - hgT b) + k * P ≤ k * P * szT b := by
  intro b
  induction b using Nat.strongRecOn with
  | ind b ih =>
    intro ho hf hA pol i hsc hH
    have b0 := okT_0 ho
    by_cases k14 : kd b ≤ 14
    · have e0 : evT b pol = 0 := by
        rw [ev_eq]; unfold evS
        rw [if_neg (by omega), if_neg (by omega), if_neg (fun q => by have := q.1; omega)]
      rw [e0, Nat.add_zero]
      exact wk_fo hC b ho hf hA 0 hH
    by_cases k16 : kd b = 16
    · obtain ⟨f, hp, ff, kf, mf⟩ := ps_not1 ho k16
      have of := ho.c mf
      have hh : hgT f ≤ hgT b := by have := hg_part (t := b) (by omega) (c := f) (by rw [hp]; simp); rw [if_pos k16] at this; exact this
      have es : scT b pol = scT f (!pol) := by rw [scT_eq]; unfold scS; rw [if_pos k16, hp]; simp
      have ee : evT b pol = evT f (!pol) := by rw [ev_eq]; unfold evS; rw [if_pos k16, hp]; simp
      have h1 := (ih f (fms_lt mf) of ff (hA.sub (sub_c mf (sub_rf f))) (!pol) i (by rw [← es]; exact hsc) (by omega)).1 kf
      have ev : vnT b 0 i = vnT f 0 i := by
        have e1 : ∀ j, hvT b j ↔ hvT f j := fun j => by
          rw [hv_pl (by omega) (by omega)]
          have : fms b = [f] := by
            unfold fms
            rw [if_neg (by omega), hp]
            simp [okT_0 of]
          rw [this]
          simp
        exact Nat.le_antisymm (vn_mono (fun r hr hv => ⟨r, hr, (e1 _).mp hv, rfl⟩)) (vn_mono (fun r hr hv => ⟨r, hr, (e1 _).mpr hv, rfl⟩))
      have em : mvT k b 0 i = mvT k f 0 i := by unfold mvT; rw [ev]
      have ew : wkT k i b 0 = mvT k b 0 i + wkT k i f 0 := by
        rw [wk_eq]; unfold wkS; rw [if_neg k14, if_neg (by omega), hp]; simp
      have hs1 : szT b = 1 + szT f := by rw [sz_pl b0 (by omega), hp]; simp
      refine ⟨fun q => absurd k16 q, ?_⟩
      rw [ew, em, hs1, ee]
      generalize mvT k f 0 i = v at *
      generalize wkT k i f 0 = w at *
      generalize evT f (!pol) = x at *
      have g1 : G * v * (H - hgT b) ≤ G * v * (H - hgT f) := Nat.mul_le_mul_left (G * v) (by omega)
      simp only [Nat.mul_add, Nat.mul_one] at h1 ⊢
      omega
    have hvk : mvT k b 0 i ≤ k := mv_k
    have main : k * Q * (wkT k i b 0 + evT b pol) + G * mvT k b 0 i * (H - hgT b) + k * P + (k * Q * mvT k b 0 i - k * P) ≤ k * P * szT b := by
      by_cases k17 : kd b = 17
      · have hl : 2 ≤ (ps b).length ∧ ∀ f ∈ ps b, isFo f ∧ kd f ≠ 17 ∧ f ≠ yesT ∧ f ≠ noT := by
          rcases ho.n.2 with q | q | q | q | q | q | q | q | q | q | q | q | q | q <;> first | omega | exact q.2.2
        have mf : ∀ p ∈ ps b, p ∈ fms b := fun p hp => fms_mem hp (by omega) (isFo_pos (hl.2 p hp).1)
        have efm : fms b = ps b := by
          unfold fms
          rw [if_neg (by omega)]
          exact List.filter_eq_self.mpr (fun c hc => by simpa using isFo_pos (hl.2 c hc).1)
        have hm := mv_pl (k := k) (d := 0) (i := i) (t := b) (by omega) (by omega)
        rw [efm] at hm
        have hg1 : 1 ≤ hgT b := by
          have hne : ps b ≠ [] := fun q => by rw [q] at hl; simp at hl
          obtain ⟨c, hc⟩ := List.exists_mem_of_ne_nil _ hne
          have := hg_part (t := b) (by omega) hc
          rw [if_neg k16] at this
          omega
        have esc : ∀ p ∈ ps b, scT p pol ≤ scT b pol := fun p hp => by
          rw [scT_eq b]; unfold scS; rw [if_neg k16, if_pos k17]
          exact le_fmax (Or.inl (List.mem_map.mpr ⟨p, hp, rfl⟩))
        have li := wk_li2 (k := k) (Q := Q) (G := G) (P := P) (F := fun p => wkT k i p 0 + evT p pol) (V := fun p => mvT k p 0 i) (X := H - hgT b + 1) (l := ps b) (fun p hp => by
          have hh := hg_part (t := b) (by omega) hp
          rw [if_neg k16] at hh
          have hs := esc p hp
          have h2 := (ih p (fms_lt (mf p hp)) (ho.c (mf p hp)) (hl.2 p hp).1 (hA.sub (sub_c (mf p hp) (sub_rf p))) pol i (by omega) (by omega)).2
          have g1 : G * mvT k p 0 i * (H - hgT b + 1) ≤ G * mvT k p 0 i * (H - hgT p) := Nat.mul_le_mul_left _ (by omega)
          show k * Q * (wkT k i p 0 + evT p pol) + G * mvT k p 0 i * (H - hgT b + 1) + k * P ≤ k * P * szT p
          omega)
        have ew : wkT k i b 0 = mvT k b 0 i + ((ps b).map (fun c => wkT k i c 0)).sum := by
          rw [wk_eq]; unfold wkS; rw [if_neg k14, if_neg (by omega)]
        have ee : evT b pol = ((ps b).map (fun c => evT c pol)).sum := by rw [ev_eq]; unfold evS; rw [if_neg k16, if_pos k17]
        have es : ((ps b).map (fun p => wkT k i p 0 + evT p pol)).sum = ((ps b).map (fun c => wkT k i c 0)).sum + ((ps b).map (fun c => evT c pol)).sum := sum_map_add _
        rw [es] at li
        rw [ew, ee, sz_pl b0 (by omega)]
        generalize mvT k b 0 i = v at *
        generalize ((ps b).map (fun c => wkT k i c 0)).sum = S at *
        generalize ((ps b).map (fun c => evT c pol)).sum = S2 at *
        generalize ((ps b).map (fun c => mvT k c 0 i)).sum = V at *
        generalize ((ps b).map szT).sum = Z at *
        have g1 : G * v * (H - hgT b + 1) ≤ G * V * (H - hgT b + 1) := Nat.mul_le_mul_right _ (Nat.mul_le_mul_left G hm)
        have g2 : k * P * 2 ≤ k * P * (ps b).length := Nat.mul_le_mul_left _ hl.1
        have g3 : G * v * (H - hgT b + 1) = G * v * (H - hgT b) + G * v := by rw [Nat.mul_add, Nat.mul_one]
        have st := wk_step (k := k) (P := P) (Q := Q) (G := G) (v := v) (s := k * Q * (S + S2)) (S := k * P * Z) (X := H - hgT b) hC hvk (by omega)
        simp only [Nat.mul_add, Nat.mul_one] at st ⊢
        omega
      · have k18 : kd b = 18 := by unfold isFo at hf; omega
        cases pol with
        | true =>
          have e0 : evT b true = 0 := by
            rw [ev_eq]; unfold evS
            rw [if_neg k16, if_neg k17, if_neg (fun q => by cases q.2)]
          rw [e0, Nat.add_zero]
          exact (wk_fo hC b ho hf hA 0 hH).1 k16
        | false =>
          obtain ⟨y, f, hp, y8, ff, my, mf⟩ := ps_all1 ho k18
          have oy := ho.c my
          have of := ho.c mf
          have hhf := hg_part (t := b) (by omega) (c := f) (by rw [hp]; simp)
          rw [if_neg k16] at hhf
          have es : scT b false = 1 + scT f false := by rw [scT_eq]; unfold scS; rw [if_neg k16, if_neg k17, if_pos ⟨k18, rfl⟩, hp]; simp
          have ee : evT b false = wkT 1 1 f 0 + evT f false := by rw [ev_eq]; unfold evS; rw [if_neg k16, if_neg k17, if_pos ⟨k18, rfl⟩, hp]; simp
          have ty := wk_at (i := i) hC (d := 0) oy (by omega) (by omega) (hA.sub (sub_c my (sub_rf y)))
          have bo := (ih f (fms_lt mf) of ff (hA.sub (sub_c mf (sub_rf f))) false (i + 1) (by omega) (by omega)).2
          have wa := wk_add (k := k) (i := i) (by omega) f 0
          have ew : wkT k i b 0 = mvT k b 0 i + wkT k i y 0 + wkT k i f 1 := by
            rw [wk_eq]; unfold wkS; rw [if_neg k14, if_pos k18, hp]; simp
          have hm : mvT k b 0 i ≤ mvT k y 0 i + mvT k f 0 (i + 1) := by
            have h1 : vnT b 0 i ≤ (([0, 1] : List Nat).map (fun c => ((List.range i).filter (fun r => @decide ((if c = 0 then hvT y (0 + r) else hvT f (1 + r))) (Classical.propDecidable _))).length)).sum := flt_or (q := fun c r => if c = 0 then hvT y (0 + r) else hvT f (1 + r)) [0, 1] (List.range i) (fun r _ h => by
              rcases (hv_all k18 hp).mp h with q | q
              · exact ⟨0, by simp, by rw [if_pos rfl]; exact q⟩
              · exact ⟨1, by simp, by rw [if_neg (by decide)]; rw [show 1 + r = 0 + r + 1 by omega]; exact q⟩)
            have h2 : vnT b 0 i ≤ vnT y 0 i + vnT f 1 i := by simpa [vnT] using h1
            have h3 := vn_s (s := f) (d := 0) (i := i)
            have h4 : vnT f (0 + 1) i = vnT f 1 i := rfl
            unfold mvT
            omega
          have hsz : szT b = 1 + (szT y + szT f) := by rw [sz_pl b0 (by omega), hp]; simp
          have wa : wkT k i f 1 + wkT 1 1 f 0 ≤ wkT k (i + 1) f 0 := wa
          rw [ew, ee, hsz]
          generalize mvT k b 0 i = v at *
          generalize mvT k y 0 i = vy at *
          generalize mvT k f 0 (i + 1) = vf at *
          generalize wkT k i y 0 = wy at *
          generalize wkT k i f 1 = wf at *
          generalize wkT 1 1 f 0 = w1 at *
          generalize wkT k (i + 1) f 0 = w2 at *
          generalize evT f false = x at *
          have g0 : k * Q * (wf + w1) ≤ k * Q * w2 := Nat.mul_le_mul_left _ wa
          have g1 : G * v * (H - hgT b + 1) ≤ G * (vy + vf) * (H - hgT b + 1) := Nat.mul_le_mul_right _ (Nat.mul_le_mul_left G hm)
          have g2 : G * vy * (H - hgT b + 1) ≤ G * vy * H := Nat.mul_le_mul_left _ (by omega)
          have g4 : G * vf * (H - hgT b + 1) ≤ G * vf * (H - hgT f) := Nat.mul_le_mul_left _ (by omega)
          have g3 : G * v * (H - hgT b + 1) = G * v * (H - hgT b) + G * v := by rw [Nat.mul_add, Nat.mul_one]
          have g5 : G * (vy + vf) * (H - hgT b + 1) = G * vy * (H - hgT b + 1) + G * vf * (H - hgT b + 1) := by rw [Nat.mul_add G, Nat.add_mul]
          have st := wk_step (k := k) (P := P) (Q := Q) (G := G) (v := v) (s := k * Q * wy + k * Q * (w2 + x)) (S := k * P * szT y + k * P * szT f) (X := H - hgT b) hC hvk (by omega)
          simp only [Nat.mul_add, Nat.mul_one] at st g0 ⊢
          omega
    exact ⟨fun _ => main, by omega⟩
/-- all puts of an opening: at most P / Q times the size -/
theorem ev_le (hC : CQ k P Q G H m) (k0 : 0 < k) {F : Nat} (ho : okT F) (hf : isFo F) (hA : Alls (At4 m) F) (pol : Bool) (hs : scT F pol ≤ k) (hH : hgT F ≤ H) : Q * evT F pol + P ≤ P * szT F := by
  have h := (ev_fo hC F ho hf hA pol 0 (by omega) hH).2
  rw [wk_0, Nat.zero_add] at h
  have h1 : k * (Q * evT F pol + P) ≤ k * (P * szT F) := by
    rw [Nat.mul_add, ← Nat.mul_assoc, ← Nat.mul_assoc]
    omega
  exact Nat.le_of_mul_le_mul_left h1 k0
end OPN
