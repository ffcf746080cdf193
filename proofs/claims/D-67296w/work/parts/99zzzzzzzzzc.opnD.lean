/-! counting openings: the names of the leaves -/
/-- a leaf speaks of the binder j -/
def lvoS (f : Nat → Bool → Nat → Prop) (t : Nat) : Bool → Nat → Prop := fun pol j => if kd t = 16 then ∃ c ∈ ps t, f c (!pol) j else if kd t = 17 then ∃ c ∈ ps t, f c pol j else if kd t = 18 ∧ pol = false then ∃ c ∈ (ps t).drop 1, f c false (j + 1) else hvT t j
def lvo (t : Nat) (pol : Bool) (j : Nat) : Prop := rcT lvoS (fun _ _ => False) t pol j
theorem lvo_eq (t : Nat) (pol : Bool) (j : Nat) : lvo t pol j = lvoS lvo t pol j := by
  unfold lvo
  rw [rc_eq (fun f f' t h => by
    unfold lvoS
    funext pol j
    have h1 : ∀ b, (∃ c ∈ ps t, f c b j) = (∃ c ∈ ps t, f' c b j) := fun b => propext ⟨fun ⟨c, hc, q⟩ => ⟨c, hc, by rw [← h c hc]; exact q⟩, fun ⟨c, hc, q⟩ => ⟨c, hc, by rw [h c hc]; exact q⟩⟩
    have h2 : (∃ c ∈ (ps t).drop 1, f c false (j + 1)) = (∃ c ∈ (ps t).drop 1, f' c false (j + 1)) := propext ⟨fun ⟨c, hc, q⟩ => ⟨c, hc, by rw [← h c (List.mem_of_mem_drop hc)]; exact q⟩, fun ⟨c, hc, q⟩ => ⟨c, hc, by rw [h c (List.mem_of_mem_drop hc)]; exact q⟩⟩
    rw [h1, h1, h2]) t]
/-- of how many of the i binders around leaves speak -/
noncomputable def lnN (t : Nat) (pol : Bool) (i : Nat) : Nat := ((List.range i).filter (fun r => @decide (lvo t pol r) (Classical.propDecidable _))).length
/-- of how many opened binders leaves speak -/
noncomputable def kpS (f : Nat → Bool → Nat) (t : Nat) : Bool → Nat := fun pol => if kd t = 16 then ((ps t).map (fun c => f c (!pol))).sum else if kd t = 17 then ((ps t).map (fun c => f c pol)).sum else if kd t = 18 ∧ pol = false then (((ps t).drop 1).map (fun c => (if @decide (lvo c false 0) (Classical.propDecidable _) = true then 1 else 0) + f c false)).sum else 0
noncomputable def kpT (t : Nat) (pol : Bool) : Nat := rcT kpS (fun _ => 0) t pol
theorem kp_eq (t : Nat) (pol : Bool) : kpT t pol = kpS kpT t pol := by
  unfold kpT
  rw [rc_eq (fun f f' t h => by
    unfold kpS
    funext pol
    have h1 : ∀ b, (ps t).map (fun c => f c b) = (ps t).map (fun c => f' c b) := fun b => List.map_congr_left fun c hc => by rw [h c hc]
    have h2 : ((ps t).drop 1).map (fun c => (if @decide (lvo c false 0) (Classical.propDecidable _) = true then 1 else 0) + f c false) = ((ps t).drop 1).map (fun c => (if @decide (lvo c false 0) (Classical.propDecidable _) = true then 1 else 0) + f' c false) := List.map_congr_left fun c hc => by rw [h c (List.mem_of_mem_drop hc)]
    rw [h1, h1, h2]) t]
theorem ln_mem {t : Nat} {pol : Bool} {i r : Nat} : r ∈ (List.range i).filter (fun r => @decide (lvo t pol r) (Classical.propDecidable _)) ↔ r < i ∧ lvo t pol r := by
  rw [List.mem_filter, List.mem_range]
  simp
theorem ln_nd {t : Nat} {pol : Bool} {i : Nat} : ((List.range i).filter (fun r => @decide (lvo t pol r) (Classical.propDecidable _))).Nodup := List.Pairwise.filter _ List.nodup_range
theorem ln_mono {s t : Nat} {p q : Bool} {i : Nat} (h : ∀ r, r < i → lvo s p r → lvo t q r) : lnN s p i ≤ lnN t q i := by
  unfold lnN
  refine nd_lenL _ _ ln_nd (fun x hx => ?_)
  obtain ⟨q1, q2⟩ := ln_mem.mp hx
  exact ln_mem.mpr ⟨q1, h x q1 q2⟩
theorem ln_leaf {b : Nat} {pol : Bool} {i : Nat} (h16 : kd b ≠ 16) (h17 : kd b ≠ 17) (h18 : ¬ (kd b = 18 ∧ pol = false)) : vnT b 0 i ≤ lnN b pol i := by
  unfold vnT lnN
  refine nd_lenL _ _ vn_nd (fun x hx => ?_)
  obtain ⟨q1, q2⟩ := vn_mem.mp hx
  refine ln_mem.mpr ⟨q1, ?_⟩
  rw [lvo_eq]
  unfold lvoS
  rw [if_neg h16, if_neg h17, if_neg h18]
  rw [Nat.zero_add] at q2
  exact q2
theorem ln_not {b f i : Nat} {pol : Bool} (h16 : kd b = 16) (hp : ps b = [f]) : lnN f (!pol) i + kpT f (!pol) ≤ lnN b pol i + kpT b pol := by
  have h1 : lnN f (!pol) i ≤ lnN b pol i := ln_mono (fun r hr q => by
    rw [lvo_eq]; unfold lvoS; rw [if_pos h16, hp]
    exact ⟨f, List.mem_cons_self, q⟩)
  have h2 : kpT b pol = kpT f (!pol) := by rw [kp_eq]; unfold kpS; rw [if_pos h16, hp]; simp
  omega
theorem ln_and {b p i : Nat} {pol : Bool} (h17 : kd b = 17) (hp : p ∈ ps b) : lnN p pol i + kpT p pol ≤ lnN b pol i + kpT b pol := by
  have h1 : lnN p pol i ≤ lnN b pol i := ln_mono (fun r hr q => by
    rw [lvo_eq]; unfold lvoS; rw [if_neg (by omega), if_pos h17]
    exact ⟨p, hp, q⟩)
  have h2 : kpT p pol ≤ kpT b pol := by
    rw [kp_eq b]; unfold kpS; rw [if_neg (by omega), if_pos h17]
    exact le_sum_mem (f := fun c => kpT c pol) hp
  omega
theorem ln_all {b y f i : Nat} (h18 : kd b = 18) (hp : ps b = [y, f]) : lnN f false (i + 1) + kpT f false ≤ lnN b false i + kpT b false := by
  have h2 : kpT b false = (if @decide (lvo f false 0) (Classical.propDecidable _) = true then 1 else 0) + kpT f false := by
    rw [kp_eq]; unfold kpS; rw [if_neg (by omega), if_neg (by omega), if_pos ⟨h18, rfl⟩, hp]; simp
  have h1 : lnN f false (i + 1) ≤ (if @decide (lvo f false 0) (Classical.propDecidable _) = true then 1 else 0) + lnN b false i := by
    unfold lnN
    rw [List.range_succ_eq_map, List.filter_cons, List.filter_map, ]
    have h3 : ((List.range i).filter ((fun r => @decide (lvo f false r) (Classical.propDecidable _)) ∘ Nat.succ)).length ≤ ((List.range i).filter (fun r => @decide (lvo b false r) (Classical.propDecidable _))).length := nd_lenL _ _ (List.Pairwise.filter _ List.nodup_range) (fun x hx => by
      obtain ⟨q1, q2⟩ := List.mem_filter.mp hx
      refine ln_mem.mpr ⟨List.mem_range.mp q1, ?_⟩
      rw [lvo_eq]; unfold lvoS; rw [if_neg (by omega), if_neg (by omega), if_pos ⟨h18, rfl⟩, hp]
      refine ⟨f, by simp, ?_⟩
      simpa using q2)
    split
    · rw [List.length_cons, List.length_map]; omega
    · rw [List.length_map]; omega
  omega
/-- types without leaves -/
def TyZ (s : Nat) : Prop := kd s = 8 → lf s = 0
theorem hv_lf1 {s j : Nat} (ho : okT s) (h14 : kd s ≤ 14) (h : hvT s j) : 1 ≤ lf s := by
  have h1 : 1 ≤ vnT s j 1 := by
    have : (0 : Nat) ∈ (List.range 1).filter (fun r => @decide (hvT s (j + r)) (Classical.propDecidable _)) := vn_mem.mpr ⟨by omega, by rw [Nat.add_zero]; exact h⟩
    exact List.length_pos_of_mem this
  have := vn_lf (d := j) (i := 1) ho h14
  omega
/-- where types have no leaves, only leaves speak of binders -/
theorem lvo_all : ∀ (b : Nat), okT b → isFo b → Alls TyZ b → ∀ (pol : Bool) (j : Nat), hvT b j → lvo b pol j := by
  intro b
  induction b using Nat.strongRecOn with
  | ind b ih =>
    intro ho hf hA pol j h
    rw [lvo_eq]
    unfold lvoS
    by_cases k16 : kd b = 16
    · obtain ⟨f, hp, ff, kf, mf⟩ := ps_not1 ho k16
      rw [if_pos k16, hp]
      obtain ⟨z, hz, q⟩ := (hv_pl (by omega) (by omega)).mp h
      have e : z = f := by
        have := (fms_ps hz).1
        rw [hp] at this
        exact List.mem_singleton.mp this
      rw [e] at q
      exact ⟨f, List.mem_cons_self, ih f (fms_lt mf) (ho.c mf) ff (hA.sub (sub_c mf (sub_rf f))) _ j q⟩
    rw [if_neg k16]
    by_cases k17 : kd b = 17
    · have hl : ∀ f ∈ ps b, isFo f := by
        rcases ho.n.2 with q | q | q | q | q | q | q | q | q | q | q | q | q | q <;> first | omega | exact fun p hp => (q.2.2.2 p hp).1
      rw [if_pos k17]
      obtain ⟨z, hz, q⟩ := (hv_pl (by omega) (by omega)).mp h
      have mz := (fms_ps hz).1
      exact ⟨z, mz, ih z (fms_lt hz) (ho.c hz) (hl z mz) (hA.sub (sub_c hz (sub_rf z))) pol j q⟩
    rw [if_neg k17]
    by_cases k18 : kd b = 18 ∧ pol = false
    · obtain ⟨y, f, hp, y8, ff, my, mf⟩ := ps_all1 ho k18.1
      rw [if_pos k18, hp]
      rcases (hv_all k18.1 hp).mp h with q | q
      · exfalso
        have h1 := hv_lf1 (ho.c my) (by omega) q
        have h2 := hA y (sub_c my (sub_rf y)) y8
        omega
      · exact ⟨f, by simp, ih f (fms_lt mf) (ho.c mf) ff (hA.sub (sub_c mf (sub_rf f))) false (j + 1) q⟩
    · rw [if_neg k18]; exact h
theorem ln_vn {kl : Nat} (b : Nat) (pol : Bool) (i : Nat) (ho : okT b) (hf : isFo b) (hA : Alls TyZ b) (h : lnN b pol i ≤ kl) : vnT b 0 i ≤ kl := by
  refine Nat.le_trans ?_ h
  unfold vnT lnN
  refine nd_lenL _ _ vn_nd (fun x hx => ?_)
  obtain ⟨q1, q2⟩ := vn_mem.mp hx
  rw [Nat.zero_add] at q2
  exact ln_mem.mpr ⟨q1, lvo_all b ho hf hA pol x q2⟩
theorem vb_vn {kl ko : Nat} (b : Nat) (pol : Bool) (i : Nat) (_ : okT b) (_ : isFo b) (hA : Alls (VnB ko) b) (_ : lnN b pol i ≤ kl) : vnT b 0 i ≤ ko := hA b (sub_rf b) 0 i
section OPC
variable {k ko kl P Q H Z Y g : Nat} {G sI : Nat → Nat}
/-- all puts of an opening, under i opened binders -/
theorem evq_fo {Cd : Nat → Prop} (hO : ∀ b pol i, okT b → isFo b → Alls Cd b → lnN b pol i ≤ kl → vnT b 0 i ≤ ko) (hG : GQ k ko P Q G sI) (hL : GL kl P Q g) (hk : k ≤ H) (hY : Rv G k + G k * (H - k) ≤ Y) (hZ : Y + g * H ≤ Z) : ∀ (b : Nat), okT b → isFo b → Alls (AtL k kl P Q Z) b → Alls (AtT k P Q Y) b → Alls Cd b → ∀ (pol : Bool) (i : Nat), i + scT b pol ≤ k → lnN b pol i + kpT b pol ≤ kl → hgT b + i ≤ H → (kd b ≠ 16 → Q * (wkT k i b 0 + evT b pol) + mvT k b 0 i * rsv G H i (hgT b) + P + (Q * mvT k b 0 i - P) + suG sI b pol i ≤ P * szT b) ∧ Q * (wkT k i b 0 + evT b pol) + mvT k b 0 i * rsv G H i (hgT b) + P + suG sI b pol i ≤ P * szT b := by
  intro b
  induction b using Nat.strongRecOn with
  | ind b ih =>
    intro ho hf hA hT hV pol i hsc hln hH
    have b0 := okT_0 ho
    have hi : i ≤ k := by omega
    have vr : mvT k b 0 i ≤ ko := by have := hO b pol i ho hf hV (by omega); unfold mvT; omega
    have vi : ∀ s d, mvT k s d i ≤ i := fun s d => by have := vn_i (s := s) (d := d) (i := i); unfold mvT; omega
    have lfc : kd b ≠ 16 → kd b ≠ 17 → ¬ (kd b = 18 ∧ pol = false) → (kd b ≠ 16 → Q * wkT k i b 0 + mvT k b 0 i * rsv G H i (hgT b) + P + (Q * mvT k b 0 i - P) ≤ P * szT b) ∧ Q * wkT k i b 0 + mvT k b 0 i * rsv G H i (hgT b) + P ≤ P * szT b := fun a1 a2 a3 => by
      have hv : vnT b 0 i ≤ kl := by
        have h1 : vnT b 0 i ≤ lnN b pol i := ln_leaf a1 a2 a3
        omega
      have h2 := wkl_fo (k := k) (Z := Z) hL hZ b ho hf hA i 0 hi hv (by omega)
      have h3 : rsv G H i (hgT b) ≤ rsl Y g H (hgT b) := by
        have := rsv_top (h := hgT b) hG hk (m := k - i) (i := i) (by omega)
        unfold rsl
        omega
      have h4 : mvT k b 0 i * rsv G H i (hgT b) ≤ mvT k b 0 i * rsl Y g H (hgT b) := Nat.mul_le_mul_left _ h3
      exact ⟨fun z => by have := h2.1 z; omega, by omega⟩
    by_cases k14 : kd b ≤ 14
    · have e0 : evT b pol = 0 := by
        rw [ev_eq]; unfold evS
        rw [if_neg (by omega), if_neg (by omega), if_neg (fun q => by have := q.1; omega)]
      have s0 : suG sI b pol i = 0 := by
        rw [suG_eq]; unfold suZ
        rw [if_neg (by omega), if_neg (by omega), if_neg (fun q => by have := q.1; omega)]
      rw [e0, s0, Nat.add_zero]
      exact lfc (by omega) (by omega) (by omega)
    by_cases k16 : kd b = 16
    · obtain ⟨f, hp, ff, kf, mf⟩ := ps_not1 ho k16
      have of := ho.c mf
      have hh : hgT f ≤ hgT b := by have := hg_part (t := b) (by omega) (c := f) (by rw [hp]; simp); rw [if_pos k16] at this; exact this
      have es : scT b pol = scT f (!pol) := by rw [scT_eq]; unfold scS; rw [if_pos k16, hp]; simp
      have ee : evT b pol = evT f (!pol) := by rw [ev_eq]; unfold evS; rw [if_pos k16, hp]; simp
      have eu : suG sI b pol i = suG sI f (!pol) i := by rw [suG_eq]; unfold suZ; rw [if_pos k16, hp]; simp
      have h1 := (ih f (fms_lt mf) of ff (hA.sub (sub_c mf (sub_rf f))) (hT.sub (sub_c mf (sub_rf f))) (hV.sub (sub_c mf (sub_rf f))) (!pol) i (by rw [← es]; exact hsc) (by have := ln_not (pol := pol) (i := i) k16 hp; omega) (by omega)).1 kf
      have ev : vnT b 0 i = vnT f 0 i := by
        have e1 : ∀ j, hvT b j ↔ hvT f j := fun j => by
          rw [hv_pl (by omega) (by omega)]
          have : fms b = [f] := by
            unfold fms
            rw [if_neg (by omega), hp]
            simp [okT_0 of]
          rw [this]
          simp
        exact Nat.le_antisymm (vn_mono (fun r hr hv => ⟨r, hr, (e1 _).mp hv, rfl⟩)) (vn_mono (fun r hr hv => ⟨r, hr, (e1 _).mpr hv, rfl⟩))
      have em : mvT k b 0 i = mvT k f 0 i := by unfold mvT; rw [ev]
      have ew : wkT k i b 0 = mvT k b 0 i + wkT k i f 0 := by
        rw [wk_eq]; unfold wkS; rw [if_neg k14, if_neg (by omega), hp]; simp
      have hs1 : szT b = 1 + szT f := by rw [sz_pl b0 (by omega), hp]; simp
      refine ⟨fun q => absurd k16 q, ?_⟩
      rw [ew, em, hs1, ee, eu]
      have g1 : mvT k f 0 i * rsv G H i (hgT b) ≤ mvT k f 0 i * rsv G H i (hgT f) := Nat.mul_le_mul_left _ (rsv_mono hh)
      generalize suG sI f (!pol) i = su at *
      generalize mvT k f 0 i = v at *
      generalize wkT k i f 0 = w at *
      generalize evT f (!pol) = x at *
      simp only [Nat.mul_add, Nat.mul_one] at h1 ⊢
      omega
    have main : Q * (wkT k i b 0 + evT b pol) + mvT k b 0 i * rsv G H i (hgT b) + P + (Q * mvT k b 0 i - P) + suG sI b pol i ≤ P * szT b := by
      by_cases k17 : kd b = 17
      · have hl : 2 ≤ (ps b).length ∧ ∀ f ∈ ps b, isFo f ∧ kd f ≠ 17 ∧ f ≠ yesT ∧ f ≠ noT := by
          rcases ho.n.2 with q | q | q | q | q | q | q | q | q | q | q | q | q | q <;> first | omega | exact q.2.2
        have mf : ∀ p ∈ ps b, p ∈ fms b := fun p hp => fms_mem hp (by omega) (isFo_pos (hl.2 p hp).1)
        have efm : fms b = ps b := by
          unfold fms
          rw [if_neg (by omega)]
          exact List.filter_eq_self.mpr (fun c hc => by simpa using isFo_pos (hl.2 c hc).1)
        have hm := mv_pl (k := k) (d := 0) (i := i) (t := b) (by omega) (by omega)
        rw [efm] at hm
        have esc : ∀ p ∈ ps b, scT p pol ≤ scT b pol := fun p hp => by
          rw [scT_eq b]; unfold scS; rw [if_neg k16, if_pos k17]
          exact le_fmax (Or.inl (List.mem_map.mpr ⟨p, hp, rfl⟩))
        have li := wkg_li (Q := Q) (P := P) (F := fun p => wkT k i p 0 + evT p pol) (V := fun p => mvT k p 0 i) (U := fun p => suG sI p pol i) (X := rsv G H i (hgT b) + G i) (l := ps b) (fun p hp => by
          have hh := hg_part (t := b) (by omega) hp
          rw [if_neg k16] at hh
          have hs := esc p hp
          have h2 := (ih p (fms_lt (mf p hp)) (ho.c (mf p hp)) (hl.2 p hp).1 (hA.sub (sub_c (mf p hp) (sub_rf p))) (hT.sub (sub_c (mf p hp) (sub_rf p))) (hV.sub (sub_c (mf p hp) (sub_rf p))) pol i (by omega) (by have := ln_and (pol := pol) (i := i) k17 hp; omega) (by omega)).2
          have g1 : mvT k p 0 i * (rsv G H i (hgT b) + G i) ≤ mvT k p 0 i * rsv G H i (hgT p) := Nat.mul_le_mul_left _ (rsv_up hh hH)
          show Q * (wkT k i p 0 + evT p pol) + mvT k p 0 i * (rsv G H i (hgT b) + G i) + P + suG sI p pol i ≤ P * szT p
          omega)
        have ew : wkT k i b 0 = mvT k b 0 i + ((ps b).map (fun c => wkT k i c 0)).sum := by
          rw [wk_eq]; unfold wkS; rw [if_neg k14, if_neg (by omega)]
        have ee : evT b pol = ((ps b).map (fun c => evT c pol)).sum := by rw [ev_eq]; unfold evS; rw [if_neg k16, if_pos k17]
        have eu : suG sI b pol i = ((ps b).map (fun c => suG sI c pol i)).sum := by rw [suG_eq]; unfold suZ; rw [if_neg k16, if_pos k17]
        have es : ((ps b).map (fun p => wkT k i p 0 + evT p pol)).sum = ((ps b).map (fun c => wkT k i c 0)).sum + ((ps b).map (fun c => evT c pol)).sum := sum_map_add _
        have hvi := vi b 0
        have hvr := vr
        rw [es] at li
        rw [ew, ee, eu, sz_pl b0 (by omega)]
        generalize ((ps b).map (fun c => suG sI c pol i)).sum = su at *
        generalize mvT k b 0 i = v at *
        generalize ((ps b).map (fun c => wkT k i c 0)).sum = S at *
        generalize ((ps b).map (fun c => evT c pol)).sum = S2 at *
        generalize ((ps b).map (fun c => mvT k c 0 i)).sum = V at *
        generalize ((ps b).map szT).sum = T at *
        generalize rsv G H i (hgT b) = X at *
        have g1 : v * (X + G i) ≤ V * (X + G i) := Nat.mul_le_mul_right _ hm
        have g2 : P * 2 ≤ P * (ps b).length := Nat.mul_le_mul_left _ hl.1
        have st := wkg_step (P := P) (Q := Q) (v := v) (s := Q * (S + S2) + su) (S := P * T) (X := X) (Y := X) hG hi hvi hvr (by rw [Nat.mul_add] at g1; omega) (Nat.le_refl _)
        simp only [Nat.mul_add, Nat.mul_one] at st ⊢
        omega
      · have k18 : kd b = 18 := by unfold isFo at hf; omega
        cases pol with
        | true =>
          have e0 : evT b true = 0 := by
            rw [ev_eq]; unfold evS
            rw [if_neg k16, if_neg k17, if_neg (fun q => by cases q.2)]
          have s0 : suG sI b true i = 0 := by
            rw [suG_eq]; unfold suZ
            rw [if_neg k16, if_neg k17, if_neg (fun q => by cases q.2)]
          rw [e0, s0, Nat.add_zero]
          exact (lfc k16 k17 (fun q => by cases q.2)).1 k16
        | false =>
          obtain ⟨y, f, hp, y8, ff, my, mf⟩ := ps_all1 ho k18
          have of := ho.c mf
          have hhf := hg_part (t := b) (by omega) (c := f) (by rw [hp]; simp)
          rw [if_neg k16] at hhf
          have es : scT b false = 1 + scT f false := by rw [scT_eq]; unfold scS; rw [if_neg k16, if_neg k17, if_pos ⟨k18, rfl⟩, hp]; simp
          have hik : i < k := by omega
          have ee : evT b false = wkT 1 1 f 0 + evT f false := by rw [ev_eq]; unfold evS; rw [if_neg k16, if_neg k17, if_pos ⟨k18, rfl⟩, hp]; simp
          have eu : suG sI b false i = sI i + suG sI f false (i + 1) := by rw [suG_eq]; unfold suZ; rw [if_neg k16, if_neg k17, if_pos ⟨k18, rfl⟩, hp]; simp
          have hvi := vi b 0
          have hvr := vr
          have rt : rsv G H (i + 1) (hgT f) ≤ Y := Nat.le_trans (rsv_top hG hk (m := k - (i + 1)) (i := i + 1) (by omega)) hY
          have ty : Q * wkT k i y 0 + mvT k y 0 i * rsv G H (i + 1) (hgT f) + P ≤ P * szT y := by
            have h1 := hT y (sub_c my (sub_rf y)) y8 i hi
            have h2 : mvT k y 0 i * rsv G H (i + 1) (hgT f) ≤ mvT k y 0 i * Y := Nat.mul_le_mul_left _ rt
            omega
          have bo := (ih f (fms_lt mf) of ff (hA.sub (sub_c mf (sub_rf f))) (hT.sub (sub_c mf (sub_rf f))) (hV.sub (sub_c mf (sub_rf f))) false (i + 1) (by omega) (by have := ln_all (i := i) k18 hp; omega) (by omega)).2
          have wa := wk_add (k := k) (i := i) (by omega) f 0
          have ew : wkT k i b 0 = mvT k b 0 i + wkT k i y 0 + wkT k i f 1 := by
            rw [wk_eq]; unfold wkS; rw [if_neg k14, if_pos k18, hp]; simp
          have hm : mvT k b 0 i ≤ mvT k y 0 i + mvT k f 0 (i + 1) := by
            have h1 : vnT b 0 i ≤ (([0, 1] : List Nat).map (fun c => ((List.range i).filter (fun r => @decide ((if c = 0 then hvT y (0 + r) else hvT f (1 + r))) (Classical.propDecidable _))).length)).sum := flt_or (q := fun c r => if c = 0 then hvT y (0 + r) else hvT f (1 + r)) [0, 1] (List.range i) (fun r _ h => by
              rcases (hv_all k18 hp).mp h with q | q
              · exact ⟨0, by simp, by rw [if_pos rfl]; exact q⟩
              · exact ⟨1, by simp, by rw [if_neg (by decide)]; rw [show 1 + r = 0 + r + 1 by omega]; exact q⟩)
            have h2 : vnT b 0 i ≤ vnT y 0 i + vnT f 1 i := by simpa [vnT] using h1
            have h3 := vn_s (s := f) (d := 0) (i := i)
            have h4 : vnT f (0 + 1) i = vnT f 1 i := rfl
            unfold mvT
            omega
          have hsz : szT b = 1 + (szT y + szT f) := by rw [sz_pl b0 (by omega), hp]; simp
          have wa : wkT k i f 1 + wkT 1 1 f 0 ≤ wkT k (i + 1) f 0 := wa
          have up := rsv_in (H := H) hG hik hhf hH
          rw [ew, ee, eu, hsz]
          generalize suG sI f false (i + 1) = su at *
          generalize mvT k b 0 i = v at *
          generalize mvT k y 0 i = vy at *
          generalize mvT k f 0 (i + 1) = vf at *
          generalize wkT k i y 0 = wy at *
          generalize wkT k i f 1 = wf at *
          generalize wkT 1 1 f 0 = w1 at *
          generalize wkT k (i + 1) f 0 = w2 at *
          generalize evT f false = x at *
          generalize rsv G H i (hgT b) = X at *
          generalize rsv G H (i + 1) (hgT f) = X' at *
          have g0 : Q * (wf + w1) ≤ Q * w2 := Nat.mul_le_mul_left _ wa
          have g1 : v * (X + G i) ≤ (vy + vf) * X' := Nat.mul_le_mul hm up
          have g5 : (vy + vf) * X' = vy * X' + vf * X' := Nat.add_mul _ _ _
          have st := wkg_step2 (P := P) (Q := Q) (v := v) (s := Q * wy + Q * (w2 + x) + su) (S := P * szT y + P * szT f) (X := X) (Y := X) hG hik hvi hvr (by simp only [Nat.mul_add] at bo g0 g1 ⊢; omega) (Nat.le_refl _)
          simp only [Nat.mul_add, Nat.mul_one] at st g0 ⊢
          omega
    exact ⟨fun _ => main, by omega⟩
/-- all puts of an opening -/
theorem evq_le {Cd : Nat → Prop} (hO : ∀ b pol i, okT b → isFo b → Alls Cd b → lnN b pol i ≤ kl → vnT b 0 i ≤ ko) (hG : GQ k ko P Q G sI) (hL : GL kl P Q g) (hk : k ≤ H) (hY : Rv G k + G k * (H - k) ≤ Y) (hZ : Y + g * H ≤ Z) {F : Nat} (ho : okT F) (hf : isFo F) (hA : Alls (AtL k kl P Q Z) F) (hT : Alls (AtT k P Q Y) F) (hV : Alls Cd F) (pol : Bool) (hs : scT F pol ≤ k) (hl : kpT F pol ≤ kl) (hH : hgT F ≤ H) : Q * evT F pol + P + suG sI F pol 0 ≤ P * szT F := by
  have h0 : lnN F pol 0 = 0 := rfl
  have h := (evq_fo hO hG hL hk hY hZ F ho hf hA hT hV pol 0 (by omega) (by omega) (by omega)).2
  rw [wk_0, Nat.zero_add] at h
  omega
end OPC
