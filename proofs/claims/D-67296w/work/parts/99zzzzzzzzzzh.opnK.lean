/-! openings with one case: between two opened binders there is one AND at most -/
/-- the price of a name: V for an AND and for what is not under one, else U -/
def prS (U V : Nat → Nat) (b : Nat) (pol : Bool) (i : Nat) : Nat := if (pol = true ∧ kd b = 17) ∨ (pol = false ∧ kd b = 16 ∧ kd (pa b 0) = 17) then V i else U i
section OPH
variable {k ko kl P Q H Y Z : Nat} {G sI U V : Nat → Nat}
theorem evh_fo {Cd : Nat → Prop} (hO : ∀ b pol i, okT b → isFo b → Alls Cd b → lnN b pol i ≤ kl → vnT b 0 i ≤ ko) (hG : GQ k ko P Q G sI) (hU : ∀ i, i ≤ k → V i + G i ≤ U i) (hW : ∀ i, i < k → U i + G i ≤ V (i + 1)) (hY : V k ≤ Y) (hZ : ∀ i, i ≤ k → U i + G i * H ≤ Z) : ∀ (b : Nat), okT b → isFo b → Alls (AtL k kl P Q Z) b → Alls (AtA k P Q Y) b → Alls Cd b → ∀ (pol : Bool) (i : Nat), i + scT b pol ≤ k → lnN b pol i + kpT b pol ≤ kl → hgT b ≤ H → kaT b pol ≤ 1 → (kd b ≠ 16 → Q * (wkT k i b 0 + evT b pol) + mvT k b 0 i * prS U V b pol i + P + (Q * mvT k b 0 i - P) + suG sI b pol i ≤ P * szT b) ∧ Q * (wkT k i b 0 + evT b pol) + mvT k b 0 i * prS U V b pol i + P + suG sI b pol i ≤ P * szT b := by
  have vmono : ∀ m i, i + m ≤ k → V i ≤ V (i + m) := by
    intro m
    induction m with
    | zero => intro i _; exact Nat.le_refl _
    | succ m ihm =>
      intro i hi
      have h1 := ihm i (by omega)
      have h2 := hU (i + m) (by omega)
      have h3 := hW (i + m) (by omega)
      rw [show i + (m + 1) = i + m + 1 by omega]
      omega
  intro b
  induction b using Nat.strongRecOn with
  | ind b ih =>
    intro ho hf hA hT hV pol i hsc hln hH hka
    have b0 := okT_0 ho
    have hi : i ≤ k := by omega
    have vr : mvT k b 0 i ≤ ko := by have := hO b pol i ho hf hV (by omega); unfold mvT; omega
    have vi : ∀ s d, mvT k s d i ≤ i := fun s d => by have := vn_i (s := s) (d := d) (i := i); unfold mvT; omega
    have lfc : kd b ≠ 16 → kd b ≠ 17 → ¬ (kd b = 18 ∧ pol = false) → (kd b ≠ 16 → Q * wkT k i b 0 + mvT k b 0 i * prS U V b pol i + P + (Q * mvT k b 0 i - P) ≤ P * szT b) ∧ Q * wkT k i b 0 + mvT k b 0 i * prS U V b pol i + P ≤ P * szT b := fun a1 a2 a3 => by
      have hvk : vnT b 0 i ≤ min kl (min i ko) := by
        have h0 : vnT b 0 i ≤ lnN b pol i := ln_leaf a1 a2 a3
        have h1 := vn_i (s := b) (d := 0) (i := i)
        have h2 := hO b pol i ho hf hV (by omega)
        omega
      have hGL : GL (min kl (min i ko)) P Q (G i) := fun v hv => hG.1 i hi v (by omega) (by omega)
      have hAk : Alls (AtL k (min kl (min i ko)) P Q Z) b := fun A sA a8 a14 d i' hi' hv' => hA A sA a8 a14 d i' hi' (by omega)
      have hZ' : U i + G i * hgT b ≤ Z := by
        have h1 := hZ i hi
        have h2 : G i * hgT b ≤ G i * H := Nat.mul_le_mul_left _ hH
        omega
      have h2 := wkl_fo (k := k) (Z := Z) (Y := U i) (H := hgT b) hGL hZ' b ho hf hAk i 0 hi hvk (Nat.le_refl _)
      have h3 : rsl (U i) (G i) (hgT b) (hgT b) = U i := by unfold rsl; rw [Nat.sub_self, Nat.mul_zero, Nat.add_zero]
      rw [h3] at h2
      have h4 : prS U V b pol i = U i := by unfold prS; rw [if_neg (fun q => q.elim (fun w => a2 w.2) (fun w => a1 w.2.1))]
      rw [h4]
      exact ⟨fun z => by have := h2.1 z; omega, by omega⟩
    by_cases k14 : kd b ≤ 14
    · have e0 : evT b pol = 0 := by
        rw [ev_eq]; unfold evS
        rw [if_neg (by omega), if_neg (by omega), if_neg (fun q => by have := q.1; omega)]
      have s0 : suG sI b pol i = 0 := by
        rw [suG_eq]; unfold suZ
        rw [if_neg (by omega), if_neg (by omega), if_neg (fun q => by have := q.1; omega)]
      rw [e0, s0, Nat.add_zero]
      exact lfc (by omega) (by omega) (by omega)
    by_cases k16 : kd b = 16
    · obtain ⟨f, hp, ff, kf, mf⟩ := ps_not1 ho k16
      have of := ho.c mf
      have hh : hgT f ≤ hgT b := by have := hg_part (t := b) (by omega) (c := f) (by rw [hp]; simp); rw [if_pos k16] at this; exact this
      have ek : kaT b pol = kaT f (!pol) := by rw [kaT_eq]; unfold kaS; rw [if_pos k16, hp]; simp [prN1]
      have epa : pa b 0 = f := by unfold pa; rw [hp]; rfl
      have epr : prS U V b pol i = prS U V f (!pol) i := by
        unfold prS
        rw [epa]
        cases pol
        · by_cases kf17 : kd f = 17
          · rw [if_pos (Or.inr ⟨rfl, k16, kf17⟩), if_pos (Or.inl ⟨rfl, kf17⟩)]
          · rw [if_neg (by simp [kf17]), if_neg (by simp [kf17])]
        · rw [if_neg (by simp [k16]), if_neg (by simp [kf])]
      have es : scT b pol = scT f (!pol) := by rw [scT_eq]; unfold scS; rw [if_pos k16, hp]; simp
      have ee : evT b pol = evT f (!pol) := by rw [ev_eq]; unfold evS; rw [if_pos k16, hp]; simp
      have eu : suG sI b pol i = suG sI f (!pol) i := by rw [suG_eq]; unfold suZ; rw [if_pos k16, hp]; simp
      have h1 := (ih f (fms_lt mf) of ff (hA.sub (sub_c mf (sub_rf f))) (hT.sub (sub_c mf (sub_rf f))) (hV.sub (sub_c mf (sub_rf f))) (!pol) i (by rw [← es]; exact hsc) (by have := ln_not (pol := pol) (i := i) k16 hp; omega) (by omega) (by omega)).1 kf
      have ev : vnT b 0 i = vnT f 0 i := by
        have e1 : ∀ j, hvT b j ↔ hvT f j := fun j => by
          rw [hv_pl (by omega) (by omega)]
          have : fms b = [f] := by
            unfold fms
            rw [if_neg (by omega), hp]
            simp [okT_0 of]
          rw [this]
          simp
        exact Nat.le_antisymm (vn_mono (fun r hr hv => ⟨r, hr, (e1 _).mp hv, rfl⟩)) (vn_mono (fun r hr hv => ⟨r, hr, (e1 _).mpr hv, rfl⟩))
      have em : mvT k b 0 i = mvT k f 0 i := by unfold mvT; rw [ev]
      have ew : wkT k i b 0 = mvT k b 0 i + wkT k i f 0 := by
        rw [wk_eq]; unfold wkS; rw [if_neg k14, if_neg (by omega), hp]; simp
      have hs1 : szT b = 1 + szT f := by rw [sz_pl b0 (by omega), hp]; simp
      refine ⟨fun q => absurd k16 q, ?_⟩
      rw [ew, em, hs1, ee, eu, epr]
      generalize mvT k f 0 i * prS U V f (!pol) i = vX at *
      generalize suG sI f (!pol) i = su at *
      generalize mvT k f 0 i = v at *
      generalize wkT k i f 0 = w at *
      generalize evT f (!pol) = x at *
      simp only [Nat.mul_add, Nat.mul_one] at h1 ⊢
      omega
    have main : Q * (wkT k i b 0 + evT b pol) + mvT k b 0 i * prS U V b pol i + P + (Q * mvT k b 0 i - P) + suG sI b pol i ≤ P * szT b := by
      by_cases k17 : kd b = 17
      · have hl : 2 ≤ (ps b).length ∧ ∀ f ∈ ps b, isFo f ∧ kd f ≠ 17 ∧ f ≠ yesT ∧ f ≠ noT := by
          rcases ho.n.2 with q | q | q | q | q | q | q | q | q | q | q | q | q | q <;> first | omega | exact q.2.2
        have mf : ∀ p ∈ ps b, p ∈ fms b := fun p hp => fms_mem hp (by omega) (isFo_pos (hl.2 p hp).1)
        have kpos : ∀ q p, p ∈ ps b → 1 ≤ kaT p q := fun q p hp => ka_pos p (ho.c (mf p hp)) (hl.2 p hp).1 q
        have hpt : pol = true := by
          cases pol with
          | true => rfl
          | false =>
            exfalso
            have e1 : kaT b false = ((ps b).map (fun c => kaT c false)).sum := by rw [kaT_eq]; unfold kaS; rw [if_neg k16, if_pos k17]; simp
            have h2 : ∀ l : List Nat, (∀ p ∈ l, p ∈ ps b) → l.length ≤ (l.map (fun c => kaT c false)).sum := by
              intro l
              induction l with
              | nil => intro _; exact Nat.zero_le _
              | cons a l ihl =>
                intro hl'
                have := ihl (fun p hp => hl' p (List.mem_cons_of_mem _ hp))
                have := kpos false a (hl' a List.mem_cons_self)
                rw [List.length_cons, List.map_cons, List.sum_cons]
                omega
            have := h2 (ps b) (fun p hp => hp)
            have := hl.1
            omega
        have kone : ∀ p ∈ ps b, kaT p pol ≤ 1 := fun p hp => by
          rw [hpt] at hka ⊢
          have e1 : kaT b true = prN1 ((ps b).map (fun c => kaT c true)) := by rw [kaT_eq]; unfold kaS; rw [if_neg k16, if_pos k17]; simp
          rw [e1] at hka
          exact prN1_one (fun x hx => by
            obtain ⟨c, hc, e⟩ := List.mem_map.mp hx
            rw [← e]; exact kpos true c hc) hka _ (List.mem_map.mpr ⟨p, hp, rfl⟩)
        have eb : prS U V b pol i = V i := by unfold prS; rw [if_pos (Or.inl ⟨hpt, k17⟩)]
        have ep : ∀ p ∈ ps b, prS U V p pol i = U i := fun p hp => by unfold prS; rw [if_neg (by rw [hpt]; simp [(hl.2 p hp).2.1])]
        have efm : fms b = ps b := by
          unfold fms
          rw [if_neg (by omega)]
          exact List.filter_eq_self.mpr (fun c hc => by simpa using isFo_pos (hl.2 c hc).1)
        have hm := mv_pl (k := k) (d := 0) (i := i) (t := b) (by omega) (by omega)
        rw [efm] at hm
        have esc : ∀ p ∈ ps b, scT p pol ≤ scT b pol := fun p hp => by
          rw [scT_eq b]; unfold scS; rw [if_neg k16, if_pos k17]
          exact le_fmax (Or.inl (List.mem_map.mpr ⟨p, hp, rfl⟩))
        have li := wkg_li (Q := Q) (P := P) (F := fun p => wkT k i p 0 + evT p pol) (V := fun p => mvT k p 0 i) (U := fun p => suG sI p pol i) (X := V i + G i) (l := ps b) (fun p hp => by
          have hh := hg_part (t := b) (by omega) hp
          rw [if_neg k16] at hh
          have hs := esc p hp
          have h2 := (ih p (fms_lt (mf p hp)) (ho.c (mf p hp)) (hl.2 p hp).1 (hA.sub (sub_c (mf p hp) (sub_rf p))) (hT.sub (sub_c (mf p hp) (sub_rf p))) (hV.sub (sub_c (mf p hp) (sub_rf p))) pol i (by omega) (by have := ln_and (pol := pol) (i := i) k17 hp; omega) (by omega) (kone p hp)).2
          rw [ep p hp] at h2
          have g1 : mvT k p 0 i * (V i + G i) ≤ mvT k p 0 i * U i := Nat.mul_le_mul_left _ (hU i hi)
          show Q * (wkT k i p 0 + evT p pol) + mvT k p 0 i * (V i + G i) + P + suG sI p pol i ≤ P * szT p
          omega)
        have ew : wkT k i b 0 = mvT k b 0 i + ((ps b).map (fun c => wkT k i c 0)).sum := by
          rw [wk_eq]; unfold wkS; rw [if_neg k14, if_neg (by omega)]
        have ee : evT b pol = ((ps b).map (fun c => evT c pol)).sum := by rw [ev_eq]; unfold evS; rw [if_neg k16, if_pos k17]
        have eu : suG sI b pol i = ((ps b).map (fun c => suG sI c pol i)).sum := by rw [suG_eq]; unfold suZ; rw [if_neg k16, if_pos k17]
        have es : ((ps b).map (fun p => wkT k i p 0 + evT p pol)).sum = ((ps b).map (fun c => wkT k i c 0)).sum + ((ps b).map (fun c => evT c pol)).sum := sum_map_add _
        have hvi := vi b 0
        have hvr := vr
        rw [es] at li
        rw [ew, ee, eu, eb, sz_pl b0 (by omega)]
        generalize ((ps b).map (fun c => suG sI c pol i)).sum = su at *
        generalize mvT k b 0 i = v at *
        generalize ((ps b).map (fun c => wkT k i c 0)).sum = S at *
        generalize ((ps b).map (fun c => evT c pol)).sum = S2 at *
        generalize ((ps b).map (fun c => mvT k c 0 i)).sum = VV at *
        generalize ((ps b).map szT).sum = T at *
        generalize V i = X at *
        have g1 : v * (X + G i) ≤ VV * (X + G i) := Nat.mul_le_mul_right _ hm
        have g2 : P * 2 ≤ P * (ps b).length := Nat.mul_le_mul_left _ hl.1
        have st := wkg_step (P := P) (Q := Q) (v := v) (s := Q * (S + S2) + su) (S := P * T) (X := X) (Y := X) hG hi hvi hvr (by rw [Nat.mul_add] at g1; omega) (Nat.le_refl _)
        simp only [Nat.mul_add, Nat.mul_one] at st ⊢
        omega
      · have k18 : kd b = 18 := by unfold isFo at hf; omega
        cases pol with
        | true =>
          have e0 : evT b true = 0 := by
            rw [ev_eq]; unfold evS
            rw [if_neg k16, if_neg k17, if_neg (fun q => by cases q.2)]
          have s0 : suG sI b true i = 0 := by
            rw [suG_eq]; unfold suZ
            rw [if_neg k16, if_neg k17, if_neg (fun q => by cases q.2)]
          rw [e0, s0, Nat.add_zero]
          exact (lfc k16 k17 (fun q => by cases q.2)).1 k16
        | false =>
          obtain ⟨y, f, hp, y8, ff, my, mf⟩ := ps_all1 ho k18
          have of := ho.c mf
          have hhf := hg_part (t := b) (by omega) (c := f) (by rw [hp]; simp)
          rw [if_neg k16] at hhf
          have es : scT b false = 1 + scT f false := by rw [scT_eq]; unfold scS; rw [if_neg k16, if_neg k17, if_pos ⟨k18, rfl⟩, hp]; simp
          have hik : i < k := by omega
          have ek : kaT b false = kaT f false := by rw [kaT_eq]; unfold kaS; rw [if_neg k16, if_neg k17, if_pos ⟨k18, rfl⟩, hp]; simp [prN1]
          have ee : evT b false = wkT 1 1 f 0 + evT f false := by rw [ev_eq]; unfold evS; rw [if_neg k16, if_neg k17, if_pos ⟨k18, rfl⟩, hp]; simp
          have eu : suG sI b false i = sI i + suG sI f false (i + 1) := by rw [suG_eq]; unfold suZ; rw [if_neg k16, if_neg k17, if_pos ⟨k18, rfl⟩, hp]; simp
          have hvi := vi b 0
          have hvr := vr
          have rt : V (i + 1) ≤ Y := by
            have h1 := vmono (k - (i + 1)) (i + 1) (by omega)
            rw [show i + 1 + (k - (i + 1)) = k by omega] at h1
            exact Nat.le_trans h1 hY
          have ty : Q * wkT k i y 0 + mvT k y 0 i * V (i + 1) + P ≤ P * szT y := by
            have h1 : Q * wkT k i y 0 + mvT k y 0 i * Y + P ≤ P * szT y := by
              have ey : pa b 0 = y := by unfold pa; rw [hp]; rfl
              have := hT b (sub_rf b) k18
              rw [ey] at this
              exact this y8 i hik
            have h2 : mvT k y 0 i * V (i + 1) ≤ mvT k y 0 i * Y := Nat.mul_le_mul_left _ rt
            omega
          have bo := (ih f (fms_lt mf) of ff (hA.sub (sub_c mf (sub_rf f))) (hT.sub (sub_c mf (sub_rf f))) (hV.sub (sub_c mf (sub_rf f))) false (i + 1) (by omega) (by have := ln_all (i := i) k18 hp; omega) (by omega) (by rw [← ek]; exact hka)).2
          have wa := wk_add (k := k) (i := i) (by omega) f 0
          have ew : wkT k i b 0 = mvT k b 0 i + wkT k i y 0 + wkT k i f 1 := by
            rw [wk_eq]; unfold wkS; rw [if_neg k14, if_pos k18, hp]; simp
          have hm : mvT k b 0 i ≤ mvT k y 0 i + mvT k f 0 (i + 1) := by
            have h1 : vnT b 0 i ≤ (([0, 1] : List Nat).map (fun c => ((List.range i).filter (fun r => @decide ((if c = 0 then hvT y (0 + r) else hvT f (1 + r))) (Classical.propDecidable _))).length)).sum := flt_or (q := fun c r => if c = 0 then hvT y (0 + r) else hvT f (1 + r)) [0, 1] (List.range i) (fun r _ h => by
              rcases (hv_all k18 hp).mp h with q | q
              · exact ⟨0, by simp, by rw [if_pos rfl]; exact q⟩
              · exact ⟨1, by simp, by rw [if_neg (by decide)]; rw [show 1 + r = 0 + r + 1 by omega]; exact q⟩)
            have h2 : vnT b 0 i ≤ vnT y 0 i + vnT f 1 i := by simpa [vnT] using h1
            have h3 := vn_s (s := f) (d := 0) (i := i)
            have h4 : vnT f (0 + 1) i = vnT f 1 i := rfl
            unfold mvT
            omega
          have hsz : szT b = 1 + (szT y + szT f) := by rw [sz_pl b0 (by omega), hp]; simp
          have wa : wkT k i f 1 + wkT 1 1 f 0 ≤ wkT k (i + 1) f 0 := wa
          have up := hW i hik
          have eb : prS U V b false i = U i := by unfold prS; rw [if_neg (by simp [k18])]
          have pf : V (i + 1) ≤ prS U V f false (i + 1) := by
            unfold prS
            split
            · exact Nat.le_refl _
            · have := hU (i + 1) (by omega); omega
          have bo : Q * (wkT k (i + 1) f 0 + evT f false) + mvT k f 0 (i + 1) * V (i + 1) + P + suG sI f false (i + 1) ≤ P * szT f := by
            have g1 : mvT k f 0 (i + 1) * V (i + 1) ≤ mvT k f 0 (i + 1) * prS U V f false (i + 1) := Nat.mul_le_mul_left _ pf
            omega
          rw [eb]
          rw [ew, ee, eu, hsz]
          generalize suG sI f false (i + 1) = su at *
          generalize mvT k b 0 i = v at *
          generalize mvT k y 0 i = vy at *
          generalize mvT k f 0 (i + 1) = vf at *
          generalize wkT k i y 0 = wy at *
          generalize wkT k i f 1 = wf at *
          generalize wkT 1 1 f 0 = w1 at *
          generalize wkT k (i + 1) f 0 = w2 at *
          generalize evT f false = x at *
          generalize U i = X at *
          generalize V (i + 1) = X' at *
          have g0 : Q * (wf + w1) ≤ Q * w2 := Nat.mul_le_mul_left _ wa
          have g1 : v * (X + G i) ≤ (vy + vf) * X' := Nat.mul_le_mul hm up
          have g5 : (vy + vf) * X' = vy * X' + vf * X' := Nat.add_mul _ _ _
          have st := wkg_step2 (P := P) (Q := Q) (v := v) (s := Q * wy + Q * (w2 + x) + su) (S := P * szT y + P * szT f) (X := X) (Y := X) hG hik hvi hvr (by simp only [Nat.mul_add] at bo g0 g1 ⊢; omega) (Nat.le_refl _)
          simp only [Nat.mul_add, Nat.mul_one] at st g0 ⊢
          omega
    exact ⟨fun _ => main, by omega⟩
theorem evh_le {Cd : Nat → Prop} (hO : ∀ b pol i, okT b → isFo b → Alls Cd b → lnN b pol i ≤ kl → vnT b 0 i ≤ ko) (hG : GQ k ko P Q G sI) (hU : ∀ i, i ≤ k → V i + G i ≤ U i) (hW : ∀ i, i < k → U i + G i ≤ V (i + 1)) (hY : V k ≤ Y) (hZ : ∀ i, i ≤ k → U i + G i * H ≤ Z) {F : Nat} (ho : okT F) (hf : isFo F) (hA : Alls (AtL k kl P Q Z) F) (hT : Alls (AtA k P Q Y) F) (hV : Alls Cd F) (pol : Bool) (hs : scT F pol ≤ k) (hl : kpT F pol ≤ kl) (hH : hgT F ≤ H) (hka : kaT F pol ≤ 1) : Q * evT F pol + P + suG sI F pol 0 ≤ P * szT F := by
  have h0 : lnN F pol 0 = 0 := rfl
  have h := (evh_fo hO hG hU hW hY hZ F ho hf hA hT hV pol 0 (by omega) (by omega) hH hka).2
  rw [wk_0, Nat.zero_add] at h
  omega
end OPH
