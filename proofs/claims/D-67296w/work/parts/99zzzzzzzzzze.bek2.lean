/-! nodes of all binds: what joins and binds do to them -/
theorem be_lo {f : Nat} (h : kd f ≤ 14) : beT f = 0 := by rw [be_eq]; unfold beS; rw [if_neg (by omega), if_neg (by omega)]
theorem be_not {f : Nat} (ho : okT f) : beT (notT f) = beT f := by
  unfold notT
  by_cases h16 : kd f = 16
  · rw [if_pos h16]
    obtain ⟨g, e, _, _, _⟩ := ps_not1 ho h16
    rw [be_eq f]
    unfold beS
    rw [if_pos (Or.inl h16), e]
    simp
  · rw [if_neg h16, be_eq]
    unfold beS
    rw [kd_mk, if_pos (Or.inl rfl), ps_mk]
    simp
theorem be_flt {f : Nat} (h : f ≠ noT) : ((flt f).map beT).sum = beT f := by
  unfold flt
  rw [if_neg h]
  by_cases h17 : kd f = 17
  · rw [if_pos h17, be_eq f]
    unfold beS
    rw [if_pos (Or.inr h17)]
  · rw [if_neg h17]
    by_cases hy : f = yesT
    · rw [if_pos hy, hy, be_lo (by unfold yesT; rw [kd_mk]; decide)]; rfl
    · rw [if_neg hy]; simp
theorem be_fl : ∀ (L : List Nat), noT ∉ L → ((L.flatMap flt).map beT).sum = (L.map beT).sum
  | [], _ => rfl
  | a :: L, h => by
    rw [List.flatMap_cons, List.map_append, List.sum_append, be_flt (fun e => h (by rw [e]; exact List.mem_cons_self)), be_fl L (fun q => h (List.mem_cons_of_mem _ q)), List.map_cons, List.sum_cons]
theorem be_and {L : List Nat} (h : noT ∉ L) : beT (andT L) = (L.map beT).sum := by
  have h1 := be_fl L h
  unfold andT
  rw [if_neg h]
  cases hl : L.flatMap flt with
  | nil =>
    rw [hl] at h1
    show beT yesT = _
    rw [be_lo (by unfold yesT; rw [kd_mk]; decide), ← h1]; rfl
  | cons a l =>
    rw [hl] at h1
    cases l with
    | nil => show beT a = _; rw [← h1]; simp
    | cons b l =>
      show beT (mk 17 0 (a :: b :: l)) = _
      rw [← h1, be_eq]
      unfold beS
      rw [kd_mk, if_pos (Or.inr rfl), ps_mk]
/-- no nested binders, or as many nodes as one of which it has not more nested -/
def DmG (F x y : Nat) : Prop := abT F = 0 ∨ (abT F ≤ abT x ∧ beT x ≤ beT F) ∨ (abT F ≤ abT y ∧ beT y ≤ beT F)
theorem DmG.and {a b : Nat} : DmG (andT [a, b]) a b := by
  by_cases h : noT ∈ [a, b]
  · left
    unfold andT
    rw [if_pos h, ab_no]
  · have h1 := be_and h
    have e1 : ([a, b].map beT).sum = beT a + beT b := by simp
    rw [e1] at h1
    right
    rcases Nat.lt_or_ge (abT a) (abT b) with q | q
    · exact Or.inr ⟨ab_two (by omega) (Nat.le_refl _), by omega⟩
    · exact Or.inl ⟨ab_two (Nat.le_refl _) (by omega), by omega⟩
theorem DmG.tr {F a b x y : Nat} (h : DmG F a b) (ha : DmG a x y) (hb : DmG b x y) : DmG F x y := by
  rcases h with q | ⟨q1, q2⟩ | ⟨q1, q2⟩
  · exact Or.inl q
  · rcases ha with w | ⟨w1, w2⟩ | ⟨w1, w2⟩
    · exact Or.inl (by omega)
    · exact Or.inr (Or.inl ⟨by omega, by omega⟩)
    · exact Or.inr (Or.inr ⟨by omega, by omega⟩)
  · rcases hb with w | ⟨w1, w2⟩ | ⟨w1, w2⟩
    · exact Or.inl (by omega)
    · exact Or.inr (Or.inl ⟨by omega, by omega⟩)
    · exact Or.inr (Or.inr ⟨by omega, by omega⟩)
theorem DmG.l {x y : Nat} : DmG x x y := Or.inr (Or.inl ⟨Nat.le_refl _, Nat.le_refl _⟩)
theorem DmG.r {x y : Nat} : DmG y x y := Or.inr (Or.inr ⟨Nat.le_refl _, Nat.le_refl _⟩)
theorem DmG.n {F x y : Nat} (ho : okT F) (h : DmG F x y) : DmG (notT F) x y := by
  unfold DmG at *
  rw [ab_not ho, be_not ho]
  exact h
theorem DmG.jn {k : Int} {x y : Nat} (ox : okT x ∧ isFo x) (oy : k ≠ 0 → okT y ∧ isFo y) : DmG (jnT k x y) x (if k = 0 then x else y) := by
  unfold jnT
  by_cases k0 : k = 0
  · rw [if_pos k0, if_pos k0]; exact DmG.n ox.1 DmG.l
  rw [if_neg k0, if_neg k0]
  have oy := oy k0
  have nx := okT_not ox.1 ox.2
  have ny := okT_not oy.1 oy.2
  have two : ∀ {a b : Nat}, okT a ∧ isFo a → okT b ∧ isFo b → okT (andT [a, b]) ∧ isFo (andT [a, b]) := fun {a b} ha hb => okT_and (fun z hz => by
    rcases List.mem_cons.mp hz with q | q
    · rw [q]; exact ha
    · rw [List.mem_singleton.mp q]; exact hb)
  have i1 : DmG (impT x y) x y := DmG.n (two ox ny).1 (DmG.and.tr DmG.l (DmG.n oy.1 DmG.r))
  have i2 : DmG (impT y x) x y := DmG.n (two oy nx).1 (DmG.and.tr DmG.r (DmG.n ox.1 DmG.l))
  by_cases k1 : k = 1
  · rw [if_pos k1]; exact DmG.and
  rw [if_neg k1]
  by_cases k2 : k = 2
  · rw [if_pos k2]; exact DmG.n (two nx ny).1 (DmG.and.tr (DmG.n ox.1 DmG.l) (DmG.n oy.1 DmG.r))
  rw [if_neg k2]
  by_cases k3 : k = 3
  · rw [if_pos k3]; exact i1
  rw [if_neg k3]
  exact DmG.and.tr i1 i2
section BEX
variable {x : Nat}
theorem be_bx (hx : kd x = 1) : ∀ (z : Nat), okT z → isFo z → ∀ D, loT z ≤ D → beT z ≤ beT (sbT (bindg x) D z) := by
  intro z
  induction z using Nat.strongRecOn with
  | ind z ih =>
    intro ho hf D hlo
    have hk : ¬ kd z ≤ 3 := by unfold isFo at hf; omega
    have k1 := (sb_kd (g := bindg x) (d := D) hk).1
    by_cases k14 : kd z ≤ 14
    · rw [be_lo k14]; exact Nat.zero_le _
    by_cases k18 : kd z = 18
    · obtain ⟨y, f, hp, y8, ff, my, mf⟩ := ps_all1 ho k18
      have pn := (fms_all (d := D) (bindg_0 (x := x)) k18 hp (okT_0 (ho.c my)) (okT_0 (ho.c mf))).2
      have hl := lo_allf k18 hp
      have a1 := wk_bx hx f (ho.c mf) (Or.inr ff) 0 (D + 1) (by omega)
      have a2 := ih f (fms_lt mf) (ho.c mf) ff (D + 1) (by omega)
      have e1 : beT z = wkT 1 1 f 0 + beT f := by rw [be_eq]; unfold beS; rw [if_neg (by omega), if_pos k18, hp]; simp
      have e2 : beT (sbT (bindg x) D z) = wkT 1 1 (sbT (bindg x) (D + 1) f) 0 + beT (sbT (bindg x) (D + 1) f) := by rw [be_eq]; unfold beS; rw [if_neg (by omega), if_pos (by omega), pn]; simp
      omega
    · have hk67 : kd z = 16 ∨ kd z = 17 := by unfold isFo at hf; omega
      have hl : ∀ p ∈ ps z, isFo p ∧ p ∈ fms z := fun p hp => by
        have fp : isFo p := by
          rcases ho.n.2 with q | q | q | q | q | q | q | q | q | q | q | q | q | q <;> first | omega | skip
          · obtain ⟨_, _, g, q3, q4, _⟩ := q
            rw [q3, List.mem_singleton] at hp
            rw [hp]; exact q4
          · exact (q.2.2.2 p hp).1
        exact ⟨fp, fms_mem hp (by omega) (isFo_pos fp)⟩
      have pn := ps_map (g := bindg x) (d := D) hk67 (fun c hc => isFo_pos (hl c hc).1)
      have e1 : beT z = ((ps z).map beT).sum := by rw [be_eq]; unfold beS; rw [if_pos hk67]
      have e2 : beT (sbT (bindg x) D z) = ((ps z).map (fun c => beT (sbT (bindg x) D c))).sum := by
        rw [be_eq]; unfold beS; rw [if_pos (by rw [k1]; exact hk67), pn, List.map_map]; rfl
      rw [e1, e2]
      have h2 : ∀ l : List Nat, (∀ p ∈ l, p ∈ ps z) → (l.map beT).sum ≤ (l.map (fun c => beT (sbT (bindg x) D c))).sum := by
        intro l
        induction l with
        | nil => intro _; exact Nat.le_refl _
        | cons a l ihl =>
          intro hl'
          obtain ⟨fa, ma⟩ := hl a (hl' a List.mem_cons_self)
          rw [List.map_cons, List.sum_cons, List.map_cons, List.sum_cons]
          exact Nat.add_le_add (ih a (fms_lt ma) (ho.c ma) fa D (by have := lo_part ho.n k18 ma; omega)) (ihl (fun p hp => hl' p (List.mem_cons_of_mem _ hp)))
      exact h2 _ (fun p hp => hp)
end BEX
/-- a bind: its own nodes beside those before -/
theorem be_bd {W : Wd} {o : Int} {x y : Nat} (hx : kd x = 1) (oy : okT y) (fy : isFo y) (ly : loT y = 0) (hbo : okT (bdA W o x y)) (hne : bdG o x y ≠ yesT) : beT (bdT W o x y) = wkT 1 1 (bdG o x y) 0 + beT (bdG o x y) ∧ beT y ≤ beT (bdG o x y) := by
  have oF : okT (bdF o y) ∧ isFo (bdF o y) ∧ loT (bdF o y) = 0 ∧ beT (bdF o y) = beT y := by
    unfold bdF
    split
    · exact ⟨oy, fy, ly, rfl⟩
    · have on := okT_not oy fy
      refine ⟨on.1, on.2, ?_, be_not oy⟩
      by_cases h16 : kd y = 16
      · obtain ⟨g, e, fg, _, mg⟩ := ps_not1 oy h16
        have e1 : notT y = g := by unfold notT; rw [if_pos h16, e]; rfl
        rw [e1]
        have := lo_part oy.n (by omega) mg
        omega
      · have e1 : notT y = mk 16 0 [y] := by unfold notT; rw [if_neg h16]
        refine lo_mk0 (by rw [e1, kd_mk]; decide) (fun c hc => ?_)
        have := (fms_ps hc).1
        rw [e1, ps_mk, List.mem_singleton] at this
        rw [this]; exact ly
  have eA : beT (bdA W o x y) = wkT 1 1 (bdG o x y) 0 + beT (bdG o x y) := by
    unfold bdA alT
    rw [if_neg hne, be_eq]
    unfold beS
    rw [kd_mk, if_neg (by decide), if_pos rfl, ps_mk]
    simp
  refine ⟨?_, ?_⟩
  · unfold bdT
    split
    · exact eA
    · rw [be_not hbo, eA]
  · rw [← oF.2.2.2]
    exact be_bx hx _ oF.1 oF.2.1 0 (by rw [oF.2.2.1]; exact Nat.le_refl _)
