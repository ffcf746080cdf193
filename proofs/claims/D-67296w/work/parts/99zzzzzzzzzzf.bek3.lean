/-! nodes of binds: the account kept by all calls -/
theorem mv_le1 {s d i : Nat} : mvT 1 s d i ≤ 1 := by unfold mvT; omega
theorem wk_sz : ∀ (b : Nat), okT b → (kd b = 8 ∨ isFo b) → ∀ d, wkT 1 1 b d ≤ szT b := by
  intro b
  induction b using Nat.strongRecOn with
  | ind b ih =>
    intro ho hf d
    have b0 := okT_0 ho
    have hk : ¬ kd b ≤ 3 := by unfold isFo at hf; omega
    have m1 := mv_le1 (s := b) (d := d) (i := 1)
    by_cases k14 : kd b ≤ 14
    · have ew : wkT 1 1 b d = mvT 1 b d 1 + ((dP b).map (fun s => mvT 1 s d 1)).sum := by
        rw [wk_eq]; unfold wkS; rw [if_pos k14]
      have h1 : ((dP b).map (fun s => mvT 1 s d 1)).sum ≤ 1 * (dP b).length := sum_le_c (fun s _ => mv_le1)
      have := sz_dP ho hk
      omega
    by_cases k18 : kd b = 18
    · obtain ⟨y, f, hp, y8, ff, my, mf⟩ := ps_all1 ho k18
      have e1 : wkT 1 1 b d = mvT 1 b d 1 + wkT 1 1 y d + wkT 1 1 f (d + 1) := by
        rw [wk_eq]; unfold wkS; rw [if_neg k14, if_pos k18, hp]; simp
      have a1 := ih y (fms_lt my) (ho.c my) (Or.inl y8) d
      have a2 := ih f (fms_lt mf) (ho.c mf) (Or.inr ff) (d + 1)
      have hsz : szT b = 1 + (szT y + szT f) := by rw [sz_pl b0 (by omega), hp]; simp
      omega
    · have hk67 : kd b = 16 ∨ kd b = 17 := by unfold isFo at hf; omega
      have hl : ∀ p ∈ ps b, isFo p ∧ p ∈ fms b := fun p hp => by
        have fp : isFo p := by
          rcases ho.n.2 with q | q | q | q | q | q | q | q | q | q | q | q | q | q <;> first | omega | skip
          · obtain ⟨_, _, g, q3, q4, _⟩ := q
            rw [q3, List.mem_singleton] at hp
            rw [hp]; exact q4
          · exact (q.2.2.2 p hp).1
        exact ⟨fp, fms_mem hp (by omega) (isFo_pos fp)⟩
      have e1 : wkT 1 1 b d = mvT 1 b d 1 + ((ps b).map (fun c => wkT 1 1 c d)).sum := by
        rw [wk_eq]; unfold wkS; rw [if_neg k14, if_neg k18]
      have h2 : ∀ l : List Nat, (∀ p ∈ l, p ∈ ps b) → (l.map (fun c => wkT 1 1 c d)).sum ≤ (l.map szT).sum := by
        intro l
        induction l with
        | nil => intro _; exact Nat.le_refl _
        | cons a l ihl =>
          intro hl'
          obtain ⟨fa, ma⟩ := hl a (hl' a List.mem_cons_self)
          rw [List.map_cons, List.sum_cons, List.map_cons, List.sum_cons]
          exact Nat.add_le_add (ih a (fms_lt ma) (ho.c ma) (Or.inr fa) d) (ihl (fun p hp => hl' p (List.mem_cons_of_mem _ hp)))
      have h3 := h2 (ps b) (fun p hp => hp)
      rw [e1, sz_pl b0 (by omega)]
      omega
theorem nFB_a1 {Fo : List Nat} {t : Nat} : nFB (Fo ++ [t]) = nFB Fo + (if isB t = true then 1 else 0) := by
  unfold nFB
  rw [List.filter_append, List.length_append]
  congr 1
  rw [List.filter_cons]
  split <;> rfl
/-- Kb: nodes that binds have made -/
def KfK (Kb : Nat) (Fo : List Nat) : Prop := Kb ≤ 208 * nFB Fo ∧ ∀ f ∈ Fo, isFo f → Kb ≤ beT f + 204 * (nFB Fo - abT f) + 4 * nFB Fo
theorem KfK.ap {Kb : Nat} {Fo : List Nat} {t : Nat} (h : KfK Kb Fo) (ht : isFo t → Kb ≤ beT t + 204 * (nFB (Fo ++ [t]) - abT t) + 4 * nFB (Fo ++ [t])) : KfK Kb (Fo ++ [t]) := by
  have hn := nFB_a1 (Fo := Fo) (t := t)
  refine ⟨by have := h.1; omega, fun f hf k => ?_⟩
  rcases List.mem_append.mp hf with q | q
  · have := h.2 f q k
    omega
  · rw [List.mem_singleton.mp q] at k ⊢; exact ht k
theorem KfK.tm {Kb : Nat} {Fo : List Nat} {t : Nat} (h : KfK Kb Fo) (hk : kd t ≤ 14) : KfK Kb (Fo ++ [t]) := h.ap (fun _ => by
  have hn := nFB_a1 (Fo := Fo) (t := t)
  have := h.1
  rw [be_lo hk, ab_lo hk]
  omega)
theorem KfK.jn {Kb : Nat} {Fo : List Nat} {k : Int} {x y : Nat} (h : KfK Kb Fo) (hx : x ∈ Fo) (ox : okT x ∧ isFo x) (hy : k ≠ 0 → y ∈ Fo) (oy : k ≠ 0 → okT y ∧ isFo y) : KfK Kb (Fo ++ [jnT k x y]) := h.ap (fun _ => by
  have hn := nFB_a1 (Fo := Fo) (t := jnT k x y)
  rcases DmG.jn ox oy with q | ⟨q1, q2⟩ | ⟨q1, q2⟩
  · have := h.1
    omega
  · have := h.2 x hx ox.2
    omega
  · by_cases k0 : k = 0
    · rw [if_pos k0] at q1 q2
      have := h.2 x hx ox.2
      omega
    · rw [if_neg k0] at q1 q2
      have := h.2 y (hy k0) (oy k0).2
      omega)
/-- a bind that binds nothing makes nothing that counts -/
theorem KfK.bd0 {Kb : Nat} {W : Wd} {Fo : List Nat} {o : Int} {x y : Nat} (h : KfK Kb Fo) (he : bdG o x y = yesT) : KfK Kb (Fo ++ [bdT W o x y]) := h.ap (fun _ => by
  have hn := nFB_a1 (Fo := Fo) (t := bdT W o x y)
  have := h.1
  have eA : bdA W o x y = yesT := by unfold bdA alT; rw [if_pos he]
  have k9 : kd yesT ≤ 14 := by unfold yesT; rw [kd_mk]; decide
  have eT : beT (bdT W o x y) = 0 ∧ abT (bdT W o x y) = 0 := by
    unfold bdT
    split
    · rw [eA]; exact ⟨be_lo k9, ab_lo k9⟩
    · rw [eA]
      have oy := okT_yes
      rw [be_not oy, ab_not oy]
      exact ⟨be_lo k9, ab_lo k9⟩
  omega)
theorem KfK.bd {Kb : Nat} {W : Wd} {Fo : List Nat} {o : Int} {x y : Nat} (h : KfK Kb Fo) (hKB : KfB Fo) (hx : kd x = 1) (hy : y ∈ Fo) (oy : okT y) (fy : isFo y) (ly : loT y = 0) (x8 : kd (wcT W (wh x)) = 8) (hbo : okT (bdA W o x y)) (hne : bdG o x y ≠ yesT) (oG : okT (bdG o x y)) (fG : isFo (bdG o x y)) (zG : szT (bdG o x y) ≤ 201) : KfK (Kb + wkT 1 1 (bdG o x y) 0 + 3) (Fo ++ [bdT W o x y]) := by
  have hn := nFB_a1 (Fo := Fo) (t := bdT W o x y)
  have hB : isB (bdT W o x y) = true := by
    have kA : kd (bdA W o x y) = 18 := by unfold bdA alT; rw [if_neg hne, kd_mk]
    unfold isB bdT
    split
    · simp [kA]
    · have e1 : notT (bdA W o x y) = mk 16 0 [bdA W o x y] := by unfold notT; rw [if_neg (by omega)]
      rw [e1]
      have e2 : pa (mk 16 0 [bdA W o x y]) 0 = bdA W o x y := by unfold pa; rw [ps_mk]; rfl
      rw [kd_mk, e2]
      simp [kA]
  rw [if_pos hB] at hn
  obtain ⟨b1, b2⟩ := be_bd (W := W) hx oy fy ly hbo hne
  have b3 := ab_bd (W := W) (o := o) (x := x) oy fy (Nat.le_refl (abT y)) x8 hbo
  have w1 := wk_sz _ oG (Or.inr fG) 0
  refine ⟨by have := h.1; omega, fun f hf k => ?_⟩
  rcases List.mem_append.mp hf with q | q
  · have := h.2 f q k
    have := hKB f q k
    omega
  · rw [List.mem_singleton.mp q]
    have := h.2 y hy fy
    have := hKB y hy fy
    omega
