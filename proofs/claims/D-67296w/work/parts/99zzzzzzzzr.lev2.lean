/-! levels of kept formulas: one a bind, two a join -/
theorem hg_jnB {k : Int} {x y B : Nat} (ox : okT x ∧ isFo x) (oy : k ≠ 0 → okT y ∧ isFo y) (hx : hgT x ≤ B) (hy : k ≠ 0 → hgT y ≤ B) (hb : isB (jnT k x y) = true) : hgT (jnT k x y) ≤ B + 1 := by
  unfold jnT at hb ⊢
  by_cases k0 : k = 0
  · rw [if_pos k0, hg_not ox.1]; omega
  rw [if_neg k0] at hb ⊢
  have oy := oy k0
  have hy := hy k0
  have two : ∀ {a b : Nat}, okT a ∧ isFo a → okT b ∧ isFo b → okT (andT [a, b]) := fun {a b} ha hb => (okT_and (fun z hz => by
    rcases List.mem_cons.mp hz with q | q
    · rw [q]; exact ha
    · rw [List.mem_singleton.mp q]; exact hb)).1
  have im : ∀ {a b : Nat}, okT a ∧ isFo a → okT b ∧ isFo b → hgT a ≤ B → hgT b ≤ B → hgT (impT a b) ≤ B + 1 := fun {a b} oa ob ha hb => by
    unfold impT
    rw [hg_not (two oa (okT_not ob.1 ob.2))]
    exact hg_two ha (by rw [hg_not ob.1]; exact hb)
  by_cases k1 : k = 1
  · rw [if_pos k1]; exact hg_two hx hy
  rw [if_neg k1] at hb ⊢
  by_cases k2 : k = 2
  · rw [if_pos k2, hg_not (two (okT_not ox.1 ox.2) (okT_not oy.1 oy.2))]
    exact hg_two (by rw [hg_not ox.1]; exact hx) (by rw [hg_not oy.1]; exact hy)
  rw [if_neg k2] at hb ⊢
  by_cases k3 : k = 3
  · rw [if_pos k3]; exact im ox oy hx hy
  rw [if_neg k3] at hb ⊢
  have i1 := im ox oy hx hy
  have i2 := im oy ox hy hx
  have h17 : kd (andT [impT x y, impT y x]) ≠ 17 := isB_and hb
  have := hg_and2 (L := [impT x y, impT y x]) (B := B + 1) (fun f hf => by
    rcases List.mem_cons.mp hf with q | q
    · rw [q]; exact i1
    · rw [List.mem_singleton.mp q]; exact i2)
  rw [if_neg h17] at this
  exact this
def KfL (Fo : List Nat) : Prop := ∀ f ∈ Fo, isFo f → hgT f ≤ nFB Fo + 2 * nFJ Fo
theorem nFB_ap {Fo : List Nat} {t : Nat} : nFB (Fo ++ [t]) = nFB Fo + (if isB t = true then 1 else 0) ∧ nFJ (Fo ++ [t]) = nFJ Fo + (if 15 ≤ kd t ∧ isB t = false then 1 else 0) := by
  unfold nFB nFJ
  rw [List.filter_append, List.filter_append, List.length_append, List.length_append]
  refine ⟨?_, ?_⟩
  · rw [List.filter_cons]
    split <;> simp
  · rw [List.filter_cons]
    by_cases h1 : 15 ≤ kd t <;> cases h2 : isB t <;> simp [h1]
theorem isB_15 {t : Nat} (h : isB t = true) : 15 ≤ kd t := by
  unfold isB at h
  simp only [decide_eq_true_eq] at h
  omega
theorem KfL.ap {Fo : List Nat} {t : Nat} (h : KfL Fo) (h1 : isFo t → 15 ≤ kd t → hgT t ≤ nFB Fo + 2 * nFJ Fo + 2) (h2 : isB t = true → hgT t ≤ nFB Fo + 2 * nFJ Fo + 1) : KfL (Fo ++ [t]) := fun f hf k => by
  obtain ⟨e1, e2⟩ := nFB_ap (Fo := Fo) (t := t)
  rw [e1, e2]
  rcases List.mem_append.mp hf with q | q
  · have := h f q k
    omega
  · rw [List.mem_singleton.mp q] at k ⊢
    cases hb : isB t with
    | true =>
      have := h2 hb
      rw [if_pos rfl]
      omega
    | false =>
      rcases Nat.lt_or_ge (kd t) 15 with w | w
      · rw [hg_lo (by omega)]; omega
      · have := h1 k w
        have e3 : (if 15 ≤ kd t ∧ (false : Bool) = false then 1 else 0) = 1 := if_pos ⟨w, rfl⟩
        omega
theorem KfL.jn {Fo : List Nat} {k : Int} {x y : Nat} (h : KfL Fo) (hx : x ∈ Fo) (ox : okT x ∧ isFo x) (hy : k ≠ 0 → y ∈ Fo) (oy : k ≠ 0 → okT y ∧ isFo y) : KfL (Fo ++ [jnT k x y]) := h.ap (fun _ _ => hg_jn ox oy (h x hx ox.2) (fun q => h y (hy q) (oy q).2)) (fun hb => hg_jnB ox oy (h x hx ox.2) (fun q => h y (hy q) (oy q).2) hb)
theorem KfL.bd {W : Wd} {Fo : List Nat} {o : Int} {x y : Nat} (h : KfL Fo) (hy : y ∈ Fo) (oy : okT y) (fy : isFo y) (x8 : kd (wcT W (wh x)) = 8) (hbo : okT (bdA W o x y)) : KfL (Fo ++ [bdT W o x y]) := h.ap (fun _ _ => by have := hg_bd (o := o) oy fy (h y hy fy) x8 hbo; omega) (fun _ => hg_bd (o := o) oy fy (h y hy fy) x8 hbo)
theorem KfL.tm {Fo : List Nat} {t : Nat} (h : KfL Fo) (hk : kd t ≤ 14) : KfL (Fo ++ [t]) := h.ap (fun _ q => by omega) (fun q => by have := isB_15 q; omega)
