/-! long units with two leaves: how many a kept formula has -/
theorem cd_jn {M : Nat} {k : Int} {x y z : Nat} (ox : okT x ∧ isFo x) (oy : k ≠ 0 → okT y ∧ isFo y) (h : z ∈ cdT M (jnT k x y) 0) : z ∈ cdT M x 0 ∨ (k ≠ 0 ∧ z ∈ cdT M y 0) := by
  unfold jnT at h
  by_cases k0 : k = 0
  · rw [if_pos k0] at h; exact Or.inl (cd_not ox.1 h)
  rw [if_neg k0] at h
  have oy := oy k0
  have nx := okT_not ox.1 ox.2
  have ny := okT_not oy.1 oy.2
  have two : ∀ {a b : Nat}, okT a ∧ isFo a → okT b ∧ isFo b → okT (andT [a, b]) ∧ isFo (andT [a, b]) := fun {a b} ha hb => okT_and (fun z hz => by
    rcases List.mem_cons.mp hz with q | q
    · rw [q]; exact ha
    · rw [List.mem_singleton.mp q]; exact hb)
  have an : ∀ {a b : Nat}, z ∈ cdT M (andT [a, b]) 0 → z ∈ cdT M a 0 ∨ z ∈ cdT M b 0 := fun {a b} q => by
    obtain ⟨f, hf, w⟩ := cd_and q
    rcases List.mem_cons.mp hf with e | e
    · rw [e] at w; exact Or.inl w
    · rw [List.mem_singleton.mp e] at w; exact Or.inr w
  have im : ∀ {a b : Nat}, okT a ∧ isFo a → okT b ∧ isFo b → z ∈ cdT M (impT a b) 0 → z ∈ cdT M a 0 ∨ z ∈ cdT M b 0 := fun {a b} ha hb q => by
    have nb := okT_not hb.1 hb.2
    exact (an (cd_not (two ha nb).1 q)).imp id (cd_not hb.1)
  by_cases k1 : k = 1
  · rw [if_pos k1] at h; exact (an h).imp id (fun q => ⟨k0, q⟩)
  rw [if_neg k1] at h
  by_cases k2 : k = 2
  · rw [if_pos k2] at h
    exact (an (cd_not (two nx ny).1 h)).imp (cd_not ox.1) (fun q => ⟨k0, cd_not oy.1 q⟩)
  rw [if_neg k2] at h
  by_cases k3 : k = 3
  · rw [if_pos k3] at h; exact (im ox oy h).imp id (fun q => ⟨k0, q⟩)
  rw [if_neg k3] at h
  have h : z ∈ cdT M (andT [impT x y, impT y x]) 0 := h
  rcases an h with q | q
  · exact (im ox oy q).imp id (fun q => ⟨k0, q⟩)
  · rcases im oy ox q with w | w
    · exact Or.inr ⟨k0, w⟩
    · exact Or.inl w
theorem nLU_lo {M t : Nat} (h : kd t ≤ 14) : nLU M t ≤ 1 := by
  unfold nLU
  have : (ddL (cdT M t 0)).length ≤ [mk 0 0 [t]].length := dd_sub (fun s hs => by rw [((cd_lo h).mp hs).2]; simp)
  simpa using this
theorem nLU_jn {M : Nat} {k : Int} {x y : Nat} (ox : okT x ∧ isFo x) (oy : k ≠ 0 → okT y ∧ isFo y) : nLU M (jnT k x y) ≤ nLU M x + (if k = 0 then 0 else nLU M y) := by
  unfold nLU
  by_cases k0 : k = 0
  · rw [if_pos k0, Nat.add_zero]
    exact dd_sub (fun s hs => dd_mem.mpr ((cd_jn ox oy hs).elim id (fun q => absurd k0 q.1)))
  · rw [if_neg k0, ← List.length_append]
    exact dd_sub (fun s hs => (cd_jn ox oy hs).elim (fun q => List.mem_append_left _ (dd_mem.mpr q)) (fun q => List.mem_append_right _ (dd_mem.mpr q.2)))
theorem nLU_bd {M : Nat} {W : Wd} {o : Int} {x y : Nat} (oy : okT y) (fy : isFo y) (ot : okT (wcT W (wh x))) (t8 : kd (wcT W (wh x)) = 8) (hbo : okT (bdA W o x y)) (oG : okT (bdG o x y)) (fG : isFo (bdG o x y)) : nLU M (bdT W o x y) ≤ nLU M y + 1 := by
  have hA : ∀ z, z ∈ cdT M (bdT W o x y) 0 → z ∈ cdT M (bdA W o x y) 0 := fun z hz => by
    unfold bdT at hz
    split at hz
    · exact hz
    · exact cd_not hbo hz
  have oF : okT (bdF o y) ∧ isFo (bdF o y) ∧ ∀ z, z ∈ cdT M (bdF o y) 0 → z ∈ cdT M y 0 := by
    unfold bdF
    split
    · exact ⟨oy, fy, fun z h => h⟩
    · exact ⟨(okT_not oy fy).1, (okT_not oy fy).2, fun z h => cd_not oy h⟩
  have hB : ∀ z, z ∈ cdT M (bdA W o x y) 0 → z = mk 0 0 [wcT W (wh x)] ∨ z ∈ (ddL (cdT M y 0)).map (fun v => dpr (bdp x v)) := fun z hz => by
    unfold bdA alT at hz
    split at hz
    · exact absurd hz cd_yes
    · rcases (cd_all (kd_mk _ _ _) (ps_mk _ _ _)).mp hz with q | q
      · exact Or.inl ((cd_lo (by omega)).mp q).2
      · right
        obtain ⟨v, v1, v2⟩ := cd_sh (bdG o x y) oG (Or.inr fG) 0 z q
        obtain ⟨w, w1, w2⟩ := cd_bx (x := x) (bdF o y) oF.1 (Or.inr oF.2.1) 0 v v1
        exact List.mem_map.mpr ⟨w, dd_mem.mpr (oF.2.2 w w1), by rw [v2, w2]⟩
  unfold nLU
  have h1 : (ddL (cdT M (bdT W o x y) 0)).length ≤ (mk 0 0 [wcT W (wh x)] :: (ddL (cdT M y 0)).map (fun v => dpr (bdp x v))).length := dd_sub (fun s hs => by
    rcases hB s (hA s hs) with q | q
    · rw [q]; exact List.mem_cons_self
    · exact List.mem_cons_of_mem _ q)
  rwa [List.length_cons, List.length_map] at h1
/-- with jc joins and bc binds so far -/
def KfD (jc bc : Nat) (Fo : List Nat) : Prop := ∀ f ∈ Fo, isFo f → ∀ M, nLU M f ≤ 2 ^ jc * (1 + bc)
theorem pw_up {jc bc : Nat} : 1 ≤ 2 ^ jc * (1 + bc) := Nat.le_trans (by omega) (Nat.mul_le_mul (Nat.one_le_two_pow (n := jc)) (show 1 ≤ 1 + bc by omega))
theorem KfD.tm {jc bc : Nat} {Fo : List Nat} {t : Nat} (h : KfD jc bc Fo) (hk : kd t ≤ 14) : KfD jc bc (Fo ++ [t]) := fun f hf k M => by
  rcases List.mem_append.mp hf with q | q
  · exact h f q k M
  · rw [List.mem_singleton.mp q]
    exact Nat.le_trans (nLU_lo hk) pw_up
theorem KfD.jn {jc bc : Nat} {Fo : List Nat} {k : Int} {x y : Nat} (h : KfD jc bc Fo) (hx : x ∈ Fo) (ox : okT x ∧ isFo x) (hy : k ≠ 0 → y ∈ Fo) (oy : k ≠ 0 → okT y ∧ isFo y) : KfD (jc + 1) bc (Fo ++ [jnT k x y]) := fun f hf kf M => by
  have e : 2 ^ (jc + 1) * (1 + bc) = 2 ^ jc * (1 + bc) + 2 ^ jc * (1 + bc) := by rw [Nat.pow_succ, Nat.mul_comm (2 ^ jc) 2, Nat.mul_assoc, Nat.two_mul]
  rcases List.mem_append.mp hf with q | q
  · have := h f q kf M
    omega
  · rw [List.mem_singleton.mp q]
    have h1 := nLU_jn (M := M) ox oy
    have h2 := h x hx ox.2 M
    by_cases k0 : k = 0
    · rw [if_pos k0] at h1; omega
    · rw [if_neg k0] at h1
      have h3 := h y (hy k0) (oy k0).2 M
      omega
theorem KfD.bd {jc bc : Nat} {W : Wd} {Fo : List Nat} {o : Int} {x y : Nat} (h : KfD jc bc Fo) (hy : y ∈ Fo) (oy : okT y) (fy : isFo y) (ot : okT (wcT W (wh x))) (t8 : kd (wcT W (wh x)) = 8) (hbo : okT (bdA W o x y)) (oG : okT (bdG o x y)) (fG : isFo (bdG o x y)) : KfD jc (bc + 1) (Fo ++ [bdT W o x y]) := fun f hf kf M => by
  have e : 2 ^ jc * (1 + (bc + 1)) = 2 ^ jc * (1 + bc) + 2 ^ jc := by rw [show 1 + (bc + 1) = (1 + bc) + 1 by omega, Nat.mul_add, Nat.mul_one]
  have p1 : 1 ≤ 2 ^ jc := Nat.one_le_two_pow
  rcases List.mem_append.mp hf with q | q
  · have := h f q kf M
    omega
  · rw [List.mem_singleton.mp q]
    have h1 := nLU_bd (M := M) (W := W) (o := o) (x := x) oy fy ot t8 hbo oG fG
    have h2 := h y hy fy M
    omega
