/-! new forms out of old ones -/
theorem fr_mk {W : Wd} {N : Nat → Prop} {t : Nat} (ho : okN t) (hl : lcW W N t) (hc : ∀ c ∈ fms t, frW W N c) : frW W N t := ⟨by rw [okT_eq]; exact ⟨ho, fun c q => (hc c q).1⟩, fun s hs => by
  rw [subT_eq] at hs
  rcases hs with q | ⟨c, q, z⟩
  · rw [q]; exact hl
  · exact (hc c q).2 s z⟩
theorem loT_z : loT 0 = 0 := by
  rw [loT_eq]
  unfold loS loX
  rw [kd0, ps0]
  rfl
theorem fold0 : ∀ (l : List Nat), (∀ v ∈ l, v = 0) → l.foldl max 0 = 0
  | [], _ => rfl
  | a :: l, h => by
    rw [List.foldl_cons, h a List.mem_cons_self]
    exact fold0 l (fun v hv => h v (List.mem_cons_of_mem _ hv))
/-- what holds nothing loose is not loose -/
theorem lo_mk0 {t : Nat} (hk : kd t ≠ 2) (h : ∀ c ∈ fms t, loT c = 0) : loT t = 0 := by
  have hc : ∀ c ∈ ps t, kd t ≠ 8 → loT c = 0 := fun c q h8 => by
    by_cases h0 : c = 0
    · rw [h0]; exact loT_z
    · exact h c (fms_mem q h8 h0)
  have h1 : ∀ c ∈ (ps t).take 1, loT c = 0 := fun c q => by
    by_cases h0 : c = 0
    · rw [h0]; exact loT_z
    · refine h c ?_
      unfold fms
      refine List.mem_filter.mpr ⟨?_, by simpa using h0⟩
      by_cases h8 : kd t = 8
      · rw [if_pos h8]; exact q
      · rw [if_neg h8]; exact List.mem_of_mem_take q
  rw [loT_eq]
  unfold loS
  rw [if_neg hk]
  have f1 : (((ps t).take 1).map loT).foldl max 0 = 0 := fold0 _ (fun v hv => by
    obtain ⟨c, q, e⟩ := List.mem_map.mp hv
    rw [← e]; exact h1 c q)
  unfold loX
  by_cases h8 : kd t = 8
  · rw [if_pos h8]; exact f1
  · have f2 : (((ps t).drop 1).map loT).foldl max 0 = 0 := fold0 _ (fun v hv => by
      obtain ⟨c, q, e⟩ := List.mem_map.mp hv
      rw [← e]; exact hc c (List.mem_of_mem_drop q) h8)
    have f3 : ((ps t).map loT).foldl max 0 = 0 := fold0 _ (fun v hv => by
      obtain ⟨c, q, e⟩ := List.mem_map.mp hv
      rw [← e]; exact hc c q h8)
    rw [if_neg h8, f1, f2, f3]
    split <;> rfl
/-- a form at rest -/
def fW (W : Wd) (N : Nat → Prop) (f : Nat) : Prop := frW W N f ∧ loT f = 0 ∧ (isFo f → lvL f 0)
def FoW (W : Wd) (N : Nat → Prop) (Fo : List Nat) : Prop := ∀ f ∈ Fo, fW W N f ∧ szT f ≤ 200
theorem FoW.p {W : Wd} {N : Nat → Prop} {Fo : List Nat} (h : FoW W N Fo) : FoP Fo := fun f hf => ⟨(h f hf).1.1.1, (h f hf).2, (h f hf).1.2.1⟩
theorem FoW.ex {W W' : Wd} {N N' : Nat → Prop} {Fo : List Nat} (h : FoW W N Fo) (hx : WEx N W W') (hN : ∀ n, N n → N' n) : FoW W' N' Fo := fun f hf => ⟨⟨fr_ex hx hN (h f hf).1.1, (h f hf).1.2⟩, (h f hf).2⟩
theorem FoW.ad {W : Wd} {N : Nat → Prop} {Fo : List Nat} {t : Nat} (h : FoW W N Fo) (ht : fW W N t) (hz : szT t ≤ 200) : FoW W N (Fo ++ [t]) := fun f hf => by
  rcases List.mem_append.mp hf with q | q
  · exact h f q
  · rw [List.mem_singleton.mp q]; exact ⟨ht, hz⟩
theorem fms_nil {k w : Nat} : fms (mk k w []) = [] := by unfold fms; rw [ps_mk]; split <;> rfl
theorem fms_one {k w a : Nat} (h8 : k ≠ 8) (h0 : a ≠ 0) : fms (mk k w [a]) = [a] := by unfold fms; rw [ps_mk, kd_mk, if_neg h8]; simp [h0]
theorem fms_two {k w a b : Nat} (h8 : k ≠ 8) (h0 : a ≠ 0) (h1 : b ≠ 0) : fms (mk k w [a, b]) = [a, b] := by unfold fms; rw [ps_mk, kd_mk, if_neg h8]; simp [h0, h1]
theorem fms_two0 {k w b : Nat} (h8 : k ≠ 8) (h1 : b ≠ 0) : fms (mk k w [0, b]) = [b] := by unfold fms; rw [ps_mk, kd_mk, if_neg h8]; simp [h1]
theorem lc_leaf {W : Wd} {N : Nat → Prop} {k w : Nat} {l : List Nat} (h : k = 2 ∨ k = 3 ∨ k = 5 ∨ k = 10 ∨ k = 11 ∨ k = 16 ∨ k = 17 ∨ k = 18 ∨ k = 9) : lcW W N (mk k w l) := by
  unfold lcW
  rw [kd_mk]
  exact ⟨fun q => by omega, fun q => by omega, fun q => by omega, fun q => by omega, fun q => by omega, fun q => by omega⟩
theorem fW_loc {W : Wd} {N : Nat → Prop} {i : Nat} (hi : i < 2) : fW W N (mk 3 i []) := by
  refine ⟨fr_mk ⟨by rw [kd_mk, wh_mk, ps_mk], ?_⟩ (lc_leaf (by omega)) (fun c hc => by rw [fms_nil] at hc; cases hc), lo_mk0 (by rw [kd_mk]; decide) (fun c hc => by rw [fms_nil] at hc; cases hc), fun q => by unfold isFo at q; rw [kd_mk] at q; omega⟩
  rw [kd_mk, wh_mk, ps_mk]
  exact Or.inr (Or.inr (Or.inl ⟨rfl, rfl, hi⟩))
theorem fW_con {W : Wd} {N : Nat → Prop} {n : Nat} (hn : N n) : fW W N (mk 1 n []) := by
  refine ⟨fr_mk ⟨by rw [kd_mk, wh_mk, ps_mk], ?_⟩ ?_ (fun c hc => by rw [fms_nil] at hc; cases hc), lo_mk0 (by rw [kd_mk]; decide) (fun c hc => by rw [fms_nil] at hc; cases hc), fun q => by unfold isFo at q; rw [kd_mk] at q; omega⟩
  · rw [kd_mk, wh_mk, ps_mk]
    exact Or.inl ⟨rfl, rfl⟩
  · unfold lcW
    rw [kd_mk, wh_mk]
    exact ⟨fun _ => hn, fun q => by omega, fun q => by omega, fun q => by omega, fun q => by omega, fun q => by omega⟩
theorem fW_the {W : Wd} {N : Nat → Prop} {y : Nat} (hy : fW W N y) (h8 : kd y = 8) : fW W N (mk 5 0 [y]) := by
  have y0 : y ≠ 0 := fun q => by rw [q, kd0] at h8; omega
  refine ⟨fr_mk ⟨by rw [kd_mk, wh_mk, ps_mk], ?_⟩ (lc_leaf (by omega)) (fun c hc => ?_), lo_mk0 (by rw [kd_mk]; decide) (fun c hc => ?_), fun q => by unfold isFo at q; rw [kd_mk] at q; omega⟩
  · rw [kd_mk, wh_mk, ps_mk]
    exact Or.inr (Or.inr (Or.inr (Or.inr (Or.inl ⟨rfl, rfl, y, rfl, h8⟩))))
  · rw [fms_one (by decide) y0] at hc
    rw [List.mem_singleton.mp hc]; exact hy.1
  · rw [fms_one (by decide) y0] at hc
    rw [List.mem_singleton.mp hc]; exact hy.2.1
