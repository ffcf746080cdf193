/-! a check: what the opening makes, for the class and the model at once -/
theorem lfk_no {p : Nat} (h : p = noT) : LfK p := by
  have k : kd p = 16 := by rw [h]; exact kd_no
  have k9 : kd (pa p 0) = 9 := by rw [h]; unfold noT; rw [pa_mk0]; exact kd_yes
  exact ⟨by omega, fun q => by omega⟩
theorem opR_lf {W : Wd} {X : Nat → Prop} {n f c : Nat} (h : LfK f) : opR W X (n + 1) f c := ⟨fun q => absurd q h.1, fun q q2 => absurd ⟨q, Or.inl q2⟩ h.2, fun q q2 => absurd ⟨q, Or.inr q2⟩ h.2⟩
theorem tqR_lf {W : Wd} {X : Nat → Prop} {n f c : Nat} (h : LfK f) : tqR W X (n + 1) f c := ⟨fun q => absurd q h.1, fun q q2 => absurd ⟨q, Or.inl q2⟩ h.2, fun q q2 => absurd ⟨q, Or.inr q2⟩ h.2⟩
theorem tqRL_no {W : Wd} {X : Nat → Prop} {n : Nat} : ∀ {Ps : List Nat} {c : Nat}, tqRL (tqR W X (n + 1)) (tqF (n + 1)) (Ps.filter (fun p => decide (p ≠ noT))) c → tqRL (tqR W X (n + 1)) (tqF (n + 1)) Ps c
  | [], _, _ => trivial
  | p :: Ps, c, h => by
    by_cases e : p = noT
    · rw [List.filter_cons, if_neg (by simpa using e)] at h
      refine ⟨tqR_lf (lfk_no e), ?_⟩
      rw [tq_no e c]
      exact tqRL_no h
    · rw [List.filter_cons, if_pos (by simpa using e)] at h
      exact ⟨h.1, tqRL_no h.2⟩
theorem sum_fltX {f : Nat → Nat} {q : Nat → Bool} : ∀ (l : List Nat), ((l.filter q).map f).sum ≤ (l.map f).sum
  | [] => Nat.le_refl _
  | a :: l => by
    have := sum_fltX (f := f) (q := q) l
    rw [List.filter_cons]
    split <;> simp only [List.map_cons, List.sum_cons] <;> omega
section CLY
variable {W : Wd} {c n : Nat} {Fo Pr : List Nat} {g : Nat}
theorem chk_X {NL : List Nat} (hA : AbI W c Fo Pr) (hg : g ∈ Fo ∧ isFo g) (hPl : Pr.length ≤ 20) (hn : 210 ≤ n) (hNd : ∀ f ∈ Fo, ∀ z, subT z f → z ∈ NL) (hNo : noT ∈ NL) {Yl : List Nat} (hYl : Yl = opYL (opY n) (opF n) (Pr ++ [notT g]) c) : (noT ∉ Pr ++ [notT g] → Yl = opY (n + 1) (chG Pr g) c) ∧ ∃ (X : Nat → Prop) (LX : List Nat), X (notT g) ∧ X (chG Pr g) ∧ opR (wTy W (ckT W c Yl)) X (n + 1) (chG Pr g) c ∧ tqRL (tqR (wTy W (ckT W c Yl)) X n) (tqF n) (Pr ++ [notT g]) c ∧ (∀ z, X z → (z ∈ NL ∨ z ∈ LX) ∧ GdT z) ∧ (noT ∉ Pr ++ [notT g] → ∀ s, subT s (chG Pr g) → X s) ∧ LX.length ≤ ((Pr ++ [notT g]).map (fun p => evT p true + exoT p true)).sum + 3 := by
  have hP := ck_prem hA hg
  have hN : ∀ p ∈ Pr ++ [notT g], okT p ∧ isFo p ∧ htT p < n := fun p hp => ⟨(hP p hp).1.1.1.1, (hP p hp).1.2, by have := (hP p hp).2.2.2; omega⟩
  obtain ⟨Q, eQ⟩ : ∃ Q, Q = (Pr ++ [notT g]).filter (fun p => decide (p ≠ noT)) := ⟨_, rfl⟩
  have hQ : ∀ p ∈ Q, p ∈ Pr ++ [notT g] ∧ p ≠ noT := fun p hp => by
    rw [eQ] at hp
    obtain ⟨a, b⟩ := List.mem_filter.mp hp
    exact ⟨a, by simpa using b⟩
  have eY : Yl = opYL (opY n) (opF n) Q c := by
    obtain ⟨n', e'⟩ : ∃ n', n = n' + 1 := ⟨n - 1, by omega⟩
    rw [hYl, eQ, e', opYL_no]
  have nQ : noT ∉ Q := fun q => (hQ noT q).2 rfl
  have hNQ : ∀ p ∈ Q, okT p ∧ isFo p ∧ htT p < n := fun p hp => hN p (hQ p hp).1
  have eQP : noT ∉ Pr ++ [notT g] → Q = Pr ++ [notT g] := fun h => by
    rw [eQ]
    exact List.filter_eq_self.mpr (fun p hp => by simpa using (fun e : p = noT => h (by rw [← e]; exact hp)))
  have eYG : opYL (opY n) (opF n) Q c = opY (n + 1) (andT Q) c := opY_and hNQ nQ
  obtain ⟨fG, zG⟩ := fF_and (W := W) (N := Nm nu2 c) (L := Q) (fun f hf => (hP f (hQ f hf).1).1)
  have oG := fG.1.1.1
  have hsum : ∀ (l : List Nat), (∀ p ∈ l, szT p ≤ 201) → (l.map szT).sum ≤ 201 * l.length := fun l => by
    induction l with
    | nil => exact fun _ => Nat.le_refl _
    | cons a l ih =>
      intro hl
      have h1 := hl a List.mem_cons_self
      have h2 := ih (fun p hp => hl p (List.mem_cons_of_mem _ hp))
      rw [List.map_cons, List.sum_cons, List.length_cons]
      omega
  have hlen : Q.length ≤ 21 := by
    have h1 : Q.length ≤ (Pr ++ [notT g]).length := by rw [eQ]; exact List.length_filter_le _ _
    rw [List.length_append] at h1
    simp at h1
    omega
  have s1 := hsum Q (fun p hp => (hP p (hQ p hp).1).2.1)
  have hGh : htT (andT Q) ≤ 202 := ht_and (B := 201) (fun p hp => ⟨(hP p (hQ p hp).1).1.1.1.1, (hP p (hQ p hp).1).1.2, (hP p (hQ p hp).1).2.2.2⟩) (by omega) rfl
  have hno : andT Q ≠ noT := fun e => by
    obtain ⟨te, _⟩ := tq_and (c := c) hNQ (by omega) (rfl : andT Q = andT Q)
    have h0 : (tqF (n + 1) (andT Q) c).1 = [] := by rw [e, tq_no rfl c]
    rw [te] at h0
    have h1 := congrArg List.length h0
    unfold tqP at h1
    rw [prodL_le2] at h1
    have l3 := (tqL_cnt (n := n) (pol := true) (E := E0) (l := Q) (c := c) (fun p hp c' => tq_cnt n p true E0 c' (hNQ p hp).1 (hNQ p hp).2.1 clE0) (fun p hp => by
      rw [opn_t, gv_cl p (hNQ p hp).1 0 (by have := (hP p (hQ p hp).1).1.1.2.1; omega)]; exact (hNQ p hp).2.2)).2.2 (fun p hp => ⟨fun q => (by cases q.2), fun q => (hQ p hp).2 q.1⟩)
    have ee : Q.map (fun p => opn true (sbT (gv E0) 0 p)) = Q := by
      have : Q.map (fun p => opn true (sbT (gv E0) 0 p)) = Q.map id := List.map_congr_left (fun p hp => by rw [opn_t, gv_cl p (hNQ p hp).1 0 (by have := (hP p (hQ p hp).1).1.1.2.1; omega)]; rfl)
      rw [this, List.map_id]
    rw [ee] at l3
    rw [l3] at h1
    have h2 := prod_ge (Q.map (fun p => kaT p true)) (fun x hx => by
      obtain ⟨p, hp, e⟩ := List.mem_map.mp hx
      rw [← e]; exact ka_pos p (hNQ p hp).1 (hNQ p hp).2.1 true)
    simp at h1
    omega
  have hGd := op_Gd (W := wTy W (ckT W c Yl)) (n + 1) (andT Q) c (by omega) oG fG.2 hno (by rw [← eYG, ← eY]; exact ckT_n) (by omega)
  have hO := op_cov (W := wTy W (ckT W c Yl)) (n + 1) (andT Q) true E0 c oG fG.2 clE0
  unfold OpnC at hO
  rw [opn_t, gv_cl _ oG 0 (by have := fG.1.2.1; omega)] at hO
  obtain ⟨Y, y1, y2⟩ := hO (opR_up (fun _ _ => trivial) _ _ _ hGd)
  have hsub : ∀ s, subT s (andT Q) → s ∈ NL ∨ s ∈ andT Q :: notT g :: Y := fun s hs => by
    rcases sub_and (fun p hp => ⟨(hP p (hQ p hp).1).1.1.1.1, (hP p (hQ p hp).1).1.2⟩) hs with q | ⟨p, hp, q⟩
    · right; rw [q]; exact List.mem_cons_self
    · rcases List.mem_append.mp (hQ p hp).1 with w | w
      · exact Or.inl (hNd p (hA.2.2.2.2 p w).1 s q)
      · rw [List.mem_singleton.mp w] at q
        rcases sub_ntT (hA.2.1 g hg.1).1.1.1 q with v | v
        · right; rw [v]; exact List.mem_cons_of_mem _ List.mem_cons_self
        · exact Or.inl (hNd g hg.1 s v)
  have gds : ∀ s, subT s (andT Q) → GdT s := fun s hs => gd_ok (sub_ok _ oG hs) (by have := sz_subT _ oG hs; omega)
  have h1 : opR (wTy W (ckT W c Yl)) (fun z => z ∈ NL ∨ z ∈ andT Q :: notT g :: Y) (n + 1) (andT Q) c := y2 _ hsub (fun s hs => Or.inr (List.mem_cons_of_mem _ (List.mem_cons_of_mem _ hs)))
  have gN : GdT (notT g) := by
    have := (hP (notT g) (List.mem_append_right _ (List.mem_singleton.mpr rfl)))
    exact gd_ok this.1.1.1.1 (by have := this.2.1; omega)
  have h2 := opR_2 _ _ _ h1 hGd
  have h3 : tqRL (tqR (wTy W (ckT W c Yl)) (fun z => (z ∈ NL ∨ z ∈ andT Q :: notT g :: Y) ∧ GdT z) n) (tqF n) (Pr ++ [notT g]) c := by
    have q := tqR_and hNQ nQ (op_tqR (n + 1) (andT Q) c (by omega) oG fG.2 h2)
    obtain ⟨n', e'⟩ : ∃ n', n = n' + 1 := ⟨n - 1, by omega⟩
    rw [e'] at q ⊢
    exact tqRL_no (by rw [← eQ]; exact q)
  have eG : noT ∉ Pr ++ [notT g] → chG Pr g = andT Q := fun h => by rw [eQP h]; rfl
  refine ⟨fun h => by rw [eY, eYG, eG h], fun z => (z ∈ NL ∨ z ∈ andT Q :: notT g :: Y) ∧ GdT z, andT Q :: notT g :: Y, ⟨Or.inr (List.mem_cons_of_mem _ List.mem_cons_self), gN⟩, ?_, ?_, h3, fun z hz => hz, fun h s hs => ?_, ?_⟩
  · by_cases q : noT ∈ Pr ++ [notT g]
    · have e : chG Pr g = noT := by unfold chG andT; rw [if_pos q]
      have hz : szT noT ≤ 5000 := by
        have h1 := (fF_not (fF_yes (W := W) (N := Nm nu2 c))).2
        have h2 : szT yesT ≤ 1 := sz_c0
        have h3 : notT yesT = noT := by unfold notT; rw [if_neg (by rw [kd_yes9]; decide)]; rfl
        rw [h3] at h1
        omega
      have m1 : chG Pr g ∈ NL := by rw [e]; exact hNo
      have m2 : szT (chG Pr g) ≤ 5000 := by rw [e]; exact hz
      have m3 := (fF_and (W := W) (N := Nm nu2 c) (L := Pr ++ [notT g]) (fun f hf => (hP f hf).1)).1.1.1.1
      exact ⟨Or.inl m1, gd_ok m3 m2⟩
    · rw [eG q]
      exact ⟨Or.inr List.mem_cons_self, gds _ (sub_rf _)⟩
  · by_cases q : noT ∈ Pr ++ [notT g]
    · have e : chG Pr g = noT := by unfold chG andT; rw [if_pos q]
      exact opR_lf (lfk_no e)
    · rw [eG q]; exact h2
  · rw [eG h] at hs
    exact ⟨hsub s hs, gds s hs⟩
  · have h4 := ev_and Q
    have h5 : (Q.map (fun p => evT p true + exoT p true)).sum ≤ ((Pr ++ [notT g]).map (fun p => evT p true + exoT p true)).sum := by rw [eQ]; exact sum_fltX _
    rw [List.length_cons, List.length_cons]
    omega
end CLY
