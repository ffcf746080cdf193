/-! the class's check: what the opening makes, in one list -/
theorem ImT_up {X Y : Nat → Prop} {g : Nat → Nat → Nat} (h : ∀ z, X z → Y z) : ∀ (t d : Nat), ImT X g t d → ImT Y g t d := by
  intro t
  induction t using Nat.strongRecOn with
  | ind t ih =>
    intro d h1
    rw [ImT_eq] at h1 ⊢
    exact ⟨h _ h1.1, fun i c hc hi h0 => ih c (ps_lt (List.mem_of_getElem? hc)) _ (h1.2 i c hc hi h0)⟩
theorem opRL_up {G1 G2 : Nat → Nat → Prop} {F : Nat → Nat → Nat × Nat} (h : ∀ p c, G1 p c → G2 p c) : ∀ (l : List Nat) (c : Nat), opRL G1 F l c → opRL G2 F l c
  | [], _, _ => trivial
  | p :: l, c, h1 => ⟨h p c h1.1, opRL_up h l _ h1.2⟩
theorem opR_up {W : Wd} {X Y : Nat → Prop} (h : ∀ z, X z → Y z) : ∀ (n f c : Nat), opR W X n f c → opR W Y n f c
  | 0, _, _, h1 => h1
  | n + 1, f, c, h1 => by
    rw [opR] at h1 ⊢
    refine ⟨fun k => ?_, fun k k2 => ?_, fun k k2 => ?_⟩
    · obtain ⟨a1, a2, a3⟩ := h1.1 k
      exact ⟨opRL_up (fun p c => opR_up h n p c) _ _ a1, h _ a2, a3⟩
    · obtain ⟨a1, a2, a3⟩ := h1.2.1 k k2
      exact ⟨fun p hp => h _ (a1 p hp), opRL_up (fun p c => opR_up h n p c) _ _ a2, h _ a3⟩
    · obtain ⟨⟨a1, a2, a3, a4⟩, a5⟩ := h1.2.2 k k2
      exact ⟨⟨a1, h _ a2, ImT_up h _ _ a3, h _ a4⟩, opR_up h n _ _ a5⟩
theorem ev_lo {t : Nat} {pol : Bool} (h : kd t ≤ 14) : evT t pol = 0 := by
  rw [ev_eq]; unfold evS
  rw [if_neg (by omega), if_neg (by omega), if_neg (fun q => by have := q.1; omega)]
theorem exo_lo {t : Nat} {pol : Bool} (h : kd t ≤ 14) : exoT t pol = 0 := by
  rw [exoT_eq]; unfold exoS
  rw [if_neg (by omega), if_neg (by omega), if_neg (fun q => by have := q.1; omega)]
theorem ev_17 {t : Nat} (h : kd t = 17) : evT t true = ((ps t).map (fun p => evT p true)).sum := by
  rw [ev_eq]; unfold evS
  rw [if_neg (by omega), if_pos h]
theorem exo_17 {t : Nat} (h : kd t = 17) : exoT t true = 1 + ((ps t).map (fun p => exoT p true)).sum := by
  rw [exoT_eq]; unfold exoS
  rw [if_neg (by omega), if_pos h]; simp
theorem kd_yes9 : kd yesT = 9 := by unfold yesT; exact kd_mk _ _ _
theorem ev_no : evT noT true = 0 ∧ exoT noT true = 0 := by
  have k : kd noT = 16 := kd_no
  have p : ps noT = [yesT] := by unfold noT; exact ps_mk _ _ _
  constructor
  · rw [ev_eq]; unfold evS
    rw [if_pos k, p]
    simp [ev_lo (t := yesT) (pol := false) (by rw [kd_yes9]; decide)]
  · rw [exoT_eq]; unfold exoS
    rw [if_pos k, p]
    simp [exo_lo (t := yesT) (pol := false) (by rw [kd_yes9]; decide)]
theorem ev_flt (f : Nat) : ((flt f).map (fun p => evT p true)).sum ≤ evT f true ∧ ((flt f).map (fun p => exoT p true)).sum ≤ exoT f true := by
  unfold flt
  split
  · simp
  · split
    · rename_i h
      rw [ev_17 h, exo_17 h]
      exact ⟨Nat.le_refl _, by omega⟩
    · split <;> simp
theorem ev_fl : ∀ (L : List Nat), ((L.flatMap flt).map (fun p => evT p true)).sum ≤ (L.map (fun p => evT p true)).sum ∧ ((L.flatMap flt).map (fun p => exoT p true)).sum ≤ (L.map (fun p => exoT p true)).sum
  | [] => by simp
  | f :: L => by
    have h1 := ev_fl L
    have h2 := ev_flt f
    simp only [List.flatMap_cons, List.map_append, List.sum_append, List.map_cons, List.sum_cons]
    omega
theorem ev_and (L : List Nat) : evT (andT L) true + exoT (andT L) true ≤ (L.map (fun p => evT p true + exoT p true)).sum + 1 := by
  have h := ev_fl L
  have e : (L.map (fun p => evT p true + exoT p true)).sum = (L.map (fun p => evT p true)).sum + (L.map (fun p => exoT p true)).sum := by
    induction L with
    | nil => rfl
    | cons a L ih => simp only [List.map_cons, List.sum_cons, ih (ev_fl L)]; omega
  rw [e]
  unfold andT
  by_cases hn : noT ∈ L
  · rw [if_pos hn, ev_no.1, ev_no.2]; omega
  · rw [if_neg hn]
    cases hl : L.flatMap flt with
    | nil =>
      have h1 := ev_lo (t := yesT) (pol := true) (by rw [kd_yes9]; decide)
      have h2 := exo_lo (t := yesT) (pol := true) (by rw [kd_yes9]; decide)
      show evT yesT true + exoT yesT true ≤ _
      omega
    | cons a l =>
      rw [hl] at h
      cases l with
      | nil =>
        simp at h
        show evT a true + exoT a true ≤ _
        omega
      | cons b l =>
        show evT (mk 17 0 (a :: b :: l)) true + exoT (mk 17 0 (a :: b :: l)) true ≤ _
        rw [ev_17 (kd_mk _ _ _), exo_17 (kd_mk _ _ _), ps_mk]
        omega
theorem sub_and {L : List Nat} {s : Nat} (hL : ∀ p ∈ L, okT p ∧ isFo p) (h : subT s (andT L)) : s = andT L ∨ ∃ p ∈ L, subT s p := by
  have hfl : ∀ z ∈ L.flatMap flt, subT s z → ∃ p ∈ L, subT s p := fun z hz hs => by
    obtain ⟨p, hp, q⟩ := List.mem_flatMap.mp hz
    rcases flt_in q with e | ⟨e, w⟩
    · exact ⟨p, hp, by rw [← e]; exact hs⟩
    · exact ⟨p, hp, sub_c (ps_and1 (hL p hp).1 e z w).2 hs⟩
  by_cases hn : noT ∈ L
  · have e : andT L = noT := by unfold andT; rw [if_pos hn]
    have hm : andT L ∈ L := by rw [e]; exact hn
    exact Or.inr ⟨andT L, hm, h⟩
  · cases hl : L.flatMap flt with
    | nil =>
      have e : andT L = yesT := by unfold andT; rw [if_neg hn, hl]
      left
      rw [e] at h ⊢
      rw [subT_eq] at h
      rcases h with q | ⟨z, hz, _⟩
      · exact q
      · unfold yesT at hz; rw [fms_nil] at hz; cases hz
    | cons a l =>
      cases l with
      | nil =>
        have e : andT L = a := by unfold andT; rw [if_neg hn, hl]
        rw [e] at h
        exact Or.inr (hfl a (by rw [hl]; exact List.mem_cons_self) h)
      | cons b l =>
        have e : andT L = mk 17 0 (a :: b :: l) := by unfold andT; rw [if_neg hn, hl]
        rw [subT_eq] at h
        rcases h with q | ⟨z, hz, q⟩
        · exact Or.inl q
        · right
          have := (fms_ps hz).1
          rw [e, ps_mk] at this
          exact hfl z (by rw [hl]; exact this) q
section CLX
variable {W : Wd} {c n : Nat} {Fo Pr : List Nat} {g : Nat}
/-- the list of what an opening makes -/
theorem cls_X {NL : List Nat} (hA : AbI W c Fo Pr) (hg : g ∈ Fo ∧ isFo g) (hPl : Pr.length ≤ 20) (hn : 210 ≤ n) (hno : chG Pr g ≠ noT) (hNd : ∀ f ∈ Fo, ∀ z, subT z f → z ∈ NL) : ∃ (X : Nat → Prop) (LX : List Nat), X (notT g) ∧ X (chG Pr g) ∧ opR (wTy W (ckT W c (opY (n + 1) (chG Pr g) c))) X (n + 1) (chG Pr g) c ∧ (∀ z, X z → (z ∈ NL ∨ z ∈ LX) ∧ GdT z) ∧ (∀ s, subT s (chG Pr g) → X s) ∧ LX.length ≤ ((Pr ++ [notT g]).map (fun p => evT p true + exoT p true)).sum + 3 := by
  have hP := ck_prem hA hg
  obtain ⟨fG, zG⟩ := fF_and (W := W) (N := Nm nu2 c) (L := Pr ++ [notT g]) (fun f hf => (hP f hf).1)
  have fG : fF W (Nm nu2 c) (chG Pr g) := fG
  have zG : szT (chG Pr g) ≤ 2 + ((Pr ++ [notT g]).map szT).sum := zG
  have oG := fG.1.1.1
  have hsum : ∀ (l : List Nat), (∀ p ∈ l, szT p ≤ 201) → (l.map szT).sum ≤ 201 * l.length := fun l => by
    induction l with
    | nil => exact fun _ => Nat.le_refl _
    | cons a l ih =>
      intro hl
      have h1 := hl a List.mem_cons_self
      have h2 := ih (fun p hp => hl p (List.mem_cons_of_mem _ hp))
      rw [List.map_cons, List.sum_cons, List.length_cons]
      omega
  have hlen : (Pr ++ [notT g]).length ≤ 21 := by rw [List.length_append]; simp; omega
  have s1 := hsum (Pr ++ [notT g]) (fun p hp => (hP p hp).2.1)
  have hGh : htT (chG Pr g) ≤ 202 := ht_and (B := 201) (fun p hp => ⟨(hP p hp).1.1.1.1, (hP p hp).1.2, (hP p hp).2.2.2⟩) (by omega) rfl
  have hGd := op_Gd (W := wTy W (ckT W c (opY (n + 1) (chG Pr g) c))) (n + 1) (chG Pr g) c (by omega) oG fG.2 hno ckT_n (by omega)
  have hO := op_cov (W := wTy W (ckT W c (opY (n + 1) (chG Pr g) c))) (n + 1) (chG Pr g) true E0 c oG fG.2 clE0
  unfold OpnC at hO
  rw [opn_t, gv_cl _ oG 0 (by have := fG.1.2.1; omega)] at hO
  obtain ⟨Y, y1, y2⟩ := hO (opR_up (fun _ _ => trivial) _ _ _ hGd)
  have hsub : ∀ s, subT s (chG Pr g) → s ∈ NL ∨ s ∈ chG Pr g :: notT g :: Y := fun s hs => by
    rcases sub_and (fun p hp => ⟨(hP p hp).1.1.1.1, (hP p hp).1.2⟩) hs with q | ⟨p, hp, q⟩
    · right; rw [q]; exact List.mem_cons_self
    · rcases List.mem_append.mp hp with w | w
      · exact Or.inl (hNd p (hA.2.2.2.2 p w).1 s q)
      · rw [List.mem_singleton.mp w] at q
        rcases sub_ntT (hA.2.1 g hg.1).1.1.1 q with v | v
        · right; rw [v]; exact List.mem_cons_of_mem _ List.mem_cons_self
        · exact Or.inl (hNd g hg.1 s v)
  have gds : ∀ s, subT s (chG Pr g) → GdT s := fun s hs => gd_ok (sub_ok _ oG hs) (by have := sz_subT _ oG hs; omega)
  have h1 : opR (wTy W (ckT W c (opY (n + 1) (chG Pr g) c))) (fun z => z ∈ NL ∨ z ∈ chG Pr g :: notT g :: Y) (n + 1) (chG Pr g) c := y2 _ hsub (fun s hs => Or.inr (List.mem_cons_of_mem _ (List.mem_cons_of_mem _ hs)))
  have gN : GdT (notT g) := by
    have := (hP (notT g) (List.mem_append_right _ (List.mem_singleton.mpr rfl)))
    exact gd_ok this.1.1.1.1 (by have := this.2.1; omega)
  refine ⟨fun z => (z ∈ NL ∨ z ∈ chG Pr g :: notT g :: Y) ∧ GdT z, chG Pr g :: notT g :: Y, ⟨Or.inr (List.mem_cons_of_mem _ List.mem_cons_self), gN⟩, ⟨Or.inr List.mem_cons_self, gds _ (sub_rf _)⟩, opR_2 _ _ _ h1 hGd, fun z hz => hz, fun s hs => ⟨hsub s hs, gds s hs⟩, ?_⟩
  have := ev_and (Pr ++ [notT g])
  have e : evT (chG Pr g) true + exoT (chG Pr g) true ≤ ((Pr ++ [notT g]).map (fun p => evT p true + exoT p true)).sum + 1 := this
  rw [List.length_cons, List.length_cons]
  omega
end CLX
