/-! one closed term put in: what comes of it -/
theorem foldl_le {l : List Nat} {b : Nat} : ∀ (a : Nat), a ≤ b → (∀ x ∈ l, x ≤ b) → l.foldl max a ≤ b := by
  induction l with
  | nil => exact fun a ha _ => ha
  | cons x l ih =>
    intro a ha h
    rw [List.foldl_cons]
    refine ih _ ?_ (fun y hy => h y (List.mem_cons_of_mem _ hy))
    have := h x List.mem_cons_self
    omega
theorem lo_of {t e : Nat} (h2 : kd t ≠ 2) (h : ∀ i c, (ps t)[i]? = some c → (kd t ≠ 8 ∨ i = 0) → loT c ≤ dpT t e i) : loT t ≤ e := by
  rw [loT_eq]
  unfold loS
  rw [if_neg h2]
  unfold loX
  have t1 : ∀ x ∈ ((ps t).take 1).map loT, x ≤ dpT t e 0 := fun x hx => by
    obtain ⟨c, c1, c2⟩ := List.mem_map.mp hx
    obtain ⟨i, hi⟩ := List.getElem?_of_mem c1
    rw [List.getElem?_take] at hi
    by_cases q : i < 1
    · rw [if_pos q, show i = 0 by omega] at hi
      rw [← c2]; exact h 0 c hi (Or.inr rfl)
    · rw [if_neg q] at hi; cases hi
  have d0 : dpT t e 0 = e := by unfold dpT; rw [if_neg (by omega)]
  rw [d0] at t1
  by_cases k8 : kd t = 8
  · rw [if_pos k8]
    exact foldl_le 0 (Nat.zero_le _) t1
  · rw [if_neg k8]
    by_cases k18 : kd t = 18
    · rw [if_pos k18]
      have a := foldl_le 0 (Nat.zero_le _) t1
      have b : (((ps t).drop 1).map loT).foldl max 0 ≤ e + 1 := foldl_le 0 (Nat.zero_le _) (fun x hx => by
        obtain ⟨c, c1, c2⟩ := List.mem_map.mp hx
        obtain ⟨i, hi⟩ := List.getElem?_of_mem c1
        rw [List.getElem?_drop] at hi
        have := h (1 + i) c hi (Or.inl k8)
        unfold dpT at this
        rw [if_pos ⟨k18, by omega⟩] at this
        omega)
      omega
    · rw [if_neg k18]
      refine foldl_le 0 (Nat.zero_le _) (fun x hx => ?_)
      obtain ⟨c, c1, c2⟩ := List.mem_map.mp hx
      obtain ⟨i, hi⟩ := List.getElem?_of_mem c1
      have := h i c hi (Or.inl k8)
      unfold dpT at this
      rw [if_neg (by omega)] at this
      omega
theorem sb_parts {g : Nat → Nat → Nat} {t e i c' : Nat} (hk : ¬ kd t ≤ 3) (h : (ps (sbT g e t))[i]? = some c') (h8 : kd t ≠ 8 ∨ i = 0) : ∃ c, (ps t)[i]? = some c ∧ c' = zf (sbT g (dpT t e i)) c := by
  rw [(sb_kd hk).2.2] at h
  have hl : i < (ps t).length := by have := (List.getElem?_eq_some_iff.mp h).1; rw [chm_len] at this; exact this
  refine ⟨_, List.getElem?_eq_getElem hl, ?_⟩
  rw [chm_at (List.getElem?_eq_getElem hl)] at h
  have e1 := Option.some.inj h
  rw [if_neg (by omega)] at e1
  unfold dpT
  by_cases q : kd t = 18 ∧ 0 < i
  · rw [if_pos q] at e1 ⊢; exact e1.symm
  · rw [if_neg q] at e1 ⊢; exact e1.symm
theorem lo_put {s : Nat} (hs : loT s = 0) : ∀ (t : Nat), okT t → ∀ e, loT t ≤ e + 1 → loT (sbT (putg s) e t) ≤ e := by
  intro t
  induction t using Nat.strongRecOn with
  | ind t ih =>
    intro ho e hl
    by_cases h3 : kd t ≤ 3
    · rw [sbT_eq, if_pos h3]
      unfold putg
      by_cases q : kd t = 2 ∧ wh t = e
      · rw [if_pos q, hs]; exact Nat.zero_le _
      · rw [if_neg q]
        by_cases h2 : kd t = 2
        · rw [loT_eq] at hl ⊢
          unfold loS at hl ⊢
          rw [if_pos h2] at hl ⊢
          have : wh t ≠ e := fun z => q ⟨h2, z⟩
          omega
        · have k0 := okN_kd ho.n
          have : kd t = 1 ∨ kd t = 3 := by unfold isTm isFo at k0; omega
          rw [(lo_leaf ho.n this).2]; exact Nat.zero_le _
    · obtain ⟨k1, k2, k3⟩ := sb_kd (g := putg s) (d := e) h3
      refine lo_of (by omega) (fun i c' hc h8 => ?_)
      rw [k1] at h8
      obtain ⟨c, c1, c2⟩ := sb_parts h3 hc h8
      have hd : dpT (sbT (putg s) e t) e i = dpT t e i := by unfold dpT; rw [k1]
      rw [hd, c2]
      unfold zf
      by_cases q : c = 0
      · rw [if_pos q, loT0]; exact Nat.zero_le _
      · rw [if_neg q]
        have hm : c ∈ fms t := fms_at.mpr ⟨i, h8, c1, q⟩
        exact ih c (fms_lt hm) (ho.c hm) _ (lo_c h3 c1 hm h8 hl)
theorem put_fr {W : Wd} {N : Nat → Prop} {s t e : Nat} (h : frW W N t) (hs : cltm W N s) : frW W N (sbT (putg s) e t) := by
  refine frW_sb h (fun c hc d' => ?_)
  unfold putg
  split
  · exact ⟨hs.2.1, hs.1⟩
  · exact ⟨(lv_ok t h.1 c hc).2.2, h.sub (lv_sb0 t hc).1⟩
theorem lv_leaf {c : Nat} (h : kd c ≤ 3) : lvT c = [c] := by rw [lvT_eq, if_pos h]
theorem lv_put {s t e : Nat} (ho : okT t) (h : lvL t 0) (hs : lvL s 0) : lvL (sbT (putg s) e t) 0 := fun l hl h3 => by
  obtain ⟨c, d', c1, c2⟩ := lv_sb t hl
  unfold putg at c2
  split at c2
  · exact hs l c2 h3
  · have hk := (lv_ok t ho c c1).2.1
    rw [lv_leaf hk] at c2
    rw [List.mem_singleton.mp c2] at h3 ⊢
    exact h c c1 h3
theorem szQ_put {s : Nat} (hs : loT s = 0) (ht : isTm s) : ∀ (t : Nat), okT t → ∀ e, szQ (sbT (putg s) e t) ≤ szQ t := by
  intro t
  induction t using Nat.strongRecOn with
  | ind t ih =>
    intro ho e
    have t0 : t ≠ 0 := fun q => by
      have := okN_kd ho.n
      rw [q] at this
      unfold isTm isFo at this
      rw [kd0] at this
      omega
    have hp := szQ_pos t0
    by_cases h3 : kd t ≤ 3
    · rw [sbT_eq, if_pos h3]
      unfold putg
      split
      · rw [szQ_cl (isTm_pos ht) ⟨by unfold isTm at ht; omega, hs⟩]; exact hp
      · exact Nat.le_refl _
    · by_cases hc : kd t ≤ 5 ∧ loT t = 0
      · rw [sb_id t ho e (by omega)]; exact Nat.le_refl _
      · obtain ⟨k1, k2, k3⟩ := sb_kd (g := putg s) (d := e) h3
        have s0 : sbT (putg s) e t ≠ 0 := fun q => by rw [q, kd0] at k1; omega
        by_cases hc2 : kd (sbT (putg s) e t) ≤ 5 ∧ loT (sbT (putg s) e t) = 0
        · rw [szQ_cl s0 hc2]; exact hp
        · rw [szQ_ex s0 hc2, szQ_ex t0 hc]
          have key : ∀ (d : Nat) (l : List Nat), (∀ c ∈ l, c ≠ 0 → c ∈ fms t) → ((l.map (zf (sbT (putg s) d))).map szQ).sum ≤ (l.map szQ).sum := by
            intro d l
            induction l with
            | nil => exact fun _ => Nat.le_refl _
            | cons c l ihl =>
              intro h
              simp only [List.map_cons, List.sum_cons]
              have h1 := ihl (fun x hx => h x (List.mem_cons_of_mem _ hx))
              have h2 : szQ (zf (sbT (putg s) d) c) ≤ szQ c := by
                unfold zf
                by_cases q : c = 0
                · rw [if_pos q, q]; exact Nat.le_refl _
                · rw [if_neg q]
                  have hm := h c List.mem_cons_self q
                  exact ih c (fms_lt hm) (ho.c hm) d
              omega
          have tk : ∀ c ∈ (ps t).take 1, c ≠ 0 → c ∈ fms t := fun c hc h0 => by
            obtain ⟨i, hi⟩ := List.getElem?_of_mem hc
            rw [List.getElem?_take] at hi
            by_cases q : i < 1
            · rw [if_pos q] at hi
              exact fms_at.mpr ⟨i, Or.inr (by omega), hi, h0⟩
            · rw [if_neg q] at hi; cases hi
          unfold exp1
          rw [k1, k3]
          unfold chm
          by_cases k8 : kd t = 8
          · rw [if_pos k8, if_pos k8, if_pos k8]
            have l1 : (((ps t).take 1).map (zf (sbT (putg s) e)) ++ (ps t).drop 1).take 1 = ((ps t).take 1).map (zf (sbT (putg s) e)) ∧ (((ps t).take 1).map (zf (sbT (putg s) e)) ++ (ps t).drop 1).drop 1 = (ps t).drop 1 := by
              cases hps : ps t with
              | nil => exact ⟨rfl, rfl⟩
              | cons a l => exact ⟨rfl, rfl⟩
            rw [l1.1, l1.2]
            have := key e _ tk
            omega
          · rw [if_neg k8, if_neg k8, if_neg k8]
            by_cases k18 : kd t = 18
            · rw [if_pos k18, List.map_append, List.sum_append]
              have a := key e _ tk
              have b := key (e + 1) ((ps t).drop 1) (fun c hc h0 => fms_mem (List.mem_of_mem_drop hc) k8 h0)
              have d : ((ps t).map szQ).sum = (((ps t).take 1).map szQ).sum + (((ps t).drop 1).map szQ).sum := by
                rw [← List.sum_append, ← List.map_append, List.take_append_drop]
              omega
            · rw [if_neg k18]
              have := key e (ps t) (fun c hc h0 => fms_mem hc k8 h0)
              omega
theorem szQ_not {f : Nat} (ho : okT f) (hf : isFo f) : szQ (notT f) ≤ szQ f + 1 := by
  unfold notT
  by_cases h : kd f = 16
  · rw [if_pos h]
    obtain ⟨g, e, hg⟩ := not_wf ho h
    rw [e]
    have hm : g ∈ fms f := fms_at.mpr ⟨0, Or.inr rfl, by rw [e]; rfl, by omega⟩
    have := g_c (szQ_ex (isFo_pos hf) (by omega)) hm
    show szQ g ≤ _
    omega
  · rw [if_neg h, szQ_ex (Nat.pos_iff_ne_zero.mp (mk_pos _ _ _)) (by rw [kd_mk]; omega)]
    unfold exp1
    rw [kd_mk, if_neg (by decide), ps_mk]
    simp
    omega
theorem closT_not {f : Nat} (ho : okT f) (hf : isFo f) (hc : closT f) : closT (notT f) := by
  unfold notT
  by_cases h : kd f = 16
  · rw [if_pos h]
    obtain ⟨g, e, hg⟩ := not_wf ho h
    rw [e]
    have hm : g ∈ fms f := fms_at.mpr ⟨0, Or.inr rfl, by rw [e]; rfl, by omega⟩
    exact hc.part ho.n (by omega) hm
  · rw [if_neg h]
    have k := kd_mk 16 0 [f]
    have p := ps_mk 16 0 [f]
    refine ⟨Nat.le_zero.mp (lo_of (by omega) (fun i c hi _ => ?_)), fun l hl h3 => ?_⟩
    · rw [p] at hi
      have : i = 0 := by have := (List.getElem?_eq_some_iff.mp hi).1; simp at this; exact this
      rw [this] at hi
      simp at hi
      rw [← hi, hc.1]
      exact Nat.zero_le _
    · rw [lvT_eq, if_neg (by rw [k]; decide)] at hl
      obtain ⟨c, c1, c2⟩ := List.mem_flatMap.mp hl
      have := (fms_ps c1).1
      rw [p] at this
      rw [List.mem_singleton.mp this] at c2
      exact hc.2 l c2 h3
