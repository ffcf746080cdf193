/-! what the small calls make: lists -/
theorem ImT_sub {X : Nat → Prop} {g : Nat → Nat → Nat} (hg : gN0 g) : ∀ (t : Nat), okT t → ∀ d, (∀ z, subT z (sbT g d t) → X z) → ImT X g t d := by
  intro t
  induction t using Nat.strongRecOn with
  | ind t ih =>
    intro ho d h
    rw [ImT_eq]
    refine ⟨h _ (sub_rf _), fun i c hc h8 h0 => ?_⟩
    have hm := List.mem_of_getElem? hc
    have mf : c ∈ fms t := fms_at.mpr ⟨i, h8, hc, h0⟩
    have hk : ¬ kd t ≤ 3 := fun q => by rw [fms_lf ho.n q] at mf; cases mf
    by_cases k18 : kd t = 18
    · obtain ⟨y, f, hp, y8, ff, my, mb⟩ := ps_all1 ho k18
      have fS := (fms_all (d := d) hg k18 hp (okT_0 (ho.c my)) (okT_0 (ho.c mb))).1
      rw [hp] at hc
      have i2 : i = 0 ∨ i = 1 := by
        have := (List.getElem?_eq_some_iff.mp hc).1
        simp at this
        omega
      rcases i2 with e | e
      · rw [e] at hc ⊢
        have ec : y = c := Option.some.inj hc
        rw [if_neg (by omega)]
        refine ih c (fms_lt mf) (ho.c mf) d (fun z hz => h z (sub_c (c := sbT g d c) ?_ hz))
        rw [fS, ← ec]; exact List.mem_cons_self
      · rw [e] at hc ⊢
        have ec : f = c := Option.some.inj hc
        rw [if_pos ⟨k18, by omega⟩]
        refine ih c (fms_lt mf) (ho.c mf) (d + 1) (fun z hz => h z (sub_c (c := sbT g (d + 1) c) ?_ hz))
        rw [fS, ← ec]; exact List.mem_cons_of_mem _ List.mem_cons_self
    · rw [if_neg (fun q => k18 q.1)]
      refine ih c (fms_lt mf) (ho.c mf) d (fun z hz => h z (sub_c (c := sbT g d c) ?_ hz))
      rw [fms_sbn hg hk k18]
      exact List.mem_map.mpr ⟨c, mf, rfl⟩
theorem ps_sz {t : Nat} (ho : okT t) : (ps t).length ≤ szT t := by
  have h0 := okT_0 ho
  by_cases h8 : kd t = 8
  · have e1 : szT t = 1 + (((ps t).take 1).map szT).sum + ((ps t).drop 1).length := by
      rw [szT_ex h0]; unfold exp1; rw [if_pos h8]
    have e3 : (ps t).length ≤ 1 + ((ps t).drop 1).length := by rw [List.length_drop]; omega
    omega
  · have h1 := ps_fms ho h8
    have h2 := sz_fms h0
    have h3 : (fms t).length ≤ ((fms t).map szT).sum := by
      have : ∀ l : List Nat, (∀ c ∈ l, 1 ≤ szT c) → l.length ≤ (l.map szT).sum := fun l => by
        induction l with
        | nil => exact fun _ => Nat.le_refl _
        | cons a l ih =>
          intro h
          have := h a List.mem_cons_self
          have := ih (fun c hc => h c (List.mem_cons_of_mem _ hc))
          simp only [List.map_cons, List.sum_cons, List.length_cons]
          omega
      exact this _ (fun c hc => by have := sz_fms (okT_0 (ho.c hc)); omega)
    omega
/-- few trees in the class at rest, none of them with many parts -/
def RcI (u : Sg) (N P : Nat) : Prop := Few (ndC nu2 u) N P ∧ ∀ t, ndC nu2 u t → P5 t
def RtI (u : Sg) (N P : Nat) : Prop := Few (ndT nt2 u) N P
/-- a list of trees: how many, with their parts; none with many parts -/
def LsI (L : List Nat) (n p : Nat) : Prop := L.length ≤ n ∧ (L.map (fun t => (ps t).length + 1)).sum ≤ p ∧ ∀ t ∈ L, P5 t
theorem RcI.st {u u' : Sg} {N P n p : Nat} {L : List Nat} (h : RcI u N P) (hL : LsI L n p) (hN : NdC u u' (fun t => t ∈ L)) : RcI u' (N + n) (P + p) := ⟨(h.1.or (Few.list L)).mono hN (by have := hL.1; omega) (by have := hL.2.1; omega), fun t ht => (hN t ht).elim (h.2 t) (hL.2.2 t)⟩
theorem RtI.st {u u' : Sg} {N P n p : Nat} {L : List Nat} (h : RtI u N P) (hL : LsI L n p) (hN : NdT u u' (fun t => t ∈ L)) : RtI u' (N + n) (P + p) := (Few.or h (Few.list L)).mono hN (by have := hL.1; omega) (by have := hL.2.1; omega)
theorem RcI.lim {u : Sg} {N P n p : Nat} {L : List Nat} (h : RcI u N P) (hL : LsI L n p) (h1 : N + n < 89990) (h2 : P + p ≤ 264000) : Lim nu2 u (fun t => t ∈ L) ∧ P5u u (fun t => t ∈ L) := ⟨(h.1.or (Few.list L)).lim (by have := hL.1; omega) (by have := hL.2.1; omega), fun z hz => hz.elim (h.2 z) (hL.2.2 z)⟩
theorem RtI.lim {u : Sg} {N P n p : Nat} {L : List Nat} (h : RtI u N P) (hL : LsI L n p) (h1 : N + n < 119990) (h2 : P + p ≤ 520000) : LimT nt2 u (fun t => t ∈ L) := (Few.or h (Few.list L)).limT (by have := hL.1; omega) (by have := hL.2.1; omega)
theorem Ls_one {t : Nat} (h : (ps t).length ≤ 1000) : LsI [t] 1 1001 := ⟨Nat.le_refl _, by simp; omega, fun s hs => by rw [List.mem_singleton.mp hs]; unfold P5; omega⟩
theorem LsI.ap {A B : List Nat} {n p n' p' : Nat} (h : LsI A n p) (h' : LsI B n' p') : LsI (A ++ B) (n + n') (p + p') := ⟨by rw [List.length_append]; have := h.1; have := h'.1; omega, by rw [List.map_append, List.sum_append]; have := h.2.1; have := h'.2.1; omega, fun t ht => (List.mem_append.mp ht).elim (h.2.2 t) (h'.2.2 t)⟩
theorem sz_subT : ∀ (t : Nat) {s : Nat}, okT t → subT s t → szT s ≤ szT t := by
  intro t
  induction t using Nat.strongRecOn with
  | ind t ih =>
    intro s ho h
    rw [subT_eq] at h
    rcases h with q | ⟨c, hc, q⟩
    · rw [q]; exact Nat.le_refl _
    · have h1 := ih c (fms_lt hc) (ho.c hc) q
      have h2 := sz_fms (okT_0 ho)
      have h3 := le_sum_mem (f := szT) hc
      omega
theorem Ls_sub {t B : Nat} (ho : okT t) (hz : szT t ≤ B) (hB : B ≤ 5000) : LsI (sL1 t) B (3 * B) := by
  obtain ⟨h1, h2⟩ := sL1_sz t ho
  refine ⟨by omega, by omega, fun s hs => ?_⟩
  have hsub := (sL1_mem t).mpr hs
  have os := sub_ok t ho hsub
  have h3 := ps_sz os
  have h4 := sz_subT t ho hsub
  unfold P5
  omega
/-- what a bind makes -/
theorem bd_list {W : Wd} {N : Nat → Prop} {o : Int} {x y : Nat} (hy : fF W N y) (zy : szT y ≤ 200) (ht : clty W N (wcT W (wh x))) (zt : szT (wcT W (wh x)) ≤ 200) : ∃ L, bdX W o x y (fun t => t ∈ L) ∧ LsI L 204 3700 := by
  have hF := fF_bdF (o := o) hy zy
  have hG := bdG_ok (o := o) (x := x) hy zy
  obtain ⟨⟨b1, z1⟩, b2, z2⟩ := fF_bd (o := o) (x := x) hy zy ht zt
  have oF := hF.1.1.1.1
  have q1 : (ps (bdF o y)).length ≤ 1000 := by have := ps_sz oF; have := hF.2; omega
  have q2 : (ps (bdA W o x y)).length ≤ 1000 := by have := ps_sz b1.1.1.1; omega
  have q3 : (ps (bdT W o x y)).length ≤ 1000 := by have := ps_sz b2.1.1.1; omega
  refine ⟨[bdF o y] ++ ([bdA W o x y] ++ ([bdT W o x y] ++ sL1 (bdG o x y))), ⟨by simp, ?_, by simp, by simp⟩, ?_⟩
  · refine ImT_sub (fun e l h hk => (gLf_bind (x := x) (e := e) l hk h).2) (bdF o y) oF 0 (fun z hz => ?_)
    exact List.mem_append_right _ (List.mem_append_right _ (List.mem_append_right _ ((sL1_mem _).mp hz)))
  · have := ((Ls_one q1).ap ((Ls_one q2).ap ((Ls_one q3).ap (Ls_sub hG.1.1 hG.2.2.2.2 (by decide)))))
    exact ⟨by have := this.1; omega, by have := this.2.1; omega, this.2.2⟩
/-- what a join makes -/
theorem jn_list {W : Wd} {N : Nat → Prop} {x y : Nat} (hx : fF W N x) (zx : szT x ≤ 200) (hy : fF W N y) (zy : szT y ≤ 200) : ∃ L, (∀ t, jnX x y t → t ∈ L) ∧ LsI L 10 10010 := by
  have two : ∀ {a b : Nat}, fF W N a → fF W N b → szT a ≤ 420 → szT b ≤ 420 → fF W N (andT [a, b]) ∧ szT (andT [a, b]) ≤ 2 + szT a + szT b := fun {a b} ha hb za zb => by
    obtain ⟨h1, h2⟩ := fF_and (L := [a, b]) (fun f hf => by
      rcases List.mem_cons.mp hf with q | q
      · rw [q]; exact ha
      · rw [List.mem_singleton.mp q]; exact hb)
    refine ⟨h1, ?_⟩
    simp at h2
    omega
  obtain ⟨nx, znx⟩ := fF_not hx
  obtain ⟨ny, zny⟩ := fF_not hy
  obtain ⟨a1, za1⟩ := two hx hy (by omega) (by omega)
  obtain ⟨a2, za2⟩ := two nx ny (by omega) (by omega)
  obtain ⟨n2, zn2⟩ := fF_not a2
  obtain ⟨a3, za3⟩ := two hx ny (by omega) (by omega)
  obtain ⟨i1, zi1⟩ := fF_imp hx hy
  obtain ⟨a4, za4⟩ := two hy nx (by omega) (by omega)
  obtain ⟨i2, zi2⟩ := fF_imp hy hx
  obtain ⟨f1, zf1⟩ := two i1 i2 (by omega) (by omega)
  have f1 : fF W N (iffT x y) := f1
  have zf1 : szT (iffT x y) ≤ 2 + szT (impT x y) + szT (impT y x) := zf1
  have one : ∀ {t : Nat}, fF W N t → szT t ≤ 1000 → LsI [t] 1 1001 := fun {t} h hz => Ls_one (by have := ps_sz h.1.1.1; omega)
  refine ⟨[notT x] ++ ([notT y] ++ ([andT [x, y]] ++ ([andT [notT x, notT y]] ++ ([notT (andT [notT x, notT y])] ++ ([andT [x, notT y]] ++ ([impT x y] ++ ([andT [y, notT x]] ++ ([impT y x] ++ [iffT x y])))))))), fun t h => ?_, ?_⟩
  · unfold jnX at h
    rcases h with h | h | h | h | h | h | h | h | h | h <;> (rw [h]; simp)
  · have := (one nx (by omega)).ap ((one ny (by omega)).ap ((one a1 (by omega)).ap ((one a2 (by omega)).ap ((one n2 (by omega)).ap ((one a3 (by omega)).ap ((one i1 (by omega)).ap ((one a4 (by omega)).ap ((one i2 (by omega)).ap (one f1 (by omega))))))))))
    exact ⟨by have := this.1; omega, by have := this.2.1; omega, this.2.2⟩
