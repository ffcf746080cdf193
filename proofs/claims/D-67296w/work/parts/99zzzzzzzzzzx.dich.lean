/-! formulas with few long units and formulas with many: their histories are apart -/
/-- a unit with two leaves and many inner forms -/
def lz (s0 A : Nat) : Nat := if 8 ≤ kd A ∧ kd A ≤ 14 ∧ lf A = 2 ∧ s0 ≤ (iL A).length then 1 else 0
/-- how often such units stand in a formula -/
def occ (s0 f : Nat) : Nat := wuT (lz s0) f
theorem lf_yes : lf yesT = 0 := by
  rw [lf_fms (by unfold yesT; rw [kd_mk]; decide), show fms yesT = [] by unfold yesT; exact fms_nil]
  rfl
theorem occ_yes {s0 : Nat} : occ s0 yesT = 0 := by
  unfold occ
  rw [wu_lo (by unfold yesT; rw [kd_mk]; decide)]
  unfold lz
  rw [if_neg (fun q => by have := q.2.2.1; rw [lf_yes] at this; omega)]
theorem occ_no {s0 : Nat} : occ s0 noT = 0 := by
  unfold occ
  rw [wu_hi (by rw [kd_no]; decide)]
  have : ps noT = [yesT] := ps_mk _ _ _
  rw [this]
  have := occ_yes (s0 := s0)
  unfold occ at this
  simp [this]
theorem occ_not {s0 f : Nat} (ho : okT f) : occ s0 (notT f) = occ s0 f := by
  unfold occ
  by_cases k16 : kd f = 16
  · obtain ⟨g, hp, fg, kg, mg⟩ := ps_not1 ho k16
    have en : notT f = g := by
      unfold notT
      rw [if_pos k16, hp]
      rfl
    rw [en, wu_hi (t := f) (by omega), hp]
    simp
  · have en : notT f = mk 16 0 [f] := by unfold notT; rw [if_neg k16]
    rw [en, wu_hi (by rw [kd_mk]; decide), ps_mk]
    simp
theorem occ_flt {s0 f : Nat} (hn : f ≠ noT) : ((flt f).map (occ s0)).sum = occ s0 f := by
  unfold flt
  rw [if_neg hn]
  by_cases k17 : kd f = 17
  · rw [if_pos k17]
    unfold occ
    rw [wu_hi (t := f) (by omega)]
  · rw [if_neg k17]
    by_cases y : f = yesT
    · rw [if_pos y, y, occ_yes]; rfl
    · rw [if_neg y]; simp
theorem occ_and {s0 a b : Nat} : andT [a, b] = noT ∨ occ s0 (andT [a, b]) = occ s0 a + occ s0 b := by
  by_cases hn : noT ∈ [a, b]
  · left; unfold andT; rw [if_pos hn]
  · right
    have na : a ≠ noT := fun q => hn (by rw [q]; exact List.mem_cons_self)
    have nb : b ≠ noT := fun q => hn (by rw [q]; exact List.mem_cons_of_mem _ List.mem_cons_self)
    have hs : (([a, b].flatMap flt).map (occ s0)).sum = occ s0 a + occ s0 b := by
      rw [List.flatMap_cons, List.flatMap_cons, List.flatMap_nil, List.append_nil, List.map_append, List.sum_append, occ_flt na, occ_flt nb]
    unfold andT
    rw [if_neg hn, ← hs]
    cases hl : [a, b].flatMap flt with
    | nil => show occ s0 yesT = _; rw [occ_yes]; rfl
    | cons x l =>
      cases l with
      | nil => show occ s0 x = _; simp
      | cons y l =>
        show occ s0 (mk 17 0 (x :: y :: l)) = _
        unfold occ
        rw [wu_hi (by rw [kd_mk]; decide), ps_mk]
theorem occ_imp {s0 a b : Nat} (oa : okT a ∧ isFo a) (ob : okT b ∧ isFo b) : impT a b = yesT ∨ occ s0 (impT a b) = occ s0 a + occ s0 b := by
  have nb := okT_not ob.1 ob.2
  have oab : okT (andT [a, notT b]) := (okT_and (fun z hz => by
    rcases List.mem_cons.mp hz with q | q
    · rw [q]; exact oa
    · rw [List.mem_singleton.mp q]; exact nb)).1
  unfold impT
  rcases occ_and (s0 := s0) (a := a) (b := notT b) with q | q
  · left
    rw [q]
    unfold notT
    rw [if_pos kd_no, show ps noT = [yesT] from ps_mk _ _ _]
    rfl
  · right
    rw [occ_not oab, q, occ_not ob.1]
/-- what is joined stays, or all has fallen together -/
theorem occ_jn {s0 : Nat} {k : Int} {x y : Nat} (k0 : k ≠ 0) (ox : okT x ∧ isFo x) (oy : okT y ∧ isFo y) : jnT k x y = yesT ∨ jnT k x y = noT ∨ occ s0 x + occ s0 y ≤ occ s0 (jnT k x y) := by
  have nx := okT_not ox.1 ox.2
  have ny := okT_not oy.1 oy.2
  have two : ∀ {a b : Nat}, okT a ∧ isFo a → okT b ∧ isFo b → okT (andT [a, b]) ∧ isFo (andT [a, b]) := fun {a b} ha hb => okT_and (fun z hz => by
    rcases List.mem_cons.mp hz with q | q
    · rw [q]; exact ha
    · rw [List.mem_singleton.mp q]; exact hb)
  unfold jnT
  rw [if_neg k0]
  by_cases k1 : k = 1
  · rw [if_pos k1]
    rcases occ_and (s0 := s0) (a := x) (b := y) with q | q
    · exact Or.inr (Or.inl q)
    · exact Or.inr (Or.inr (by omega))
  rw [if_neg k1]
  by_cases k2 : k = 2
  · rw [if_pos k2]
    rcases occ_and (s0 := s0) (a := notT x) (b := notT y) with q | q
    · left
      rw [q]
      unfold notT
      rw [if_pos kd_no, show ps noT = [yesT] from ps_mk _ _ _]
      rfl
    · right; right
      rw [occ_not (two nx ny).1, q, occ_not ox.1, occ_not oy.1]
      exact Nat.le_refl _
  rw [if_neg k2]
  by_cases k3 : k = 3
  · rw [if_pos k3]
    rcases occ_imp (s0 := s0) ox oy with q | q
    · exact Or.inl q
    · exact Or.inr (Or.inr (by omega))
  rw [if_neg k3]
  unfold iffT
  rcases occ_and (s0 := s0) (a := impT x y) (b := impT y x) with q | q
  · exact Or.inr (Or.inl q)
  · rcases occ_imp (s0 := s0) ox oy with w | w
    · rcases occ_imp (s0 := s0) oy ox with v | v
      · left
        rw [w, v]
        unfold andT
        have hn : ¬ noT ∈ [yesT, yesT] := fun z => by
          rcases List.mem_cons.mp z with u | u
          · have := congrArg kd u; rw [kd_no] at this; unfold yesT at this; rw [kd_mk] at this; omega
          · have := congrArg kd (List.mem_singleton.mp u); rw [kd_no] at this; unfold yesT at this; rw [kd_mk] at this; omega
        rw [if_neg hn]
        have hy : flt yesT = [] := by
          unfold flt
          rw [if_neg (fun z => by have := congrArg kd z; rw [kd_no] at this; unfold yesT at this; rw [kd_mk] at this; omega), if_neg (by unfold yesT; rw [kd_mk]; decide), if_pos rfl]
        have e : [yesT, yesT].flatMap flt = [] := by
          rw [List.flatMap_cons, List.flatMap_cons, hy]; rfl
        rw [e]
      · right; right; rw [q, v]; omega
    · right; right; rw [q, w]; omega
theorem okT_jnX {k : Int} {x y : Nat} (ox : okT x ∧ isFo x) (oy : k ≠ 0 → okT y ∧ isFo y) : okT (jnT k x y) ∧ isFo (jnT k x y) := by
  have two : ∀ {a b : Nat}, okT a ∧ isFo a → okT b ∧ isFo b → okT (andT [a, b]) ∧ isFo (andT [a, b]) := fun {a b} ha hb => okT_and (fun z hz => by
    rcases List.mem_cons.mp hz with q | q
    · rw [q]; exact ha
    · rw [List.mem_singleton.mp q]; exact hb)
  have nt : ∀ {a : Nat}, okT a ∧ isFo a → okT (notT a) ∧ isFo (notT a) := fun {a} h => okT_not h.1 h.2
  have im : ∀ {a b : Nat}, okT a ∧ isFo a → okT b ∧ isFo b → okT (impT a b) ∧ isFo (impT a b) := fun {a b} ha hb => nt (two ha (nt hb))
  unfold jnT
  by_cases k0 : k = 0
  · rw [if_pos k0]; exact nt ox
  rw [if_neg k0]
  have oy := oy k0
  by_cases k1 : k = 1
  · rw [if_pos k1]; exact two ox oy
  rw [if_neg k1]
  by_cases k2 : k = 2
  · rw [if_pos k2]; exact nt (two (nt ox) (nt oy))
  rw [if_neg k2]
  by_cases k3 : k = 3
  · rw [if_pos k3]; exact im ox oy
  rw [if_neg k3]
  exact two (im ox oy) (im oy ox)
/-- binding keeps units -/
theorem occ_sb {s0 x : Nat} : ∀ (t : Nat), okT t → (kd t = 8 ∨ isFo t) → ∀ e, occ s0 (sbT (bindg x) e t) = occ s0 t := by
  intro t
  induction t using Nat.strongRecOn with
  | ind t ih =>
    intro ho hf e
    have hk : ¬ kd t ≤ 3 := by unfold isFo at hf; omega
    have k1 := (sb_kd (g := bindg x) (d := e) hk).1
    unfold occ
    by_cases k14 : kd t ≤ 14
    · obtain ⟨h1, h2⟩ := iL_sbf gLf_bind (e := e) (g := bindg x) t ho k14
      rw [wu_lo (by omega), wu_lo k14]
      unfold lz
      rw [h1, h2, k1, List.length_map]
    by_cases k18 : kd t = 18
    · obtain ⟨y, f, hp, y8, ff, my, mf⟩ := ps_all1 ho k18
      have pn := (fms_all (d := e) (bindg_0 (x := x)) k18 hp (okT_0 (ho.c my)) (okT_0 (ho.c mf))).2
      have i1 := ih y (fms_lt my) (ho.c my) (Or.inl y8) e
      have i2 := ih f (fms_lt mf) (ho.c mf) (Or.inr ff) (e + 1)
      unfold occ at i1 i2
      rw [wu_hi (by omega), wu_hi k14, pn, hp]
      simp [i1, i2]
    · have hk67 : kd t = 16 ∨ kd t = 17 := by unfold isFo at hf; omega
      have hl : ∀ p ∈ ps t, isFo p ∧ p ∈ fms t := fun p hp => by
        have fp : isFo p := by
          rcases ho.n.2 with q | q | q | q | q | q | q | q | q | q | q | q | q | q <;> first | omega | skip
          · obtain ⟨_, _, g, q3, q4, _⟩ := q
            rw [q3, List.mem_singleton] at hp
            rw [hp]; exact q4
          · exact (q.2.2.2 p hp).1
        exact ⟨fp, fms_mem hp (by omega) (isFo_pos fp)⟩
      have pn := ps_map (g := bindg x) (d := e) hk67 (fun c hc => isFo_pos (hl c hc).1)
      rw [wu_hi (by omega), wu_hi k14, pn, List.map_map]
      congr 1
      exact List.map_congr_left (fun p hp => ih p (fms_lt (hl p hp).2) (ho.c (hl p hp).2) (Or.inr (hl p hp).1) e)
theorem occ_bd {s0 : Nat} {W : Wd} {o : Int} {x y : Nat} (oy : okT y) (fy : isFo y) (hbo : okT (bdA W o x y)) : bdT W o x y = yesT ∨ bdT W o x y = noT ∨ occ s0 y ≤ occ s0 (bdT W o x y) := by
  have eF : okT (bdF o y) ∧ isFo (bdF o y) ∧ occ s0 (bdF o y) = occ s0 y := by
    unfold bdF
    split
    · exact ⟨oy, fy, rfl⟩
    · exact ⟨(okT_not oy fy).1, (okT_not oy fy).2, occ_not oy⟩
  have eG : occ s0 (bdG o x y) = occ s0 y := by
    unfold bdG
    rw [occ_sb _ eF.1 (Or.inr eF.2.1), eF.2.2]
  have eA : bdA W o x y = yesT ∨ occ s0 y ≤ occ s0 (bdA W o x y) := by
    unfold bdA alT
    split
    · exact Or.inl rfl
    · right
      rw [← eG]
      unfold occ
      rw [wu_hi (t := mk 18 0 [wcT W (wh x), bdG o x y]) (by rw [kd_mk]; decide), ps_mk]
      simp
  unfold bdT
  split
  · exact eA.imp id (fun q => Or.inr q)
  · rcases eA with q | q
    · right; left
      rw [q]
      unfold notT
      rw [if_neg (by unfold yesT; rw [kd_mk]; decide)]
      rfl
    · right; right
      rw [occ_not hbo]; exact q
/-- forms that are no formulas with many such units -/
def Po (s0 k : Nat) (Fo : List Nat) : List Nat := Fo.filter (fun f => decide (¬ (9 ≤ kd f ∧ k < occ s0 f)))
/-- how many formulas have many -/
def rho (s0 k : Nat) (Fo : List Nat) : Nat := (Fo.filter (fun f => decide (9 ≤ kd f ∧ k < occ s0 f))).length
theorem Po_ap {s0 k : Nat} {Fo : List Nat} {t : Nat} : (¬ (9 ≤ kd t ∧ k < occ s0 t) → Po s0 k (Fo ++ [t]) = Po s0 k Fo ++ [t]) ∧ ((9 ≤ kd t ∧ k < occ s0 t) → Po s0 k (Fo ++ [t]) = Po s0 k Fo) := by
  unfold Po
  rw [List.filter_append]
  refine ⟨fun h => ?_, fun h => ?_⟩
  · rw [List.filter_cons, if_pos (decide_eq_true h), List.filter_nil]
  · rw [List.filter_cons, if_neg (by intro w; exact (of_decide_eq_true w) h), List.filter_nil, List.append_nil]
theorem Po_mem {s0 k : Nat} {Fo : List Nat} {f : Nat} (h : f ∈ Fo) (hk : occ s0 f ≤ k) : f ∈ Po s0 k Fo := List.mem_filter.mpr ⟨h, decide_eq_true (fun q => by omega)⟩
theorem rho_ap {s0 k : Nat} {Fo : List Nat} {t : Nat} : rho s0 k (Fo ++ [t]) = rho s0 k Fo + (if 9 ≤ kd t ∧ k < occ s0 t then 1 else 0) := by
  unfold rho
  rw [List.filter_append, List.length_append, List.filter_cons]
  by_cases q : 9 ≤ kd t ∧ k < occ s0 t
  · rw [if_pos (decide_eq_true q), if_pos q]; rfl
  · rw [if_neg (fun w => q (of_decide_eq_true w)), if_neg q]; rfl
/-- levels and binders of formulas with few such units: by such formulas alone -/
def KfP (Fo : List Nat) : Prop := ∀ s0 k, KfL (Po s0 k Fo) ∧ KfB (Po s0 k Fo)
theorem isB_no : isB noT = false := by
  unfold isB
  have e : pa noT 0 = yesT := by unfold pa; rw [show ps noT = [yesT] from ps_mk _ _ _]; rfl
  rw [kd_no, e]
  unfold yesT
  rw [kd_mk]
  decide
theorem KfP.tm {Fo : List Nat} {t : Nat} (h : KfP Fo) (hk : kd t ≤ 14) : KfP (Fo ++ [t]) := fun s0 k => by
  by_cases q : 9 ≤ kd t ∧ k < occ s0 t
  · rw [Po_ap.2 q]; exact h s0 k
  · rw [Po_ap.1 q]; exact ⟨(h s0 k).1.tm hk, (h s0 k).2.tm hk⟩
theorem KfP.yn {Fo : List Nat} {t : Nat} (h : KfP Fo) (ht : t = yesT ∨ t = noT) : KfP (Fo ++ [t]) := by
  rcases ht with q | q
  · rw [q]; exact h.tm (by unfold yesT; rw [kd_mk]; decide)
  · intro s0 k
    rw [q, Po_ap.1 (fun w => by have := w.2; rw [occ_no] at this; omega)]
    refine ⟨(h s0 k).1.ap (fun _ _ => by rw [hg_no]; exact Nat.zero_le _) (fun w => by rw [isB_no] at w; cases w), (h s0 k).2.ap (fun _ => by rw [ab_no]; exact Nat.zero_le _)⟩
theorem KfP.jn {Fo : List Nat} {k : Int} {x y : Nat} (h : KfP Fo) (hx : x ∈ Fo) (ox : okT x ∧ isFo x) (hy : k ≠ 0 → y ∈ Fo) (oy : k ≠ 0 → okT y ∧ isFo y) : KfP (Fo ++ [jnT k x y]) := by
  by_cases hyn : jnT k x y = yesT ∨ jnT k x y = noT
  · exact h.yn hyn
  · intro s0 n
    by_cases q : 9 ≤ kd (jnT k x y) ∧ n < occ s0 (jnT k x y)
    · rw [Po_ap.2 q]; exact h s0 n
    · rw [Po_ap.1 q]
      have k9 : isFo (jnT k x y) → 9 ≤ kd (jnT k x y) := fun w => by unfold isFo at w; omega
      have fj : isFo (jnT k x y) := (okT_jnX ox oy).2
      have hq : occ s0 (jnT k x y) ≤ n := by have := k9 fj; omega
      by_cases k0 : k = 0
      · have e : jnT k x y = notT x := by unfold jnT; rw [if_pos k0]
        rw [e, occ_not ox.1] at hq
        have mx := Po_mem hx hq
        exact ⟨(h s0 n).1.jn mx ox (fun z => absurd k0 z) (fun z => absurd k0 z), (h s0 n).2.jn mx ox (fun z => absurd k0 z) (fun z => absurd k0 z)⟩
      · have hs := ((occ_jn (s0 := s0) k0 ox (oy k0)).resolve_left (fun z => hyn (Or.inl z))).resolve_left (fun z => hyn (Or.inr z))
        have mx := Po_mem (k := n) (s0 := s0) hx (by omega)
        have my := Po_mem (k := n) (s0 := s0) (hy k0) (by omega)
        exact ⟨(h s0 n).1.jn mx ox (fun _ => my) oy, (h s0 n).2.jn mx ox (fun _ => my) oy⟩
theorem KfP.bd {W : Wd} {Fo : List Nat} {o : Int} {x y : Nat} (h : KfP Fo) (hy : y ∈ Fo) (oy : okT y) (fy : isFo y) (x8 : kd (wcT W (wh x)) = 8) (hbo : okT (bdA W o x y)) (fb : isFo (bdT W o x y)) : KfP (Fo ++ [bdT W o x y]) := by
  by_cases hyn : bdT W o x y = yesT ∨ bdT W o x y = noT
  · exact h.yn hyn
  · intro s0 n
    by_cases q : 9 ≤ kd (bdT W o x y) ∧ n < occ s0 (bdT W o x y)
    · rw [Po_ap.2 q]; exact h s0 n
    · rw [Po_ap.1 q]
      have k9 : 9 ≤ kd (bdT W o x y) := by unfold isFo at fb; omega
      have hs := ((occ_bd (s0 := s0) (W := W) (o := o) (x := x) oy fy hbo).resolve_left (fun z => hyn (Or.inl z))).resolve_left (fun z => hyn (Or.inr z))
      have my := Po_mem (k := n) (s0 := s0) hy (by omega)
      exact ⟨(h s0 n).1.bd my oy fy x8 hbo, (h s0 n).2.bd my oy fy x8 hbo⟩
theorem iL_dQ {A : Nat} (hk : ¬ kd A ≤ 3) : 1 + (dQ A).length ≤ (iL A).length ∧ 1 + (dP A).length ≤ (iL A).length := by
  have h1 := dd_le (((fms A).flatMap iL).filter (fun s => decide (2 ≤ lf s)))
  have h2 := List.length_filter_le (fun s => decide (2 ≤ lf s)) ((fms A).flatMap iL)
  have h3 := dd_le ((fms A).flatMap iL)
  unfold dQ dP
  rw [iL_eq, if_neg hk, List.length_cons]
  omega
/-- distinct long units are no more than there are -/
theorem cd_occ {M : Nat} : ∀ (t : Nat), okT t → (kd t = 8 ∨ isFo t) → ∀ e, (cdT M t e).length ≤ occ (M - 4) t := by
  intro t
  induction t using Nat.strongRecOn with
  | ind t ih =>
    intro ho hf e
    have hk : ¬ kd t ≤ 3 := by unfold isFo at hf; omega
    unfold occ
    by_cases k14 : kd t ≤ 14
    · rw [wu_lo k14, cd_eq]
      unfold cdS
      rw [if_pos k14]
      by_cases q : isLU M t
      · rw [if_pos (by simpa using q)]
        obtain ⟨q1, q2, q3, q4⟩ := q
        have := (iL_dQ hk).1
        unfold lz
        rw [if_pos ⟨q1, q2, q3, by omega⟩]
        exact Nat.le_refl _
      · rw [if_neg (by simpa using q)]
        exact Nat.zero_le _
    by_cases k18 : kd t = 18
    · obtain ⟨y, f, hp, y8, ff, my, mf⟩ := ps_all1 ho k18
      have i1 := ih y (fms_lt my) (ho.c my) (Or.inl y8) e
      have i2 := ih f (fms_lt mf) (ho.c mf) (Or.inr ff) (e + 1)
      unfold occ at i1 i2
      rw [wu_hi k14, cd_eq]
      unfold cdS
      rw [if_neg k14, if_pos k18, hp]
      simp
      omega
    · have hk67 : kd t = 16 ∨ kd t = 17 := by unfold isFo at hf; omega
      have hl : ∀ p ∈ ps t, isFo p ∧ p ∈ fms t := fun p hp => by
        have fp : isFo p := by
          rcases ho.n.2 with q | q | q | q | q | q | q | q | q | q | q | q | q | q <;> first | omega | skip
          · obtain ⟨_, _, g, q3, q4, _⟩ := q
            rw [q3, List.mem_singleton] at hp
            rw [hp]; exact q4
          · exact (q.2.2.2 p hp).1
        exact ⟨fp, fms_mem hp (by omega) (isFo_pos fp)⟩
      rw [wu_hi k14, cd_eq]
      unfold cdS
      rw [if_neg k14, if_neg k18, List.length_flatMap]
      exact sum_map_le (fun p hp => ih p (fms_lt (hl p hp).2) (ho.c (hl p hp).2) (Or.inr (hl p hp).1) e)
theorem nLU_occ {M f : Nat} (ho : okT f) (hf : isFo f) : nLU M f ≤ occ (M - 4) f := Nat.le_trans (dd_le _) (cd_occ f ho (Or.inr hf) 0)
/-- formulas with many long units: each call doubles them at most -/
def KfR (Fo : List Nat) : Prop := ∀ M k, 1 ≤ k → ∀ f ∈ Fo, isFo f → nLU M f ≤ k * 2 ^ rho (M - 4) k Fo
theorem KfR.ap {Fo : List Nat} {t : Nat} (h : KfR Fo) (ot : isFo t → okT t) (ht : isFo t → ∀ M k, 1 ≤ k → nLU M t ≤ 2 * (k * 2 ^ rho (M - 4) k Fo)) : KfR (Fo ++ [t]) := fun M k hk f hf ff => by
  rw [rho_ap]
  have p1 : k * 2 ^ rho (M - 4) k Fo ≤ k * 2 ^ (rho (M - 4) k Fo + (if 9 ≤ kd t ∧ k < occ (M - 4) t then 1 else 0)) := Nat.mul_le_mul_left _ (Nat.pow_le_pow_right (by omega) (by omega))
  rcases List.mem_append.mp hf with q | q
  · exact Nat.le_trans (h M k hk f q ff) p1
  · rw [List.mem_singleton.mp q] at ff ⊢
    have k9 : 9 ≤ kd t := by unfold isFo at ff; omega
    by_cases w : k < occ (M - 4) t
    · rw [if_pos ⟨k9, w⟩, Nat.pow_succ, ← Nat.mul_assoc, Nat.mul_comm _ 2]
      exact ht ff M k hk
    · have h1 := nLU_occ (M := M) (ot ff) ff
      have h2 : k * 1 ≤ k * 2 ^ rho (M - 4) k Fo := Nat.mul_le_mul_left _ Nat.one_le_two_pow
      omega
theorem KfR.tm {Fo : List Nat} {t : Nat} (h : KfR Fo) (ho : okT t) (hk : kd t ≤ 14) : KfR (Fo ++ [t]) := h.ap (fun _ => ho) (fun _ M k k1 => by
  have h1 := nLU_lo (M := M) hk
  have h2 : k * 1 ≤ k * 2 ^ rho (M - 4) k Fo := Nat.mul_le_mul_left _ Nat.one_le_two_pow
  omega)
theorem KfR.jn {Fo : List Nat} {k : Int} {x y : Nat} (h : KfR Fo) (hx : x ∈ Fo) (ox : okT x ∧ isFo x) (hy : k ≠ 0 → y ∈ Fo) (oy : k ≠ 0 → okT y ∧ isFo y) : KfR (Fo ++ [jnT k x y]) := h.ap (fun _ => (okT_jnX ox oy).1) (fun _ M n n1 => by
  have h1 := nLU_jn (M := M) ox oy
  have h2 := h M n n1 x hx ox.2
  by_cases k0 : k = 0
  · rw [if_pos k0] at h1; omega
  · rw [if_neg k0] at h1
    have h3 := h M n n1 y (hy k0) (oy k0).2
    omega)
theorem KfR.bd {W : Wd} {Fo : List Nat} {o : Int} {x y : Nat} (h : KfR Fo) (hy : y ∈ Fo) (oy : okT y) (fy : isFo y) (ot : okT (wcT W (wh x))) (t8 : kd (wcT W (wh x)) = 8) (hbo : okT (bdA W o x y)) (oG : okT (bdG o x y)) (fG : isFo (bdG o x y)) (ob : okT (bdT W o x y)) : KfR (Fo ++ [bdT W o x y]) := h.ap (fun _ => ob) (fun _ M n n1 => by
  have h1 := nLU_bd (M := M) (W := W) (o := o) (x := x) oy fy ot t8 hbo oG fG
  have h2 := h M n n1 y hy fy
  have h3 : n * 1 ≤ n * 2 ^ rho (M - 4) n Fo := Nat.mul_le_mul_left _ Nat.one_le_two_pow
  omega)
/-- what such units leave over in an opening -/
theorem lz_pay {A k i d : Nat} (ho : okT A) (h8 : 8 ≤ kd A) (h14 : kd A ≤ 14) (h2 : lf A = 2) : mvT k A d i ≤ 2 ∧ wkT k i A d ≤ 2 * (iL A).length ∧ (iL A).length + 2 ≤ szT A := by
  have hk : ¬ kd A ≤ 3 := by omega
  have ew : wkT k i A d = mvT k A d i + ((dP A).map (fun s => mvT k s d i)).sum := by
    rw [wk_eq]; unfold wkS; rw [if_pos h14]
  have vA : mvT k A d i ≤ 2 := by
    have := vn_lf (d := d) (i := i) ho h14
    unfold mvT
    omega
  have hs : ((dP A).map (fun s => mvT k s d i)).sum ≤ 2 * (dP A).length := sum_le_c (fun s hs => by
    obtain ⟨c, hc, hs, _⟩ := (dP_mem ho).mp hs
    have hsub := sub_c hc hs
    have v1 : vnT s d i ≤ vnT A d i := vn_mono (fun r hr hv => ⟨r, hr, hv_sub ho h14 hsub hv, rfl⟩)
    have v2 := vn_lf (d := d) (i := i) ho h14
    unfold mvT
    omega)
  have h3 := (iL_dQ hk).2
  have h4 := (sz_atm (t := 0) (E := fun _ => 0) (e := 0) ho hk).2.2
  exact ⟨vA, by omega, by omega⟩
theorem lz_num {P Q Z s0 cu I S wk mv : Nat} (h2 : 2 * Q ≤ P) (hc : cu + 2 * Z ≤ (P - 2 * Q) * s0 + P) (hI : s0 ≤ I) (hS : I + 2 ≤ S) (hw : wk ≤ 2 * I) (hm : mv ≤ 2) : Q * wk + mv * Z + P + (Q * mv - P) + cu ≤ P * S := by
  have a1 : Q * wk ≤ Q * (2 * I) := Nat.mul_le_mul_left _ hw
  have a2 : mv * Z ≤ 2 * Z := Nat.mul_le_mul_right _ hm
  have a3 : Q * mv ≤ Q * 2 := Nat.mul_le_mul_left _ hm
  have a4 : P * (I + 2) ≤ P * S := Nat.mul_le_mul_left _ hS
  have a5 : (P - 2 * Q) * s0 ≤ (P - 2 * Q) * I := Nat.mul_le_mul_left _ hI
  obtain ⟨p', hp'⟩ : ∃ p', P = p' + 2 * Q := ⟨P - 2 * Q, by omega⟩
  have e1 : P - 2 * Q = p' := by omega
  rw [e1] at hc a5
  have e2 : P * (I + 2) = p' * I + 2 * Q * I + 2 * P := by rw [Nat.mul_add, Nat.mul_comm P 2]; congr 1; rw [hp', Nat.add_mul]
  have e3 : Q * (2 * I) = 2 * Q * I := by rw [← Nat.mul_assoc, Nat.mul_comm Q 2]
  omega
theorem AtLw_lz {A k kl P Q Z s0 cu : Nat} (ho : okT A) (h : AtL k kl P Q Z A) (h2 : 2 * Q ≤ P) (hc : cu + 2 * Z ≤ (P - 2 * Q) * s0 + P) : AtLw (fun A => cu * lz s0 A) k kl P Q Z A := fun h8 h14 d i hi hv => by
  by_cases q : 8 ≤ kd A ∧ kd A ≤ 14 ∧ lf A = 2 ∧ s0 ≤ (iL A).length
  · have e : lz s0 A = 1 := if_pos q
    obtain ⟨p1, p2, p3⟩ := lz_pay (k := k) (i := i) (d := d) ho h8 h14 q.2.2.1
    show Q * wkT k i A d + mvT k A d i * Z + P + (Q * mvT k A d i - P) + cu * lz s0 A ≤ P * szT A
    rw [e, Nat.mul_one]
    exact lz_num h2 hc q.2.2.2 p3 p2 p1
  · have e : lz s0 A = 0 := if_neg q
    show Q * wkT k i A d + mvT k A d i * Z + P + (Q * mvT k A d i - P) + cu * lz s0 A ≤ P * szT A
    rw [e, Nat.mul_zero]
    exact h h8 h14 d i hi hv
theorem AtAw_lz {s k P Q Y s0 cu : Nat} (ho : okT s) (h : AtA k P Q Y s) (h2 : 2 * Q ≤ P) (hc : cu + 2 * Y ≤ (P - 2 * Q) * s0 + P) : AtAw (fun A => cu * lz s0 A) k P Q Y s := fun k18 k8 i hi => by
  obtain ⟨y, f, hp, y8, ff, my, mf⟩ := ps_all1 ho k18
  have ey : pa s 0 = y := by unfold pa; rw [hp]; rfl
  have h1 := h k18 k8 i hi
  rw [ey] at h1 k8 ⊢
  have oy := ho.c my
  by_cases q : 8 ≤ kd y ∧ kd y ≤ 14 ∧ lf y = 2 ∧ s0 ≤ (iL y).length
  · have e : lz s0 y = 1 := if_pos q
    obtain ⟨p1, p2, p3⟩ := lz_pay (k := k) (i := i) (d := 0) oy (by omega) (by omega) q.2.2.1
    have := lz_num h2 hc q.2.2.2 p3 p2 p1
    show Q * wkT k i y 0 + mvT k y 0 i * Y + P + cu * lz s0 y ≤ P * szT y
    rw [e, Nat.mul_one]
    omega
  · have e : lz s0 y = 0 := if_neg q
    show Q * wkT k i y 0 + mvT k y 0 i * Y + P + cu * lz s0 y ≤ P * szT y
    rw [e, Nat.mul_zero]
    exact h1
theorem wu_mul {w : Nat → Nat} {cu : Nat} : ∀ t, wuT (fun A => cu * w A) t = cu * wuT w t := by
  intro t
  induction t using Nat.strongRecOn with
  | ind t ih =>
    by_cases k14 : kd t ≤ 14
    · rw [wu_lo k14, wu_lo k14]
    · rw [wu_hi k14, wu_hi k14]
      have : ∀ l : List Nat, (∀ p ∈ l, p ∈ ps t) → (l.map (wuT (fun A => cu * w A))).sum = cu * (l.map (wuT w)).sum := by
        intro l
        induction l with
        | nil => intro _; rfl
        | cons a l ihl =>
          intro hl
          rw [List.map_cons, List.sum_cons, List.map_cons, List.sum_cons, Nat.mul_add, ihl (fun p hp => hl p (List.mem_cons_of_mem _ hp)), ih a (ps_lt (hl a List.mem_cons_self))]
      exact this (ps t) (fun p hp => hp)
theorem wu_occ {s0 cu f : Nat} : wuT (fun A => cu * lz s0 A) f = cu * occ s0 f := wu_mul f
