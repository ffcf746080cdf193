/-! counting: what kept formulas are made of, once more: forms with many leaves, levels -/
theorem dP_nd (t : Nat) : (dP t).Nodup := dd_nd _
theorem d4_nd (t : Nat) : (d4L t).Nodup := List.Pairwise.filter _ (dP_nd t)
theorem d4_mem {t s : Nat} (ho : okT t) : s ∈ d4L t ↔ (∃ c ∈ fms t, subT s c ∧ ¬ kd s ≤ 3) ∧ 4 ≤ lf s := by
  unfold d4L
  rw [List.mem_filter, dP_mem ho]
  simp
theorem d4_sbf {g : Nat → Nat → Nat} {e t : Nat} (hg : gLf g e) (ho : okT t) (h14 : kd t ≤ 14) (hk : ¬ kd t ≤ 3) (hos : okT (sbT g e t)) : (d4L (sbT g e t)).length ≤ (d4L t).length := by
  have h : (d4L (sbT g e t)).length ≤ ((d4L t).map (sbT g e)).length := nd_lenL _ _ (d4_nd _) (fun s hs => by
    obtain ⟨⟨c', hc', h1, h2⟩, h3⟩ := (d4_mem hos).mp hs
    rw [fms_sbf (g := g) (e := e) hk (by omega) (fun c _ hc _ => sb_n0 hg hc)] at hc'
    obtain ⟨c, hc, e1⟩ := List.mem_map.mp hc'
    have oc := ho.c hc
    have k8 := kd_14 ho.n h14 hc
    have hin : s ∈ iL (sbT g e c) := by
      rw [← e1] at h1
      exact (iL_mem _ (by rw [e1]; exact hos.c (by rw [fms_sbf (g := g) (e := e) hk (by omega) (fun c _ hc _ => sb_n0 hg hc)]; exact hc')) s).mpr ⟨h1, h2⟩
    rw [(iL_sbf hg c oc (by omega)).1] at hin
    obtain ⟨q, hq, e2⟩ := List.mem_map.mp hin
    obtain ⟨q1, q2⟩ := (iL_mem c oc q).mp hq
    have oq := sub_ok c oc q1
    have kq := kd_sub14 ho h14 (sub_c hc q1)
    refine List.mem_map.mpr ⟨q, (d4_mem ho).mpr ⟨⟨c, hc, q1, q2⟩, ?_⟩, e2⟩
    rw [← (iL_sbf hg q oq kq).2, e2]
    exact h3)
  rwa [List.length_map] at h
theorem At4_hi {m s : Nat} (h : 15 ≤ kd s) : At4 m s := fun _ q => by omega
theorem At4_yes {m : Nat} : At4 m yesT := fun _ _ => by
  have : d4L yesT = [] := by
    unfold d4L dP yesT
    rw [fms_nil]; rfl
  rw [this]; exact Nat.zero_le _
theorem Alls.sb4 {m : Nat} {g : Nat → Nat → Nat} (hg : ∀ e, gLf g e) (hgo : ∀ d c, okT c → kd c ≤ 3 → okT (g d c)) {f e : Nat} (ho : okT f) (hon : gOn g f) (h : Alls (At4 m) f) : Alls (At4 m) (sbT g e f) := fun s hs => by
  rcases sub_sb f hs with ⟨c, d', hc, q⟩ | ⟨c, d', hc, hk, q⟩
  · obtain ⟨o, k3, _⟩ := lv_ok f ho c hc
    have k4 := (hg d' c k3 (okT_0 o)).1
    have : s = g d' c ∨ ∃ z ∈ fms (g d' c), subT s z := by rw [subT_eq] at q; exact q
    rcases this with z | ⟨z, hz, _⟩
    · rw [z]; exact fun q => by omega
    · rw [fms_lf (hgo d' c o k3).n k4] at hz; cases hz
  · have hoc := sub_ok f ho hc
    have k1 := (sb_kd (g := g) (d := d') hk).1
    rw [q]
    intro h8 h14
    rw [k1] at h8 h14
    have hos : okT (sbT g d' c) := okT_sb c hoc (fun l hl d => hon l (lv_in f ho hc hl) d) d'
    exact Nat.le_trans (d4_sbf (hg d') hoc h14 hk hos) (h c hc h8 h14)
theorem gOn_bindg {x f : Nat} (ho : okT f) : gOn (bindg x) f := fun c hc d => by
  obtain ⟨o, k3, tm⟩ := lv_ok f ho c hc
  unfold bindg
  split
  · exact ⟨(okT_bound d).2, (okT_bound d).1⟩
  · exact ⟨tm, o⟩
theorem Alls.bind4 {m x e f : Nat} (ho : okT f) (h : Alls (At4 m) f) : Alls (At4 m) (sbT (bindg x) e f) := Alls.sb4 (fun e => gLf_bind) (fun _ _ o _ => okT_bindg o) ho (gOn_bindg ho) h
theorem Alls.al4 {m y f : Nat} (hy : Alls (At4 m) y) (hf : Alls (At4 m) f) : Alls (At4 m) (alT y f) := by
  unfold alT
  split
  · exact Alls.yes At4_yes
  · refine Alls.mk (At4_hi (by rw [kd_mk]; decide)) (fun c hc => ?_)
    rcases List.mem_cons.mp hc with q | q
    · rw [q]; exact hy
    · rw [List.mem_singleton.mp q]; exact hf
/-- levels -/
theorem hg_lo {f : Nat} (h : kd f ≤ 14) : hgT f = 0 := by rw [hg_eq]; unfold hgS; rw [if_pos h]
theorem hg_not {f : Nat} (ho : okT f) : hgT (notT f) = hgT f := by
  unfold notT
  by_cases h16 : kd f = 16
  · obtain ⟨g, e, _, _, _⟩ := ps_not1 ho h16
    rw [if_pos h16, e, hg_eq f]
    unfold hgS
    rw [if_neg (by omega), if_pos h16, e]
    simp
  · rw [if_neg h16, hg_eq (mk 16 0 [f])]
    unfold hgS
    rw [kd_mk, if_neg (by decide), if_pos rfl, ps_mk]
    simp
theorem fmax_le : ∀ {l : List Nat} {a B : Nat}, a ≤ B → (∀ x ∈ l, x ≤ B) → l.foldl max a ≤ B
  | [], _, _, h, _ => h
  | b :: l, a, B, h, hl => by
    rw [List.foldl_cons]
    exact fmax_le (Nat.max_le.mpr ⟨h, hl b List.mem_cons_self⟩) (fun x hx => hl x (List.mem_cons_of_mem _ hx))
theorem hg_no : hgT noT = 0 := by
  have : noT = notT yesT := by unfold notT; rw [if_neg (by unfold yesT; rw [kd_mk]; decide)]; rfl
  rw [hg_eq]
  unfold hgS
  rw [if_neg (by unfold noT; rw [kd_mk]; decide), if_pos (by unfold noT; rw [kd_mk])]
  have hp : ps noT = [yesT] := by unfold noT; rw [ps_mk]
  rw [hp]
  have : hgT yesT = 0 := hg_lo (by unfold yesT; rw [kd_mk]; decide)
  simp [this]
theorem hg_and {L : List Nat} {B : Nat} (h : ∀ f ∈ L, hgT f ≤ B) : hgT (andT L) ≤ B + 1 := by
  have hfl : ∀ g ∈ L.flatMap flt, hgT g ≤ B := fun g hg => by
    obtain ⟨f, hf, q⟩ := List.mem_flatMap.mp hg
    rcases flt_in q with e | ⟨e, z⟩
    · rw [e]; exact h f hf
    · have := hg_part (t := f) (by omega) z
      have := h f hf
      omega
  unfold andT
  by_cases hn : noT ∈ L
  · rw [if_pos hn, hg_no]; omega
  · rw [if_neg hn]
    cases hl : L.flatMap flt with
    | nil => show hgT yesT ≤ _; rw [hg_lo (by unfold yesT; rw [kd_mk]; decide)]; omega
    | cons a l =>
      rw [hl] at hfl
      cases l with
      | nil => show hgT a ≤ _; have := hfl a List.mem_cons_self; omega
      | cons b l =>
        show hgT (mk 17 0 (a :: b :: l)) ≤ _
        rw [hg_eq]
        unfold hgS
        rw [kd_mk, if_neg (by decide), if_neg (by decide), ps_mk]
        have : ((a :: b :: l).map hgT).foldl max 0 ≤ B := fmax_le (Nat.zero_le _) (fun x hx => by
          obtain ⟨c, hc, e⟩ := List.mem_map.mp hx
          rw [← e]; exact hfl c hc)
        omega
theorem hg_two {a b B : Nat} (ha : hgT a ≤ B) (hb : hgT b ≤ B) : hgT (andT [a, b]) ≤ B + 1 := hg_and (fun f hf => by
  rcases List.mem_cons.mp hf with q | q
  · rw [q]; exact ha
  · rw [List.mem_singleton.mp q]; exact hb)
theorem hg_jn {k : Int} {x y B : Nat} (ox : okT x ∧ isFo x) (oy : k ≠ 0 → okT y ∧ isFo y) (hx : hgT x ≤ B) (hy : k ≠ 0 → hgT y ≤ B) : hgT (jnT k x y) ≤ B + 2 := by
  unfold jnT
  by_cases k0 : k = 0
  · rw [if_pos k0, hg_not ox.1]; omega
  rw [if_neg k0]
  have oy := oy k0
  have hy := hy k0
  have two : ∀ {a b : Nat}, okT a ∧ isFo a → okT b ∧ isFo b → okT (andT [a, b]) := fun {a b} ha hb => (okT_and (fun z hz => by
    rcases List.mem_cons.mp hz with q | q
    · rw [q]; exact ha
    · rw [List.mem_singleton.mp q]; exact hb)).1
  have im : ∀ {a b : Nat}, okT a ∧ isFo a → okT b ∧ isFo b → hgT a ≤ B → hgT b ≤ B → hgT (impT a b) ≤ B + 1 := fun {a b} oa ob ha hb => by
    unfold impT
    rw [hg_not (two oa (okT_not ob.1 ob.2))]
    exact hg_two ha (by rw [hg_not ob.1]; exact hb)
  by_cases k1 : k = 1
  · rw [if_pos k1]; have := hg_two hx hy; omega
  rw [if_neg k1]
  by_cases k2 : k = 2
  · rw [if_pos k2, hg_not (two (okT_not ox.1 ox.2) (okT_not oy.1 oy.2))]
    have := hg_two (a := notT x) (b := notT y) (B := B) (by rw [hg_not ox.1]; exact hx) (by rw [hg_not oy.1]; exact hy)
    omega
  rw [if_neg k2]
  by_cases k3 : k = 3
  · rw [if_pos k3]; have := im ox oy hx hy; omega
  rw [if_neg k3]
  exact hg_two (im ox oy hx hy) (im oy ox hy hx)
theorem hg_sb {g : Nat → Nat → Nat} (hg : gN0 g) : ∀ (f : Nat), okT f → (isFo f ∨ kd f = 8) → ∀ d, hgT (sbT g d f) = hgT f := by
  intro f
  induction f using Nat.strongRecOn with
  | ind f ih =>
    intro ho hf d
    have hk : ¬ kd f ≤ 3 := by unfold isFo at hf; omega
    have k1 := (sb_kd (g := g) (d := d) hk).1
    by_cases k14 : kd f ≤ 14
    · rw [hg_lo (by omega), hg_lo k14]
    have hf : isFo f := hf.resolve_right (by omega)
    by_cases k18 : kd f = 18
    · obtain ⟨y, b, hp, y8, fb, my, mb⟩ := ps_all1 ho k18
      have pS := (fms_all (d := d) hg k18 hp (okT_0 (ho.c my)) (okT_0 (ho.c mb))).2
      rw [hg_eq, hg_eq f]
      unfold hgS
      rw [k1, pS, hp]
      simp only [List.map_cons, List.map_nil]
      rw [ih y (fms_lt my) (ho.c my) (Or.inr y8) d, ih b (fms_lt mb) (ho.c mb) (Or.inl fb) (d + 1)]
    · have hl : ∀ p ∈ ps f, isFo p := fun p hp => by
        rcases ho.n.2 with q | q | q | q | q | q | q | q | q | q | q | q | q | q <;> first | (exfalso; unfold isFo at hf; omega) | skip
        · obtain ⟨_, _, g', q1, q2, _⟩ := q
          rw [q1, List.mem_singleton] at hp
          rw [hp]; exact q2
        · exact (q.2.2.2 p hp).1
      have mf : ∀ p ∈ ps f, p ∈ fms f := fun p hp => fms_mem hp (by omega) (isFo_pos (hl p hp))
      rw [hg_eq, hg_eq f]
      unfold hgS
      rw [k1, ps_map (by unfold isFo at hf; omega) (fun c hc => isFo_pos (hl c hc)), List.map_map]
      have : (ps f).map (hgT ∘ sbT g d) = (ps f).map hgT := List.map_congr_left (fun c hc => ih c (fms_lt (mf c hc)) (ho.c (mf c hc)) (Or.inl (hl c hc)) d)
      rw [this]
theorem hg_al {y f B : Nat} (h8 : kd y = 8) (hf : hgT f ≤ B) : hgT (alT y f) ≤ B + 1 := by
  unfold alT
  split
  · rw [hg_lo (by unfold yesT; rw [kd_mk]; decide)]; omega
  · rw [hg_eq]
    unfold hgS
    rw [kd_mk, if_neg (by decide), if_neg (by decide), ps_mk]
    have : ([y, f].map hgT).foldl max 0 ≤ B := fmax_le (Nat.zero_le _) (fun x hx => by
      simp only [List.map_cons, List.map_nil, List.mem_cons, List.not_mem_nil, or_false] at hx
      rcases hx with q | q
      · rw [q, hg_lo (by omega)]; omega
      · rw [q]; exact hf)
    omega
theorem hg_bd {W : Wd} {o : Int} {x y B : Nat} (oy : okT y) (fy : isFo y) (hy : hgT y ≤ B) (x8 : kd (wcT W (wh x)) = 8) (hbo : okT (bdA W o x y)) : hgT (bdT W o x y) ≤ B + 1 := by
  have a2 : hgT (bdF o y) ≤ B ∧ okT (bdF o y) ∧ isFo (bdF o y) := by
    unfold bdF
    split
    · exact ⟨hy, oy, fy⟩
    · exact ⟨by rw [hg_not oy]; exact hy, okT_not oy fy⟩
  have a3 : hgT (bdA W o x y) ≤ B + 1 := by
    unfold bdA bdG
    refine hg_al x8 ?_
    rw [hg_sb (fun e l h hk => (gLf_bind (x := x) (e := e) l hk h).2) (bdF o y) a2.2.1 (Or.inl a2.2.2) 0]
    exact a2.1
  unfold bdT
  split
  · exact a3
  · rw [hg_not hbo]; exact a3
/-- forms with four leaves or more; formulas that are no atoms -/
def nF4 (Fo : List Nat) : Nat := (Fo.filter (fun t => isI t && decide (4 ≤ lf t))).length
def nFj (Fo : List Nat) : Nat := (Fo.filter (fun t => decide (15 ≤ kd t))).length
def KfJ (Fo : List Nat) : Prop := ∀ f ∈ Fo, isFo f → Alls (At4 (nF4 Fo)) f ∧ hgT f ≤ 2 * nFj Fo
theorem nFj_le {Fo : List Nat} {t : Nat} : nF4 Fo ≤ nF4 (Fo ++ [t]) ∧ nFj Fo ≤ nFj (Fo ++ [t]) ∧ (15 ≤ kd t → nFj (Fo ++ [t]) = nFj Fo + 1) := by
  unfold nF4 nFj
  rw [List.filter_append, List.filter_append, List.length_append, List.length_append]
  refine ⟨Nat.le_add_right _ _, Nat.le_add_right _ _, fun h => ?_⟩
  rw [List.filter_cons, if_pos (by simpa using h)]
  rfl
theorem At4.mono {m m' f : Nat} (h : Alls (At4 m) f) (hm : m ≤ m') : Alls (At4 m') f := fun s hs a b => Nat.le_trans (h s hs a b) hm
theorem KfJ.ap {Fo : List Nat} {t : Nat} (h : KfJ Fo) (ht : isFo t → Alls (At4 (nF4 (Fo ++ [t]))) t ∧ (15 ≤ kd t → hgT t ≤ 2 * nFj Fo + 2)) : KfJ (Fo ++ [t]) := fun f hf k => by
  obtain ⟨l1, l2, l3⟩ := nFj_le (Fo := Fo) (t := t)
  rcases List.mem_append.mp hf with q | q
  · obtain ⟨h1, h2⟩ := h f q k
    exact ⟨At4.mono h1 l1, by omega⟩
  · rw [List.mem_singleton.mp q] at k ⊢
    obtain ⟨h1, h2⟩ := ht k
    refine ⟨h1, ?_⟩
    rcases Nat.lt_or_ge (kd t) 15 with w | w
    · rw [hg_lo (by omega)]; omega
    · have := h2 w
      have := l3 w
      omega
