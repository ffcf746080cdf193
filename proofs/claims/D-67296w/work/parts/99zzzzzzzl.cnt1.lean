/-! counting: leaves, inner forms -/
def lf (t : Nat) : Nat := (lvT t).length
def iLS (f : Nat → List Nat) (t : Nat) : List Nat := if kd t ≤ 3 then [] else t :: (fms t).flatMap f
/-- all inner forms of a form, one behind another -/
def iL (t : Nat) : List Nat := rcT iLS [] t
theorem iL_eq (t : Nat) : iL t = if kd t ≤ 3 then [] else t :: (fms t).flatMap iL := rc_eq (fun f f' t h => by
  unfold iLS
  rw [flatMap_c (fun c hc => h c (fms_ps hc).1)]) t
theorem fms_lf {t : Nat} (ho : okN t) (hk : kd t ≤ 3) : fms t = [] := by
  have hp : ps t = [] := by
    rcases ho.2 with q | q | q | q | q | q | q | q | q | q | q | q | q | q <;> first | exact q.2 | exact q.2.1 | omega
  unfold fms
  rw [hp]
  split <;> rfl
theorem iL_mem : ∀ (t : Nat), okT t → ∀ s, s ∈ iL t ↔ subT s t ∧ ¬ kd s ≤ 3 := by
  intro t
  induction t using Nat.strongRecOn with
  | ind t ih =>
    intro ho s
    rw [iL_eq, subT_eq]
    by_cases hk : kd t ≤ 3
    · rw [if_pos hk, fms_lf ho.n hk]
      constructor
      · intro h; cases h
      · rintro ⟨h | ⟨c, hc, _⟩, h2⟩
        · rw [h] at h2; exact absurd hk h2
        · cases hc
    · rw [if_neg hk, List.mem_cons, List.mem_flatMap]
      constructor
      · rintro (h | ⟨c, hc, h⟩)
        · exact ⟨Or.inl h, by rw [h]; exact hk⟩
        · obtain ⟨h1, h2⟩ := (ih c (fms_lt hc) (ho.c hc) s).mp h
          exact ⟨Or.inr ⟨c, hc, h1⟩, h2⟩
      · rintro ⟨h | ⟨c, hc, h⟩, h2⟩
        · exact Or.inl h
        · exact Or.inr ⟨c, hc, (ih c (fms_lt hc) (ho.c hc) s).mpr ⟨h, h2⟩⟩
theorem sum_flt {f : Nat → Nat} {p : Nat → Bool} : ∀ (l : List Nat), ((l.filter p).map f).sum ≤ (l.map f).sum
  | [] => Nat.le_refl _
  | a :: l => by
    have := sum_flt (f := f) (p := p) l
    rw [List.filter_cons]
    split
    · simp only [List.map_cons, List.sum_cons]; omega
    · simp only [List.map_cons, List.sum_cons]; omega
theorem sz_fms {t : Nat} (h0 : t ≠ 0) : 1 + ((fms t).map szT).sum ≤ szT t := by
  rw [szT_ex h0]
  unfold exp1 fms
  split
  · have := sum_flt (f := szT) (p := fun c => decide (c ≠ 0)) ((ps t).take 1)
    omega
  · have := sum_flt (f := szT) (p := fun c => decide (c ≠ 0)) (ps t)
    omega
theorem sum_map_le {f g : Nat → Nat} : ∀ {l : List Nat}, (∀ c ∈ l, f c ≤ g c) → (l.map f).sum ≤ (l.map g).sum
  | [], _ => Nat.le_refl _
  | a :: l, h => by
    have h1 := h a List.mem_cons_self
    have h2 := sum_map_le (l := l) (fun c hc => h c (List.mem_cons_of_mem _ hc))
    simp only [List.map_cons, List.sum_cons]
    omega
theorem sum_map_add {f g : Nat → Nat} : ∀ (l : List Nat), (l.map (fun c => f c + g c)).sum = (l.map f).sum + (l.map g).sum
  | [] => rfl
  | a :: l => by
    have := sum_map_add (f := f) (g := g) l
    simp only [List.map_cons, List.sum_cons]
    omega
theorem lf_fms {t : Nat} (hk : ¬ kd t ≤ 3) : lf t = ((fms t).map lf).sum := by
  unfold lf
  rw [lvT_eq, if_neg hk, List.length_flatMap]
theorem iL_fms {t : Nat} (hk : ¬ kd t ≤ 3) : (iL t).length = 1 + ((fms t).map (fun c => (iL c).length)).sum := by
  rw [iL_eq, if_neg hk, List.length_cons, List.length_flatMap]
  omega
theorem okT_0 {t : Nat} (h : okT t) : t ≠ 0 := fun q => by have := okT_kin h; rw [q, kd0] at this; omega
/-- inner forms and leaves are at most the size -/
theorem sz_il : ∀ (t : Nat), okT t → (iL t).length + lf t ≤ szT t := by
  intro t
  induction t using Nat.strongRecOn with
  | ind t ih =>
    intro ho
    have hz := sz_fms (okT_0 ho)
    by_cases hk : kd t ≤ 3
    · have e1 : iL t = [] := by rw [iL_eq, if_pos hk]
      have e2 : lf t = 1 := by unfold lf; rw [lvT_eq, if_pos hk]; rfl
      rw [e1, e2]
      simp
      omega
    · rw [iL_fms hk, lf_fms hk]
      have h1 := sum_map_le (f := fun c => (iL c).length + lf c) (g := szT) (l := fms t) (fun c hc => ih c (fms_lt hc) (ho.c hc))
      rw [sum_map_add] at h1
      omega
theorem addAll_nd : ∀ {js L : List Nat}, L.Nodup → (addAll L js).Nodup
  | [], L, h => h
  | j :: js, L, h => by
    show (addAll (addL L j) js).Nodup
    exact addAll_nd (addL_nd h)
theorem addAll_le : ∀ (js L : List Nat), (addAll L js).length ≤ L.length + js.length
  | [], L => Nat.le_refl _
  | j :: js, L => by
    show (addAll (addL L j) js).length ≤ _
    have h1 := addAll_le js (addL L j)
    have h2 : (addL L j).length ≤ L.length + 1 := by
      unfold addL
      split
      · omega
      · rw [List.length_append]; simp
    rw [List.length_cons]
    omega
/-- without what stands there twice -/
def ddL (l : List Nat) : List Nat := addAll [] l
theorem dd_mem {l : List Nat} {s : Nat} : s ∈ ddL l ↔ s ∈ l := by
  unfold ddL
  rw [addAll_mem]
  exact ⟨fun q => q.elim (fun z => by cases z) id, Or.inr⟩
theorem dd_nd (l : List Nat) : (ddL l).Nodup := addAll_nd List.nodup_nil
theorem dd_le (l : List Nat) : (ddL l).length ≤ l.length := by
  have := addAll_le l []
  unfold ddL
  simpa using this
theorem dd_sub {l l' : List Nat} (h : ∀ s ∈ l, s ∈ l') : (ddL l).length ≤ l'.length := nd_lenL _ _ (dd_nd l) (fun s hs => h s (dd_mem.mp hs))
theorem dd_map {f : Nat → Nat} (l : List Nat) : (ddL (l.map f)).length ≤ (ddL l).length := by
  have h : (ddL (l.map f)).length ≤ ((ddL l).map f).length := dd_sub (fun s hs => by
    obtain ⟨q, h1, h2⟩ := List.mem_map.mp hs
    exact List.mem_map.mpr ⟨q, dd_mem.mpr h1, h2⟩)
  rwa [List.length_map] at h
/-- the inner forms below a form -/
def dP (t : Nat) : List Nat := ddL ((fms t).flatMap iL)
theorem dP_mem {t s : Nat} (ho : okT t) : s ∈ dP t ↔ ∃ c ∈ fms t, subT s c ∧ ¬ kd s ≤ 3 := by
  unfold dP
  rw [dd_mem, List.mem_flatMap]
  exact ⟨fun ⟨c, h1, h2⟩ => ⟨c, h1, (iL_mem c (ho.c h1) s).mp h2⟩, fun ⟨c, h1, h2⟩ => ⟨c, h1, (iL_mem c (ho.c h1) s).mpr h2⟩⟩
theorem sz_dP {t : Nat} (ho : okT t) (hk : ¬ kd t ≤ 3) : 1 + (dP t).length + lf t ≤ szT t := by
  have h1 := sz_il t ho
  have h2 := dd_le ((fms t).flatMap iL)
  have h3 : (iL t).length = 1 + ((fms t).flatMap iL).length := by rw [iL_eq, if_neg hk, List.length_cons]; omega
  unfold dP
  omega
theorem le_sum_mem {f : Nat → Nat} : ∀ {l : List Nat} {c : Nat}, c ∈ l → f c ≤ (l.map f).sum
  | a :: l, c, h => by
    simp only [List.map_cons, List.sum_cons]
    rcases List.mem_cons.mp h with q | q
    · rw [q]; omega
    · have := le_sum_mem (f := f) q
      omega
/-- leaves of a part are no more than leaves of the whole -/
theorem lf_sub : ∀ (t : Nat) {s : Nat}, okT t → subT s t → lf s ≤ lf t := by
  intro t
  induction t using Nat.strongRecOn with
  | ind t ih =>
    intro s ho h
    rw [subT_eq] at h
    rcases h with h | ⟨c, hc, h⟩
    · rw [h]; exact Nat.le_refl _
    · have hk : ¬ kd t ≤ 3 := fun q => by rw [fms_lf ho.n q] at hc; cases hc
      have h1 := ih c (fms_lt hc) (ho.c hc) h
      rw [lf_fms hk]
      have h2 : lf c ≤ ((fms t).map lf).sum := le_sum_mem hc
      omega
/-- a form that is one thing for another at the leaves: no binder within -/
theorem flt_zf {h : Nat → Nat} : ∀ {l : List Nat}, (∀ c ∈ l, c ≠ 0 → h c ≠ 0) → (l.map (zf h)).filter (fun c => decide (c ≠ 0)) = (l.filter (fun c => decide (c ≠ 0))).map h
  | [], _ => rfl
  | a :: l, hh => by
    have ih := flt_zf (h := h) (l := l) (fun c hc => hh c (List.mem_cons_of_mem _ hc))
    rw [List.map_cons]
    by_cases q : a = 0
    · have e1 : zf h a = 0 := by unfold zf; rw [if_pos q]
      rw [List.filter_cons_of_neg (by simp [e1]), List.filter_cons_of_neg (by simp [q])]
      exact ih
    · have e1 : zf h a = h a := by unfold zf; rw [if_neg q]
      have e2 := hh a List.mem_cons_self q
      rw [List.filter_cons_of_pos (by simp [e1, e2]), List.filter_cons_of_pos (by simp [q]), List.map_cons, e1, ih]
theorem fms_sbf {g : Nat → Nat → Nat} {e t : Nat} (hk : ¬ kd t ≤ 3) (h18 : kd t ≠ 18) (h : ∀ c ∈ ps t, c ≠ 0 → (kd t = 8 → c ∈ (ps t).take 1) → sbT g e c ≠ 0) : fms (sbT g e t) = (fms t).map (sbT g e) := by
  obtain ⟨k1, k2, k3⟩ := sb_kd (g := g) (d := e) hk
  unfold fms
  rw [k1, k3]
  unfold chm
  by_cases k8 : kd t = 8
  · rw [if_pos k8, if_pos k8, if_pos k8]
    have e1 : (((ps t).take 1).map (zf (sbT g e)) ++ (ps t).drop 1).take 1 = ((ps t).take 1).map (zf (sbT g e)) := by
      cases ps t with
      | nil => rfl
      | cons a l => simp
    rw [e1]
    exact flt_zf (fun c hc hc0 => h c (List.mem_of_mem_take hc) hc0 (fun _ => hc))
  · rw [if_neg k8, if_neg k8, if_neg k8, if_neg h18]
    exact flt_zf (fun c hc hc0 => h c hc hc0 (fun q => absurd q k8))
theorem kd_14 {t c : Nat} (ho : okN t) (h : kd t ≤ 14) (hc : c ∈ fms t) : kd c ≤ 8 := by
  obtain ⟨i, i1, i2, i3⟩ := fms_at.mp hc
  have hm := List.mem_of_getElem? i2
  rcases ho.2 with q | q | q | q | q | q | q | q | q | q | q | q | q | q
  · rw [q.2] at hm; cases hm
  · rw [q.2] at hm; cases hm
  · rw [q.2.1] at hm; cases hm
  · have := q.2.2 c hm; unfold isTm at this; omega
  · obtain ⟨_, _, y, q1, q2⟩ := q
    rw [q1, List.mem_singleton] at hm
    rw [hm]; omega
  · obtain ⟨_, a, js, q1, q2, _⟩ := q
    have i0 : i = 0 := i1.resolve_left (fun w => w (by omega))
    rw [i0, q1] at i2
    have e : a = c := Option.some.inj i2
    rcases q2 with z | z
    · rw [← e, z] at i3; exact absurd rfl i3
    · rw [← e]; unfold isTm at z; omega
  · rw [q.2.2] at hm; cases hm
  · obtain ⟨_, _, a, b, q1, q2, q3⟩ := q
    rw [q1] at hm
    rcases List.mem_cons.mp hm with z | z
    · rw [z]; unfold isTm at q2; omega
    · rw [List.mem_singleton.mp z]; unfold isTm at q3; omega
  · have := q.2.2 c hm; unfold isTm at this; omega
  · obtain ⟨_, a, q1, q2⟩ := q
    rw [q1, List.mem_singleton] at hm
    rw [hm]; unfold isTm at q2; omega
  · obtain ⟨_, a, b, q1, q2, q3⟩ := q
    rw [q1] at hm
    rcases List.mem_cons.mp hm with z | z
    · rcases q2 with w | w
      · rw [z, w] at i3; exact absurd rfl i3
      · rw [z]; unfold isTm at w; omega
    · rw [List.mem_singleton.mp z]; unfold isTm at q3; omega
  · omega
  · omega
  · omega
theorem kd_sub8 : ∀ {c z s : Nat}, okT c → kd c ≤ 8 → z ∈ fms c → subT s z → kd s ≤ 8 := by
  intro c
  induction c using Nat.strongRecOn with
  | ind c ih =>
    intro z s ho hk hz hs
    have k1 := kd_14 ho.n (by omega) hz
    rw [subT_eq] at hs
    rcases hs with q | ⟨w, hw, q⟩
    · rw [q]; exact k1
    · exact ih z (fms_lt hz) (ho.c hz) k1 hw q
/-- leaves become leaves -/
def gLf (g : Nat → Nat → Nat) (e : Nat) : Prop := ∀ l, kd l ≤ 3 → l ≠ 0 → kd (g e l) ≤ 3 ∧ g e l ≠ 0
theorem sb_n0 {g : Nat → Nat → Nat} {e t : Nat} (hg : gLf g e) (h : t ≠ 0) : sbT g e t ≠ 0 := by
  by_cases hk : kd t ≤ 3
  · rw [sbT_eq, if_pos hk]; exact (hg t hk h).2
  · intro q
    have := (sb_kd (g := g) (d := e) hk).1
    rw [q, kd0] at this
    omega
theorem iL_sbf {g : Nat → Nat → Nat} {e : Nat} (hg : gLf g e) : ∀ (t : Nat), okT t → kd t ≤ 14 → iL (sbT g e t) = (iL t).map (sbT g e) ∧ lf (sbT g e t) = lf t := by
  intro t
  induction t using Nat.strongRecOn with
  | ind t ih =>
    intro ho h14
    by_cases hk : kd t ≤ 3
    · have e1 : sbT g e t = g e t := by rw [sbT_eq, if_pos hk]
      have h3 := (hg t hk (okT_0 ho)).1
      refine ⟨?_, ?_⟩
      · rw [e1, iL_eq, if_pos h3, iL_eq, if_pos hk]; rfl
      · unfold lf
        rw [e1, lvT_eq, if_pos h3, lvT_eq, if_pos hk]; rfl
    · have k1 := (sb_kd (g := g) (d := e) hk).1
      have hf := fms_sbf (g := g) (e := e) hk (by omega) (fun c _ hc _ => sb_n0 hg hc)
      have IH : ∀ c ∈ fms t, iL (sbT g e c) = (iL c).map (sbT g e) ∧ lf (sbT g e c) = lf c := fun c hc => ih c (fms_lt hc) (ho.c hc) (by have := kd_14 ho.n h14 hc; omega)
      refine ⟨?_, ?_⟩
      · rw [iL_eq, if_neg (by omega), hf, iL_eq, if_neg hk, List.map_cons, List.flatMap_map, List.map_flatMap]
        rw [flatMap_c (fun c hc => (IH c hc).1)]
      · rw [lf_fms (by omega), lf_fms hk, hf, List.map_map]
        congr 1
        exact List.map_congr_left (fun c hc => (IH c hc).2)
/-- the inner forms below a form that have two leaves or more -/
def dQ (t : Nat) : List Nat := ddL (((fms t).flatMap iL).filter (fun s => decide (2 ≤ lf s)))
theorem dQ_mem {t s : Nat} (ho : okT t) : s ∈ dQ t ↔ (∃ c ∈ fms t, subT s c ∧ ¬ kd s ≤ 3) ∧ 2 ≤ lf s := by
  unfold dQ
  rw [dd_mem, List.mem_filter, List.mem_flatMap]
  constructor
  · rintro ⟨⟨c, h1, h2⟩, h3⟩
    exact ⟨⟨c, h1, (iL_mem c (ho.c h1) s).mp h2⟩, by simpa using h3⟩
  · rintro ⟨⟨c, h1, h2⟩, h3⟩
    exact ⟨⟨c, h1, (iL_mem c (ho.c h1) s).mpr h2⟩, by simpa using h3⟩
theorem sz_dQ {t : Nat} (ho : okT t) (hk : ¬ kd t ≤ 3) : 1 + (dQ t).length + lf t ≤ szT t := by
  have h1 := sz_il t ho
  have h2 := dd_le (((fms t).flatMap iL).filter (fun s => decide (2 ≤ lf s)))
  have h3 : (iL t).length = 1 + ((fms t).flatMap iL).length := by rw [iL_eq, if_neg hk, List.length_cons]; omega
  have h4 := List.length_filter_le (fun s => decide (2 ≤ lf s)) ((fms t).flatMap iL)
  unfold dQ
  omega
theorem flt_map {f : Nat → Nat} {p : Nat → Bool} : ∀ {l : List Nat}, (∀ s ∈ l, p (f s) = p s) → (l.map f).filter p = (l.filter p).map f
  | [], _ => rfl
  | a :: l, h => by
    have h1 := h a List.mem_cons_self
    have h2 := flt_map (l := l) (fun s hs => h s (List.mem_cons_of_mem _ hs))
    rw [List.map_cons, List.filter_cons, List.filter_cons, h1, h2]
    split <;> rfl
theorem dQ_sbf {g : Nat → Nat → Nat} {e t : Nat} (hg : gLf g e) (ho : okT t) (h14 : kd t ≤ 14) (hk : ¬ kd t ≤ 3) : (dQ (sbT g e t)).length ≤ (dQ t).length := by
  have hf := fms_sbf (g := g) (e := e) hk (by omega) (fun c _ hc _ => sb_n0 hg hc)
  have h8 : ∀ c ∈ fms t, kd c ≤ 14 := fun c hc => by have := kd_14 ho.n h14 hc; omega
  unfold dQ
  rw [hf, List.flatMap_map, flatMap_c (fun c hc => (iL_sbf hg c (ho.c hc) (h8 c hc)).1), ← List.map_flatMap, flt_map]
  · exact dd_map _
  · intro s hs
    obtain ⟨c, c1, c2⟩ := List.mem_flatMap.mp hs
    have hsub := ((iL_mem c (ho.c c1) s).mp c2).1
    have os := sub_ok c (ho.c c1) hsub
    have k14 : kd s ≤ 14 := by
      rw [subT_eq] at hsub
      rcases hsub with q | ⟨z, hz, q⟩
      · rw [q]; exact h8 c c1
      · have := kd_sub8 (ho.c c1) (kd_14 ho.n h14 c1) hz q
        omega
    rw [(iL_sbf hg s os k14).2]
/-- with one and the same leaf all over -/
def imL (t : Nat) : Nat := sbT (fun _ _ => mk 3 0 []) 0 t
theorem chm_ap {f : Nat → Nat → Nat} {k d : Nat} {l : List Nat} (h18 : k ≠ 18) : chm f k d l = if k = 8 then (l.take 1).map (zf (f d)) ++ l.drop 1 else l.map (zf (f d)) := by
  unfold chm
  by_cases h8 : k = 8
  · rw [if_pos h8, if_pos h8]
  · rw [if_neg h8, if_neg h8, if_neg h18]
theorem sb_cst {g : Nat → Nat → Nat} {e z : Nat} (hg : gLf g e) : ∀ (t : Nat), okT t → kd t ≤ 14 → sbT (fun _ _ => z) 0 (sbT g e t) = sbT (fun _ _ => z) 0 t := by
  intro t
  induction t using Nat.strongRecOn with
  | ind t ih =>
    intro ho h14
    by_cases hk : kd t ≤ 3
    · have e1 : sbT g e t = g e t := by rw [sbT_eq, if_pos hk]
      have h3 := (hg t hk (okT_0 ho)).1
      rw [e1, sbT_eq, if_pos h3, sbT_eq, if_pos hk]
    · obtain ⟨k1, k2, k3⟩ := sb_kd (g := g) (d := e) hk
      rw [sbT_eq, if_neg (by omega), sbT_eq (fun _ _ => z) 0 t, if_neg hk, k1, k2, k3, chm_ap (by omega), chm_ap (by omega), chm_ap (by omega)]
      have hz : ∀ c ∈ ps t, (kd t = 8 → c ∈ (ps t).take 1) → zf (sbT (fun _ _ => z) 0) (zf (sbT g e) c) = zf (sbT (fun _ _ => z) 0) c := fun c hc h8 => by
        by_cases c0 : c = 0
        · rw [c0]; rfl
        · have hf : c ∈ fms t := by
            unfold fms
            refine List.mem_filter.mpr ⟨?_, by simpa using c0⟩
            split
            · rename_i q; exact h8 q
            · exact hc
          have e1 : zf (sbT g e) c = sbT g e c := by unfold zf; rw [if_neg c0]
          have e2 : zf (sbT (fun _ _ => z) 0) c = sbT (fun _ _ => z) 0 c := by unfold zf; rw [if_neg c0]
          rw [e1, e2]
          unfold zf
          rw [if_neg (sb_n0 hg c0)]
          exact ih c (fms_lt hf) (ho.c hf) (by have := kd_14 ho.n h14 hf; omega)
      by_cases h8 : kd t = 8
      · rw [if_pos h8, if_pos h8, if_pos h8]
        have e1 : (((ps t).take 1).map (zf (sbT g e)) ++ (ps t).drop 1).take 1 = ((ps t).take 1).map (zf (sbT g e)) := by
          cases ps t with
          | nil => rfl
          | cons a l => simp
        have e2 : (((ps t).take 1).map (zf (sbT g e)) ++ (ps t).drop 1).drop 1 = (ps t).drop 1 := by
          cases ps t with
          | nil => rfl
          | cons a l => simp
        rw [e1, e2, List.map_map]
        congr 2
        exact List.map_congr_left (fun c hc => hz c (List.mem_of_mem_take hc) (fun _ => hc))
      · rw [if_neg h8, if_neg h8, if_neg h8, List.map_map]
        congr 1
        exact List.map_congr_left (fun c hc => hz c hc (fun q => absurd q h8))
theorem im_sbf {g : Nat → Nat → Nat} {e t : Nat} (hg : gLf g e) (ho : okT t) (h14 : kd t ≤ 14) : imL (sbT g e t) = imL t := sb_cst hg t ho h14
