/-! names of inner forms that put together: the i-th has at most i + 1 -/
/-- leaves, without doubles -/
def nmc (s : Nat) : Nat := (ddL (lvT s)).length
theorem lv_sbm {g : Nat → Nat → Nat} {e : Nat} (hg : gLf g e) : ∀ (t : Nat), okT t → kd t ≤ 14 → lvT (sbT g e t) = (lvT t).map (g e) := by
  intro t
  induction t using Nat.strongRecOn with
  | ind t ih =>
    intro ho h14
    by_cases hk : kd t ≤ 3
    · have h3 := (hg t hk (okT_0 ho)).1
      rw [sbT_eq, if_pos hk, lvT_eq, if_pos h3, lvT_eq t, if_pos hk]; rfl
    · have k1 := (sb_kd (g := g) (d := e) hk).1
      have hf := fms_sbf (g := g) (e := e) hk (by omega) (fun c _ hc _ => sb_n0 hg hc)
      rw [lvT_eq, if_neg (by omega), hf, lvT_eq t, if_neg hk, List.flatMap_map, List.map_flatMap]
      exact flatMap_c (fun c hc => ih c (fms_lt hc) (ho.c hc) (by have := kd_14 ho.n h14 hc; omega))
theorem nmc_sb {g : Nat → Nat → Nat} {e t : Nat} (hg : gLf g e) (ho : okT t) (h14 : kd t ≤ 14) : nmc (sbT g e t) ≤ nmc t := by
  unfold nmc
  rw [lv_sbm hg t ho h14]
  have h1 : (ddL ((lvT t).map (g e))).length ≤ ((ddL (lvT t)).map (g e)).length := dd_sub (fun s hs => by
    obtain ⟨l, l1, l2⟩ := List.mem_map.mp hs
    exact List.mem_map.mpr ⟨l, dd_mem.mpr l1, l2⟩)
  rwa [List.length_map] at h1
theorem vn_nmc {s d i : Nat} (ho : okT s) (h14 : kd s ≤ 14) : vnT s d i ≤ nmc s := by
  unfold vnT nmc
  have h1 : ((List.range i).filter (fun r => @decide (hvT s (d + r)) (Classical.propDecidable _))).length = (((List.range i).filter (fun r => @decide (hvT s (d + r)) (Classical.propDecidable _))).map (fun r => d + r)).length := by rw [List.length_map]
  have h2 : (ddL (lvT s)).length = ((ddL (lvT s)).map wh).length := by rw [List.length_map]
  rw [h1, h2]
  refine nd_lenL _ _ ?_ (fun x hx => ?_)
  · exact List.pairwise_map.mpr (List.Pairwise.imp (fun hne e => hne (by omega)) vn_nd)
  · obtain ⟨r, hr, e⟩ := List.mem_map.mp hx
    obtain ⟨l, h3, h4⟩ := (hv_lf s ho h14 _).mp (vn_mem.mp hr).2
    exact List.mem_map.mpr ⟨l, dd_mem.mpr h3, by rw [← e]; exact h4.2⟩
/-- the first leaf -/
def hd1 (t : Nat) : List Nat := (lvT t).take 1
theorem hd1_le (t : Nat) : (hd1 t).length ≤ 1 := by unfold hd1; rw [List.length_take]; omega
theorem hd1_one {t a : Nat} (hk : ¬ kd t ≤ 3) (h : fms t = [a]) : hd1 t = hd1 a := by
  unfold hd1
  rw [lvT_eq, if_neg hk, h]
  simp
theorem hd1_two {t a b : Nat} (hk : ¬ kd t ≤ 3) (h : fms t = [a, b]) : hd1 t = hd1 a ∧ (hd1 a ≠ [] ∨ hd1 b = []) ∨ hd1 a = [] ∧ hd1 t = hd1 b := by
  unfold hd1
  rw [lvT_eq t, if_neg hk, h]
  have e : [a, b].flatMap lvT = lvT a ++ lvT b := by simp
  rw [e]
  cases hA : lvT a with
  | nil => exact Or.inr ⟨rfl, by simp⟩
  | cons x l => exact Or.inl ⟨by simp, Or.inl (by simp)⟩
theorem hd1_lf {t : Nat} (h : hd1 t ≠ []) : 1 ≤ lf t := by
  unfold hd1 at h
  unfold lf
  cases hl : lvT t with
  | nil => rw [hl] at h; exact absurd rfl h
  | cons a l => rw [List.length_cons]; omega
def hd2 (s : Nat) : List Nat := (((fms s).drop 1).flatMap hd1).take 1
theorem hd2_le (s : Nat) : (hd2 s).length ≤ 1 := by unfold hd2; rw [List.length_take]; omega
theorem fms_2 {t : Nat} (ho : okT t) (h8 : kd t ≤ 8) : (fms t).length ≤ 2 := by
  have h1 : (fms t).length ≤ (if kd t = 8 then (ps t).take 1 else ps t).length := List.length_filter_le _ _
  rcases ho.n.2 with w | w | w | w | w | w | w | w | w | w | w | w | w | w <;> first | omega | skip
  · rw [if_neg (by omega), w.2, List.length_nil] at h1; omega
  · rw [if_neg (by omega), w.2, List.length_nil] at h1; omega
  · rw [if_neg (by omega), w.2.1, List.length_nil] at h1; omega
  · rw [if_neg (by omega)] at h1; have := w.2.1; omega
  · obtain ⟨_, _, y, hy, _⟩ := w
    rw [if_neg (by omega), hy] at h1; simp at h1; omega
  · rw [if_pos w.1, List.length_take] at h1; omega
/-- the leaves of a term, told by what puts together -/
theorem lv_mg : ∀ (t : Nat), okT t → kd t ≤ 8 → ∀ l ∈ lvT t, l ∈ hd1 t ∨ ∃ s, subT s t ∧ ¬ kd s ≤ 3 ∧ isM s = true ∧ l ∈ hd2 s := by
  intro t
  induction t using Nat.strongRecOn with
  | ind t ih =>
    intro ho h8 l hl
    by_cases hk : kd t ≤ 3
    · left
      unfold hd1
      rw [lvT_eq, if_pos hk] at hl ⊢
      exact hl
    · rw [lvT_eq, if_neg hk] at hl
      obtain ⟨c, hc, hlc⟩ := List.mem_flatMap.mp hl
      have hIH : ∀ c ∈ fms t, l ∈ lvT c → l ∈ hd1 c ∨ ∃ s, subT s t ∧ ¬ kd s ≤ 3 ∧ isM s = true ∧ l ∈ hd2 s := fun c hc hlc => (ih c (fms_lt hc) (ho.c hc) (by have := kd_14 ho.n (by omega) hc; omega) l hlc).imp id (fun ⟨s, a, b⟩ => ⟨s, sub_c hc a, b⟩)
      rcases hIH c hc hlc with q | q
      · have len2 := fms_2 ho h8
        match hf : fms t, len2 with
        | [], _ => rw [hf] at hc; cases hc
        | [a], _ =>
          rw [hf, List.mem_singleton] at hc
          left
          rw [hd1_one hk hf, ← hc]; exact q
        | [a, b], _ =>
          rcases hd1_two hk hf with ⟨e1, e2⟩ | ⟨e1, e2⟩
          · rw [hf] at hc
            rcases List.mem_cons.mp hc with w | w
            · left; rw [e1, ← w]; exact q
            · rw [List.mem_singleton.mp w] at q
              rcases e2 with z | z
              · right
                have hm : isM t = true := by
                  unfold isM
                  rw [hf]
                  have l1 := hd1_lf z
                  have l2 := hd1_lf (t := b) (fun e => by rw [e] at q; cases q)
                  simp [List.filter_cons, l1, l2]
                refine ⟨t, sub_rf t, hk, hm, ?_⟩
                unfold hd2
                rw [hf]
                have e3 : ([a, b].drop 1).flatMap hd1 = hd1 b := by simp
                rw [e3]
                have hl1 := hd1_le b
                rw [List.take_of_length_le hl1]
                exact q
              · rw [z] at q; cases q
          · rw [hf] at hc
            rcases List.mem_cons.mp hc with w | w
            · rw [w, e1] at q; cases q
            · left; rw [e2]; rw [List.mem_singleton.mp w] at q; exact q
        | _ :: _ :: _ :: _, h => simp at h
      · exact Or.inr q
/-- what puts together in a form, without doubles -/
def mgD (t : Nat) : List Nat := ddL ((iL t).filter isM)
theorem nmc_mg {t : Nat} (ho : okT t) (h8 : kd t ≤ 8) : nmc t ≤ 1 + (mgD t).length := by
  unfold nmc
  have h1 : (ddL (lvT t)).length ≤ (hd1 t ++ (mgD t).flatMap hd2).length := dd_sub (fun l hl => by
    rcases lv_mg t ho h8 l hl with q | ⟨s, a, b, c, d⟩
    · exact List.mem_append_left _ q
    · exact List.mem_append_right _ (List.mem_flatMap.mpr ⟨s, dd_mem.mpr (List.mem_filter.mpr ⟨(iL_mem t ho s).mpr ⟨a, b⟩, c⟩), d⟩))
  rw [List.length_append, List.length_flatMap] at h1
  have h2 : ((mgD t).map (fun a => (hd2 a).length)).sum ≤ 1 * (mgD t).length := sum_le_c (fun s _ => hd2_le s)
  have := hd1_le t
  omega
/-- how many of a list are no greater -/
def rnk (L : List Nat) (r : Nat) : Nat := (L.filter (fun s => decide (s ≤ r))).length
theorem rnk_lt {L : List Nat} (hn : L.Nodup) {s r : Nat} (hr : r ∈ L) (h : s < r) : rnk L s < rnk L r := by
  unfold rnk
  have h1 : (r :: L.filter (fun x => decide (x ≤ s))).length ≤ (L.filter (fun x => decide (x ≤ r))).length := nd_lenL _ _ (List.nodup_cons.mpr ⟨fun q => by have := (List.mem_filter.mp q).2; simp at this; omega, hn.filter _⟩) (fun x hx => by
    rcases List.mem_cons.mp hx with q | q
    · rw [q]; exact List.mem_filter.mpr ⟨hr, by simp⟩
    · obtain ⟨a, b⟩ := List.mem_filter.mp q
      exact List.mem_filter.mpr ⟨a, by simp at b ⊢; omega⟩)
  rw [List.length_cons] at h1
  omega
theorem rnk_le {L : List Nat} {r : Nat} : rnk L r ≤ L.length := List.length_filter_le _ _
/-- a sum over a list, by ranks -/
theorem rnk_sum {inc : Nat → Nat} {L l : List Nat} (hL : L.Nodup) (hl : l.Nodup) (h : ∀ r ∈ l, r ∈ L) : (l.map (fun r => inc (1 + rnk L r))).sum ≤ PhS inc (1 + L.length) := by
  have nd : (l.map (rnk L)).Nodup := List.pairwise_map.mpr (hl.imp_of_mem (fun {a b} ha hb hne e => by
    rcases Nat.lt_or_ge a b with q | q
    · have := rnk_lt hL (h b hb) q; omega
    · have := rnk_lt hL (h a ha) (show b < a by omega); omega))
  have h1 : ((l.map (rnk L)).map (fun i => inc (1 + i))).sum ≤ ((List.range (L.length + 1)).map (fun i => inc (1 + i))).sum := sum_sub nd (fun i hi => by
    obtain ⟨r, _, e⟩ := List.mem_map.mp hi
    have := rnk_le (L := L) (r := r)
    exact List.mem_range.mpr (by omega))
  rw [List.map_map] at h1
  have h2 : ((List.range (L.length + 1)).map (fun i => inc (1 + i))).sum ≤ PhS inc (1 + L.length) := by
    have this : ((List.range (L.length + 1)).map (fun i => inc (1 + i))) = ((List.range (L.length + 1)).map (inc ∘ Nat.succ)) := List.map_congr_left (fun i _ => by show inc (1 + i) = inc (i + 1); rw [Nat.add_comm])
    rw [this]
    have e : PhS inc (1 + L.length) = inc 0 + ((List.range (L.length + 1)).map (inc ∘ Nat.succ)).sum := by
      unfold PhS
      rw [show 1 + L.length + 1 = (L.length + 1) + 1 by omega, List.range_succ_eq_map (n := L.length + 1), List.map_cons, List.sum_cons, List.map_map]
    rw [e]
    exact Nat.le_add_left _ _
  exact Nat.le_trans h1 h2
/-- kept forms that put together -/
def mKL (Fo : List Nat) : List Nat := ddL (Fo.filter (fun t => isI t && isM t))
def mKn (Fo : List Nat) : Nat := (Fo.filter (fun t => isI t && isM t)).length
theorem mKL_le {Fo : List Nat} : (mKL Fo).length ≤ mKn Fo := dd_le _
theorem mKn_ap {Fo : List Nat} {t : Nat} : mKn Fo ≤ mKn (Fo ++ [t]) := by
  unfold mKn
  rw [List.filter_append, List.length_append]
  exact Nat.le_add_right _ _
theorem PhS_mono {inc : Nat → Nat} {a b : Nat} (h : a ≤ b) : PhS inc a ≤ PhS inc b := by
  induction h with
  | refl => exact Nat.le_refl _
  | step _ ih => rw [PhS_s]; omega
/-- the names of what puts together in an atom or type -/
def AtG (Fo : List Nat) (s : Nat) : Prop := 8 ≤ kd s → kd s ≤ 14 → ∀ inc : Nat → Nat, IncOK inc → (((dP s).filter isM).map (fun r => inc (nmc r))).sum ≤ PhS inc (1 + mKn Fo)
theorem AtG_hi {Fo : List Nat} {s : Nat} (h : 15 ≤ kd s) : AtG Fo s := fun _ q => by omega
theorem AtG_yes {Fo : List Nat} : AtG Fo yesT := fun _ _ inc _ => by
  have : dP yesT = [] := by
    unfold dP yesT
    rw [fms_nil]; rfl
  rw [this]; exact Nat.zero_le _
theorem AtG.mono {Fo : List Nat} {t f : Nat} (h : Alls (AtG Fo) f) : Alls (AtG (Fo ++ [t])) f := fun s hs a b inc hi => Nat.le_trans (h s hs a b inc hi) (PhS_mono (by have := mKn_ap (Fo := Fo) (t := t); omega))
theorem KpT.atG {Fo : List Nat} {f : Nat} (ho : okT f) (h14 : kd f ≤ 14) (h : ∀ c ∈ fms f, KpT Fo c) {inc : Nat → Nat} (hi : IncOK inc) : (((dP f).filter isM).map (fun r => inc (nmc r))).sum ≤ PhS inc (1 + mKn Fo) := by
  have info : ∀ r, r ∈ (dP f).filter isM → okT r ∧ kd r ≤ 8 ∧ (∃ c ∈ fms f, subT r c) ∧ ¬ kd r ≤ 3 := fun r hr => by
    obtain ⟨c, hc, h1, h2⟩ := (dP_mem ho).mp (List.mem_filter.mp hr).1
    have k1 := kd_14 ho.n h14 hc
    refine ⟨sub_ok c (ho.c hc) h1, ?_, ⟨c, hc, h1⟩, h2⟩
    have h1' := h1
    rw [subT_eq] at h1'
    rcases h1' with q | ⟨z, hz, q⟩
    · rw [q]; exact k1
    · exact kd_sub8 (ho.c hc) k1 hz q
  have kin : ∀ r, okT r → kd r ≤ 8 → ¬ kd r ≤ 3 → isM r = true → (∃ c ∈ fms f, subT r c) → r ∈ mKL Fo := fun r _ k8 k3 hm ⟨c, hc, hs⟩ => dd_mem.mpr (List.mem_filter.mpr ⟨h c hc r hs (by omega) k8, by rw [Bool.and_eq_true]; exact ⟨by unfold isI; simp; omega, hm⟩⟩)
  have h1 : ∀ r ∈ (dP f).filter isM, inc (nmc r) ≤ inc (1 + rnk (mKL Fo) r) := fun r hr => by
    obtain ⟨or', k8, ⟨c, hc, hs⟩, k3⟩ := info r hr
    have h2 := nmc_mg or' k8
    have h3 : (mgD r).length ≤ rnk (mKL Fo) r := nd_lenL _ _ (dd_nd _) (fun s hs' => by
      obtain ⟨a, b⟩ := List.mem_filter.mp (dd_mem.mp hs')
      obtain ⟨sr, s3⟩ := (iL_mem r or' s).mp a
      have s8 : kd s ≤ 8 := by
        have sr' := sr
        rw [subT_eq] at sr'
        rcases sr' with q | ⟨z, hz, q⟩
        · rw [q]; exact k8
        · exact kd_sub8 or' k8 hz q
      exact List.mem_filter.mpr ⟨kin s (sub_ok r or' sr) s8 s3 b ⟨c, hc, sub_tr c sr hs⟩, by simpa using sub_le r sr⟩)
    exact hi.le (by omega)
  have h2 : (((dP f).filter isM).map (fun r => inc (nmc r))).sum ≤ (((dP f).filter isM).map (fun r => inc (1 + rnk (mKL Fo) r))).sum := by
    generalize (dP f).filter isM = l at h1
    induction l with
    | nil => exact Nat.le_refl _
    | cons a l ih =>
      have := ih (fun r hr => h1 r (List.mem_cons_of_mem _ hr))
      have := h1 a List.mem_cons_self
      simp only [List.map_cons, List.sum_cons]
      omega
  have h3 := rnk_sum (inc := inc) (L := mKL Fo) (l := (dP f).filter isM) (dd_nd _) ((dd_nd _).filter _) (fun r hr => by
    obtain ⟨or', k8, hc, k3⟩ := info r hr
    exact kin r or' k8 k3 (List.mem_filter.mp hr).2 hc)
  exact Nat.le_trans h2 (Nat.le_trans h3 (PhS_mono (by have := mKL_le (Fo := Fo); omega)))
theorem mg_sbf {g : Nat → Nat → Nat} {e t : Nat} (hg : gLf g e) (ho : okT t) (h14 : kd t ≤ 14) (hk : ¬ kd t ≤ 3) {inc : Nat → Nat} (hi : IncOK inc) : (((dP (sbT g e t)).filter isM).map (fun r => inc (nmc r))).sum ≤ (((dP t).filter isM).map (fun r => inc (nmc r))).sum := by
  have hf := fms_sbf (g := g) (e := e) hk (by omega) (fun c _ hc _ => sb_n0 hg hc)
  have h8 : ∀ c ∈ fms t, kd c ≤ 14 := fun c hc => by have := kd_14 ho.n h14 hc; omega
  have h1 : (((dP (sbT g e t)).filter isM).map (fun r => inc (nmc r))).sum ≤ ((((dP t).filter isM).map (sbT g e)).map (fun r => inc (nmc r))).sum := sum_sub ((dd_nd _).filter _) (fun s hs => by
    obtain ⟨q1, q2⟩ := List.mem_filter.mp hs
    have q3 := dd_mem.mp q1
    rw [hf, List.flatMap_map, flatMap_c (fun c hc => (iL_sbf hg c (ho.c hc) (h8 c hc)).1), ← List.map_flatMap] at q3
    obtain ⟨r, r1, r2⟩ := List.mem_map.mp q3
    obtain ⟨c, c1, c2⟩ := List.mem_flatMap.mp r1
    obtain ⟨hsub, kr⟩ := (iL_mem c (ho.c c1) r).mp c2
    have os := sub_ok c (ho.c c1) hsub
    have k14 : kd r ≤ 14 := kd_sub14 (ho.c c1) (h8 c c1) hsub
    rw [← r2, isM_sbf hg os k14 kr] at q2
    exact List.mem_map.mpr ⟨r, List.mem_filter.mpr ⟨dd_mem.mpr r1, q2⟩, r2⟩)
  refine Nat.le_trans h1 ?_
  rw [List.map_map]
  have h2 : ∀ r ∈ (dP t).filter isM, inc (nmc (sbT g e r)) ≤ inc (nmc r) := fun r hr => by
    obtain ⟨c, hc, hs, _⟩ := (dP_mem ho).mp (List.mem_filter.mp hr).1
    exact hi.le (nmc_sb hg (sub_ok c (ho.c hc) hs) (kd_sub14 (ho.c hc) (h8 c hc) hs))
  generalize (dP t).filter isM = l at h2
  induction l with
  | nil => exact Nat.le_refl _
  | cons a l ih =>
    have := ih (fun r hr => h2 r (List.mem_cons_of_mem _ hr))
    have := h2 a List.mem_cons_self
    rw [List.map_cons, List.sum_cons, List.map_cons, List.sum_cons]
    exact Nat.add_le_add (h2 a List.mem_cons_self) (ih (fun r hr => h2 r (List.mem_cons_of_mem _ hr)))
