/-! kept formulas: inner forms of an atom that put nothing together, by its leaves -/
/-- two parts or more with leaves -/
def isM (t : Nat) : Bool := decide (2 ≤ ((fms t).filter (fun c => decide (1 ≤ lf c))).length)
theorem mg_li : ∀ (l : List Nat), (∀ c ∈ l, 1 ≤ lf c → ((iL c).filter isM).length + 1 ≤ lf c) → (∀ c ∈ l, lf c = 0 → ((iL c).filter isM).length = 0) → ((l.flatMap iL).filter isM).length + (l.filter (fun c => decide (1 ≤ lf c))).length ≤ (l.map lf).sum
  | [], _, _ => by simp
  | c :: l, h, h0 => by
    have ih := mg_li l (fun d hd => h d (List.mem_cons_of_mem _ hd)) (fun d hd => h0 d (List.mem_cons_of_mem _ hd))
    rw [List.flatMap_cons, List.filter_append, List.length_append, List.map_cons, List.sum_cons, List.filter_cons]
    rcases Nat.lt_or_ge (lf c) 1 with q | q
    · have := h0 c List.mem_cons_self (by omega)
      rw [if_neg (by simp; omega)]
      omega
    · have := h c List.mem_cons_self q
      rw [if_pos (by simpa using q), List.length_cons]
      omega
/-- fewer than leaves -/
theorem mg_lf : ∀ (t : Nat), okT t → (1 ≤ lf t → ((iL t).filter isM).length + 1 ≤ lf t) ∧ (lf t = 0 → ((iL t).filter isM).length = 0) := by
  intro t
  induction t using Nat.strongRecOn with
  | ind t ih =>
    intro ho
    by_cases hk : kd t ≤ 3
    · rw [iL_eq, if_pos hk]
      exact ⟨fun h => by simpa using h, fun _ => rfl⟩
    · have li := mg_li (fms t) (fun c hc => (ih c (fms_lt hc) (ho.c hc)).1) (fun c hc => (ih c (fms_lt hc) (ho.c hc)).2)
      rw [← lf_fms hk] at li
      rw [iL_eq, if_neg hk, List.filter_cons]
      have em : isM t = true ↔ 2 ≤ ((fms t).filter (fun c => decide (1 ≤ lf c))).length := by unfold isM; simp
      have e0 : 1 ≤ lf t → 1 ≤ ((fms t).filter (fun c => decide (1 ≤ lf c))).length := fun h => by
        rw [lf_fms hk] at h
        rcases Nat.lt_or_ge ((fms t).filter (fun c => decide (1 ≤ lf c))).length 1 with q | q
        · exfalso
          have hn : (fms t).filter (fun c => decide (1 ≤ lf c)) = [] := List.length_eq_zero_iff.mp (by omega)
          have hz : ∀ c ∈ fms t, lf c = 0 := fun c hc => by
            have := List.filter_eq_nil_iff.mp hn c hc
            simpa using this
          have : ((fms t).map lf).sum ≤ 0 * (fms t).length := sum_le_c (fun c hc => by rw [hz c hc]; exact Nat.le_refl _)
          omega
        · exact q
      by_cases hm : isM t = true
      · have := em.mp hm
        rw [if_pos hm, List.length_cons]
        exact ⟨fun _ => by omega, fun _ => by omega⟩
      · rw [if_neg hm]
        exact ⟨fun h => by have := e0 h; omega, fun _ => by omega⟩
def dU (t : Nat) : List Nat := (dQ t).filter (fun s => !isM s)
/-- inner forms: those that put together are fewer than the leaves -/
theorem dQ_dU {t : Nat} (ho : okT t) (h2 : 1 ≤ lf t) : (dQ t).length + 1 ≤ (dU t).length + lf t := by
  have hk : (dQ t).length = ((dQ t).filter isM).length + ((dQ t).filter (fun s => !isM s)).length := (sum_split (f := fun _ => 0) (p := isM) (dQ t)).2
  have h1 : ((dQ t).filter isM).length ≤ (((fms t).flatMap iL).filter isM).length := nd_lenL _ _ ((dd_nd _).filter _) (fun s hs => by
    obtain ⟨q1, q2⟩ := List.mem_filter.mp hs
    exact List.mem_filter.mpr ⟨(List.mem_filter.mp (dd_mem.mp q1)).1, q2⟩)
  have h3 := (mg_lf t ho).1 h2
  have h4 : (((fms t).flatMap iL).filter isM).length ≤ ((iL t).filter isM).length := by
    rw [iL_eq]
    by_cases k3 : kd t ≤ 3
    · rw [if_pos k3, fms_lf ho.n k3]; exact Nat.le_refl _
    · rw [if_neg k3, List.filter_cons]
      split
      · rw [List.length_cons]; omega
      · exact Nat.le_refl _
  unfold dU
  omega
theorem isM_sbf {g : Nat → Nat → Nat} {e t : Nat} (hg : gLf g e) (ho : okT t) (h14 : kd t ≤ 14) (hk : ¬ kd t ≤ 3) : isM (sbT g e t) = isM t := by
  have hf := fms_sbf (g := g) (e := e) hk (by omega) (fun c _ hc _ => sb_n0 hg hc)
  unfold isM
  rw [hf, flt_map (fun s hs => by rw [(iL_sbf hg s (ho.c hs) (by have := kd_14 ho.n h14 hs; omega)).2]), List.length_map]
theorem sum_ones {l : List Nat} : (l.map (fun _ => 1)).sum = l.length := by
  induction l with
  | nil => rfl
  | cons a l ih => rw [List.map_cons, List.sum_cons, ih, List.length_cons]; omega
theorem dU_sbf {g : Nat → Nat → Nat} {e t : Nat} (hg : gLf g e) (ho : okT t) (h14 : kd t ≤ 14) (hk : ¬ kd t ≤ 3) (inc : Nat → Nat) : ((dU (sbT g e t)).map (fun r => inc (lf r))).sum ≤ ((dU t).map (fun r => inc (lf r))).sum := by
  have hf := fms_sbf (g := g) (e := e) hk (by omega) (fun c _ hc _ => sb_n0 hg hc)
  have h8 : ∀ c ∈ fms t, kd c ≤ 14 := fun c hc => by have := kd_14 ho.n h14 hc; omega
  have h1 : ((dU (sbT g e t)).map (fun r => inc (lf r))).sum ≤ (((dU t).map (sbT g e)).map (fun r => inc (lf r))).sum := sum_sub ((dd_nd _).filter _) (fun s hs => by
    obtain ⟨q1, q2⟩ := List.mem_filter.mp hs
    obtain ⟨q3, q4⟩ := List.mem_filter.mp (dd_mem.mp q1)
    rw [hf, List.flatMap_map, flatMap_c (fun c hc => (iL_sbf hg c (ho.c hc) (h8 c hc)).1), ← List.map_flatMap] at q3
    obtain ⟨r, r1, r2⟩ := List.mem_map.mp q3
    obtain ⟨c, c1, c2⟩ := List.mem_flatMap.mp r1
    obtain ⟨hsub, kr⟩ := (iL_mem c (ho.c c1) r).mp c2
    have os := sub_ok c (ho.c c1) hsub
    have k14 : kd r ≤ 14 := kd_sub14 (ho.c c1) (h8 c c1) hsub
    rw [← r2, (iL_sbf hg r os k14).2] at q4
    rw [← r2, isM_sbf hg os k14 kr] at q2
    exact List.mem_map.mpr ⟨r, List.mem_filter.mpr ⟨dd_mem.mpr (List.mem_filter.mpr ⟨r1, q4⟩), q2⟩, r2⟩)
  have h2 : ((dU t).map (sbT g e)).map (fun r => inc (lf r)) = (dU t).map (fun r => inc (lf r)) := by
    rw [List.map_map]
    refine List.map_congr_left (fun r hr => ?_)
    obtain ⟨⟨c, c1, c2, c3⟩, _⟩ := (dQ_mem ho).mp (List.mem_filter.mp hr).1
    show inc (lf (sbT g e r)) = inc (lf r)
    rw [(iL_sbf hg r (sub_ok c (ho.c c1) c2) (kd_sub14 (ho.c c1) (h8 c c1) c2)).2]
  rw [h2] at h1
  exact h1
/-- inner forms among the forms with two leaves or more, up to L, that put nothing together -/
def uFL (Fo : List Nat) (L : Nat) : List Nat := Fo.filter (fun t => isI t && decide (2 ≤ lf t ∧ lf t ≤ L) && !isM t)
def uSm (inc : Nat → Nat) (Fo : List Nat) (L : Nat) : Nat := ((uFL Fo L).map (fun r => inc (lf r))).sum
def uFq (Fo : List Nat) (L : Nat) : Nat := (uFL Fo L).length
def AtU (Fo : List Nat) (s : Nat) : Prop := 8 ≤ kd s → kd s ≤ 14 → ∀ inc : Nat → Nat, ((dU s).map (fun r => inc (lf r))).sum ≤ uSm inc Fo (lf s)
theorem AtU_hi {Fo : List Nat} {s : Nat} (h : 15 ≤ kd s) : AtU Fo s := fun _ q => by omega
theorem AtU_yes {Fo : List Nat} : AtU Fo yesT := fun _ _ inc => by
  have : dU yesT = [] := by
    unfold dU dQ yesT
    rw [fms_nil]; rfl
  rw [this]; exact Nat.zero_le _
theorem uSm_le {inc : Nat → Nat} {Fo : List Nat} {t L : Nat} : uSm inc Fo L ≤ uSm inc (Fo ++ [t]) L := by
  unfold uSm uFL
  rw [List.filter_append, List.map_append, List.sum_append]
  exact Nat.le_add_right _ _
theorem AtU.mono {Fo : List Nat} {t f : Nat} (h : Alls (AtU Fo) f) : Alls (AtU (Fo ++ [t])) f := fun s hs a b inc => Nat.le_trans (h s hs a b inc) uSm_le
theorem Alls.bindU {Fo : List Nat} {x e f : Nat} (ho : okT f) (h : Alls (AtU Fo) f) : Alls (AtU Fo) (sbT (bindg x) e f) := fun s hs => by
  rcases sub_sb f hs with ⟨c, d', hc, q⟩ | ⟨c, d', hc, hk, q⟩
  · obtain ⟨o, k3, _⟩ := lv_ok f ho c hc
    have k4 := (gLf_bind (x := x) (e := d') c k3 (okT_0 o)).1
    have : s = bindg x d' c ∨ ∃ z ∈ fms (bindg x d' c), subT s z := by rw [subT_eq] at q; exact q
    rcases this with z | ⟨z, hz, _⟩
    · rw [z]; exact fun q => by omega
    · rw [fms_lf (okT_bindg o).n k4] at hz; cases hz
  · have hoc := sub_ok f ho hc
    have k1 := (sb_kd (g := bindg x) (d := d') hk).1
    rw [q]
    intro h8 h14 inc
    rw [k1] at h8 h14
    rw [(iL_sbf gLf_bind c hoc h14).2]
    exact Nat.le_trans (dU_sbf gLf_bind hoc h14 hk inc) (h c hc h8 h14 inc)
theorem KpT.atU {Fo : List Nat} {f : Nat} (ho : okT f) (h14 : kd f ≤ 14) (h : ∀ c ∈ fms f, KpT Fo c) (inc : Nat → Nat) : ((dU f).map (fun r => inc (lf r))).sum ≤ uSm inc Fo (lf f) := sum_sub ((dd_nd _).filter _) (fun s hs => by
  obtain ⟨hs, hm⟩ := List.mem_filter.mp hs
  obtain ⟨⟨c, hc, h1, h2⟩, h3⟩ := (dQ_mem ho).mp hs
  have k8 : kd s ≤ 8 := by
    have k1 := kd_14 ho.n h14 hc
    have h1' := h1
    rw [subT_eq] at h1'
    rcases h1' with q | ⟨z, hz, q⟩
    · rw [q]; exact k1
    · exact kd_sub8 (ho.c hc) k1 hz q
  have := lf_sub f ho (sub_c hc h1)
  refine List.mem_filter.mpr ⟨h c hc s h1 (by omega) k8, ?_⟩
  rw [Bool.and_eq_true]
  exact ⟨by unfold isI; simp; omega, hm⟩)
def KfU (Fo : List Nat) : Prop := ∀ f ∈ Fo, isFo f → Alls (AtU Fo) f
theorem KfU.ap {Fo : List Nat} {t : Nat} (h : KfU Fo) (ht : isFo t → Alls (AtU Fo) t) : KfU (Fo ++ [t]) := fun f hf k => by
  rcases List.mem_append.mp hf with q | q
  · exact AtU.mono (h f q k)
  · rw [List.mem_singleton.mp q] at k ⊢; exact AtU.mono (ht k)
theorem KfU.tm {Fo : List Nat} {t : Nat} (h : KfU Fo) (hk : kd t ≤ 8) : KfU (Fo ++ [t]) := h.ap (fun q => by unfold isFo at q; omega)
theorem KfU.atm {W : Wd} {c : Nat} {Fo : List Nat} {t : Nat} (h : KfU Fo) (hI : KfI W c Fo) (ho : okT t) (hk : 9 ≤ kd t ∧ kd t ≤ 14) (hc : ∀ z ∈ fms t, z ∈ Fo) : KfU (Fo ++ [t]) := by
  have hkp : ∀ z ∈ fms t, KpT Fo z := fun z hz => hI.1 z (hc z hz) (kd_14 ho.n hk.2 hz)
  refine h.ap (fun _ s hs a b inc => ?_)
  rw [subT_eq] at hs
  rcases hs with q | ⟨z, hz, q⟩
  · rw [q]; exact KpT.atU ho hk.2 hkp inc
  · have oz := ho.c hz
    have os := sub_ok z oz q
    have ks := kd_sub14 ho hk.2 (sub_c hz q)
    exact KpT.atU os ks (fun y hy r hr p q' => hkp z hz r (sub_tr z (sub_c hy hr) q) p q') inc
theorem KfU.jn {Fo : List Nat} {k : Int} {x y : Nat} (h : KfU Fo) (hx : x ∈ Fo) (ox : okT x ∧ isFo x) (hy : k ≠ 0 → y ∈ Fo) (oy : k ≠ 0 → okT y ∧ isFo y) : KfU (Fo ++ [jnT k x y]) := h.ap (fun _ => Alls.jn (P := AtU Fo) (fun s q => AtU_hi q) AtU_yes ⟨ox.1, ox.2, h x hx ox.2⟩ (fun q => ⟨(oy q).1, (oy q).2, h y (hy q) (oy q).2⟩))
theorem KfU.bd {W : Wd} {c : Nat} {Fo : List Nat} {o : Int} {x y : Nat} (h : KfU Fo) (hI : KfI W c Fo) (hy : y ∈ Fo) (oy : okT y) (fy : isFo y) (hx : wcT W (wh x) ∈ Fo) (ox : okT (wcT W (wh x))) (x8 : kd (wcT W (wh x)) = 8) (hbo : okT (bdA W o x y)) : KfU (Fo ++ [bdT W o x y]) := by
  have y1 := h y hy fy
  have hP : ∀ s, 15 ≤ kd s → AtU Fo s := fun s q => AtU_hi q
  have a2 : Alls (AtU Fo) (bdF o y) ∧ okT (bdF o y) := by
    unfold bdF
    split
    · exact ⟨y1, oy⟩
    · exact ⟨Alls.not hP oy y1, (okT_not oy fy).1⟩
  have ty : Alls (AtU Fo) (wcT W (wh x)) := fun s hs a b inc => by
    have os := sub_ok _ ox hs
    exact KpT.atU os (kd_sub14 ox (by omega) hs) (fun z hz r hr p q => hI.1 _ hx (by omega) r (sub_tr _ (sub_c hz hr) hs) p q) inc
  have a3 : Alls (AtU Fo) (bdA W o x y) := by
    unfold bdA bdG alT
    split
    · exact Alls.yes AtU_yes
    · refine Alls.mk (AtU_hi (by rw [kd_mk]; decide)) (fun c hc => ?_)
      rcases List.mem_cons.mp hc with q | q
      · rw [q]; exact ty
      · rw [List.mem_singleton.mp q]; exact Alls.bindU a2.2 a2.1
  refine h.ap (fun _ => ?_)
  unfold bdT
  split
  · exact a3
  · exact Alls.not hP hbo a3
/-- the one condition, out of numbers -/
theorem AtE.ofU {M : Nat} {Fo : List Nat} {f : Nat} (ho : okT f) (hQ : Alls (AtU Fo) f) (hF : Alls (AtF Fo) f) (hM : ∀ L, 2 ≤ L → 2 * uFq Fo L + 2 * L + 10 ≤ M * L) : Alls (AtE M (ShF Fo)) f := fun s hs => ⟨fun a b l2 => by
  have h1 := hQ s hs a b (fun _ => 1)
  have e1 : ((dU s).map (fun r => (fun _ => 1) (lf r))).sum = (dU s).length := sum_ones
  have e2 : uSm (fun _ => 1) Fo (lf s) = uFq Fo (lf s) := sum_ones
  rw [e1, e2] at h1
  have h2 := hM (lf s) l2
  have h3 := dQ_dU (sub_ok f ho hs) (by omega : 1 ≤ lf s)
  omega, (hF s hs).2⟩
