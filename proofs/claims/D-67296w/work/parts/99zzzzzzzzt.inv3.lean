/-! kept formulas: forms with more than so many leaves, for any number -/
theorem dm_nd (τ t : Nat) : (dmL τ t).Nodup := List.Pairwise.filter _ (dP_nd t)
theorem dm_mem {τ t s : Nat} (ho : okT t) : s ∈ dmL τ t ↔ (∃ c ∈ fms t, subT s c ∧ ¬ kd s ≤ 3) ∧ τ < lf s := by
  unfold dmL
  rw [List.mem_filter, dP_mem ho]
  simp
theorem dm_sbf {τ : Nat} {g : Nat → Nat → Nat} {e t : Nat} (hg : gLf g e) (ho : okT t) (h14 : kd t ≤ 14) (hk : ¬ kd t ≤ 3) (hos : okT (sbT g e t)) : (dmL τ (sbT g e t)).length ≤ (dmL τ t).length := by
  have h : (dmL τ (sbT g e t)).length ≤ ((dmL τ t).map (sbT g e)).length := nd_lenL _ _ (dm_nd _ _) (fun s hs => by
    obtain ⟨⟨c', hc', h1, h2⟩, h3⟩ := (dm_mem hos).mp hs
    rw [fms_sbf (g := g) (e := e) hk (by omega) (fun c _ hc _ => sb_n0 hg hc)] at hc'
    obtain ⟨c, hc, e1⟩ := List.mem_map.mp hc'
    have oc := ho.c hc
    have hin : s ∈ iL (sbT g e c) := by
      rw [← e1] at h1
      exact (iL_mem _ (by rw [e1]; exact hos.c (by rw [fms_sbf (g := g) (e := e) hk (by omega) (fun c _ hc _ => sb_n0 hg hc)]; exact hc')) s).mpr ⟨h1, h2⟩
    rw [(iL_sbf hg c oc (by have := kd_14 ho.n h14 hc; omega)).1] at hin
    obtain ⟨q, hq, e2⟩ := List.mem_map.mp hin
    obtain ⟨q1, q2⟩ := (iL_mem c oc q).mp hq
    have oq := sub_ok c oc q1
    have kq := kd_sub14 ho h14 (sub_c hc q1)
    refine List.mem_map.mpr ⟨q, (dm_mem ho).mpr ⟨⟨c, hc, q1, q2⟩, ?_⟩, e2⟩
    rw [← (iL_sbf hg q oq kq).2, e2]
    exact h3)
  rwa [List.length_map] at h
def AtM (τ m : Nat) (s : Nat) : Prop := 8 ≤ kd s → kd s ≤ 14 → (dmL τ s).length ≤ m
theorem AtM_hi {τ m s : Nat} (h : 15 ≤ kd s) : AtM τ m s := fun _ q => by omega
theorem AtM_yes {τ m : Nat} : AtM τ m yesT := fun _ _ => by
  have : dmL τ yesT = [] := by
    unfold dmL dP yesT
    rw [fms_nil]; rfl
  rw [this]; exact Nat.zero_le _
theorem AtM.mono {τ m m' f : Nat} (h : Alls (AtM τ m) f) (hm : m ≤ m') : Alls (AtM τ m') f := fun s hs a b => Nat.le_trans (h s hs a b) hm
theorem Alls.bindM {τ m x e f : Nat} (ho : okT f) (h : Alls (AtM τ m) f) : Alls (AtM τ m) (sbT (bindg x) e f) := fun s hs => by
  rcases sub_sb f hs with ⟨c, d', hc, q⟩ | ⟨c, d', hc, hk, q⟩
  · obtain ⟨o, k3, _⟩ := lv_ok f ho c hc
    have k4 := (gLf_bind (x := x) (e := d') c k3 (okT_0 o)).1
    have : s = bindg x d' c ∨ ∃ z ∈ fms (bindg x d' c), subT s z := by rw [subT_eq] at q; exact q
    rcases this with z | ⟨z, hz, _⟩
    · rw [z]; exact fun q => by omega
    · rw [fms_lf (okT_bindg o).n k4] at hz; cases hz
  · have hoc := sub_ok f ho hc
    have k1 := (sb_kd (g := bindg x) (d := d') hk).1
    rw [q]
    intro h8 h14
    rw [k1] at h8 h14
    have hos : okT (sbT (bindg x) d' c) := okT_sb c hoc (fun l hl d => gOn_bindg ho l (lv_in f ho hc hl) d) d'
    exact Nat.le_trans (dm_sbf gLf_bind hoc h14 hk hos) (h c hc h8 h14)
/-- forms with more than τ leaves among the forms -/
def nFm (τ : Nat) (Fo : List Nat) : Nat := (Fo.filter (fun t => isI t && decide (τ < lf t))).length
theorem KpT.atM {τ : Nat} {Fo : List Nat} {f : Nat} (ho : okT f) (h14 : kd f ≤ 14) (h : ∀ c ∈ fms f, KpT Fo c) : (dmL τ f).length ≤ nFm τ Fo := nd_lenL _ _ (dm_nd _ _) (fun s hs => by
  obtain ⟨⟨c, hc, h1, h2⟩, h3⟩ := (dm_mem ho).mp hs
  have k8 : kd s ≤ 8 := by
    have k1 := kd_14 ho.n h14 hc
    have h1' := h1
    rw [subT_eq] at h1'
    rcases h1' with q | ⟨z, hz, q⟩
    · rw [q]; exact k1
    · exact kd_sub8 (ho.c hc) k1 hz q
  exact List.mem_filter.mpr ⟨h c hc s h1 (by omega) k8, by unfold isI; simp; omega⟩)
theorem nFm_le {τ : Nat} {Fo : List Nat} {t : Nat} : nFm τ Fo ≤ nFm τ (Fo ++ [t]) := by
  unfold nFm
  rw [List.filter_append, List.length_append]
  exact Nat.le_add_right _ _
/-- atoms and types of kept formulas have few inner forms with more than τ leaves -/
def KfM (τ : Nat) (Fo : List Nat) : Prop := ∀ f ∈ Fo, isFo f → Alls (AtM τ (nFm τ Fo)) f
theorem KfM.ap {τ : Nat} {Fo : List Nat} {t : Nat} (h : KfM τ Fo) (ht : isFo t → Alls (AtM τ (nFm τ Fo)) t) : KfM τ (Fo ++ [t]) := fun f hf k => by
  rcases List.mem_append.mp hf with q | q
  · exact AtM.mono (h f q k) nFm_le
  · rw [List.mem_singleton.mp q] at k ⊢; exact AtM.mono (ht k) nFm_le
theorem KfM.tm {τ : Nat} {Fo : List Nat} {t : Nat} (h : KfM τ Fo) (hk : kd t ≤ 8) : KfM τ (Fo ++ [t]) := h.ap (fun q => by unfold isFo at q; omega)
theorem KfM.atm {τ : Nat} {W : Wd} {c : Nat} {Fo : List Nat} {t : Nat} (h : KfM τ Fo) (hI : KfI W c Fo) (ho : okT t) (hk : 9 ≤ kd t ∧ kd t ≤ 14) (hc : ∀ z ∈ fms t, z ∈ Fo) : KfM τ (Fo ++ [t]) := by
  have hkp : ∀ z ∈ fms t, KpT Fo z := fun z hz => hI.1 z (hc z hz) (kd_14 ho.n hk.2 hz)
  refine h.ap (fun _ s hs a b => ?_)
  rw [subT_eq] at hs
  rcases hs with q | ⟨z, hz, q⟩
  · rw [q]; exact KpT.atM ho hk.2 hkp
  · have oz := ho.c hz
    have os := sub_ok z oz q
    have ks := kd_sub14 ho hk.2 (sub_c hz q)
    exact KpT.atM os ks (fun y hy r hr p q' => hkp z hz r (sub_tr z (sub_c hy hr) q) p q')
theorem KfM.jn {τ : Nat} {Fo : List Nat} {k : Int} {x y : Nat} (h : KfM τ Fo) (hx : x ∈ Fo) (ox : okT x ∧ isFo x) (hy : k ≠ 0 → y ∈ Fo) (oy : k ≠ 0 → okT y ∧ isFo y) : KfM τ (Fo ++ [jnT k x y]) := h.ap (fun _ => Alls.jn (P := AtM τ (nFm τ Fo)) (fun s q => AtM_hi q) AtM_yes ⟨ox.1, ox.2, h x hx ox.2⟩ (fun q => ⟨(oy q).1, (oy q).2, h y (hy q) (oy q).2⟩))
theorem KfM.bd {τ : Nat} {W : Wd} {c : Nat} {Fo : List Nat} {o : Int} {x y : Nat} (h : KfM τ Fo) (hI : KfI W c Fo) (hy : y ∈ Fo) (oy : okT y) (fy : isFo y) (hx : wcT W (wh x) ∈ Fo) (ox : okT (wcT W (wh x))) (x8 : kd (wcT W (wh x)) = 8) (hbo : okT (bdA W o x y)) : KfM τ (Fo ++ [bdT W o x y]) := by
  have y1 := h y hy fy
  have hP : ∀ s, 15 ≤ kd s → AtM τ (nFm τ Fo) s := fun s q => AtM_hi q
  have a2 : Alls (AtM τ (nFm τ Fo)) (bdF o y) ∧ okT (bdF o y) := by
    unfold bdF
    split
    · exact ⟨y1, oy⟩
    · exact ⟨Alls.not hP oy y1, (okT_not oy fy).1⟩
  have ty : Alls (AtM τ (nFm τ Fo)) (wcT W (wh x)) := fun s hs a b => by
    have os := sub_ok _ ox hs
    exact KpT.atM os (kd_sub14 ox (by omega) hs) (fun z hz r hr p q => hI.1 _ hx (by omega) r (sub_tr _ (sub_c hz hr) hs) p q)
  have a3 : Alls (AtM τ (nFm τ Fo)) (bdA W o x y) := by
    unfold bdA bdG alT
    split
    · exact Alls.yes AtM_yes
    · refine Alls.mk (AtM_hi (by rw [kd_mk]; decide)) (fun c hc => ?_)
      rcases List.mem_cons.mp hc with q | q
      · rw [q]; exact ty
      · rw [List.mem_singleton.mp q]; exact Alls.bindM a2.2 a2.1
  refine h.ap (fun _ => ?_)
  unfold bdT
  split
  · exact a3
  · exact Alls.not hP hbo a3
