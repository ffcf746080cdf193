/-! kept formulas: inner forms of an atom, by its leaves -/
/-- inner forms among the forms with two leaves or more, up to L -/
def nFq (Fo : List Nat) (L : Nat) : Nat := (Fo.filter (fun t => isI t && decide (2 ≤ lf t ∧ lf t ≤ L))).length
def AtQ (Fo : List Nat) (s : Nat) : Prop := 8 ≤ kd s → kd s ≤ 14 → (dQ s).length ≤ nFq Fo (lf s)
theorem AtQ_hi {Fo : List Nat} {s : Nat} (h : 15 ≤ kd s) : AtQ Fo s := fun _ q => by omega
theorem AtQ_yes {Fo : List Nat} : AtQ Fo yesT := fun _ _ => by
  have : dQ yesT = [] := by
    unfold dQ yesT
    rw [fms_nil]; rfl
  rw [this]; exact Nat.zero_le _
theorem nFq_le {Fo : List Nat} {t L : Nat} : nFq Fo L ≤ nFq (Fo ++ [t]) L := by
  unfold nFq
  rw [List.filter_append, List.length_append]
  exact Nat.le_add_right _ _
theorem AtQ.mono {Fo : List Nat} {t f : Nat} (h : Alls (AtQ Fo) f) : Alls (AtQ (Fo ++ [t])) f := fun s hs a b => Nat.le_trans (h s hs a b) nFq_le
theorem Alls.bindQ {Fo : List Nat} {x e f : Nat} (ho : okT f) (h : Alls (AtQ Fo) f) : Alls (AtQ Fo) (sbT (bindg x) e f) := fun s hs => by
  rcases sub_sb f hs with ⟨c, d', hc, q⟩ | ⟨c, d', hc, hk, q⟩
  · obtain ⟨o, k3, _⟩ := lv_ok f ho c hc
    have k4 := (gLf_bind (x := x) (e := d') c k3 (okT_0 o)).1
    have : s = bindg x d' c ∨ ∃ z ∈ fms (bindg x d' c), subT s z := by rw [subT_eq] at q; exact q
    rcases this with z | ⟨z, hz, _⟩
    · rw [z]; exact fun q => by omega
    · rw [fms_lf (okT_bindg o).n k4] at hz; cases hz
  · have hoc := sub_ok f ho hc
    have k1 := (sb_kd (g := bindg x) (d := d') hk).1
    rw [q]
    intro h8 h14
    rw [k1] at h8 h14
    rw [(iL_sbf gLf_bind c hoc h14).2]
    exact Nat.le_trans (dQ_sbf gLf_bind hoc h14 hk) (h c hc h8 h14)
theorem KpT.atQ {Fo : List Nat} {f : Nat} (ho : okT f) (h14 : kd f ≤ 14) (h : ∀ c ∈ fms f, KpT Fo c) : (dQ f).length ≤ nFq Fo (lf f) := nd_lenL _ _ (dd_nd _) (fun s hs => by
  obtain ⟨⟨c, hc, h1, h2⟩, h3⟩ := (dQ_mem ho).mp hs
  have k8 : kd s ≤ 8 := by
    have k1 := kd_14 ho.n h14 hc
    have h1' := h1
    rw [subT_eq] at h1'
    rcases h1' with q | ⟨z, hz, q⟩
    · rw [q]; exact k1
    · exact kd_sub8 (ho.c hc) k1 hz q
  have := lf_sub f ho (sub_c hc h1)
  exact List.mem_filter.mpr ⟨h c hc s h1 (by omega) k8, by unfold isI; simp; omega⟩)
def KfQ (Fo : List Nat) : Prop := ∀ f ∈ Fo, isFo f → Alls (AtQ Fo) f
theorem KfQ.ap {Fo : List Nat} {t : Nat} (h : KfQ Fo) (ht : isFo t → Alls (AtQ Fo) t) : KfQ (Fo ++ [t]) := fun f hf k => by
  rcases List.mem_append.mp hf with q | q
  · exact AtQ.mono (h f q k)
  · rw [List.mem_singleton.mp q] at k ⊢; exact AtQ.mono (ht k)
theorem KfQ.tm {Fo : List Nat} {t : Nat} (h : KfQ Fo) (hk : kd t ≤ 8) : KfQ (Fo ++ [t]) := h.ap (fun q => by unfold isFo at q; omega)
theorem KfQ.atm {W : Wd} {c : Nat} {Fo : List Nat} {t : Nat} (h : KfQ Fo) (hI : KfI W c Fo) (ho : okT t) (hk : 9 ≤ kd t ∧ kd t ≤ 14) (hc : ∀ z ∈ fms t, z ∈ Fo) : KfQ (Fo ++ [t]) := by
  have hkp : ∀ z ∈ fms t, KpT Fo z := fun z hz => hI.1 z (hc z hz) (kd_14 ho.n hk.2 hz)
  refine h.ap (fun _ s hs a b => ?_)
  rw [subT_eq] at hs
  rcases hs with q | ⟨z, hz, q⟩
  · rw [q]; exact KpT.atQ ho hk.2 hkp
  · have oz := ho.c hz
    have os := sub_ok z oz q
    have ks := kd_sub14 ho hk.2 (sub_c hz q)
    exact KpT.atQ os ks (fun y hy r hr p q' => hkp z hz r (sub_tr z (sub_c hy hr) q) p q')
theorem KfQ.jn {Fo : List Nat} {k : Int} {x y : Nat} (h : KfQ Fo) (hx : x ∈ Fo) (ox : okT x ∧ isFo x) (hy : k ≠ 0 → y ∈ Fo) (oy : k ≠ 0 → okT y ∧ isFo y) : KfQ (Fo ++ [jnT k x y]) := h.ap (fun _ => Alls.jn (P := AtQ Fo) (fun s q => AtQ_hi q) AtQ_yes ⟨ox.1, ox.2, h x hx ox.2⟩ (fun q => ⟨(oy q).1, (oy q).2, h y (hy q) (oy q).2⟩))
theorem KfQ.bd {W : Wd} {c : Nat} {Fo : List Nat} {o : Int} {x y : Nat} (h : KfQ Fo) (hI : KfI W c Fo) (hy : y ∈ Fo) (oy : okT y) (fy : isFo y) (hx : wcT W (wh x) ∈ Fo) (ox : okT (wcT W (wh x))) (x8 : kd (wcT W (wh x)) = 8) (hbo : okT (bdA W o x y)) : KfQ (Fo ++ [bdT W o x y]) := by
  have y1 := h y hy fy
  have hP : ∀ s, 15 ≤ kd s → AtQ Fo s := fun s q => AtQ_hi q
  have a2 : Alls (AtQ Fo) (bdF o y) ∧ okT (bdF o y) := by
    unfold bdF
    split
    · exact ⟨y1, oy⟩
    · exact ⟨Alls.not hP oy y1, (okT_not oy fy).1⟩
  have ty : Alls (AtQ Fo) (wcT W (wh x)) := fun s hs a b => by
    have os := sub_ok _ ox hs
    exact KpT.atQ os (kd_sub14 ox (by omega) hs) (fun z hz r hr p q => hI.1 _ hx (by omega) r (sub_tr _ (sub_c hz hr) hs) p q)
  have a3 : Alls (AtQ Fo) (bdA W o x y) := by
    unfold bdA bdG alT
    split
    · exact Alls.yes AtQ_yes
    · refine Alls.mk (AtQ_hi (by rw [kd_mk]; decide)) (fun c hc => ?_)
      rcases List.mem_cons.mp hc with q | q
      · rw [q]; exact ty
      · rw [List.mem_singleton.mp q]; exact Alls.bindQ a2.2 a2.1
  refine h.ap (fun _ => ?_)
  unfold bdT
  split
  · exact a3
  · exact Alls.not hP hbo a3
/-- the one condition, out of numbers -/
theorem AtE.of {W : Wd} {c M : Nat} {Fo : List Nat} {f : Nat} (hQ : Alls (AtQ Fo) f) (hF : Alls (AtF Fo) f) (hM : ∀ L, 2 ≤ L → 2 * nFq Fo L + 12 ≤ M * L) : Alls (AtE M (ShF Fo)) f := fun s hs => ⟨fun a b l2 => by
  have := hQ s hs a b
  have := hM (lf s) l2
  omega, (hF s hs).2⟩
