/-! types with leaves stand in kept formulas only if one was kept -/
def TyD (Fo : List Nat) (s : Nat) : Prop := kd s = 8 → 1 ≤ lf s → ∃ τ ∈ Fo, kd τ = 8 ∧ 1 ≤ lf τ
theorem TyD_hi {Fo : List Nat} {s : Nat} (h : 9 ≤ kd s) : TyD Fo s := fun q => by omega
theorem TyD_yes {Fo : List Nat} : TyD Fo yesT := TyD_hi (by rw [kd_yes9]; decide)
theorem TyD.mono {Fo : List Nat} {t s : Nat} (h : TyD Fo s) : TyD (Fo ++ [t]) s := fun a b => by
  obtain ⟨τ, h1, h2⟩ := h a b
  exact ⟨τ, List.mem_append_left _ h1, h2⟩
def KfY (Fo : List Nat) : Prop := ∀ f ∈ Fo, isFo f → Alls (TyD Fo) f
theorem KfY.ap {Fo : List Nat} {t : Nat} (h : KfY Fo) (ht : isFo t → Alls (TyD Fo) t) : KfY (Fo ++ [t]) := fun f hf k => by
  rcases List.mem_append.mp hf with q | q
  · exact fun s hs => (h f q k s hs).mono
  · rw [List.mem_singleton.mp q] at k ⊢; exact fun s hs => (ht k s hs).mono
theorem KfY.tm {Fo : List Nat} {t : Nat} (h : KfY Fo) (hk : kd t ≤ 8) : KfY (Fo ++ [t]) := h.ap (fun q => by unfold isFo at q; omega)
theorem KfY.atm {W : Wd} {c : Nat} {Fo : List Nat} {t : Nat} (h : KfY Fo) (hI : KfI W c Fo) (ho : okT t) (hk : 9 ≤ kd t ∧ kd t ≤ 14) (hc : ∀ z ∈ fms t, z ∈ Fo) : KfY (Fo ++ [t]) := by
  have hkp : ∀ z ∈ fms t, KpT Fo z := fun z hz => hI.1 z (hc z hz) (kd_14 ho.n hk.2 hz)
  refine h.ap (fun _ s hs k8 l1 => ?_)
  rw [subT_eq] at hs
  rcases hs with q | ⟨z, hz, q⟩
  · rw [q] at k8; omega
  · exact ⟨s, hkp z hz s q (by omega) (by omega), k8, l1⟩
theorem KfY.jn {Fo : List Nat} {k : Int} {x y : Nat} (h : KfY Fo) (hx : x ∈ Fo) (ox : okT x ∧ isFo x) (hy : k ≠ 0 → y ∈ Fo) (oy : k ≠ 0 → okT y ∧ isFo y) : KfY (Fo ++ [jnT k x y]) := h.ap (fun _ => Alls.jn (P := TyD Fo) (fun s q => TyD_hi (by omega)) TyD_yes ⟨ox.1, ox.2, h x hx ox.2⟩ (fun q => ⟨(oy q).1, (oy q).2, h y (hy q) (oy q).2⟩))
theorem TyD.sb {Fo : List Nat} {x e f : Nat} (ho : okT f) (h : Alls (TyD Fo) f) : Alls (TyD Fo) (sbT (bindg x) e f) := fun s hs => by
  rcases sub_sb f hs with ⟨c, d', hc, q⟩ | ⟨c, d', hc, hk, q⟩
  · obtain ⟨o, k3, _⟩ := lv_ok f ho c hc
    have k4 := (gLf_bind (x := x) (e := d') c k3 (okT_0 o)).1
    have : s = bindg x d' c ∨ ∃ z ∈ fms (bindg x d' c), subT s z := by rw [subT_eq] at q; exact q
    rcases this with z | ⟨z, hz, _⟩
    · rw [z]; exact fun q => by omega
    · rw [fms_lf (okT_bindg o).n k4] at hz; cases hz
  · have hoc := sub_ok f ho hc
    have k1 := (sb_kd (g := bindg x) (d := d') hk).1
    rw [q]
    intro k8 l1
    rw [k1] at k8
    rw [(iL_sbf gLf_bind c hoc (by omega)).2] at l1
    exact h c hc k8 l1
theorem KfY.bd {W : Wd} {c : Nat} {Fo : List Nat} {o : Int} {x y : Nat} (h : KfY Fo) (hI : KfI W c Fo) (hy : y ∈ Fo) (oy : okT y) (fy : isFo y) (hx : wcT W (wh x) ∈ Fo) (ox : okT (wcT W (wh x))) (x8 : kd (wcT W (wh x)) = 8) (hbo : okT (bdA W o x y)) : KfY (Fo ++ [bdT W o x y]) := by
  have y1 := h y hy fy
  have hP : ∀ s, 15 ≤ kd s → TyD Fo s := fun s q => TyD_hi (by omega)
  have a2 : Alls (TyD Fo) (bdF o y) ∧ okT (bdF o y) := by
    unfold bdF
    split
    · exact ⟨y1, oy⟩
    · exact ⟨Alls.not hP oy y1, (okT_not oy fy).1⟩
  have ty : Alls (TyD Fo) (wcT W (wh x)) := fun s hs k8 l1 => ⟨s, hI.1 _ hx (by omega) s hs (by omega) (by omega), k8, l1⟩
  have a3 : Alls (TyD Fo) (bdA W o x y) := by
    unfold bdA bdG alT
    split
    · exact Alls.yes TyD_yes
    · refine Alls.mk (TyD_hi (by rw [kd_mk]; decide)) (fun c hc => ?_)
      rcases List.mem_cons.mp hc with q | q
      · rw [q]; exact ty
      · rw [List.mem_singleton.mp q]; exact TyD.sb a2.2 a2.1
  refine h.ap (fun _ => ?_)
  unfold bdT
  split
  · exact a3
  · exact Alls.not hP hbo a3
/-- all that every call keeps -/
def KvP (W : Wd) (c : Nat) (Fo Pr : List Nat) (Kb : Nat) : Prop := KvN W c Fo Pr Kb ∧ KfY Fo
theorem KvP.tm {W : Wd} {c Kb : Nat} {Fo Pr : List Nat} {t : Nat} (h : KvP W c Fo Pr Kb) (hf : fW W (Nm nu2 c) t) (hk : kd t ≤ 8) (hc : ∀ z ∈ fms t, z ∈ Fo) (hz : okKp t) : KvP W c (Fo ++ [t]) Pr Kb := ⟨h.1.tm hf hk hc hz, h.2.tm hk⟩
theorem KvP.atm {W : Wd} {c Kb : Nat} {Fo Pr : List Nat} {t : Nat} (h : KvP W c Fo Pr Kb) (hf : fW W (Nm nu2 c) t) (hk : 9 ≤ kd t ∧ kd t ≤ 14) (hc : ∀ z ∈ fms t, z ∈ Fo) (hz : okKp t) : KvP W c (Fo ++ [t]) Pr Kb := ⟨h.1.atm hf hk hc hz, h.2.atm h.1.1.1.1.1.1.2.1 hf.1.1 hk hc⟩
theorem KvP.jn {W : Wd} {c Kb : Nat} {Fo Pr : List Nat} {k f g : Int} (h : KvP W c Fo Pr Kb) (ho : okJn Fo k f g) (hz : okKp (jnT k (frm Fo f) (frm Fo g))) : KvP W c (Fo ++ [jnT k (frm Fo f) (frm Fo g)]) Pr Kb := by
  have h1 := h.1.jn ho hz
  obtain ⟨_, sf, _, sg⟩ := ho
  have hx := h.1.1.1.1.1.1.fF sf
  have hy := fun q => h.1.1.1.1.1.1.fF (sg q)
  exact ⟨h1, h.2.jn sf.mem ⟨hx.1.1.1.1, hx.1.2⟩ (fun q => (sg q).mem) (fun q => ⟨(hy q).1.1.1.1, (hy q).1.2⟩)⟩
theorem KvP.bd {W : Wd} {c Kb : Nat} {Fo Pr : List Nat} {o a f : Int} (h : KvP W c Fo Pr Kb) (ho : okBd Fo a f) (hz : okKp (bdT W o (frm Fo a) (frm Fo f))) : KvP W c (Fo ++ [bdT W o (frm Fo a) (frm Fo f)]) Pr (Kb + bdw o (frm Fo a) (frm Fo f)) := by
  have h1 := h.1.bd ho hz
  obtain ⟨⟨sa, ka⟩, sf⟩ := ho
  obtain ⟨hy, zy⟩ := h.1.1.1.1.1.1.fF sf
  have hn : Nm nu2 c (wh (frm Fo a)) := (h.1.1.1.1.1.1.1.2.1 _ sa.mem).1.1.lc.1 ka
  have ct := h.1.1.1.1.1.1.1.1.1.2.2.2 _ hn
  have zt := h.1.1.1.1.1.1.1.2.2.2.1 _ hn
  obtain ⟨⟨b1, _⟩, b2, _⟩ := fF_bd (o := o) (x := frm Fo a) hy zy ct zt
  have tk := h.1.1.1.1.1.1.2.1.2.2 _ hn
  exact ⟨h1, h.2.bd h.1.1.1.1.1.1.2.1 sf.mem hy.1.1.1 hy.2 tk ct.1.1 ct.2.1 b1.1.1.1⟩
theorem KvP.cn {W : Wd} {c Kb : Nat} {Fo Pr : List Nat} {a : Int} (h : KvP W c Fo Pr Kb) (hk : okCn Fo a) : KvP (wCn W c (frm Fo a)) (c + 1) (Fo ++ [mk 1 (2 * c) []]) Pr Kb := ⟨h.1.cn hk, h.2.tm (by rw [kd_mk]; decide)⟩
/-- without such types only leaves speak of binders -/
theorem KvP.tz {W : Wd} {c Kb : Nat} {Fo Pr : List Nat} (h : KvP W c Fo Pr Kb) (h0 : ∀ τ ∈ Fo, kd τ = 8 → lf τ = 0) {f : Nat} (hf : f ∈ Fo) (ff : isFo f) : Alls TyZ f := fun s hs k8 => by
  rcases Nat.eq_zero_or_pos (lf s) with q | q
  · exact q
  · obtain ⟨τ, t1, t2, t3⟩ := h.2 f hf ff s hs k8 q
    have := h0 τ t1 t2
    omega
