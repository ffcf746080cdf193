/-! what every call keeps: all of it -/
theorem KpT.at4 {Fo : List Nat} {f : Nat} (ho : okT f) (h14 : kd f ≤ 14) (h : ∀ c ∈ fms f, KpT Fo c) : (d4L f).length ≤ nF4 Fo := nd_lenL _ _ (d4_nd _) (fun s hs => by
  obtain ⟨⟨c, hc, h1, h2⟩, h3⟩ := (d4_mem ho).mp hs
  have k8 : kd s ≤ 8 := by
    have k1 := kd_14 ho.n h14 hc
    have h1' := h1
    rw [subT_eq] at h1'
    rcases h1' with q | ⟨z, hz, q⟩
    · rw [q]; exact k1
    · exact kd_sub8 (ho.c hc) k1 hz q
  exact List.mem_filter.mpr ⟨h c hc s h1 (by omega) k8, by unfold isI; simp; omega⟩)
theorem KfJ.tm {Fo : List Nat} {t : Nat} (h : KfJ Fo) (hk : kd t ≤ 8) : KfJ (Fo ++ [t]) := h.ap (fun q => by unfold isFo at q; omega)
theorem KfJ.atm {W : Wd} {c : Nat} {Fo : List Nat} {t : Nat} (h : KfJ Fo) (hI : KfI W c Fo) (ho : okT t) (hk : 9 ≤ kd t ∧ kd t ≤ 14) (hc : ∀ z ∈ fms t, z ∈ Fo) : KfJ (Fo ++ [t]) := by
  have hkp : ∀ z ∈ fms t, KpT Fo z := fun z hz => hI.1 z (hc z hz) (kd_14 ho.n hk.2 hz)
  refine h.ap (fun _ => ⟨At4.mono (m := nF4 Fo) (fun s hs a b => ?_) nFj_le.1, fun q => by omega⟩)
  rw [subT_eq] at hs
  rcases hs with q | ⟨z, hz, q⟩
  · rw [q]; exact KpT.at4 ho hk.2 hkp
  · have oz := ho.c hz
    have os := sub_ok z oz q
    have ks := kd_sub14 ho hk.2 (sub_c hz q)
    exact KpT.at4 os ks (fun y hy r hr p q' => hkp z hz r (sub_tr z (sub_c hy hr) q) p q')
theorem KfJ.jn {Fo : List Nat} {k : Int} {x y : Nat} (h : KfJ Fo) (hx : x ∈ Fo) (ox : okT x ∧ isFo x) (hy : k ≠ 0 → y ∈ Fo) (oy : k ≠ 0 → okT y ∧ isFo y) : KfJ (Fo ++ [jnT k x y]) := by
  obtain ⟨x1, x2⟩ := h x hx ox.2
  refine h.ap (fun _ => ⟨At4.mono (Alls.jn (P := At4 (nF4 Fo)) (fun s q => At4_hi q) At4_yes ⟨ox.1, ox.2, x1⟩ (fun q => ⟨(oy q).1, (oy q).2, (h y (hy q) (oy q).2).1⟩)) nFj_le.1, fun _ => hg_jn ox oy x2 (fun q => (h y (hy q) (oy q).2).2)⟩)
theorem KfJ.bd {W : Wd} {c : Nat} {Fo : List Nat} {o : Int} {x y : Nat} (h : KfJ Fo) (hI : KfI W c Fo) (hy : y ∈ Fo) (oy : okT y) (fy : isFo y) (hx : wcT W (wh x) ∈ Fo) (ox : okT (wcT W (wh x))) (x8 : kd (wcT W (wh x)) = 8) (hbo : okT (bdA W o x y)) : KfJ (Fo ++ [bdT W o x y]) := by
  obtain ⟨y1, y2⟩ := h y hy fy
  have hP : ∀ s, 15 ≤ kd s → At4 (nF4 Fo) s := fun s q => At4_hi q
  have a2 : Alls (At4 (nF4 Fo)) (bdF o y) ∧ okT (bdF o y) := by
    unfold bdF
    split
    · exact ⟨y1, oy⟩
    · exact ⟨Alls.not hP oy y1, (okT_not oy fy).1⟩
  have ty : Alls (At4 (nF4 Fo)) (wcT W (wh x)) := fun s hs a b => by
    have os := sub_ok _ ox hs
    exact KpT.at4 os (kd_sub14 ox (by omega) hs) (fun z hz r hr p q => hI.1 _ hx (by omega) r (sub_tr _ (sub_c hz hr) hs) p q)
  have a3 : Alls (At4 (nF4 Fo)) (bdA W o x y) := Alls.al4 ty (Alls.bind4 a2.2 a2.1)
  refine h.ap (fun _ => ⟨At4.mono ?_ nFj_le.1, fun _ => by have := hg_bd (o := o) oy fy y2 x8 hbo; omega⟩)
  unfold bdT
  split
  · exact a3
  · exact Alls.not hP hbo a3
/-- all that a call keeps -/
def KvI (W : Wd) (c : Nat) (Fo Pr : List Nat) : Prop := AbI W c Fo Pr ∧ KfI W c Fo ∧ KfJ Fo
theorem KvI.tm {W : Wd} {c : Nat} {Fo Pr : List Nat} {t : Nat} (h : KvI W c Fo Pr) (hf : fW W (Nm nu2 c) t) (hk : kd t ≤ 8) (hc : ∀ z ∈ fms t, z ∈ Fo) (hz : okKp t) : KvI W c (Fo ++ [t]) Pr := ⟨h.1.ad hf hz, h.2.1.tm hf.1.1 hk hc, h.2.2.tm hk⟩
theorem KvI.atm {W : Wd} {c : Nat} {Fo Pr : List Nat} {t : Nat} (h : KvI W c Fo Pr) (hf : fW W (Nm nu2 c) t) (hk : 9 ≤ kd t ∧ kd t ≤ 14) (hc : ∀ z ∈ fms t, z ∈ Fo) (hz : okKp t) : KvI W c (Fo ++ [t]) Pr := ⟨h.1.ad hf hz, h.2.1.atm hf.1.1 hk hc, h.2.2.atm h.2.1 hf.1.1 hk hc⟩
theorem KvI.fF {W : Wd} {c : Nat} {Fo Pr : List Nat} (h : KvI W c Fo Pr) {a : Int} (hS : isS Fo 2 a) : fF W (Nm nu2 c) (frm Fo a) ∧ szT (frm Fo a) ≤ 200 := ⟨⟨(h.1.2.1 _ hS.mem).1, hS.fo⟩, (h.1.2.1 _ hS.mem).2⟩
theorem KvI.jn {W : Wd} {c : Nat} {Fo Pr : List Nat} {k f g : Int} (h : KvI W c Fo Pr) (ho : okJn Fo k f g) (hz : okKp (jnT k (frm Fo f) (frm Fo g))) : KvI W c (Fo ++ [jnT k (frm Fo f) (frm Fo g)]) Pr := by
  obtain ⟨_, sf, _, sg⟩ := ho
  have hx := h.fF sf
  have hy := fun q => h.fF (sg q)
  have hj := (fF_jn (k := k) hx.1 (fun q => (hy q).1) hx.2 (fun q => (hy q).2)).1
  have ox : okT (frm Fo f) ∧ isFo (frm Fo f) := ⟨hx.1.1.1.1, hx.1.2⟩
  have oy : k ≠ 0 → okT (frm Fo g) ∧ isFo (frm Fo g) := fun q => ⟨(hy q).1.1.1.1, (hy q).1.2⟩
  refine ⟨h.1.ad hj.1 hz, h.2.1.fo hj.2 ?_, h.2.2.jn sf.mem ox (fun q => (sg q).mem) oy⟩
  exact Alls.jn (P := AtF Fo) (fun s q => AtP_hi q) AtP_yes ⟨ox.1, ox.2, h.2.1.2.1 _ sf.mem ox.2⟩ (fun q => ⟨(oy q).1, (oy q).2, h.2.1.2.1 _ (sg q).mem (oy q).2⟩)
theorem KvI.bd {W : Wd} {c : Nat} {Fo Pr : List Nat} {o a f : Int} (h : KvI W c Fo Pr) (ho : okBd Fo a f) (hz : okKp (bdT W o (frm Fo a) (frm Fo f))) : KvI W c (Fo ++ [bdT W o (frm Fo a) (frm Fo f)]) Pr := by
  obtain ⟨⟨sa, ka⟩, sf⟩ := ho
  obtain ⟨hy, zy⟩ := h.fF sf
  have hn : Nm nu2 c (wh (frm Fo a)) := (h.1.2.1 _ sa.mem).1.1.lc.1 ka
  have ct := h.1.1.1.2.2.2 _ hn
  have zt := h.1.2.2.2.1 _ hn
  obtain ⟨⟨b1, _⟩, b2, _⟩ := fF_bd (o := o) (x := frm Fo a) hy zy ct zt
  have tk := h.2.1.2.2 _ hn
  exact ⟨h.1.ad b2.1 hz, h.2.1.fo b2.2 (h.2.1.bd sf.mem hy.1.1.1 hy.2 tk ct.1.1 ct.2.1 b1.1.1.1), h.2.2.bd h.2.1 sf.mem hy.1.1.1 hy.2 tk ct.1.1 ct.2.1 b1.1.1.1⟩
theorem KvI.cn {W : Wd} {c : Nat} {Fo Pr : List Nat} {a : Int} (h : KvI W c Fo Pr) (hk : okCn Fo a) : KvI (wCn W c (frm Fo a)) (c + 1) (Fo ++ [mk 1 (2 * c) []]) Pr := ⟨h.1.cn hk, h.2.1.cn hk.1.mem, h.2.2.tm (by rw [kd_mk]; decide)⟩
theorem KvI.loc {W : Wd} {c : Nat} {Fo Pr : List Nat} {i : Nat} (h : KvI W c Fo Pr) (hi : i < 2) (hz : okKp (mk 3 i [])) : KvI W c (Fo ++ [mk 3 i []]) Pr := h.tm (fW_loc hi) (by rw [kd_mk]; decide) (fun z hz => by rw [fms_nil] at hz; cases hz) hz
theorem KvI.the {W : Wd} {c : Nat} {Fo Pr : List Nat} {a : Int} (h : KvI W c Fo Pr) (hS : isS Fo 1 a) (hz : okKp (mk 5 0 [frm Fo a])) : KvI W c (Fo ++ [mk 5 0 [frm Fo a]]) Pr := h.tm (fW_the (h.1.2.1 _ hS.mem).1 hS.k8) (by rw [kd_mk]; decide) (fun z hz => by
  have := (fms_ps hz).1
  rw [ps_mk, List.mem_singleton] at this
  rw [this]; exact hS.mem) hz
theorem arg_mem {Fo : List Nat} {cl : Prop} {m : Nat} {s t : Int} (h : okA Fo cl m s t) {z : Nat} (hz : z ∈ argA Fo m s t) : z ∈ Fo := by
  unfold argA at hz
  split at hz
  · cases hz
  · split at hz
    · rw [List.mem_singleton.mp hz]
      exact (h.1.1 (by omega)).1.mem
    · rcases List.mem_cons.mp hz with q | q
      · rw [q]; exact (h.1.1 (by omega)).1.mem
      · rw [List.mem_singleton.mp q]; exact (h.2.1 (by omega)).1.mem
theorem KvI.app {W : Wd} {c : Nat} {Fo Pr : List Nat} {f s t : Int} (h : KvI W c Fo Pr) (hk : okAp W Fo f s t) (hz : okKp (mk 4 f.toNat (argA Fo (wfM W f.toNat) s t))) : KvI W c (Fo ++ [mk 4 f.toNat (argA Fo (wfM W f.toNat) s t)]) Pr := by
  have hf : f.toNat < wnF W := by have := hk.1; omega
  exact h.tm (fW_fun h.1.2.1 (h.1.1.1.2.2.1 _ hf).2.2 hf hk.2) (by rw [kd_mk]; decide) (fun z hz => arg_mem hk.2 (fms_arg hz)) hz
theorem KvI.typ {W : Wd} {c : Nat} {Fo Pr : List Nat} {m t s : Int} (h : KvI W c Fo Pr) (hk : okTy W Fo m t s) (hz : okKp (mk 8 m.toNat (argTy W Fo m t :: setL s))) : KvI W c (Fo ++ [mk 8 m.toNat (argTy W Fo m t :: setL s)]) Pr := h.tm (fW_type h.1.2.1 h.1.1.2.1.1 hk) (by rw [kd_mk]; decide) (fun z hz => by
  obtain ⟨i, i1, i2, i3⟩ := fms_at.mp hz
  have i0 : i = 0 := i1.resolve_left (fun w => w (kd_mk _ _ _))
  rw [i0, ps_mk] at i2
  have e : argTy W Fo m t = z := Option.some.inj i2
  rw [← e] at i3 ⊢
  unfold argTy at i3 ⊢
  by_cases q : wmH W m.toNat = 0
  · rw [if_pos q] at i3; exact absurd rfl i3
  · rw [if_neg q]
    exact (hk.2.2.2 q).mem) hz
