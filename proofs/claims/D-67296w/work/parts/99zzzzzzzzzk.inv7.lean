/-! what every call keeps: all of it -/
def KvK (W : Wd) (c : Nat) (Fo Pr : List Nat) : Prop := KvJ W c Fo Pr ∧ KfU Fo ∧ KfC Fo ∧ KfB Fo
theorem KvK.tm {W : Wd} {c : Nat} {Fo Pr : List Nat} {t : Nat} (h : KvK W c Fo Pr) (hf : fW W (Nm nu2 c) t) (hk : kd t ≤ 8) (hc : ∀ z ∈ fms t, z ∈ Fo) (hz : okKp t) : KvK W c (Fo ++ [t]) Pr := ⟨h.1.tm hf hk hc hz, h.2.1.tm hk, h.2.2.1.tm hk, h.2.2.2.tm (by omega)⟩
theorem KvK.atm {W : Wd} {c : Nat} {Fo Pr : List Nat} {t : Nat} (h : KvK W c Fo Pr) (hf : fW W (Nm nu2 c) t) (hk : 9 ≤ kd t ∧ kd t ≤ 14) (hc : ∀ z ∈ fms t, z ∈ Fo) (hz : okKp t) : KvK W c (Fo ++ [t]) Pr := ⟨h.1.atm hf hk hc hz, h.2.1.atm h.1.1.2.1 hf.1.1 hk hc, h.2.2.1.atm h.1.1.2.1 hf hk hc, h.2.2.2.tm hk.2⟩
theorem KvK.jn {W : Wd} {c : Nat} {Fo Pr : List Nat} {k f g : Int} (h : KvK W c Fo Pr) (ho : okJn Fo k f g) (hz : okKp (jnT k (frm Fo f) (frm Fo g))) : KvK W c (Fo ++ [jnT k (frm Fo f) (frm Fo g)]) Pr := by
  have h1 := h.1.jn ho hz
  obtain ⟨_, sf, _, sg⟩ := ho
  have hx := h.1.1.fF sf
  have hy := fun q => h.1.1.fF (sg q)
  have ox : okT (frm Fo f) ∧ isFo (frm Fo f) := ⟨hx.1.1.1.1, hx.1.2⟩
  have oy : k ≠ 0 → okT (frm Fo g) ∧ isFo (frm Fo g) := fun q => ⟨(hy q).1.1.1.1, (hy q).1.2⟩
  exact ⟨h1, h.2.1.jn sf.mem ox (fun q => (sg q).mem) oy, h.2.2.1.jn sf.mem hx (fun q => (sg q).mem) hy, h.2.2.2.jn sf.mem ox (fun q => (sg q).mem) oy⟩
theorem KvK.bd {W : Wd} {c : Nat} {Fo Pr : List Nat} {o a f : Int} (h : KvK W c Fo Pr) (ho : okBd Fo a f) (hz : okKp (bdT W o (frm Fo a) (frm Fo f))) : KvK W c (Fo ++ [bdT W o (frm Fo a) (frm Fo f)]) Pr := by
  have h1 := h.1.bd ho hz
  obtain ⟨⟨sa, ka⟩, sf⟩ := ho
  obtain ⟨hy, zy⟩ := h.1.1.fF sf
  have hn : Nm nu2 c (wh (frm Fo a)) := (h.1.1.1.2.1 _ sa.mem).1.1.lc.1 ka
  have ct := h.1.1.1.1.1.2.2.2 _ hn
  have zt := h.1.1.1.2.2.2.1 _ hn
  obtain ⟨⟨b1, _⟩, b2, _⟩ := fF_bd (o := o) (x := frm Fo a) hy zy ct zt
  have tk := h.1.1.2.1.2.2 _ hn
  exact ⟨h1, h.2.1.bd h.1.1.2.1 sf.mem hy.1.1.1 hy.2 tk ct.1.1 ct.2.1 b1.1.1.1, h.2.2.1.bd h.1.1.2.1 sf.mem hy zy ka tk ct zt, h.2.2.2.bd sf.mem hy.1.1.1 hy.2 ct.2.1 b1.1.1.1⟩
theorem KvK.cn {W : Wd} {c : Nat} {Fo Pr : List Nat} {a : Int} (h : KvK W c Fo Pr) (hk : okCn Fo a) : KvK (wCn W c (frm Fo a)) (c + 1) (Fo ++ [mk 1 (2 * c) []]) Pr := ⟨h.1.cn hk, h.2.1.tm (by rw [kd_mk]; decide), h.2.2.1.tm (by rw [kd_mk]; decide), h.2.2.2.tm (by rw [kd_mk]; decide)⟩
