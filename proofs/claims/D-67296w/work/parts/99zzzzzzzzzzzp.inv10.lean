/-! what every call keeps, with the names in types of binders -/
def KvN (W : Wd) (c : Nat) (Fo Pr : List Nat) (Kb : Nat) : Prop := KvM W c Fo Pr Kb ∧ KfZ Fo
theorem KvN.tm {W : Wd} {c Kb : Nat} {Fo Pr : List Nat} {t : Nat} (h : KvN W c Fo Pr Kb) (hf : fW W (Nm nu2 c) t) (hk : kd t ≤ 8) (hc : ∀ z ∈ fms t, z ∈ Fo) (hz : okKp t) : KvN W c (Fo ++ [t]) Pr Kb := ⟨h.1.tm hf hk hc hz, h.2.tm hf.1.1 (by omega)⟩
theorem KvN.atm {W : Wd} {c Kb : Nat} {Fo Pr : List Nat} {t : Nat} (h : KvN W c Fo Pr Kb) (hf : fW W (Nm nu2 c) t) (hk : 9 ≤ kd t ∧ kd t ≤ 14) (hc : ∀ z ∈ fms t, z ∈ Fo) (hz : okKp t) : KvN W c (Fo ++ [t]) Pr Kb := ⟨h.1.atm hf hk hc hz, h.2.tm hf.1.1 hk.2⟩
theorem KvN.jn {W : Wd} {c Kb : Nat} {Fo Pr : List Nat} {k f g : Int} (h : KvN W c Fo Pr Kb) (ho : okJn Fo k f g) (hz : okKp (jnT k (frm Fo f) (frm Fo g))) : KvN W c (Fo ++ [jnT k (frm Fo f) (frm Fo g)]) Pr Kb := by
  have h1 := h.1.jn ho hz
  obtain ⟨_, sf, _, sg⟩ := ho
  have hx := h.1.1.1.1.1.fF sf
  have hy := fun q => h.1.1.1.1.1.fF (sg q)
  exact ⟨h1, h.2.jn sf.mem hx.1.2 (fun q => (sg q).mem) (fun q => (hy q).1.2)⟩
theorem KvN.bd {W : Wd} {c Kb : Nat} {Fo Pr : List Nat} {o a f : Int} (h : KvN W c Fo Pr Kb) (ho : okBd Fo a f) (hz : okKp (bdT W o (frm Fo a) (frm Fo f))) : KvN W c (Fo ++ [bdT W o (frm Fo a) (frm Fo f)]) Pr (Kb + bdw o (frm Fo a) (frm Fo f)) := by
  have h1 := h.1.bd ho hz
  obtain ⟨⟨sa, ka⟩, sf⟩ := ho
  obtain ⟨hy, zy⟩ := h.1.1.1.1.1.fF sf
  have hn : Nm nu2 c (wh (frm Fo a)) := (h.1.1.1.1.1.1.2.1 _ sa.mem).1.1.lc.1 ka
  have ct := h.1.1.1.1.1.1.1.1.2.2.2 _ hn
  have zt := h.1.1.1.1.1.1.2.2.2.1 _ hn
  obtain ⟨⟨b1, _⟩, b2, _⟩ := fF_bd (o := o) (x := frm Fo a) hy zy ct zt
  have tk := h.1.1.1.1.1.2.1.2.2 _ hn
  exact ⟨h1, h.2.bd h.1.1.1.1.1.2.1 sf.mem hy.2 ka tk ct.1.1 ct.2.1 ct.2.2.1 b1.1.1.1⟩
theorem KvN.cn {W : Wd} {c Kb : Nat} {Fo Pr : List Nat} {a : Int} (h : KvN W c Fo Pr Kb) (hk : okCn Fo a) : KvN (wCn W c (frm Fo a)) (c + 1) (Fo ++ [mk 1 (2 * c) []]) Pr Kb := ⟨h.1.cn hk, h.2.tm (okT_const _).1 (by rw [kd_mk]; decide)⟩
