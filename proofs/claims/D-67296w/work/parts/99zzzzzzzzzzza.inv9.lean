/-! what every call keeps, with formulas of few and of many long units -/
def KvM (W : Wd) (c : Nat) (Fo Pr : List Nat) (Kb : Nat) : Prop := KvL W c Fo Pr Kb ∧ KfP Fo ∧ KfR Fo
theorem KvM.tm {W : Wd} {c Kb : Nat} {Fo Pr : List Nat} {t : Nat} (h : KvM W c Fo Pr Kb) (hf : fW W (Nm nu2 c) t) (hk : kd t ≤ 8) (hc : ∀ z ∈ fms t, z ∈ Fo) (hz : okKp t) : KvM W c (Fo ++ [t]) Pr Kb := ⟨h.1.tm hf hk hc hz, h.2.1.tm (by omega), h.2.2.tm hf.1.1 (by omega)⟩
theorem KvM.atm {W : Wd} {c Kb : Nat} {Fo Pr : List Nat} {t : Nat} (h : KvM W c Fo Pr Kb) (hf : fW W (Nm nu2 c) t) (hk : 9 ≤ kd t ∧ kd t ≤ 14) (hc : ∀ z ∈ fms t, z ∈ Fo) (hz : okKp t) : KvM W c (Fo ++ [t]) Pr Kb := ⟨h.1.atm hf hk hc hz, h.2.1.tm hk.2, h.2.2.tm hf.1.1 hk.2⟩
theorem KvM.jn {W : Wd} {c Kb : Nat} {Fo Pr : List Nat} {k f g : Int} (h : KvM W c Fo Pr Kb) (ho : okJn Fo k f g) (hz : okKp (jnT k (frm Fo f) (frm Fo g))) : KvM W c (Fo ++ [jnT k (frm Fo f) (frm Fo g)]) Pr Kb := by
  have h1 := h.1.jn ho hz
  obtain ⟨_, sf, _, sg⟩ := ho
  have hx := h.1.1.1.1.fF sf
  have hy := fun q => h.1.1.1.1.fF (sg q)
  have ox : okT (frm Fo f) ∧ isFo (frm Fo f) := ⟨hx.1.1.1.1, hx.1.2⟩
  have oy : k ≠ 0 → okT (frm Fo g) ∧ isFo (frm Fo g) := fun q => ⟨(hy q).1.1.1.1, (hy q).1.2⟩
  exact ⟨h1, h.2.1.jn sf.mem ox (fun q => (sg q).mem) oy, h.2.2.jn sf.mem ox (fun q => (sg q).mem) oy⟩
theorem KvM.bd {W : Wd} {c Kb : Nat} {Fo Pr : List Nat} {o a f : Int} (h : KvM W c Fo Pr Kb) (ho : okBd Fo a f) (hz : okKp (bdT W o (frm Fo a) (frm Fo f))) : KvM W c (Fo ++ [bdT W o (frm Fo a) (frm Fo f)]) Pr (Kb + bdw o (frm Fo a) (frm Fo f)) := by
  have h1 := h.1.bd ho hz
  obtain ⟨⟨sa, ka⟩, sf⟩ := ho
  obtain ⟨hy, zy⟩ := h.1.1.1.1.fF sf
  have hn : Nm nu2 c (wh (frm Fo a)) := (h.1.1.1.1.1.2.1 _ sa.mem).1.1.lc.1 ka
  have ct := h.1.1.1.1.1.1.1.2.2.2 _ hn
  have zt := h.1.1.1.1.1.2.2.2.1 _ hn
  obtain ⟨⟨b1, _⟩, b2, _⟩ := fF_bd (o := o) (x := frm Fo a) hy zy ct zt
  have hG := bdG_ok (o := o) (x := frm Fo a) hy zy
  have oA : okT (bdA W o (frm Fo a) (frm Fo f)) ∧ isFo (bdA W o (frm Fo a) (frm Fo f)) := ⟨b1.1.1.1, b1.2⟩
  have oB : okT (bdT W o (frm Fo a) (frm Fo f)) ∧ isFo (bdT W o (frm Fo a) (frm Fo f)) := by
    unfold bdT
    split
    · exact oA
    · exact okT_not oA.1 oA.2
  exact ⟨h1, h.2.1.bd sf.mem hy.1.1.1 hy.2 ct.2.1 oA.1 oB.2, h.2.2.bd sf.mem hy.1.1.1 hy.2 ct.1.1 ct.2.1 oA.1 hG.1.1 (by have := hG.2; exact this.1) oB.1⟩
theorem KvM.cn {W : Wd} {c Kb : Nat} {Fo Pr : List Nat} {a : Int} (h : KvM W c Fo Pr Kb) (hk : okCn Fo a) : KvM (wCn W c (frm Fo a)) (c + 1) (Fo ++ [mk 1 (2 * c) []]) Pr Kb := ⟨h.1.cn hk, h.2.1.tm (by rw [kd_mk]; decide), h.2.2.tm (okT_const _).1 (by rw [kd_mk]; decide)⟩
