/-! what every call keeps, with names of what puts together, types of binders, and the account of binds -/
/-- nodes that a bind makes -/
noncomputable def bdw (o : Int) (x y : Nat) : Nat := if bdG o x y = yesT then 0 else wkT 1 1 (bdG o x y) 0 + 3
def KvL (W : Wd) (c : Nat) (Fo Pr : List Nat) (Kb : Nat) : Prop := KvK W c Fo Pr ∧ KfG Fo ∧ (KfT c Fo ∧ TyO W c) ∧ KfK Kb Fo
theorem KvL.tm {W : Wd} {c Kb : Nat} {Fo Pr : List Nat} {t : Nat} (h : KvL W c Fo Pr Kb) (hf : fW W (Nm nu2 c) t) (hk : kd t ≤ 8) (hc : ∀ z ∈ fms t, z ∈ Fo) (hz : okKp t) : KvL W c (Fo ++ [t]) Pr Kb := ⟨h.1.tm hf hk hc hz, h.2.1.tm hk, ⟨h.2.2.1.1.tm hf.1.1 (by omega), h.2.2.1.2⟩, h.2.2.2.tm (by omega)⟩
theorem KvL.atm {W : Wd} {c Kb : Nat} {Fo Pr : List Nat} {t : Nat} (h : KvL W c Fo Pr Kb) (hf : fW W (Nm nu2 c) t) (hk : 9 ≤ kd t ∧ kd t ≤ 14) (hc : ∀ z ∈ fms t, z ∈ Fo) (hz : okKp t) : KvL W c (Fo ++ [t]) Pr Kb := ⟨h.1.atm hf hk hc hz, h.2.1.atm h.1.1.1.2.1 hf.1.1 hk hc, ⟨h.2.2.1.1.tm hf.1.1 hk.2, h.2.2.1.2⟩, h.2.2.2.tm hk.2⟩
theorem KvL.jn {W : Wd} {c Kb : Nat} {Fo Pr : List Nat} {k f g : Int} (h : KvL W c Fo Pr Kb) (ho : okJn Fo k f g) (hz : okKp (jnT k (frm Fo f) (frm Fo g))) : KvL W c (Fo ++ [jnT k (frm Fo f) (frm Fo g)]) Pr Kb := by
  have h1 := h.1.jn ho hz
  obtain ⟨_, sf, _, sg⟩ := ho
  have hx := h.1.1.1.fF sf
  have hy := fun q => h.1.1.1.fF (sg q)
  have ox : okT (frm Fo f) ∧ isFo (frm Fo f) := ⟨hx.1.1.1.1, hx.1.2⟩
  have oy : k ≠ 0 → okT (frm Fo g) ∧ isFo (frm Fo g) := fun q => ⟨(hy q).1.1.1.1, (hy q).1.2⟩
  exact ⟨h1, h.2.1.jn sf.mem ox (fun q => (sg q).mem) oy, ⟨h.2.2.1.1.jn sf.mem ox (fun q => (sg q).mem) oy, h.2.2.1.2⟩, h.2.2.2.jn sf.mem ox (fun q => (sg q).mem) oy⟩
theorem KvL.bd {W : Wd} {c Kb : Nat} {Fo Pr : List Nat} {o a f : Int} (h : KvL W c Fo Pr Kb) (ho : okBd Fo a f) (hz : okKp (bdT W o (frm Fo a) (frm Fo f))) : KvL W c (Fo ++ [bdT W o (frm Fo a) (frm Fo f)]) Pr (Kb + bdw o (frm Fo a) (frm Fo f)) := by
  have h1 := h.1.bd ho hz
  obtain ⟨⟨sa, ka⟩, sf⟩ := ho
  obtain ⟨hy, zy⟩ := h.1.1.1.fF sf
  have hn : Nm nu2 c (wh (frm Fo a)) := (h.1.1.1.1.2.1 _ sa.mem).1.1.lc.1 ka
  have ct := h.1.1.1.1.1.1.2.2.2 _ hn
  have zt := h.1.1.1.1.2.2.2.1 _ hn
  obtain ⟨⟨b1, _⟩, b2, _⟩ := fF_bd (o := o) (x := frm Fo a) hy zy ct zt
  have tk := h.1.1.1.2.1.2.2 _ hn
  have hG := bdG_ok (o := o) (x := frm Fo a) hy zy
  obtain ⟨i, hi, ei⟩ := hn
  have ei : wh (frm Fo a) = 2 * i := ei.symm
  refine ⟨h1, h.2.1.bd h.1.1.1.2.1 sf.mem hy.1.1.1 hy.2 tk ct.1.1 ct.2.1 b1.1.1.1, ⟨h.2.2.1.1.bd h.2.2.1.2 sf.mem hy.1.1.1 hy.2 ka hi ei ct.1.1 ct.2.1 ct.2.2.1 b1.1.1.1, h.2.2.1.2⟩, ?_⟩
  unfold bdw
  by_cases he : bdG o (frm Fo a) (frm Fo f) = yesT
  · rw [if_pos he, Nat.add_zero]; exact h.2.2.2.bd0 he
  · rw [if_neg he, ← Nat.add_assoc]
    exact h.2.2.2.bd h.1.2.2.2 ka sf.mem hy.1.1.1 hy.2 hy.1.2.1 ct.2.1 b1.1.1.1 he hG.1.1 (by have := hG.2; exact this.1) (by have := hG.2.2.2.2; omega)
theorem KvL.cn {W : Wd} {c Kb : Nat} {Fo Pr : List Nat} {a : Int} (h : KvL W c Fo Pr Kb) (hk : okCn Fo a) : KvL (wCn W c (frm Fo a)) (c + 1) (Fo ++ [mk 1 (2 * c) []]) Pr Kb := by
  refine ⟨h.1.cn hk, h.2.1.tm (by rw [kd_mk]; decide), ⟨h.2.2.1.1.cn (okT_const _).1 (by rw [kd_mk]; decide), fun i hi l hl k1 => ?_⟩, h.2.2.2.tm (by rw [kd_mk]; decide)⟩
  rw [wcT_cn] at hl
  by_cases e : 2 * i = 2 * c
  · rw [if_pos e] at hl
    have hf := (h.1.1.1.1.2.1 _ hk.1.mem).1
    obtain ⟨j, j1, j2⟩ := (hf.1.2 l (lv_is _ hl)).1 k1
    exact ⟨j, by omega, j2.symm⟩
  · rw [if_neg e] at hl
    exact h.2.2.1.2 i (by omega) l hl k1
