/-! what every call keeps, with names, levels and leaves -/
def KvJ (W : Wd) (c : Nat) (Fo Pr : List Nat) : Prop := KvI W c Fo Pr ∧ KfN c Fo ∧ KfL Fo ∧ KfQ Fo ∧ ∀ τ, KfM τ Fo
theorem KvJ.tm {W : Wd} {c : Nat} {Fo Pr : List Nat} {t : Nat} (h : KvJ W c Fo Pr) (hf : fW W (Nm nu2 c) t) (hk : kd t ≤ 8) (hc : ∀ z ∈ fms t, z ∈ Fo) (hz : okKp t) : KvJ W c (Fo ++ [t]) Pr := ⟨h.1.tm hf hk hc hz, h.2.1.ap (fun q => by unfold isFo at q; omega), h.2.2.1.tm (by omega), h.2.2.2.1.tm hk, fun τ => (h.2.2.2.2 τ).tm hk⟩
theorem KvJ.atm {W : Wd} {c : Nat} {Fo Pr : List Nat} {t : Nat} (h : KvJ W c Fo Pr) (hf : fW W (Nm nu2 c) t) (hk : 9 ≤ kd t ∧ kd t ≤ 14) (hc : ∀ z ∈ fms t, z ∈ Fo) (hz : okKp t) : KvJ W c (Fo ++ [t]) Pr := ⟨h.1.atm hf hk hc hz, h.2.1.ap (fun _ => NmA.at hf hk.2), h.2.2.1.tm hk.2, h.2.2.2.1.atm h.1.2.1 hf.1.1 hk hc, fun τ => (h.2.2.2.2 τ).atm h.1.2.1 hf.1.1 hk hc⟩
theorem KvJ.jn {W : Wd} {c : Nat} {Fo Pr : List Nat} {k f g : Int} (h : KvJ W c Fo Pr) (ho : okJn Fo k f g) (hz : okKp (jnT k (frm Fo f) (frm Fo g))) : KvJ W c (Fo ++ [jnT k (frm Fo f) (frm Fo g)]) Pr := by
  have h1 := h.1.jn ho hz
  obtain ⟨_, sf, _, sg⟩ := ho
  have hx := h.1.fF sf
  have hy := fun q => h.1.fF (sg q)
  have ox : okT (frm Fo f) ∧ isFo (frm Fo f) := ⟨hx.1.1.1.1, hx.1.2⟩
  have oy : k ≠ 0 → okT (frm Fo g) ∧ isFo (frm Fo g) := fun q => ⟨(hy q).1.1.1.1, (hy q).1.2⟩
  exact ⟨h1, h.2.1.ap (fun _ => NmA.jn ⟨hx.1, h.2.1 _ sf.mem hx.1.2⟩ (fun q => ⟨(hy q).1, h.2.1 _ (sg q).mem (hy q).1.2⟩)), h.2.2.1.jn sf.mem ox (fun q => (sg q).mem) oy, h.2.2.2.1.jn sf.mem ox (fun q => (sg q).mem) oy, fun τ => (h.2.2.2.2 τ).jn sf.mem ox (fun q => (sg q).mem) oy⟩
theorem KvJ.bd {W : Wd} {c : Nat} {Fo Pr : List Nat} {o a f : Int} (h : KvJ W c Fo Pr) (ho : okBd Fo a f) (hz : okKp (bdT W o (frm Fo a) (frm Fo f))) : KvJ W c (Fo ++ [bdT W o (frm Fo a) (frm Fo f)]) Pr := by
  have h1 := h.1.bd ho hz
  obtain ⟨⟨sa, ka⟩, sf⟩ := ho
  obtain ⟨hy, zy⟩ := h.1.fF sf
  have hn : Nm nu2 c (wh (frm Fo a)) := (h.1.1.2.1 _ sa.mem).1.1.lc.1 ka
  have ct := h.1.1.1.1.2.2.2 _ hn
  have zt := h.1.1.2.2.2.1 _ hn
  obtain ⟨⟨b1, _⟩, b2, _⟩ := fF_bd (o := o) (x := frm Fo a) hy zy ct zt
  have tk := h.1.2.1.2.2 _ hn
  exact ⟨h1, h.2.1.ap (fun _ => NmA.bd hy (h.2.1 _ sf.mem hy.2) ka ct b1), h.2.2.1.bd sf.mem hy.1.1.1 hy.2 ct.2.1 b1.1.1.1, h.2.2.2.1.bd h.1.2.1 sf.mem hy.1.1.1 hy.2 tk ct.1.1 ct.2.1 b1.1.1.1, fun τ => (h.2.2.2.2 τ).bd h.1.2.1 sf.mem hy.1.1.1 hy.2 tk ct.1.1 ct.2.1 b1.1.1.1⟩
theorem KvJ.cn {W : Wd} {c : Nat} {Fo Pr : List Nat} {a : Int} (h : KvJ W c Fo Pr) (hk : okCn Fo a) : KvJ (wCn W c (frm Fo a)) (c + 1) (Fo ++ [mk 1 (2 * c) []]) Pr := ⟨h.1.cn hk, h.2.1.cn (fun q => by unfold isFo at q; rw [kd_mk] at q; omega), h.2.2.1.tm (by rw [kd_mk]; decide), h.2.2.2.1.tm (by rw [kd_mk]; decide), fun τ => (h.2.2.2.2 τ).tm (by rw [kd_mk]; decide)⟩
