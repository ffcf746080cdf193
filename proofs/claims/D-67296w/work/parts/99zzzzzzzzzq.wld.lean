/-! the tables hold kept forms -/
def KfW (W : Wd) (Fo : List Nat) : Prop := (∀ i, i < wnF W → wfR W i ∈ Fo) ∧ (∀ i, 1 ≤ i → i < wnM W → wmP W i ∈ Fo) ∧ ∀ g, g < wnG W → (wgA W g ≠ 0 → wgA W g ∈ Fo) ∧ (wgB W g ≠ 0 → wgB W g ∈ Fo) ∧ (wgS W g = 2 → wgV W g ∈ Fo)
theorem KfW.ap {W : Wd} {Fo : List Nat} {t : Nat} (h : KfW W Fo) : KfW W (Fo ++ [t]) := ⟨fun i hi => List.mem_append_left _ (h.1 i hi), fun i a b => List.mem_append_left _ (h.2.1 i a b), fun g hg => ⟨fun q => List.mem_append_left _ ((h.2.2 g hg).1 q), fun q => List.mem_append_left _ ((h.2.2 g hg).2.1 q), fun q => List.mem_append_left _ ((h.2.2 g hg).2.2 q)⟩⟩
theorem KfW.md {W : Wd} {Fo : List Nat} {y k : Nat} (h : KfW W Fo) (hy : y ∈ Fo) : KfW (wMd W y k) Fo := by
  refine ⟨fun i hi => h.1 i hi, fun i a b => ?_, fun g hg => h.2.2 g hg⟩
  show (if i = wnM W then y else W.1 1 i) ∈ Fo
  have b : i < wnM W + 1 := b
  split
  · exact hy
  · exact h.2.1 i a (by omega)
theorem KfW.fn {W : Wd} {Fo : List Nat} {y m : Nat} (h : KfW W Fo) (hy : y ∈ Fo) : KfW (wFn W m y) Fo := by
  refine ⟨fun i hi => ?_, fun i a b => h.2.1 i a b, fun g hg => h.2.2 g hg⟩
  show (if i = wnF W then y else W.1 4 i) ∈ Fo
  have hi : i < wnF W + 1 := hi
  split
  · exact hy
  · exact h.1 i (by omega)
theorem KfW.rg {W : Wd} {Fo : List Nat} {s o a b v : Nat} (h : KfW W Fo) (ha : a ≠ 0 → a ∈ Fo) (hb : b ≠ 0 → b ∈ Fo) (hv : s = 2 → v ∈ Fo) : KfW (wRg W s o a b v) Fo := by
  refine ⟨fun i hi => h.1 i hi, fun i p q => h.2.1 i p q, fun g hg => ?_⟩
  have hg : g < wnG W + 1 := hg
  by_cases e : g = wnG W
  · have eA : wgA (wRg W s o a b v) g = a := by rw [e]; show (if wnG W = wnG W then a else _) = a; rw [if_pos rfl]
    have eB : wgB (wRg W s o a b v) g = b := by rw [e]; show (if wnG W = wnG W then b else _) = b; rw [if_pos rfl]
    have eS : wgS (wRg W s o a b v) g = s := by rw [e]; show (if wnG W = wnG W then s else _) = s; rw [if_pos rfl]
    have eV : wgV (wRg W s o a b v) g = v := by rw [e]; show (if wnG W = wnG W then v else _) = v; rw [if_pos rfl]
    rw [eA, eB, eS, eV]
    exact ⟨ha, hb, hv⟩
  · have eA : wgA (wRg W s o a b v) g = wgA W g := by show (if g = wnG W then a else wgA W g) = _; rw [if_neg e]
    have eB : wgB (wRg W s o a b v) g = wgB W g := by show (if g = wnG W then b else wgB W g) = _; rw [if_neg e]
    have eS : wgS (wRg W s o a b v) g = wgS W g := by show (if g = wnG W then s else wgS W g) = _; rw [if_neg e]
    have eV : wgV (wRg W s o a b v) g = wgV W g := by show (if g = wnG W then v else wgV W g) = _; rw [if_neg e]
    rw [eA, eB, eS, eV]
    exact h.2.2 g (by omega)
theorem KfW.n {W : Wd} {Fo : List Nat} {i n : Nat} (h : KfW W Fo) (h0 : i ≠ 0) (h1 : i ≠ 1) (h4 : i ≠ 4) : KfW (setN W i n) Fo := by
  have e0 : wnM (setN W i n) = wnM W := by show (if 0 = i then n else W.2 0) = _; rw [if_neg (by omega)]; rfl
  have e1 : wnF (setN W i n) = wnF W := by show (if 1 = i then n else W.2 1) = _; rw [if_neg (by omega)]; rfl
  have e4 : wnG (setN W i n) = wnG W := by show (if 4 = i then n else W.2 4) = _; rw [if_neg (by omega)]; rfl
  exact ⟨fun j hj => h.1 j (by rw [← e1]; exact hj), fun j a b => h.2.1 j a (by rw [← e0]; exact b), fun g hg => h.2.2 g (by rw [← e4]; exact hg)⟩
theorem KfW.cn {W : Wd} {Fo : List Nat} {c y : Nat} (h : KfW W Fo) : KfW (wCn W c y) Fo := ⟨fun i hi => h.1 i hi, fun i a b => h.2.1 i a b, fun g hg => h.2.2 g hg⟩
theorem pl_mem {Fo : List Nat} {m i : Nat} {t : Int} (h : okPl Fo m i t) (h0 : plT Fo m i t ≠ 0) : plT Fo m i t ∈ Fo := by
  unfold plT at h0 ⊢
  split
  · rename_i q
    exact (h.1 q).1.mem
  · rename_i q
    rw [if_neg q] at h0
    exact absurd rfl h0
theorem KfW.gv {W : Wd} {Fo : List Nat} {f a b s : Int} (h : KfW W Fo) (hk : okGv W Fo f a b s) : KfW (wGv W Fo f a b s) Fo := h.rg (pl_mem hk.2.1.1) (pl_mem hk.2.1.2) (fun q => by omega)
theorem KfW.rd {W : Wd} {Fo : List Nat} {f a b t : Int} (h : KfW W Fo) (hk : okRd W Fo f a b t) : KfW (wRd W Fo f a b t) Fo := h.rg (pl_mem hk.2.1.1) (pl_mem hk.2.1.2) (fun _ => hk.2.2.1.mem)
theorem KfW.cl {W : Wd} {Fo : List Nat} {t o s : Int} (h : KfW W Fo) (hk : okCl W Fo t o s) : KfW (wCl W Fo t o s) Fo := h.rg (fun q => by
  unfold coT at q ⊢
  split
  · rename_i w
    rw [if_pos w] at q
    exact absurd rfl q
  · rename_i w
    rcases hk.2.2 with z | z
    · exact absurd z.1 w
    · exact z.2.1.mem) (fun q => absurd rfl q) (fun q => by omega)
