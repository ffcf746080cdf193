/-! what every call keeps: the world and the forms are well-formed -/
theorem nm_nt {c : Nat} : NT nt2 (c + 2) = Nm nu2 c := by
  funext n
  refine propext ⟨fun ⟨i, h1, h2, e⟩ => ⟨i - 2, by omega, e⟩, fun ⟨i, h1, e⟩ => ⟨i + 2, by omega, by omega, ?_⟩⟩
  rw [← e]
  unfold nt2 nu2
  rw [Nat.add_sub_cancel]
theorem WOK.ex {W W' : Wd} {N N' : Nat → Prop} (hW : WOK W N) (hx : WEx N W W') (hN : ∀ n, N n → N' n) (h1 : 1 ≤ wnM W) (hm : ∀ m, wnM W ≤ m → m < wnM W' → gvn W' N' (wmP W' m) (wmH W' m) ∧ kd (wmP W' m) = 8 ∧ wh (wmP W' m) < m ∧ wmH W' m ≤ 1) (hf : ∀ f, wnF W ≤ f → f < wnF W' → gvn W' N' (wfR W' f) (wfM W' f) ∧ kd (wfR W' f) = 8 ∧ wfM W' f ≤ 2) (hc : ∀ n, N' n → ¬ N n → clty W' N' (wcT W' n)) : WOK W' N' := by
  obtain ⟨w1, w2, w3, w4⟩ := hW
  have hx' := hx
  obtain ⟨x1, ⟨x2, x3⟩, ⟨x4, x5⟩, -, -, -⟩ := hx
  refine ⟨by rw [(x3 0 (by omega)).2]; exact w1, fun m m1 m2 => ?_, fun f f1 => ?_, fun n hn => ?_⟩
  · rcases Nat.lt_or_ge m (wnM W) with q | q
    · obtain ⟨a1, a2, a3, a4⟩ := w2 m m1 q
      rw [(x3 m q).1, (x3 m q).2]
      exact ⟨gvn_ex hx' hN a1, a2, a3, a4⟩
    · exact hm m q m2
  · rcases Nat.lt_or_ge f (wnF W) with q | q
    · obtain ⟨a1, a2, a3⟩ := w3 f q
      rw [(x5 f q).1, (x5 f q).2]
      exact ⟨gvn_ex hx' hN a1, a2, a3⟩
    · exact hf f q f1
  · rcases Classical.em (N n) with q | q
    · rw [x1 n q]; exact clty_ex hx' hN (w4 n q)
    · exact hc n hn q
theorem WGK.ex {W W' : Wd} {N N' : Nat → Prop} (hG : WGK W N) (hx : WEx N W W') (hN : ∀ n, N n → N' n) (hA : wnA W' ≤ 15) : WGK W' N' := by
  have hx' := hx
  obtain ⟨x1, ⟨x2, x3⟩, ⟨x4, x5⟩, -, -, e1, e2, e3, e4, e5, e6⟩ := hx
  refine ⟨hA, fun g hg => ?_⟩
  rw [e6] at hg
  obtain ⟨g1, g2, g3, g4, g5⟩ := hG.2 g hg
  rw [e1, e2, e3, e4, e5]
  refine ⟨g1, fun q => ?_, fun q => ?_, g4, fun q => ?_⟩
  · obtain ⟨z1, z2, z3, z4, z5⟩ := g2 q
    exact ⟨gvn_ex hx' hN z1, z2, z3, fun w => clty_ex hx' hN (z4 w), z5⟩
  · obtain ⟨z1, z2, z3, z4, z5⟩ := g3 q
    rw [(x5 _ z1).2]
    exact ⟨by omega, z2, fun w => ⟨gvn_ex hx' hN (z3 w).1, (z3 w).2⟩, z4, fun w => ⟨gvn_ex hx' hN (z5 w).1, (z5 w).2⟩⟩
  · have q1 : wgS W g ≠ 0 := by omega
    rw [(x5 _ (g3 q1).1).2]
    exact ⟨gvn_ex hx' hN (g5 q).1, (g5 q).2⟩
/-- the world and the forms -/
def AbI (W : Wd) (c : Nat) (Fo Pr : List Nat) : Prop := (WOK W (Nm nu2 c) ∧ WGK W (Nm nu2 c) ∧ 1 ≤ wnM W) ∧ FoW W (Nm nu2 c) Fo ∧ (∀ p, p < wnP W → wpM W p ≤ 2) ∧ (∀ n, Nm nu2 c n → szT (wcT W n) ≤ 200) ∧ PrF Fo Pr
theorem AbI.wx {W W' : Wd} {c : Nat} {Fo Pr : List Nat} (h : AbI W c Fo Pr) (hx : WEx (Nm nu2 c) W W') (hA : wnA W' ≤ 15) (hm : ∀ m, wnM W ≤ m → m < wnM W' → gvn W' (Nm nu2 c) (wmP W' m) (wmH W' m) ∧ kd (wmP W' m) = 8 ∧ wh (wmP W' m) < m ∧ wmH W' m ≤ 1) (hf : ∀ f, wnF W ≤ f → f < wnF W' → gvn W' (Nm nu2 c) (wfR W' f) (wfM W' f) ∧ kd (wfR W' f) = 8 ∧ wfM W' f ≤ 2) (hp : ∀ p, wnP W ≤ p → p < wnP W' → wpM W' p ≤ 2) : AbI W' c Fo Pr := by
  obtain ⟨⟨h1, h2, h3⟩, h4, h5, h6, h7⟩ := h
  have x1 := hx.1
  have x2 := hx.2.1.1
  have x3 := hx.2.2.2.1
  refine ⟨⟨h1.ex hx (fun _ q => q) h3 hm hf (fun n hn q => absurd hn q), h2.ex hx (fun _ q => q) hA, by omega⟩, h4.ex hx (fun _ q => q), fun p hp' => ?_, fun n hn => by rw [x1 n hn]; exact h6 n hn, h7⟩
  rcases Nat.lt_or_ge p (wnP W) with q | q
  · rw [x3.2 p q]; exact h5 p q
  · exact hp p q hp'
theorem PrF.ap {Fo Pr : List Nat} (h : PrF Fo Pr) (t : Nat) : PrF (Fo ++ [t]) Pr := fun f hf => ⟨List.mem_append_left _ (h f hf).1, (h f hf).2⟩
/-- a form is kept -/
theorem AbI.ad {W : Wd} {c : Nat} {Fo Pr : List Nat} {t : Nat} (h : AbI W c Fo Pr) (ht : fW W (Nm nu2 c) t) (hz : okKp t) : AbI W c (Fo ++ [t]) Pr := ⟨h.1, h.2.1.ad ht hz, h.2.2.1, h.2.2.2.1, h.2.2.2.2.ap t⟩
theorem AbI.cl {W : Wd} {c : Nat} {Fo Pr : List Nat} (h : AbI W c Fo Pr) : AbI W c Fo [] := ⟨h.1, h.2.1, h.2.2.1, h.2.2.2.1, fun f hf => by cases hf⟩
theorem AbI.pr {W : Wd} {c : Nat} {Fo Pr : List Nat} {a : Int} (h : AbI W c Fo Pr) (hS : isS Fo 2 a) : AbI W c Fo (Pr ++ [frm Fo a]) := ⟨h.1, h.2.1, h.2.2.1, h.2.2.2.1, fun f hf => by
  rcases List.mem_append.mp hf with q | q
  · exact h.2.2.2.2 f q
  · rw [List.mem_singleton.mp q]; exact ⟨hS.mem, hS.fo⟩⟩
theorem AbI.at {W : Wd} {c : Nat} {Fo Pr : List Nat} (h : AbI W c Fo Pr) (h15 : wnA W < 15) : AbI (setN W 3 (wnA W + 1)) c Fo Pr := h.wx (wex_at (Nat.le_succ _)) (by show wnA W + 1 ≤ 15; omega) (fun m m1 m2 => by have m2 : m < wnM W := m2; omega) (fun f m1 m2 => by have m2 : f < wnF W := m2; omega) (fun p m1 m2 => by have m2 : p < wnP W := m2; omega)
/-- a form of a sort with loci below n, given -/
theorem AbI.gv {W W' : Wd} {c n : Nat} {Fo Pr : List Nat} {a : Int} (h : AbI W c Fo Pr) (hx : WEx (Nm nu2 c) W W') (hm : frm Fo a ∈ Fo) (hl : lvL (frm Fo a) n) : gvn W' (Nm nu2 c) (frm Fo a) n := by
  obtain ⟨⟨z1, z2, -⟩, z3⟩ := h.2.1 _ hm
  exact ⟨fr_ex hx (fun _ q => q) z1, hl, z2, z3⟩
theorem AbI.md {W : Wd} {c : Nat} {Fo Pr : List Nat} {a o : Int} (h : AbI W c Fo Pr) (ho : o = 0 ∨ o = 1) (hk : okMd Fo a o) : AbI (wMd W (frm Fo a) o.toNat) c Fo Pr := by
  refine h.wx wex_md h.1.2.1.1 (fun m m1 m2 => ?_) (fun f m1 m2 => by have m2 : f < wnF W := m2; omega) (fun p m1 m2 => by have m2 : p < wnP W := m2; omega)
  have m2 : m < wnM W + 1 := m2
  have e : m = wnM W := by omega
  rw [wmP_md, wmH_md, if_pos e, if_pos e]
  have hw := ((h.2.1 _ hk.1.mem).1.1.lc.2.2.1 hk.1.k8).1
  exact ⟨h.gv wex_md hk.1.mem hk.2, hk.1.k8, by omega, by omega⟩
theorem AbI.fn {W : Wd} {c : Nat} {Fo Pr : List Nat} {m a : Int} (h : AbI W c Fo Pr) (hk : okFn Fo m a) : AbI (wFn W m.toNat (frm Fo a)) c Fo Pr := by
  refine h.wx wex_fn h.1.2.1.1 (fun f m1 m2 => by have m2 : f < wnM W := m2; omega) (fun f m1 m2 => ?_) (fun p m1 m2 => by have m2 : p < wnP W := m2; omega)
  have m2 : f < wnF W + 1 := m2
  have e : f = wnF W := by omega
  rw [wfR_fn, wfM_fn, if_pos e, if_pos e]
  exact ⟨h.gv wex_fn hk.2.1.mem hk.2.2, hk.2.1.k8, by have := hk.1; omega⟩
theorem AbI.pd {W : Wd} {c : Nat} {Fo Pr : List Nat} {m : Nat} (h : AbI W c Fo Pr) (hk : m ≤ 2) : AbI (wPr W m) c Fo Pr := by
  refine h.wx wex_pr h.1.2.1.1 (fun f m1 m2 => by have m2 : f < wnM W := m2; omega) (fun f m1 m2 => by have m2 : f < wnF W := m2; omega) (fun p m1 m2 => ?_)
  have m2 : p < wnP W + 1 := m2
  have e : p = wnP W := by omega
  rw [wpM_pr, if_pos e]; exact hk
theorem AbI.cn {W : Wd} {c : Nat} {Fo Pr : List Nat} {a : Int} (h : AbI W c Fo Pr) (hk : okCn Fo a) : AbI (wCn W c (frm Fo a)) (c + 1) (Fo ++ [mk 1 (2 * c) []]) Pr := by
  have hN : ∀ n, Nm nu2 c n → Nm nu2 (c + 1) n := fun n ⟨i, i1, i2⟩ => ⟨i, by omega, i2⟩
  have hx : WEx (Nm nu2 c) W (wCn W c (frm Fo a)) := wex_cn
  have last : ∀ n, Nm nu2 (c + 1) n → ¬ Nm nu2 c n → n = 2 * c := fun n ⟨i, i1, i2⟩ q => by
    rcases Nat.lt_or_ge i c with z | z
    · exact absurd ⟨i, z, i2⟩ q
    · rw [← i2]; unfold nu2; omega
  have hn : Nm nu2 (c + 1) (2 * c) := ⟨c, by omega, rfl⟩
  obtain ⟨⟨h1, h2, h3⟩, h4, h5, h6, h7⟩ := h
  obtain ⟨⟨z1, z2, -⟩, z3⟩ := h4 _ hk.1.mem
  refine ⟨⟨h1.ex hx hN h3 (fun m m1 m2 => by have m2 : m < wnM W := m2; omega) (fun f m1 m2 => by have m2 : f < wnF W := m2; omega) (fun n q1 q2 => ?_), h2.ex hx hN h2.1, h3⟩, (h4.ex hx hN).ad (fW_con hn) ?_, h5, fun n q => ?_, h7.ap _⟩
  · rw [wcT_cn, if_pos (last n q1 q2)]
    exact ⟨fr_ex hx hN z1, hk.1.k8, z2, hk.2⟩
  · have : szT (mk 1 (2 * c) []) = 1 := by
      rw [szT_ex (Nat.pos_iff_ne_zero.mp (mk_pos _ _ _))]
      unfold exp1
      rw [kd_mk, if_neg (by decide), ps_mk]
      rfl
    omega
  · rcases Classical.em (Nm nu2 c n) with w | w
    · rw [wcT_cn, if_neg (nm_ne w)]; exact h6 n w
    · rw [wcT_cn, if_pos (last n q w)]; exact z3
/-- one registration more -/
theorem WGK.rg {W : Wd} {N : Nat → Prop} {s o a b v : Nat} (hG : WGK W N) (h : (s ≤ 2 ∧ (s = 0 → gvn W N o 1 ∧ kd o = 8 ∧ (pa o 0 = 0 ↔ a = 0) ∧ (a ≠ 0 → clty W N a) ∧ ∀ j ∈ adjT o, j < 30) ∧ (s ≠ 0 → o < wnF W ∧ (a = 0 ↔ wfM W o = 0) ∧ (a ≠ 0 → gvn W N a (wfM W o) ∧ kd a = 8) ∧ (b = 0 ↔ wfM W o ≤ 1) ∧ (b ≠ 0 → gvn W N b (wfM W o) ∧ kd b = 8)) ∧ (s ≠ 2 → kd v = 8 ∧ okT v ∧ ∀ j ∈ adjT v, j < 30) ∧ (s = 2 → gvn W N v (wfM W o) ∧ isTm v))) : WGK (wRg W s o a b v) N := by
  have hx : ∀ k m, gvn W N k m → gvn (wRg W s o a b v) N k m := fun k m q => q
  refine ⟨hG.1, fun g hg => ?_⟩
  have hg : g < wnG W + 1 := hg
  have eS : wgS (wRg W s o a b v) g = if g = wnG W then s else wgS W g := rfl
  have eO : wgO (wRg W s o a b v) g = if g = wnG W then o else wgO W g := rfl
  have eA : wgA (wRg W s o a b v) g = if g = wnG W then a else wgA W g := rfl
  have eB : wgB (wRg W s o a b v) g = if g = wnG W then b else wgB W g := rfl
  have eV : wgV (wRg W s o a b v) g = if g = wnG W then v else wgV W g := rfl
  rw [eS, eO, eA, eB, eV]
  by_cases e : g = wnG W
  · rw [if_pos e, if_pos e, if_pos e, if_pos e, if_pos e]
    exact h
  · rw [if_neg e, if_neg e, if_neg e, if_neg e, if_neg e]
    exact hG.2 g (by omega)
theorem AbI.rg {W : Wd} {c : Nat} {Fo Pr : List Nat} {s o a b v : Nat} (h : AbI W c Fo Pr) (hg : WGK (wRg W s o a b v) (Nm nu2 c)) : AbI (wRg W s o a b v) c Fo Pr := ⟨⟨h.1.1, hg, h.1.2.2⟩, h.2⟩
theorem set_30 {W : Wd} {s : Int} (hG : wnA W ≤ 15) (hs : okSet W s) : ∀ j ∈ setL s, j < 30 := fun j hj => by
  have := setL_ok hs j hj
  omega
theorem AbI.st {W : Wd} {c : Nat} {Fo Pr : List Nat} {s : Int} (h : AbI W c Fo Pr) (hs : okSet W s) : okT (mk 8 0 (0 :: setL s)) := (fW_ty (W := W) (N := Nm nu2 c) (m := 0) (a := 0) (by have := h.1.2.2; omega) (Or.inl rfl) ⟨fun _ => h.1.1.1, fun _ => rfl⟩ (setL_ok hs) h.1.2.1.1 (setL_30 hs h.1.2.1.1)).1.1
theorem AbI.cls {W : Wd} {c : Nat} {Fo Pr : List Nat} {t o s : Int} (h : AbI W c Fo Pr) (hk : okCl W Fo t o s) : AbI (wCl W Fo t o s) c Fo Pr := by
  have hv := h.st hk.2.1
  refine h.rg (h.1.2.1.rg ⟨by omega, fun _ => ?_, fun q => absurd rfl q, fun _ => ⟨by rw [kd_mk], hv, fun j hj => ?_⟩, fun q => by omega⟩)
  · obtain ⟨⟨z1, z2, -⟩, z3⟩ := h.2.1 _ hk.1.mem
    have k8 := hk.1.k8
    have hlv : lvL (frm Fo t) 1 := lv_of (by omega) (fun q hq => by
      obtain ⟨i, i1, i2, i3⟩ := fms_at.mp hq
      have i0 : i = 0 := i1.resolve_left (fun w => w k8)
      rw [i0] at i2
      rw [← pa_at i2]
      rw [← pa_at i2] at i3
      rcases hk.2.2 with w | w
      · exact absurd w.1 i3
      · intro l hl h3
        rw [lv_leaf (by omega)] at hl
        rw [List.mem_singleton.mp hl]
        omega)
    refine ⟨⟨z1, hlv, z2, z3⟩, k8, ⟨fun q => by unfold coT; rw [if_pos q], fun q => ?_⟩, fun q => ?_, fun j hj => ?_⟩
    · rcases hk.2.2 with w | w
      · exact w.1
      · exfalso
        unfold coT at q
        rw [if_neg w.1.1] at q
        have := w.2.1.k8
        rw [q, kd0] at this
        omega
    · unfold coT at q ⊢
      rcases hk.2.2 with w | w
      · rw [if_pos w.1] at q; exact absurd rfl q
      · rw [if_neg w.1.1]
        exact h.2.1.ty w.2.1 w.2.2
    · have := (z1.lc.2.2.1 k8).2.2 j hj
      have := h.1.2.1.1
      omega
  · unfold adjT at hj
    rw [ps_mk] at hj
    exact set_30 h.1.2.1.1 hk.2.1 j hj
theorem AbI.gv2 {W : Wd} {c : Nat} {Fo Pr : List Nat} {f i : Nat} {a : Int} (h : AbI W c Fo Pr) (hk : okPl Fo (wfM W f) i a) : (plT Fo (wfM W f) i a = 0 ↔ wfM W f ≤ i) ∧ (plT Fo (wfM W f) i a ≠ 0 → gvn W (Nm nu2 c) (plT Fo (wfM W f) i a) (wfM W f) ∧ kd (plT Fo (wfM W f) i a) = 8) := by
  unfold plT
  by_cases q : i < wfM W f
  · obtain ⟨q1, q2⟩ := hk.1 q
    rw [if_pos q]
    have k8 := q1.k8
    refine ⟨⟨fun e => ?_, fun e => by omega⟩, fun _ => ⟨h.gv wex_rf q1.mem q2, k8⟩⟩
    rw [e, kd0] at k8; omega
  · rw [if_neg q]
    exact ⟨⟨fun _ => by omega, fun _ => rfl⟩, fun e => absurd rfl e⟩
theorem AbI.gvs {W : Wd} {c : Nat} {Fo Pr : List Nat} {f a b s : Int} (h : AbI W c Fo Pr) (hk : okGv W Fo f a b s) : AbI (wGv W Fo f a b s) c Fo Pr := by
  have hv := h.st hk.2.2
  obtain ⟨a1, a2⟩ := h.gv2 hk.2.1.1
  obtain ⟨b1, b2⟩ := h.gv2 hk.2.1.2
  refine h.rg (h.1.2.1.rg ⟨by omega, fun q => by omega, fun _ => ⟨by have := hk.1; omega, a1.trans (by omega), a2, b1, b2⟩, fun _ => ⟨by rw [kd_mk], hv, fun j hj => ?_⟩, fun q => by omega⟩)
  unfold adjT at hj
  rw [ps_mk] at hj
  exact set_30 h.1.2.1.1 hk.2.2 j hj
theorem AbI.rds {W : Wd} {c : Nat} {Fo Pr : List Nat} {f a b t : Int} (h : AbI W c Fo Pr) (hk : okRd W Fo f a b t) : AbI (wRd W Fo f a b t) c Fo Pr := by
  obtain ⟨a1, a2⟩ := h.gv2 hk.2.1.1
  obtain ⟨b1, b2⟩ := h.gv2 hk.2.1.2
  exact h.rg (h.1.2.1.rg ⟨by omega, fun q => by omega, fun _ => ⟨by have := hk.1; omega, a1.trans (by omega), a2, b1, b2⟩, fun q => by omega, fun _ => ⟨h.gv wex_rf hk.2.2.1.mem hk.2.2.2, hk.2.2.1.tm⟩⟩)
