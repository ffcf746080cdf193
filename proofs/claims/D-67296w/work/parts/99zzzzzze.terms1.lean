/-! face: locus, the -/
def okLo (a : Int) : Prop := a = 0 ∨ a = 1
theorem cLoc {d : Nat} (hd : 300 ≤ d) {W : Wd} {c : Nat} {Fo Pr : List Nat} {lc : Nat} {K : Int} {u : Sg} {X : Nat → Prop} (h : ReC W c Fo Pr lc K u) (h9 : 0 ≤ gI u 99 ∧ gI u 99 < 1000000) (hFl : Fo.length < 400) (hK : K < 1000000) (a : Int) (hl : Lim nu2 u X) (h5 : P5u u X) (hX : X (mk 3 a.toNat [])) : wp (runC d 20 [a] u) (FkC (okLo a) (mk 3 a.toNat []) W c Fo Pr lc K u X) := by
  obtain ⟨d, rfl⟩ : ∃ e, d = e + 1 := ⟨d - 1, by omega⟩
  rw [runC_eq (by omega)]
  show wp (bX1_locus (runC d) a u) _
  have hs := h.1.1
  have go : okLo a → wp (cl (runC d 4 [1] u) fun v3 s4 => pr v3 s4 (un (gI s4 9) fun v5 => un (gI s4 10) fun v6 => un (gI s4 12) fun v7 => cl (runC d 94 [3, a, v7] s4) fun v8 s9 => cl (runC d 16 [v8, v5, v6] s9) fun v10 s11 => pr v10 s11 (some (v10, s11)))) (FkC (okLo a) (mk 3 a.toNat []) W c Fo Pr lc K u X) := fun hok => by
    rw [cl_eq (need_ok (by omega)), pr_0, wp_un, wp_un, wp_un, hs.1.1.1.1, hs.1.1.2.1.1, hs.r.1]
    have hp := pm_0 (d := d) (k := 3) (w := a.toNat) (X := X) (by omega) h.2.1 hs (by decide) (by decide) (by decide) (by unfold okLo at hok; omega) hX hl
    rw [show ((a.toNat : Nat) : Int) = a by unfold okLo at hok; omega] at hp
    exact wp_call hp (fun r u' ⟨x, e, x0, hx, et, hU, hw1, hg⟩ => by
      rw [e]
      exact FkC.kp (by omega) h hU hw1 hg Dpair h9 x0 hx et hFl hK (fun z q => h5 z (hU.2.2.2.2.1 z q)) hok)
  unfold bX1_locus
  rw [wp_jn]; dsimp only; rw [wp_jn]; dsimp only
  by_cases h0 : a = 0
  · rw [if_pos h0]; exact go (Or.inl h0)
  · rw [if_neg h0]
    by_cases h1 : a = 1
    · rw [if_pos h1]; exact go (Or.inr h1)
    · rw [if_neg h1]
      exact FkC.nb (by omega) h h9 (fun q => q.elim h0 h1) _
theorem DleafT : ∀ k, k = 0 ∨ (17 ≤ k ∧ k ≤ 82) → DX3_leaf.testBit k = false := fun k hk => by
  rcases hk with q | q
  · rw [q]; decide +kernel
  · exact (by decide +kernel : ∀ k, k ≤ 82 → 17 ≤ k → DX3_leaf.testBit k = false) k q.2 q.1
theorem LimT.s0 {u : Sg} {X : Nat → Prop} (hl : LimT nt2 u X) : LimT nt2 (sI u 0 0) X := fun l h1 h2 => hl l h1 (fun t ht => (h2 t ht).imp (fun ⟨y, a, b, e⟩ => ⟨y, a, b, e⟩) id)
theorem okR_g {k : Int} {vs : List Int} (hk : k = 4 ∨ k = 5 ∨ k = 9 ∨ k = 10 ∨ k = 11 ∨ k = 12) (h1 : 1 ≤ vs.length) (h2 : vs.length ≤ 3) : okR (k, vs) := by
  unfold okR
  dsimp only
  exact ⟨by omega, fun q => by omega, fun _ => h1, fun q => by omega, fun q => by omega, by omega⟩
theorem okR_2 {a : Int} : okR (2, [a]) := by
  unfold okR
  dsimp only
  exact ⟨by omega, fun _ => rfl, fun q => by omega, fun q => by omega, fun q => by omega, by simp⟩
theorem fpt_2 {a : Int} : fptT (2, [a]) = [] := by
  unfold fptT
  dsimp only
  rw [if_neg (by omega), if_pos (by omega)]
theorem fpt_5 {a : Int} : fptT (5, [a]) = [a] := by
  unfold fptT
  dsimp only
  rw [if_neg (by omega), if_neg (by omega)]
  rfl
theorem tLoc {d : Nat} (hd : 300 ≤ d) {W : Wd} {c : Nat} {Fo Pr : List Nat} {lc : Nat} {K : Int} {u : Sg} {X : Nat → Prop} (h : ReT W c Fo Pr lc K u) (hW : WOK W (NT nt2 (c + 2))) (hFl : Fo.length < 400) (a : Int) (hl : LimT nt2 u X) (hX : X (mk 3 a.toNat [])) : wp (runT d 28 [a] u) (FkM (okLo a) (mk 3 a.toNat []) W c Fo Pr lc K u X) := by
  obtain ⟨d, rfl⟩ : ∃ e, d = e + 1 := ⟨d - 1, by omega⟩
  rw [runT_eq (by omega)]
  show wp (bX3_locus (runT d) a u) _
  unfold bX3_locus jn
  dsimp only
  have hs := h.s0 (v := 0) (by decide)
  rw [wp_un]
  by_cases h0 : a < 0
  · rw [if_pos h0]; exact FkM.nb (by omega) h (fun q => by unfold okLo at q; omega)
  rw [if_neg h0]
  by_cases h1 : a ≤ 1
  · rw [if_pos h1]
    have ha : ((a.toNat : Nat) : Int) = a := by omega
    have et : treeT nt2 (sI u 0 0) (2, [a]) = mk 3 a.toNat [] := by rw [← ha, tree_const, if_pos (by omega)]; rfl
    have hhT := hs.2.2.2.2.1
    have hp := tX3_leaf (d := d) (ν := nt2) (c := c + 2) (u := sI u 0 0) (k := 2) (v := a) (X := X) (by omega) hs.2.1 hs.1.1 okR_2 (by omega) (by omega) (fun p hp => by rw [fpt_2] at hp; cases hp) (fun q => absurd q (by decide)) (fun _ => by omega) (by omega) (by rw [et]; exact hX) hl.s0
    rw [et] at hp
    refine wp_call hp (fun r u' ⟨x, e, x0, hx, e2, hU, hw1, hg⟩ => ?_)
    rw [e]
    exact FkM.kp (by omega) h hW hU hw1 hg DleafT x0 hx e2 (fW_loc (W := W) (N := fun _ => True) (by omega)).1.1 (by rw [szT_eq]; unfold szS; rw [kd_mk, ps_mk]; split <;> (try split) <;> decide) hFl (by unfold okLo; omega)
  · rw [if_neg h1]; exact FkM.nb (by omega) h (fun q => by unfold okLo at q; omega)
def okTh (Fo : List Nat) (a : Int) : Prop := isS Fo 1 a
theorem isS.k8 {Fo : List Nat} {a : Int} (h : isS Fo 1 a) : kd (frm Fo a) = 8 := by
  have := h.2
  unfold sP at this
  omega
theorem isS.tm {Fo : List Nat} {a : Int} (h : isS Fo 0 a) : isTm (frm Fo a) := by
  rcases h.2 with q | q | q
  · exact q.2
  · omega
  · omega
theorem isS.fo {Fo : List Nat} {a : Int} (h : isS Fo 2 a) : isFo (frm Fo a) := by
  rcases h.2 with q | q | q
  · omega
  · omega
  · exact q.2
theorem Dmk2 : ∀ k, k = 13 ∨ k = 14 ∨ (21 ≤ k ∧ k ≤ 99) → DX2_make_2.testBit k = false := fun k hk => by
  rcases hk with q | q | q
  · rw [q]; decide +kernel
  · rw [q]; decide +kernel
  · exact (by decide +kernel : ∀ k, k ≤ 99 → 21 ≤ k → DX2_make_2.testBit k = false) k q.2 q.1
theorem cThe {d : Nat} (hd : 300 ≤ d) {W : Wd} {c : Nat} {Fo Pr : List Nat} {lc : Nat} {K : Int} {u : Sg} {X : Nat → Prop} (h : ReC W c Fo Pr lc K u) (hF : FoP Fo) (h9 : 0 ≤ gI u 99 ∧ gI u 99 < 1000000) (hFl : Fo.length < 400) (hK : K < 1000000) (a : Int) (hl : Lim nu2 u X) (h5 : P5u u X) (hX : X (mk 5 0 [frm Fo a])) : wp (runC d 23 [a] u) (FkC (okTh Fo a) (mk 5 0 [frm Fo a]) W c Fo Pr lc K u X) := by
  obtain ⟨d, rfl⟩ : ∃ e, d = e + 1 := ⟨d - 1, by omega⟩
  rw [runC_eq (by omega)]
  show wp (bX1_the (runC d) a u) _
  have hs := h.1.1
  have hr0 := h.2.2.2.2.1
  have hn9 := nC_le hs
  unfold bX1_the
  rcases cS (d := d) (by omega) h hF h9 (s := 1) (by decide) a with ⟨hS, x, x0, hx, et, e⟩ | ⟨hS, e⟩
  · have e : runC d 2 [a] u = some ((x : Int), u) := e
    rw [cl_eq e, pr_n (by omega), wp_un, wp_un, hs.1.1.1.1, hs.1.1.2.1.1]
    have hp := tX2_make_2 (d := d) (k := 5) (w := 0) (x := x) (z := 1) (X := X) (by omega) h.2.1 hs (by decide) (by decide) (by decide) (by decide) x0 hx (by omega) (by rw [et]; exact hX) hl
    rw [et] at hp
    refine wp_call hp (fun r u' ⟨y, e2, y0, hy, ey, hU, hw1, hg⟩ => ?_)
    rw [e2]
    exact FkC.kp (by omega) h hU hw1 hg Dmk2 h9 y0 hy ey hFl hK (fun z q => h5 z (hU.2.2.2.2.1 z q)) hS
  · have e : runC d 2 [a] u = some (exB + 1, tS u) := e
    exact FkC.th e h h9 hS _
theorem tree_the (ν : Nat → Nat) (u : Sg) (x : Nat) : treeT ν u (5, [(x : Int)]) = mk 5 0 [trT ν u x] := by
  unfold treeT
  rw [show labT ν (5, [(x : Int)]) = (5, 0, [x]) from by unfold labT; simp [fsT, nk]]
  rfl
theorem sz_1 {k w a : Nat} : szT (mk k w [a]) ≤ 1 + szT a := by
  rw [szT_eq]
  unfold szS
  rw [kd_mk, ps_mk]
  split
  · omega
  · split <;> simp
theorem tThe {d : Nat} (hd : 300 ≤ d) {W : Wd} {c : Nat} {Fo Pr : List Nat} {lc : Nat} {K : Int} {u : Sg} {X : Nat → Prop} (h : ReT W c Fo Pr lc K u) (hF : FoW W (Nm nu2 c) Fo) (hW : WOK W (NT nt2 (c + 2))) (hFl : Fo.length < 400) (a : Int) (hl : LimT nt2 u X) (hX : X (mk 5 0 [frm Fo a])) : wp (runT d 30 [a] u) (FkM (okTh Fo a) (mk 5 0 [frm Fo a]) W c Fo Pr lc K u X) := by
  obtain ⟨d, rfl⟩ : ∃ e, d = e + 1 := ⟨d - 1, by omega⟩
  rw [runT_eq (by omega)]
  show wp (bX3_the (runT d) a u) _
  unfold bX3_the
  have hs := h.s0 (v := 0) (by decide)
  have hhT := hs.2.2.2.2.1
  have hn9 := nT_le hs.1.1
  rw [wp_un]
  rcases tS' (d := d) (by omega) hs hF.p (s := 1) (by decide) a with ⟨hS, x, x0, hx, et, e⟩ | ⟨hS, e⟩
  · have e : runT d 12 [a, 1] (sI u 0 0) = some ((x : Int), sI u 0 0) := e
    rw [cl_eq e, if_neg (by omega)]
    have hfa := hF _ hS.mem
    have ett : treeT nt2 (sI u 0 0) (5, [(x : Int)]) = mk 5 0 [frm Fo a] := by rw [tree_the, et]
    have hp := tX3_leaf (d := d) (ν := nt2) (c := c + 2) (u := sI u 0 0) (k := 5) (v := (x : Int)) (X := X) (by omega) hs.2.1 hs.1.1 (okR_g (by omega) (by simp) (by simp)) (by omega) (by omega) (fun p hp => by
      rw [fpt_5] at hp
      rw [List.mem_singleton.mp hp]; omega) (fun q => absurd q (by decide)) (fun q => absurd q (by decide)) (by omega) (by rw [ett]; exact hX) hl.s0
    rw [ett] at hp
    refine wp_call hp (fun r u' ⟨y, e2, y0, hy, ey, hU, hw1, hg⟩ => ?_)
    rw [e2]
    have hz : szT (mk 5 0 [frm Fo a]) ≤ 1 + szT (frm Fo a) := sz_1
    exact FkM.kp (by omega) h hW hU hw1 hg DleafT y0 hy ey (fW_the hfa.1 hS.k8).1.1 (by have := hfa.2; omega) hFl hS
  · have e : runT d 12 [a, 1] (sI u 0 0) = some (0, sI u 0 0) := e
    rw [cl_eq e, if_pos rfl]
    exact FkM.nb (by omega) h hS
