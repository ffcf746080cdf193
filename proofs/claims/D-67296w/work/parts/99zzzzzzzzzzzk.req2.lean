/-! a case of the class's check: what it asks for -/
theorem size1 {p : Nat} (op : okT p) (fp : isFo p) (hy : kd p ≠ 9) (h1 : szT p = 1) : kd p = 12 ∧ ps p = [] := by
  have hz := sz_fms (okT_0 op)
  have em : fms p = [] := by
    cases e : fms p with
    | nil => rfl
    | cons a l =>
      have ha : a ∈ fms p := by rw [e]; exact List.mem_cons_self
      have := sz_fms (okT_0 (op.c ha))
      have := le_sum_mem (f := szT) ha
      omega
  have tm : ∀ b ∈ ps p, kd p ≠ 8 → isTm b → False := fun b hb h8 ht => by
    have : b ∈ fms p := fms_mem hb h8 (isTm_pos ht)
    rw [em] at this; cases this
  have fo : ∀ b ∈ ps p, kd p ≠ 8 → isFo b → False := fun b hb h8 ht => by
    have : b ∈ fms p := fms_mem hb h8 (isFo_pos ht)
    rw [em] at this; cases this
  unfold isFo at fp
  rcases op.n.2 with q | q | q | q | q | q | q | q | q | q | q | q | q | q <;> first | omega | skip
  · obtain ⟨_, _, a, b, e, ha, hb⟩ := q
    exact (tm a (by rw [e]; exact List.mem_cons_self) (by omega) ha).elim
  · refine ⟨q.1, ?_⟩
    cases e : ps p with
    | nil => rfl
    | cons a l => exact (tm a (by rw [e]; exact List.mem_cons_self) (by omega) (q.2.2 a (by rw [e]; exact List.mem_cons_self))).elim
  · obtain ⟨_, a, e, ha⟩ := q
    exact (tm a (by rw [e]; exact List.mem_cons_self) (by omega) ha).elim
  · obtain ⟨_, a, b, e, _, hb⟩ := q
    exact (tm b (by rw [e]; simp) (by omega) hb).elim
  · obtain ⟨_, _, a, e, ha, _⟩ := q
    exact (fo a (by rw [e]; exact List.mem_cons_self) (by omega) ha).elim
  · cases e : ps p with
    | nil => rw [e] at q; simp at q
    | cons a l => exact (fo a (by rw [e]; exact List.mem_cons_self) (by omega) (q.2.2.2 a (by rw [e]; exact List.mem_cons_self)).1).elim
  · obtain ⟨_, _, a, b, e, _, hb, _⟩ := q
    exact (fo b (by rw [e]; simp) (by omega) hb).elim
theorem sum_ge2 : ∀ (l : List Nat), (∀ z ∈ l, 2 ≤ nz0 z) → 2 * l.length ≤ (l.map nz0).sum
  | [], _ => Nat.le_refl _
  | a :: l, h => by
    have h1 := h a List.mem_cons_self
    have h2 := sum_ge2 l (fun z hz => h z (List.mem_cons_of_mem _ hz))
    rw [List.length_cons, List.map_cons, List.sum_cons]
    omega
/-- few formulas in a case -/
theorem few_leaf {W : Wd} {N : Nat → Prop} {y : List Nat} (h10 : wnP W ≤ 10) (h : ∀ z ∈ y, frW W N z ∧ isFo z ∧ z ≠ noT ∧ kd z ≠ 9) (hs : (y.map nz0).sum ≤ 4300) : ∀ l : List Nat, l.Nodup → (∀ f ∈ l, f ∈ y) → l.length ≤ 2500 := fun l hn hl => by
  obtain ⟨L0, eL0⟩ : ∃ L0 : List Nat, L0 = (List.range 10).map (fun i => mk 12 i []) ++ (List.range 10).map (fun i => notT (mk 12 i [])) := ⟨_, rfl⟩
  have z1 : ∀ z ∈ y, 2 ≤ nz0 z ∨ z ∈ L0 := fun z hz => by
    obtain ⟨hw, hf, hno, h9⟩ := h z hz
    rcases Nat.lt_or_ge (nz0 z) 2 with q | q
    · right
      rw [eL0]
      unfold nz0 at q
      by_cases k16 : kd z = 16
      · rw [if_pos k16] at q
        obtain ⟨g, hp, fg, kg, mg⟩ := ps_not1 hw.1 k16
        have e : pa z 0 = g := by unfold pa; rw [hp]; rfl
        rw [e] at q
        have og := hw.1.c mg
        have := sz_fms (okT_0 og)
        obtain ⟨k12, pg⟩ := size1 og fg (fun q9 => hno (no_of hw.1 k16 (by rw [e]; exact q9))) (by omega)
        have hlt := (hw.2 g (sub_c mg (sub_rf g))).2.2.2.1 k12
        have eg := og.n.1
        rw [k12, pg] at eg
        refine List.mem_append_right _ (List.mem_map.mpr ⟨wh g, List.mem_range.mpr (by omega), ?_⟩)
        rw [← eg]
        have ez := hw.1.n.1
        have w0 : wh z = 0 := by
          rcases hw.1.n.2 with q | q | q | q | q | q | q | q | q | q | q | q | q | q <;> first | omega | exact q.2.1
        rw [hp, k16, w0] at ez
        unfold notT
        rw [if_neg kg]
        exact ez.symm
      · rw [if_neg k16] at q
        have := sz_fms (okT_0 hw.1)
        obtain ⟨k12, pz⟩ := size1 hw.1 hf h9 (by omega)
        have hlt := (hw.2 z (sub_rf z)).2.2.2.1 k12
        have ez := hw.1.n.1
        rw [k12, pz] at ez
        exact List.mem_append_left _ (List.mem_map.mpr ⟨wh z, List.mem_range.mpr (by omega), ez.symm⟩)
    · exact Or.inl q
  obtain ⟨A, B, a1, a2, a3, a4, a5⟩ := split_gr (fun z => 2 ≤ nz0 z) l hn
  have hA := sum_ge2 A (fun z hz => (a2 z hz).2)
  have hA2 := sum_sub (f := nz0) (l := A) (L := y) a1 (fun z hz => hl z (a2 z hz).1)
  have hB : B.length ≤ 20 := by
    have hBn : B.Nodup ∨ True := Or.inr trivial
    have h1 : (ddL B).length ≤ L0.length := dd_sub (fun z hz => (z1 z (hl z (a3 z hz).1)).resolve_left (a3 z hz).2)
    have h2 : L0.length = 20 := by rw [eL0, List.length_append, List.length_map, List.length_map, List.length_range]
    have h3 : l.length ≤ (A ++ ddL B).length := nd_lenL _ _ hn (fun z hz => List.mem_append.mpr ((a5 z hz).imp id (fun q => dd_mem.mpr q)))
    rw [List.length_append] at h3
    omega
  omega
section REQ
variable {W : Wd} {Fo : List Nat} {X : Nat → Prop} {c' B : Nat} {u : Sg} {y : List Nat}
theorem req_of (hB : B ≤ 300) (hF : ∀ f ∈ Fo, okT f) (hKW : KfW W Fo) (hKd : KdW W) (hW : WOK W (Nm nu2 c')) (hG : WGK W (Nm nu2 c')) (hc : ∀ f, wcT W (2 * f + 1) = pa (pa f 0) 0) (h10 : wnP W ≤ 10) (hy : ∀ z ∈ y, frW W (Nm nu2 c') z ∧ closT z ∧ isFo z ∧ szT z ≤ B ∧ htT z ≤ 300 ∧ z ≠ noT ∧ kd z ≠ 9) (hs : (y.map nz0).sum ≤ 4300) (hX : ∀ z, X z → P5 z) (hL : ∀ r, rch W (aS (fun f => f ∈ y)) (fun f => f ∈ y) r → LimB nu2 u (facS W (stg W (aS (fun f => f ∈ y)) (fun f => f ∈ y) r).1 (stg W (aS (fun f => f ∈ y)) (fun f => f ∈ y) r).2) (X2R W Fo (aS (fun f => f ∈ y)) (fun f => f ∈ y) X) (stg W (aS (fun f => f ∈ y)) (fun f => f ∈ y) r).1 (comS W (aS (fun f => f ∈ y)) (stg W (aS (fun f => f ∈ y)) (fun f => f ∈ y) r).1 (stg W (aS (fun f => f ∈ y)) (fun f => f ∈ y) r).2)) : ReqO W c' u B X (fun f => f ∈ y) := by
  have hKO : KOK W (Nm nu2 c') B (fun f => f ∈ y) (fun _ => False) := fun f hf => by
    obtain ⟨a, b, c, d, _⟩ := hy f hf
    exact ⟨a.mono (fun n q => Or.inl q), b, c, Nat.le_trans (szQ_le f) d⟩
  have hOK := stg_ok hKO hW hG hc
  have hH := stg_hand hKO hW hG hc
  refine ⟨hKO, fun f hf => (hy f hf).2.2.2.2.1, few_leaf h10 (fun z hz => ⟨(hy z hz).1, (hy z hz).2.2.1, (hy z hz).2.2.2.2.2⟩) hs, X2R W Fo (aS (fun f => f ∈ y)) (fun f => f ∈ y) X, fun t ht => Or.inl ht, p5_rs hB hF hX (fun r => (hOK r).1), ?_⟩
  refine RfX_of (W := W) (A := aS (fun f => f ∈ y)) (K0 := fun f => f ∈ y) (fun r hr => ⟨XSt.rs (XSt.of hF hKW hKd hr (fun t ht => ?_) (fun f hf k z hz => ?_)) (fun t ht => ?_), hL r hr⟩) 16 0 (fun q hq => by omega)
  · have h1 := hH r t ht
    exact ⟨fun k => (h1.1.lc.2.1 k).1, fun z hz => by
      have h2 := (up_cl (hOK r).2.1 _ (tyT W t) (Nat.lt_succ_self _) (ty_ok (hOK r).2.1 h1) z hz).1
      exact (h2.1.lc.2.2.1 h2.2.1).1⟩
  · obtain ⟨a, b, _⟩ := (hOK r).1 f hf
    have h2 := (up_cl (hOK r).2.1 _ _ (Nat.lt_succ_self _) (clty14 a b k).1 z hz).1
    exact (h2.1.lc.2.2.1 h2.2.1).1
  · have h1 := hH r t ht
    exact ⟨h1.1.1, h1.2.1⟩
end REQ
