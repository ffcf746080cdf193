/-! face: type in the model -/
theorem type_L89 {d : Nat} (hd : 5 ≤ d) {c : Nat} {u : Sg} {s m arg b : Int} {Q : Int → Sg → Prop} {xx : Int → Int → Int → Sg → Option (Int × Sg)} (hh : hT u ≤ 20000) (hx : ∀ v, Hand nt2 c u v ((setN' s 31).map (fun (j : Nat) => (j : Int))) → wp (xx m arg b v) Q) : ∀ (n i f : Nat) (v : Sg), i + n = 31 → n < f → Hand nt2 c u v ((setN' s i).map (fun (j : Nat) => (j : Int))) → wp (bX3_type_L89 (runT d) f m s arg b (i : Int) v xx) Q := by
  intro n
  induction n with
  | zero =>
    intro i f v hi hf hv
    obtain ⟨f, rfl⟩ : ∃ f', f = f' + 1 := ⟨f - 1, by omega⟩
    rw [bX3_type_L89, if_neg (by omega)]
    have : i = 31 := by omega
    rw [this] at hv
    exact hx v hv
  | succ n ih =>
    intro i f v hi hf hv
    obtain ⟨f, rfl⟩ : ∃ f', f = f' + 1 := ⟨f - 1, by omega⟩
    have hlen : (setN' s i).length ≤ i := by unfold setN'; exact Nat.le_trans (List.length_filter_le _ _) (by simp)
    have hhv := hv.2.2.1
    rw [List.length_map] at hhv
    rw [bX3_type_L89, if_pos (by omega), wp_un, wp_un, bt_shr (by omega)]
    by_cases hb : bt s i = true
    · rw [if_pos hb, if_pos rfl]
      refine wp_call (tX3_give (by omega) hv ⟨by omega, by omega⟩ (by omega)) (fun _ w hw => ?_)
      rw [wp_ar]
      refine ⟨⟨by omega, by omega⟩, ?_⟩
      rw [show (i : Int) + 1 = ((i + 1 : Nat) : Int) by omega]
      have es : setN' s (i + 1) = setN' s i ++ [i] := by rw [setN_s, if_pos hb]
      exact ih (i + 1) f w (by omega) (by omega) (by rw [es, List.map_append]; exact hw)
    · rw [if_neg hb, if_neg (by decide), wp_ar]
      refine ⟨⟨by omega, by omega⟩, ?_⟩
      rw [show (i : Int) + 1 = ((i + 1 : Nat) : Int) by omega]
      have es : setN' s (i + 1) = setN' s i := by rw [setN_s, if_neg hb, List.append_nil]
      exact ih (i + 1) f v (by omega) (by omega) (by rw [es]; exact hv)
theorem DtyT : ∀ k, k = 0 ∨ (17 ≤ k ∧ k ≤ 82) → (DX3_typed ||| DX3_give).testBit k = false := fun k hk => by
  rcases hk with q | q
  · rw [q]; decide +kernel
  · exact (by decide +kernel : ∀ k, k ≤ 82 → 17 ≤ k → (DX3_typed ||| DX3_give).testBit k = false) k q.2 q.1
theorem fW_ty {W : Wd} {N : Nat → Prop} {m a : Nat} {L : List Nat} (hm : m < wnM W) (ha : a = 0 ∨ (fW W N a ∧ isTm a)) (hH : a = 0 ↔ wmH W m = 0) (hL : ∀ j ∈ L, j < 2 * wnA W) (h15 : wnA W ≤ 15) (hl : L.length ≤ 30) : fW W N (mk 8 m (a :: L)) := by
  have hf : ∀ c ∈ fms (mk 8 m (a :: L)), c = a ∧ c ≠ 0 := fun c hc => by
    unfold fms at hc
    rw [ps_mk, kd_mk, if_pos rfl] at hc
    have := List.mem_filter.mp hc
    exact ⟨List.mem_singleton.mp this.1, by simpa using this.2⟩
  refine ⟨fr_mk ⟨by rw [kd_mk, wh_mk, ps_mk], ?_⟩ ?_ (fun c hc => ?_), lo_mk0 (by rw [kd_mk]; decide) (fun c hc => ?_), fun q => by unfold isFo at q; rw [kd_mk] at q; omega⟩
  · rw [kd_mk, wh_mk, ps_mk]
    exact Or.inr (Or.inr (Or.inr (Or.inr (Or.inr (Or.inl ⟨rfl, a, L, rfl, ha.imp id (fun q => q.2), hl, fun j hj => by have := hL j hj; omega⟩)))))
  · unfold lcW adjT pa
    rw [kd_mk, wh_mk, ps_mk]
    exact ⟨fun q => by omega, fun q => by omega, fun _ => ⟨hm, hH, hL⟩, fun q => by omega, fun q => by omega, fun q => by omega⟩
  · obtain ⟨q1, q2⟩ := hf c hc
    rcases ha with q | q
    · exact absurd (q1.trans q) q2
    · rw [q1]; exact q.1.1
  · obtain ⟨q1, q2⟩ := hf c hc
    rcases ha with q | q
    · exact absurd (q1.trans q) q2
    · rw [q1]; exact q.1.2.1
theorem setL_ok {W : Wd} {s : Int} (h : okSet W s) : ∀ j ∈ setL s, j < 2 * wnA W := fun j hj => by
  have := setL_mem.mp hj
  rcases Nat.lt_or_ge j (2 * wnA W) with q | q
  · exact q
  · rw [h j q] at this; exact absurd this.2 (by decide)
theorem setL_30 {W : Wd} {s : Int} (h : okSet W s) (h15 : wnA W ≤ 15) : (setL s).length ≤ 30 := by
  have := nd_len (n := 2 * wnA W) setL_nd (setL_ok h)
  omega
theorem fW_type {W : Wd} {N : Nat → Prop} {Fo : List Nat} (hF : FoW W N Fo) {m t s : Int} (h15 : wnA W ≤ 15) (h : okTy W Fo m t s) : fW W N (mk 8 m.toNat (argTy W Fo m t :: setL s)) := by
  obtain ⟨⟨m0, m1⟩, hs, h1, h2⟩ := h
  unfold argTy
  by_cases q : wmH W m.toNat = 0
  · rw [if_pos q]
    exact fW_ty (by omega) (Or.inl rfl) ⟨fun _ => q, fun _ => rfl⟩ (setL_ok hs) h15 (setL_30 hs h15)
  · rw [if_neg q]
    have hS := h2 q
    have h0 : frm Fo t ≠ 0 := isTm_pos hS.tm
    exact fW_ty (by omega) (Or.inr ⟨(hF _ hS.mem).1, hS.tm⟩) ⟨fun z => absurd z h0, fun z => absurd z q⟩ (setL_ok hs) h15 (setL_30 hs h15)
theorem sz_ty {Fo : List Nat} (hF : FoP Fo) {W : Wd} {m t s : Int} (h : okTy W Fo m t s) : szT (mk 8 m.toNat (argTy W Fo m t :: setL s)) ≤ 300 := by
  have hl := setL_len (s := s)
  rw [szT_eq]
  unfold szS
  rw [kd_mk, ps_mk]
  split
  · omega
  · rw [if_pos rfl]
    simp only [List.take_succ_cons, List.take_zero, List.map_cons, List.map_nil, List.sum_cons, List.sum_nil, List.drop_succ_cons, List.drop_zero]
    unfold argTy
    split
    · rw [szT_0]; omega
    · rename_i q
      have := (hF _ (h.2.2.2 q).mem).2.1
      omega
theorem tType {d : Nat} (hd : 300 ≤ d) {W : Wd} {c : Nat} {Fo Pr : List Nat} {lc : Nat} {K : Int} {u : Sg} {X : Nat → Prop} (h : ReT W c Fo Pr lc K u) (hF : FoW W (Nm nu2 c) Fo) (hW : WOK W (NT nt2 (c + 2))) (hFl : Fo.length < 400) (m t s : Int) (hsR : inR s) (hl : LimT nt2 u X) (hX : X (mk 8 m.toNat (argTy W Fo m t :: setL s))) : wp (runT d 21 [m, t, s] u) (FkM (okTy W Fo m t s) (mk 8 m.toNat (argTy W Fo m t :: setL s)) W c Fo Pr lc K u X) := by
  obtain ⟨d, rfl⟩ : ∃ e, d = e + 1 := ⟨d - 1, by omega⟩
  rw [runT_eq (by omega)]
  show wp (bX3_type (runT d) m t s u) _
  have hs := h.s0 (v := 0) (by decide)
  have hhT := hs.2.2.2.2.1
  have hn9 := nT_le hs.1.1
  obtain ⟨h27, ⟨h1, h20⟩, h25, h26, hz, hen⟩ := hs.1.2.2.2.1
  have h28 := hs.1.2.2.2.2.2.1.2.1
  have h15 := hs.1.2.2.2.2.2.1.2.2
  obtain ⟨st1, st2⟩ := tSet (d := d) (by omega) h28 h15 hsR
  have bad : ¬ okTy W Fo m t s → wp (cl (runT d 17 [1] (sI u 0 0)) fun v s => some (v, s)) (FkM (okTy W Fo m t s) (mk 8 m.toNat (argTy W Fo m t :: setL s)) W c Fo Pr lc K u X) := fun hb => FkM.nb (by omega) h hb
  unfold bX3_type
  rw [wp_jn]; dsimp only
  rw [wp_un]
  by_cases m0 : m < 0
  · rw [if_pos m0]; exact bad (fun q => by have := q.1; omega)
  rw [if_neg m0, wp_un, h27]
  by_cases m1 : m < (wnM W : Int)
  · rw [if_pos m1]
    by_cases hok : okSet W s
    · rw [cl_eq (st1 hok), if_neg (by decide), wp_jn]; dsimp only
      have fin : ∀ x : Nat, x ≤ nT (sI u 0 0) → trT nt2 (sI u 0 0) x = argTy W Fo m t → okTy W Fo m t s → wp (un (gI (sI u 0 0) 13) fun v17 => bX3_type_L89 (runT d) KF m s (x : Int) v17 0 (sI u 0 0) (fun v19 v20 v21 s18 => cl (runT d 2 [v19, v20, v21] s18) fun v22 s23 => cl (runT d 23 [v22] s23) fun v24 s25 => some (v24, s25))) (FkM (okTy W Fo m t s) (mk 8 m.toNat (argTy W Fo m t :: setL s)) W c Fo Pr lc K u X) := fun x hx ex hty => by
        rw [wp_un, hs.1.1.r.1]
        refine type_L89 (c := c + 2) (by omega) (by omega) (fun v hv => ?_) 31 0 KF (sI u 0 0) (by omega) (Nat.lt_of_le_of_lt (by omega : _ ≤ 300000) KF_300) (Hand.rf hs.1.1 hs.2.1)
        obtain ⟨v1, v2, v3, v4, v5, v6, v7⟩ := hv
        rw [List.length_map] at v3
        have hlen : (setN' s 31).length ≤ 31 := setL_len (s := s)
        have etx : trT nt2 v x = argTy W Fo m t := by rw [v2.tr]; exact ex
        have hrow : ∀ (q z : Nat), (setN' s 31)[q]? = some z → gN v 12 (hT (sI u 0 0) + q) = (z : Int) := fun q z hq => by
          have hl := (List.getElem?_eq_some_iff.mp hq).1
          have e := congrArg (fun l => l[q]?) v4
          unfold rowH at e
          simp only [List.getElem?_map, hq] at e
          rw [List.getElem?_range (by omega)] at e
          exact Option.some.inj e
        have hp := tX3_typed (d := d) (ν := nt2) (c := c + 2) (u := v) (m := m.toNat) (x := x) (b := hT (sI u 0 0)) (L := setN' s 31) (X := X) (by omega) v6 v1 v3 hrow (setN_asc 31).1 (fun z hz => by have := (setN_asc (s := s) 31).2 z hz; omega) (by omega) (by omega) (by rw [v2.n]; exact hx) (by omega) (by rw [etx]; exact hX) (fun l h1 h2 => hl.s0 l h1 (fun z hz => (h2 z hz).imp v2.nd.mp id))
        rw [etx, show ((m.toNat : Nat) : Int) = m by omega] at hp
        refine wp_call hp (fun r u' ⟨y, e2, y0, hy, ey, ⟨k1, k2, k3⟩, k4, k5, k6, k7⟩ => ?_)
        rw [e2]
        exact FkM.kp (D := DX3_typed ||| DX3_give) (by omega) h hW ⟨k1, by rw [← v2.st nt2]; exact k2, fun z q => (k3 z q).imp v2.nd.mp id, k4, fun i hi => by rw [k5 i hi, v5 i hi]⟩ k6 ((v7.sub (by decide +kernel)).tr (k7.sub (by decide +kernel))) DtyT y0 hy ey (fW_type hF h15 hty).1.1 (Nat.le_trans (sz_ty hF.p hty) (by decide)) hFl hty
      have hmH : gA (sI u 0 0) 26 m = ((wmH W m.toNat : Nat) : Int) ∧ wmH W m.toNat ≤ 1 := by
        by_cases hm0 : m.toNat = 0
        · have e : gA (sI u 0 0) 26 m = gN (sI u 0 0) 26 m.toNat := rfl
          rw [e, hm0, hz, hW.1]
          exact ⟨rfl, by decide⟩
        · exact ⟨(hen m.toNat (by omega) (by omega)).2, (hW.2.1 m.toNat (by omega) (by omega)).2.2.2⟩
      have hm2 : wmH W m.toNat = 0 ∨ wmH W m.toNat = 1 := by omega
      have ldb : 0 ≤ m ∧ m < (gL (sI u 0 0) 26 : Int) := ⟨by omega, by rw [h26]; omega⟩
      rw [wp_ld]
      refine ⟨ldb, ?_⟩
      rcases hm2 with q | q
      · have e0 : gA (sI u 0 0) 26 m = 0 := by rw [hmH.1, q]; rfl
        rw [e0, if_pos rfl, wp_jn]; dsimp only
        rw [wp_jn]; dsimp only
        rw [wp_ld]
        refine ⟨ldb, ?_⟩
        rw [e0, if_pos rfl]
        by_cases t1 : t = -1
        · rw [if_pos t1]
          exact fin 0 (Nat.zero_le _) (by unfold argTy; rw [if_pos q]; rfl) ⟨⟨by omega, m1⟩, hok, fun _ => t1, fun z => absurd q z⟩
        · rw [if_neg t1]
          exact bad (fun z => t1 (z.2.2.1 q))
      · have e1 : gA (sI u 0 0) 26 m = 1 := by rw [hmH.1, q]; rfl
        rw [e1, if_neg (by decide)]
        rcases tS' (d := d) (by omega) hs hF.p (s := 0) (by decide) t with ⟨hS, x, x0, hx, et, e⟩ | ⟨hS, e⟩
        · have e : runT d 12 [t, 0] (sI u 0 0) = some ((x : Int), sI u 0 0) := e
          rw [cl_eq e, wp_jn]; dsimp only
          rw [wp_jn]; dsimp only
          rw [wp_ld]
          refine ⟨ldb, ?_⟩
          rw [e1, if_neg (by decide), if_neg (by omega)]
          exact fin x hx (by unfold argTy; rw [if_neg (by omega)]; exact et) ⟨⟨by omega, m1⟩, hok, fun z => by omega, fun _ => hS⟩
        · have e : runT d 12 [t, 0] (sI u 0 0) = some (0, sI u 0 0) := e
          rw [cl_eq e, wp_jn]; dsimp only
          rw [wp_jn]; dsimp only
          rw [wp_ld]
          refine ⟨ldb, ?_⟩
          rw [e1, if_neg (by decide), if_pos rfl]
          exact bad (fun z => hS (z.2.2.2 (by omega)))
    · rw [cl_eq (st2 hok), if_pos rfl]
      exact bad (fun q => hok q.2.1)
  · rw [if_neg m1]; exact bad (fun q => m1 q.1.2)
