/-! face: type -/
/-- from u the row has got the bits of a set below i -/
def WsI (c : Nat) (u : Sg) (s : Int) (i : Nat) (v : Sg) : Prop := SC nu2 c v ∧ EqS u v ∧ rC v = rC u + (setN' s i).length ∧ (∀ k, k < rC u → gN v 11 k = gN u 11 k) ∧ (∀ (q w : Nat), (setN' s i)[q]? = some w → gN v 11 (rC u + q) = (w : Int)) ∧ WF FC v ∧ Gr FC DX2_push u v
theorem ws_L12 {d : Nat} (hd : 5 ≤ d) {c A : Nat} {u : Sg} {s m arg : Int} {Q : Int → Sg → Prop} {xx : Int → Int → Int → Sg → Option (Int × Sg)} (h70 : gI u 70 = (A : Int)) (h15 : A ≤ 15) (hr : rC u ≤ 20000) (hx : ∀ v, WsI c u s (2 * A) v → wp (xx m arg (rC u : Int) v) Q) : ∀ (n i f : Nat) (v : Sg), i + n = 2 * A → n < f → WsI c u s i v → wp (bX1_withSet_L12 (runC d) f m arg s (rC u : Int) (i : Int) v xx) Q := by
  intro n
  induction n with
  | zero =>
    intro i f v hi hf hv
    obtain ⟨f, rfl⟩ : ∃ f', f = f' + 1 := ⟨f - 1, by omega⟩
    have e70 : gI v 70 = (A : Int) := by rw [hv.2.2.2.2.2.2.I 70 (by decide +kernel)]; exact h70
    rw [bX1_withSet_L12, wp_un, e70, wp_ar]
    refine ⟨⟨by omega, by omega⟩, ?_⟩
    rw [if_neg (by omega)]
    have : i = 2 * A := by omega
    rw [this] at hv
    exact hx v hv
  | succ n ih =>
    intro i f v hi hf hv
    obtain ⟨f, rfl⟩ : ∃ f', f = f' + 1 := ⟨f - 1, by omega⟩
    have e70 : gI v 70 = (A : Int) := by rw [hv.2.2.2.2.2.2.I 70 (by decide +kernel)]; exact h70
    have hlen : (setN' s i).length ≤ i := by unfold setN'; exact Nat.le_trans (List.length_filter_le _ _) (by simp)
    obtain ⟨v1, v2, v3, v4, v5, v6, v7⟩ := hv
    rw [bX1_withSet_L12, wp_un, e70, wp_ar]
    refine ⟨⟨by omega, by omega⟩, ?_⟩
    rw [if_pos (by omega), wp_un, wp_un, bt_shr (by omega)]
    by_cases hb : bt s i = true
    · rw [if_pos hb, if_pos rfl]
      refine wp_call (tX2_push (by omega) v6 v1 ⟨by omega, by omega⟩ (by omega)) (fun _ w ⟨w1, w2, w3, w4, w5, w6, w7⟩ => ?_)
      rw [wp_ar]
      refine ⟨⟨by omega, by omega⟩, ?_⟩
      rw [show (i : Int) + 1 = ((i + 1 : Nat) : Int) by omega]
      have es : setN' s (i + 1) = setN' s i ++ [i] := by rw [setN_s, if_pos hb]
      refine ih (i + 1) f w (by omega) (by omega) ⟨w1, v2.trn w2, by rw [w3, v3, es, List.length_append]; rfl, fun k hk => by rw [w4 k (by omega)]; exact v4 k hk, fun q z hz => ?_, w6, v7.tr w7⟩
      rw [es] at hz
      have hl := (List.getElem?_eq_some_iff.mp hz).1
      rw [List.length_append] at hl
      have hl : q < (setN' s i).length + 1 := hl
      by_cases hq : q < (setN' s i).length
      · rw [List.getElem?_append_left hq] at hz
        rw [w4 _ (by omega)]
        exact v5 q z hz
      · rw [List.getElem?_append_right (by omega), show q - (setN' s i).length = 0 by omega] at hz
        have hz : i = z := Option.some.inj hz
        rw [← hz, show rC u + q = rC v by omega]
        exact w5
    · rw [if_neg hb, if_neg (by decide), wp_ar]
      refine ⟨⟨by omega, by omega⟩, ?_⟩
      rw [show (i : Int) + 1 = ((i + 1 : Nat) : Int) by omega]
      have es : setN' s (i + 1) = setN' s i := by rw [setN_s, if_neg hb, List.append_nil]
      exact ih (i + 1) f v (by omega) (by omega) ⟨v1, v2, by rw [es]; exact v3, v4, by rw [es]; exact v5, v6, v7⟩
theorem DwsC : ∀ k, k = 13 ∨ k = 14 ∨ (21 ≤ k ∧ k ≤ 99) → (DX1_typed ||| DX2_push).testBit k = false := fun k hk => by
  rcases hk with q | q | q
  · rw [q]; decide +kernel
  · rw [q]; decide +kernel
  · exact (by decide +kernel : ∀ k, k ≤ 99 → 21 ≤ k → (DX1_typed ||| DX2_push).testBit k = false) k q.2 q.1
theorem cWith {d : Nat} (hd : 10 ≤ d) {W : Wd} {c : Nat} {u : Sg} {X : Nat → Prop} {m x : Nat} {s : Int} (hw : WF FC u) (hs : SC nu2 c u) (h70 : gI u 70 = (wnA W : Int)) (h15 : wnA W ≤ 15) (hr : rC u ≤ 20000) (hok : okSet W s) (hx : x < nC u) (hm : m < 1000) (hX : X (mk 8 m (trC nu2 u x :: setL s))) (hl : Lim nu2 u X) : wp (runC d 14 [(m : Int), (x : Int), s] u) (RsT nu2 c (DX1_typed ||| DX2_push) u (mk 8 m (trC nu2 u x :: setL s)) X) := by
  obtain ⟨d, rfl⟩ : ∃ e, d = e + 1 := ⟨d - 1, by omega⟩
  rw [runC_eq (by omega)]
  show wp (bX1_withSet (runC d) m x s u) _
  unfold bX1_withSet
  rw [wp_un, hs.r.1]
  refine ws_L12 (by omega) h70 h15 hr (fun v ⟨v1, v2, v3, v4, v5, v6, v7⟩ => ?_) (2 * wnA W) 0 KF u (by omega) (Nat.lt_of_le_of_lt (by omega : _ ≤ 300000) KF_300) ⟨hs, EqS.rf, rfl, fun _ _ => rfl, fun q w h => by simp [setN'] at h, hw, Gr.rf⟩
  rw [setN_end hok h15] at v3 v5
  have hlen := setL_len (s := s)
  have hasc : ∀ (q a b : Nat), (setL s)[q]? = some a → (setL s)[q + 1]? = some b → a < b := (setN_asc 31).1
  have etx : trC nu2 v x = trC nu2 u x := v2.tr x
  refine wp_call (tX1_typed (d := d) (m := m) (arg := x) (b := rC u) (L := setL s) (X := X) (by omega) v6 v1 v3 v5 setL_nd (by omega) (by omega) (by rw [v2.n]; exact hx) (by omega) (fun L' hL' => ?_) (v2.lim hl)) (fun r u' ⟨L', hL', x', e, x0, hx', et, s1, ex, nd, rr, row, w1, g1⟩ => ?_)
  · rw [hL'.2.2.2.2 hasc, etx]; exact hX
  · rw [hL'.2.2.2.2 hasc, etx] at et
    rw [wp_some]
    exact ⟨x', e, x0, hx', et, ⟨s1.1, s1.2.1, s1.2.2, by rw [← v2.st nu2]; exact ex, fun t ht => (nd t ht).imp (v2.nd t).mp id, rr, fun i hi => by rw [row i hi, v4 i hi]⟩, w1, (v7.sub (by decide +kernel)).tr (g1.sub (by decide +kernel))⟩
def okTy (W : Wd) (Fo : List Nat) (m t s : Int) : Prop := (0 ≤ m ∧ m < (wnM W : Int)) ∧ okSet W s ∧ (wmH W m.toNat = 0 → t = -1) ∧ (wmH W m.toNat ≠ 0 → isS Fo 0 t)
def argTy (W : Wd) (Fo : List Nat) (m t : Int) : Nat := if wmH W m.toNat = 0 then 0 else frm Fo t
theorem cType {d : Nat} (hd : 300 ≤ d) {W : Wd} {c : Nat} {Fo Pr : List Nat} {lc : Nat} {K : Int} {u : Sg} {X : Nat → Prop} (h : ReC W c Fo Pr lc K u) (hW : WOK W (Nm nu2 c)) (hF : FoP Fo) (h9 : 0 ≤ gI u 99 ∧ gI u 99 < 1000000) (hFl : Fo.length < 400) (hK : K < 1000000) (m t s : Int) (hsR : inR s) (hl : Lim nu2 u X) (h5 : P5u u X) (hX : X (mk 8 m.toNat (argTy W Fo m t :: setL s))) : wp (runC d 10 [m, t, s] u) (FkC (okTy W Fo m t s) (mk 8 m.toNat (argTy W Fo m t :: setL s)) W c Fo Pr lc K u X) := by
  obtain ⟨d, rfl⟩ : ∃ e, d = e + 1 := ⟨d - 1, by omega⟩
  rw [runC_eq (by omega)]
  show wp (bX1_type (runC d) m t s u) _
  have hs := h.1.1
  have hr0 := h.2.2.2.2.1
  have hn9 := nC_le hs
  obtain ⟨h69, ⟨h1, h20⟩, h67, h68, hz, hen⟩ := h.1.2.2.2.1
  have h70 := h.1.2.2.2.2.2.1.2.1
  have h15 := h.1.2.2.2.2.2.1.2.2
  obtain ⟨st1, st2⟩ := cSet (d := d) (by omega) h70 h15 h9 hsR
  have fin : ∀ x : Nat, x < nC u → trC nu2 u x = argTy W Fo m t → (0 ≤ m ∧ m < (wnM W : Int)) → ((wmH W m.toNat = 0 → t = -1) ∧ (wmH W m.toNat ≠ 0 → isS Fo 0 t)) → wp (cl (runC d 13 [s] u) fun v9 s10 => pr v9 s10 (un (gI s10 9) fun v11 => un (gI s10 10) fun v12 => cl (runC d 14 [m, (x : Int), s] s10) fun v13 s14 => cl (runC d 16 [v13, v11, v12] s14) fun v15 s16 => pr v15 s16 (some (v15, s16)))) (FkC (okTy W Fo m t s) (mk 8 m.toNat (argTy W Fo m t :: setL s)) W c Fo Pr lc K u X) := fun x hx ex hm ha => by
    by_cases hok : okSet W s
    · rw [cl_eq (st1 hok), pr_0, wp_un, wp_un, hs.1.1.1.1, hs.1.1.2.1.1]
      have hp := cWith (d := d) (m := m.toNat) (x := x) (X := X) (by omega) h.2.1 hs h70 h15 (by omega) hok hx (by omega) (by rw [ex]; exact hX) hl
      rw [ex, show ((m.toNat : Nat) : Int) = m by omega] at hp
      refine wp_call hp (fun r u' ⟨y, e2, y0, hy, ey, hU, hw1, hg⟩ => ?_)
      rw [e2]
      exact FkC.kp (by omega) h hU hw1 hg DwsC h9 y0 hy ey hFl hK (fun z q => h5 z (hU.2.2.2.2.1 z q)) ⟨hm, hok, ha⟩
    · exact FkC.th (st2 hok) h h9 (fun q => hok q.2.1) _
  unfold bX1_type
  rw [wp_jn]; dsimp only
  rw [wp_jn]; dsimp only
  by_cases m0 : m < 0
  · rw [if_pos m0, wp_jn]; dsimp only
    exact FkC.nb (by omega) h h9 (fun q => by have := q.1; omega) _
  rw [if_neg m0, wp_un, h69]
  by_cases m1 : m < (wnM W : Int)
  · rw [if_pos m1, wp_jn]; dsimp only
    rw [cl_eq (need_ok (by omega)), pr_0, wp_ld]
    refine ⟨⟨by omega, by rw [h68]; omega⟩, ?_⟩
    have hmH : gA u 68 m = ((wmH W m.toNat : Nat) : Int) ∧ wmH W m.toNat ≤ 1 := by
      by_cases hm0 : m.toNat = 0
      · have e : gA u 68 m = gN u 68 m.toNat := rfl
        rw [e, hm0, hz, hW.1]
        exact ⟨rfl, by decide⟩
      · exact ⟨(hen m.toNat (by omega) (by omega)).2, (hW.2.1 m.toNat (by omega) (by omega)).2.2.2⟩
    have hm2 : wmH W m.toNat = 0 ∨ wmH W m.toNat = 1 := by omega
    by_cases t1 : t = -1
    · rw [if_pos t1, wp_jn]; dsimp only
      rcases hm2 with q | q
      · rw [show gA u 68 m = 0 by rw [hmH.1, q]; rfl, if_pos rfl, wp_jn]; dsimp only
        rw [cl_eq (need_ok (by omega)), pr_0, if_pos t1]
        exact fin 0 (by have := hs.1.1.1.2.1; omega) (by unfold argTy; rw [if_pos q]; rfl) ⟨by omega, m1⟩ ⟨fun _ => t1, fun z => absurd q z⟩
      · rw [show gA u 68 m = 1 by rw [hmH.1, q]; rfl, if_neg (by decide), wp_jn]; dsimp only
        exact FkC.nb (by omega) h h9 (fun z => (z.2.2.2 (by omega)).nn t1) _
    · rw [if_neg t1, wp_jn]; dsimp only
      rcases hm2 with q | q
      · rw [show gA u 68 m = 0 by rw [hmH.1, q]; rfl, if_neg (by decide), wp_jn]; dsimp only
        exact FkC.nb (by omega) h h9 (fun z => t1 (z.2.2.1 q)) _
      · rw [show gA u 68 m = 1 by rw [hmH.1, q]; rfl, if_pos rfl, wp_jn]; dsimp only
        rw [cl_eq (need_ok (by omega)), pr_0, if_neg t1]
        rcases cS (d := d) (by omega) h hF h9 (s := 0) (by decide) t with ⟨hS, x, x0, hx, et, e⟩ | ⟨hS, e⟩
        · have e : runC d 11 [t] u = some ((x : Int), u) := e
          rw [cl_eq e, pr_n (by omega)]
          exact fin x hx (by unfold argTy; rw [if_neg (by omega)]; exact et) ⟨by omega, m1⟩ ⟨fun z => by omega, fun _ => hS⟩
        · have e : runC d 11 [t] u = some (exB + 1, tS u) := e
          exact FkC.th e h h9 (fun z => hS (z.2.2.2 (by omega))) _
  · rw [if_neg m1, wp_jn]; dsimp only
    exact FkC.nb (by omega) h h9 (fun q => m1 q.1.2) _
