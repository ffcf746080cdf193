/-! face: constant in the model -/
theorem ReT.upf {W : Wd} {c : Nat} {Fo Pr : List Nat} {lc : Nat} {K : Int} {u u' : Sg} (h : ReT W c Fo Pr lc K u) (hC : TW nt2 (c + 1 + 2) W u') (he : EqH u u') (hw : WF FT u') (hg : Gr FT DX3_fresh u u') (hm : MaT anM u') (hct : CtT u') (h39 : ∀ i, i < gL u' 39 → gN u' 39 i < gI u' 40) : ReT W (c + 1) Fo Pr lc K u' := by
  have hb : ∀ k, k < 83 → 20 ≤ k → k ≠ 39 → k ≠ 40 → DX3_fresh.testBit k = false := by decide +kernel
  obtain ⟨-, -, ⟨x1, x2, x3, ⟨x4, x5, x6⟩, x7, x8⟩, ⟨m1, ⟨m2, m3, m4⟩, m5, m6, m7⟩, hh, h54, h76, h43, ⟨o1, o2, o3, o4⟩, ⟨q1, q2, q3, q4⟩, h82⟩ := h
  have A : ∀ k, k < 83 → 20 ≤ k → k ≠ 39 → k ≠ 40 → u'.2.1 k = u.2.1 k := fun k h1 h2 h3 h4 => (hg.2.1 k (hb k h1 h2 h3 h4)).2
  have I : ∀ k, k < 83 → 20 ≤ k → k ≠ 39 → k ≠ 40 → gI u' k = gI u k := fun k h1 h2 h3 h4 => (hg.2.1 k (hb k h1 h2 h3 h4)).1
  have L : ∀ k, k < 83 → 20 ≤ k → k ≠ 39 → k ≠ 40 → gL u' k = gL u k := fun k h1 h2 h3 h4 => congrArg Prod.fst (A k h1 h2 h3 h4)
  have N : ∀ k i, k < 83 → 20 ≤ k → k ≠ 39 → k ≠ 40 → gN u' k i = gN u k i := fun k i h1 h2 h3 h4 => congrFun (congrArg Prod.snd (A k h1 h2 h3 h4)) i
  have g39 := hg.2.2.1 39
  have h40 : 1 ≤ gI u' 40 := by
    have h1 := h39 0 (by omega)
    have h2 := hm.2 0 (by omega)
    omega
  refine ⟨hC, hw, ⟨fun k hk => ?_, fun k hk => ?_, fun k hk i hi => ?_, ⟨?_, ?_, fun i hi => ?_⟩, hm⟩, ⟨fun t ht => ?_, ⟨h40, ?_, ?_⟩, ?_, ?_, ?_⟩, he.hh.trans hh, ?_, ?_, fun k h1 h2 => ?_, ⟨?_, ?_, o3, fun i f hf => ?_⟩, ⟨?_, ?_, q3, fun i f hf => ?_⟩, ?_⟩
  · rcases hk with q | q | q
    · rw [q]; exact hct.1
    · rw [q]; exact hct.2
    · rw [L k (by omega) (by omega) (by omega) (by omega)]; exact x1 k (Or.inr (Or.inr q))
  · rw [L k (by omega) (by omega) (by omega) (by omega)]; exact x2 k hk
  · rw [N k i (by omega) (by omega) (by omega) (by omega), I 54 (by decide) (by decide) (by decide) (by decide)]
    rw [L k (by omega) (by omega) (by omega) (by omega)] at hi
    exact x3 k hk i hi
  · rw [I 76 (by decide) (by decide) (by decide) (by decide)]; exact x4
  · rw [I 76 (by decide) (by decide) (by decide) (by decide)]; exact x5
  · rw [L 74 (by decide) (by decide) (by decide) (by decide)] at hi
    rw [N 74 i (by decide) (by decide) (by decide) (by decide), I 76 (by decide) (by decide) (by decide) (by decide)]
    exact x6 i hi
  · have := h39 t ht.1
    have := ht.2
    omega
  · rw [L 38 (by decide) (by decide) (by decide) (by decide)]; exact m3
  · omega
  · rw [I 42 (by decide) (by decide) (by decide) (by decide)]; exact m5
  · rw [L 41 (by decide) (by decide) (by decide) (by decide)]; exact m6
  · rw [L 41 (by decide) (by decide) (by decide) (by decide)]; exact m7
  · rw [I 54 (by decide) (by decide) (by decide) (by decide)]; exact h54
  · rw [I 76 (by decide) (by decide) (by decide) (by decide)]; exact h76
  · rw [L k (by omega) (by omega) (by omega) (by omega)]; exact h43 k h1 h2
  · rw [I 79 (by decide) (by decide) (by decide) (by decide)]; exact o1
  · rw [L 78 (by decide) (by decide) (by decide) (by decide)]; exact o2
  · obtain ⟨x, z1, z2, z3, z4⟩ := o4 i f hf
    exact ⟨x, by rw [N 78 i (by decide) (by decide) (by decide) (by decide)]; exact z1, z2, by rw [he.1.n]; exact z3, by rw [he.1.tr]; exact z4⟩
  · rw [I 81 (by decide) (by decide) (by decide) (by decide)]; exact q1
  · rw [L 80 (by decide) (by decide) (by decide) (by decide)]; exact q2
  · obtain ⟨x, z1, z2, z3, z4⟩ := q4 i f hf
    exact ⟨x, by rw [N 80 i (by decide) (by decide) (by decide) (by decide)]; exact z1, z2, by rw [he.1.n]; exact z3, by rw [he.1.tr]; exact z4⟩
  · rw [I 82 (by decide) (by decide) (by decide) (by decide), L 80 (by decide) (by decide) (by decide) (by decide)]; exact h82
theorem tCons {d : Nat} (hd : 310 ≤ d) {W : Wd} {c : Nat} {Fo Pr : List Nat} {lc : Nat} {K : Int} {u : Sg} {X : Nat → Prop} (h : ReT W c Fo Pr lc K u) (hF : FoP Fo) (hW : WOK W (Nm nu2 c)) (hFl : Fo.length < 400) (hc : c ≤ 1000) (a : Int) (hW' : okCn Fo a → WOK (wCn W c (frm Fo a)) (Nm nu2 (c + 1))) (hl : LimT nt2 u X) (hX : X (mk 1 (2 * c) [])) : wp (runT d 24 [a] u) (FcT (okCn Fo a) False (Fo.length : Int) (fun u' => ReT (wCn W c (frm Fo a)) (c + 1) (Fo ++ [mk 1 (2 * c) []]) Pr lc (K + 1) u' ∧ NdT u u' X) (fun u' => ReT W c Fo Pr lc (K + 1) u' ∧ NdT u u' X)) := by
  obtain ⟨d, rfl⟩ : ∃ e, d = e + 1 := ⟨d - 1, by omega⟩
  rw [runT_eq (by omega)]
  show wp (bX3_constant (runT d) a u) _
  unfold bX3_constant
  have hs := h.s0 (v := 0) (by decide)
  have hhT := hs.2.2.2.2.1
  have hn9 := nT_le hs.1.1
  rw [wp_un]
  rcases tCl (d := d) (by omega) hs hF (s := 1) (by decide) a with ⟨hS, x, x0, hx, et, e⟩ | ⟨hS, e⟩
  · have e : runT d 25 [a, 1] (sI u 0 0) = some ((x : Int), sI u 0 0) := e
    have o1 := hs.2.2.2.2.2.2.2.2.1.1
    rw [cl_eq e, if_neg (by omega), wp_un, o1, if_neg (by omega)]
    have hx2 : WEx (NT nt2 (c + 2)) W (wCn W c (frm Fo a)) := by rw [nt_eq]; exact wex_cn
    have hWn : WOK W (NT nt2 (c + 2)) := by rw [nt_eq]; exact hW
    have h' : ReT (wCn W c (frm Fo a)) c Fo Pr lc K (sI u 0 0) := by
      obtain ⟨c1, c2, c3, c4⟩ := hs.1.2.2.1
      refine hs.tb (fun _ _ _ => rfl) (fun _ _ _ => rfl) hs.2.1 hWn hx2 ⟨c1, c2, c3, fun i i2 hi => ?_⟩ hs.1.2.2.2.1 hs.1.2.2.2.2.1 hs.1.2.2.2.2.2.1 hs.1.2.2.2.2.2.2 hs.2.2.2.2.2.2.2.2.1 hs.2.2.2.2.2.2.2.2.2.1 hs.2.2.2.2.2.2.2.2.2.2
      rw [wcT_cn, if_neg (by unfold nt2; omega)]
      exact c4 i i2 hi
    have hct : CtT (sI u 0 0) := ⟨h'.2.2.1.1 17 (by omega), h'.2.2.1.1 18 (by omega)⟩
    refine wp_call (tX3_fresh (d := d) (ν := nt2) (c := c + 2) (n := 2 * c) (y := x) (by omega) h'.2.1 h'.1 h'.2.2.1.2.2.2.2 hct (by omega) (nt2_new c) hx (by rw [wcT_cn, if_pos rfl]; exact et)) (fun r u1 ⟨e1, q1, q2, q3, q4, q5, q6, q7⟩ => ?_)
    rw [nuU_t2] at q1
    have h1 := h'.upf q1 q2 q3 q4 q5 q6 q7
    rw [e1]
    have ett : treeT nt2 u1 (2, [((c + 2 : Nat) : Int)]) = mk 1 (2 * c) [] := by rw [treeT_const (by omega)]; unfold nt2; rfl
    have hhT1 := h1.2.2.2.2.1
    have hl1 : LimT nt2 u1 X := fun l h1 h2 => hl.s0 l h1 (fun z hz => (h2 z hz).imp q2.1.nd.mp id)
    have hp := tX3_leaf (d := d) (ν := nt2) (c := c + 1 + 2) (u := u1) (k := 2) (v := ((c + 2 : Nat) : Int)) (X := X) (by omega) h1.2.1 h1.1.1 okR_2 (by omega) (by omega) (fun p hp => by rw [fpt_2] at hp; cases hp) (fun q => absurd q (by decide)) (fun _ => by omega) (by omega) (by rw [ett]; exact hX) hl1
    rw [ett] at hp
    refine wp_call hp (fun r2 u2 ⟨y, e2, y0, hy, ey, hU, hw2, hg2⟩ => ?_)
    rw [e2]
    have h2 := h1.up hU hw2 hg2 (fun k hk => DleafT k (Or.inr hk))
    have z0 : gI u2 0 = 0 := by rw [hg2.I 0 (by decide +kernel), q4.I 0 (by decide +kernel), gI_sI, if_pos rfl]
    refine wp_call (tGives (d := d) (by omega) h2 (by rw [nt_eq]; exact hW' hS) z0 y0 hy ey (okT_const _).1 (Nat.le_trans sz_c0 (by decide)) hFl) (fun r3 u3 q => ?_)
    rw [wp_some]
    rcases q with ⟨a1, a2, a3, a4, a5⟩ | ⟨a1, _⟩
    · refine Or.inl ⟨hS, id, a2, a3, a4.mono (by omega), fun z hz => ?_⟩
      rcases a5 z hz with w | w
      · rcases hU.2.2.1 z w with v | v
        · obtain ⟨y, b1, b2, b3⟩ := q2.1.nd.mp v
          exact Or.inl ⟨y, b1, b2, b3⟩
        · exact Or.inr v
      · exact w.elim
    · exact absurd (Nat.le_trans sz_c0 (by decide)) a1
  · have e : runT d 25 [a, 1] (sI u 0 0) = some (0, sI u 0 0) := e
    rw [cl_eq e, if_pos rfl]
    exact wp_fails (by omega) (Or.inr (Or.inr ⟨hS, rfl, by rw [gI_sI, if_pos rfl], (hs.s0 (by decide)).mono (by omega), fun z ⟨y, a, b, e⟩ => Or.inl ⟨y, a, b, e⟩⟩))
