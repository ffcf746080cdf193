/-! face: constant -/
def wCn (W : Wd) (c y : Nat) : Wd := setF W 0 (2 * c) y
theorem wcT_cn {W : Wd} {c y n : Nat} : wcT (wCn W c y) n = if n = 2 * c then y else wcT W n := rfl
theorem nm_ne {c n : Nat} (h : Nm nu2 c n) : n ≠ 2 * c := fun e => by
  obtain ⟨i, i1, i2⟩ := h
  unfold nu2 at i2
  omega
theorem nt_nm {c n : Nat} : NT nt2 (c + 2) n ↔ Nm nu2 c n := by
  constructor
  · rintro ⟨i, i1, i2, i3⟩
    unfold nt2 at i3
    exact ⟨i - 2, by omega, i3⟩
  · rintro ⟨i, i1, i2⟩
    unfold nu2 at i2
    exact ⟨i + 2, by omega, by omega, by unfold nt2; omega⟩
theorem nt_eq {c : Nat} : NT nt2 (c + 2) = Nm nu2 c := funext fun n => propext nt_nm
theorem wex_cn {W : Wd} {c y : Nat} : WEx (Nm nu2 c) W (wCn W c y) := ⟨fun n hn => by rw [wcT_cn, if_neg (nm_ne hn)], ⟨Nat.le_refl _, fun _ _ => ⟨rfl, rfl⟩⟩, ⟨Nat.le_refl _, fun _ _ => ⟨rfl, rfl⟩⟩, ⟨Nat.le_refl _, fun _ _ => rfl⟩, Nat.le_refl _, rfl, rfl, rfl, rfl, rfl, rfl⟩
/-- the class keeps a small form -/
theorem cKeep1 {d : Nat} (hd : 10 ≤ d) {W : Wd} {c : Nat} {Fo Pr : List Nat} {lc : Nat} {K : Int} {u1 : Sg} {x t : Nat} {a2 a3 : Int} (h1 : ReC W c Fo Pr lc K u1) (x0 : 0 < x) (hx : x < nC u1) (et : trC nu2 u1 x = t) (hFl : Fo.length < 400) (hk : okKp t) : wp (runC d 16 [(x : Int), a2, a3] u1) (fun r u' => r = (Fo.length : Int) ∧ ReC W c (Fo ++ [t]) Pr lc K u' ∧ ∀ z, ndC nu2 u' z → ndC nu2 u1 z) := by
  obtain ⟨d, rfl⟩ : ∃ e, d = e + 1 := ⟨d - 1, by omega⟩
  rw [runC_eq (by omega)]
  show wp (bX1_keep (runC d) x a2 a3 u1) _
  unfold bX1_keep jn
  dsimp only
  have hs1 := h1.1.1
  have hn9 := nC_le hs1
  obtain ⟨o1, o2, o3, o4⟩ := h1.2.2.2.2.2.2.2.2.2.1
  have hsz := sz_C hs1 x x0 hx
  rw [et] at hsz
  have hl4 : x < gL u1 4 := by rw [hs1.1.1.2.2.2.1.2.2.2.1]; exact Nat.lt_of_lt_of_le hx hs1.1.1.1.2.2
  rw [wp_un, o1, if_neg (by omega), wp_ld]
  refine ⟨⟨by omega, by omega⟩, ?_⟩
  rw [gA_nat, hsz]
  have hmn : mn9 (szT t : Int) ≤ 200 := by unfold okKp at hk; unfold mn9; split <;> omega
  rw [if_pos hmn, wp_un, wp_stA]
  refine ⟨⟨by omega, by rw [o2]; omega⟩, ?_⟩
  rw [wp_un, gI_sA, o1, wp_ar]
  refine ⟨⟨by omega, by omega⟩, ?_⟩
  rw [wp_un, wp_un, gI_sI, if_pos rfl, wp_ar]
  refine ⟨⟨by omega, by omega⟩, ?_⟩
  rw [wp_some]
  have hw : WF FC (sI (sA u1 65 (Fo.length : Int) (x : Int)) 66 ((Fo.length : Int) + 1)) := wfI (wfA h1.2.1 rfl ⟨by omega, by omega⟩) rfl ⟨by omega, by omega⟩
  refine ⟨by omega, h1.tb (fun k hk => aA (by omega)) (fun k hk => by rw [gI_sI, if_neg (by omega)]; rfl) hw h1.1.2.2.1 h1.1.2.2.2.1 h1.1.2.2.2.2.1 h1.1.2.2.2.2.2.1 h1.1.2.2.2.2.2.2 ⟨?_, o2, ?_, fun i f hf => ?_⟩ h1.2.2.2.2.2.2.2.2.2.2.1 h1.2.2.2.2.2.2.2.2.2.2.2, fun z q => q⟩
  · rw [gI_sI, if_pos rfl, List.length_append]; show _ = ((Fo.length + 1 : Nat) : Int); omega
  · rw [List.length_append]; show Fo.length + 1 ≤ 400; omega
  · rw [gN_sI, gN_sAn]
    by_cases q : i = Fo.length
    · rw [if_pos ⟨rfl, q⟩]
      rw [q, List.getElem?_append_right (Nat.le_refl _), Nat.sub_self] at hf
      exact ⟨x, rfl, x0, hx, et.trans (Option.some.inj hf)⟩
    · rw [if_neg (fun z => q z.2)]
      have hlt := (List.getElem?_eq_some_iff.mp hf).1
      rw [List.length_append] at hlt
      have hlt : i < Fo.length + 1 := hlt
      rw [List.getElem?_append_left (by omega)] at hf
      exact o4 i f hf
/-- the class at rest, with another number of constants -/
theorem ReC.upc {D : Nat} {W : Wd} {c c' : Nat} {Fo Pr : List Nat} {lc : Nat} {K : Int} {u u' : Sg} (h : ReC W c Fo Pr lc K u) (hC : CW nu2 c' W u') (hw : WF FC u') (hg : Gr FC D u u') (hb : ∀ k, 21 ≤ k → k ≤ 98 → k ≠ 85 → k ≠ 86 → D.testBit k = false) (hL : CtL u') (hn : nC u ≤ nC u') (ht : ∀ x, x < nC u → trC nu2 u' x = trC nu2 u x) (hr : rC u' = 0) : ReC W c' Fo Pr lc K u' := by
  obtain ⟨-, -, hArr, ⟨m1, m2, m3⟩, -, h36, h33, h61, h60, ⟨o1, o2, o3, o4⟩, ⟨q1, q2, q3, q4⟩, h84⟩ := h
  have A : ∀ k, 21 ≤ k → k ≤ 98 → k ≠ 85 → k ≠ 86 → u'.2.1 k = u.2.1 k := fun k h1 h2 h3 h4 => (hg.2.1 k (hb k h1 h2 h3 h4)).2
  have I : ∀ k, 21 ≤ k → k ≤ 98 → k ≠ 85 → k ≠ 86 → gI u' k = gI u k := fun k h1 h2 h3 h4 => (hg.2.1 k (hb k h1 h2 h3 h4)).1
  have L : ∀ k, 21 ≤ k → k ≤ 98 → k ≠ 85 → k ≠ 86 → gL u' k = gL u k := fun k h1 h2 h3 h4 => congrArg Prod.fst (A k h1 h2 h3 h4)
  have N : ∀ k i, 21 ≤ k → k ≤ 98 → k ≠ 85 → k ≠ 86 → gN u' k i = gN u k i := fun k i h1 h2 h3 h4 => congrFun (congrArg Prod.snd (A k h1 h2 h3 h4)) i
  refine ⟨hC, hw, ?_, ⟨?_, ?_, fun t ht => ?_⟩, hr, ?_, ?_, ?_, ?_, ⟨?_, ?_, o3, fun i f hf => ?_⟩, ⟨?_, ?_, q3, fun i f hf => ?_⟩, ?_⟩
  · obtain ⟨x1, x2, x3, x4, x5, x6, x7, x8, x9⟩ := hArr
    refine ⟨by rw [L 40 (by decide) (by decide) (by decide) (by decide), L 41 (by decide) (by decide) (by decide) (by decide)]; exact x1, by rw [L 39 (by decide) (by decide) (by decide) (by decide), L 42 (by decide) (by decide) (by decide) (by decide), L 37 (by decide) (by decide) (by decide) (by decide), L 38 (by decide) (by decide) (by decide) (by decide)]; exact x2, fun k hk i hi => ?_, by rw [L 47 (by decide) (by decide) (by decide) (by decide), L 46 (by decide) (by decide) (by decide) (by decide), L 48 (by decide) (by decide) (by decide) (by decide)]; exact x4, by rw [L 50 (by decide) (by decide) (by decide) (by decide), L 49 (by decide) (by decide) (by decide) (by decide)]; exact x5, by unfold KnL; rw [L 34 (by decide) (by decide) (by decide) (by decide)]; exact x6, hL, by rw [L 53 (by decide) (by decide) (by decide) (by decide)]; exact x8, by rw [L 55 (by decide) (by decide) (by decide) (by decide)]; exact x9⟩
    rw [N k i (by omega) (by omega) (by omega) (by omega), I 36 (by decide) (by decide) (by decide) (by decide)]
    rw [L k (by omega) (by omega) (by omega) (by omega)] at hi
    exact x3 k hk i hi
  · rw [L 32 (by decide) (by decide) (by decide) (by decide), L 31 (by decide) (by decide) (by decide) (by decide)]; exact m1
  · rw [L 31 (by decide) (by decide) (by decide) (by decide)]; exact m2
  · rw [L 32 (by decide) (by decide) (by decide) (by decide)] at ht
    rw [N 32 t (by decide) (by decide) (by decide) (by decide), I 33 (by decide) (by decide) (by decide) (by decide)]
    exact m3 t ht
  · rw [I 36 (by decide) (by decide) (by decide) (by decide)]; exact h36
  · rw [I 33 (by decide) (by decide) (by decide) (by decide)]; exact h33
  · rw [L 61 (by decide) (by decide) (by decide) (by decide), L 62 (by decide) (by decide) (by decide) (by decide)]; exact h61
  · rw [L 60 (by decide) (by decide) (by decide) (by decide)]; exact h60
  · rw [I 66 (by decide) (by decide) (by decide) (by decide)]; exact o1
  · rw [L 65 (by decide) (by decide) (by decide) (by decide)]; exact o2
  · obtain ⟨x, z1, z2, z3, z4⟩ := o4 i f hf
    exact ⟨x, by rw [N 65 i (by decide) (by decide) (by decide) (by decide)]; exact z1, z2, by omega, by rw [ht x z3]; exact z4⟩
  · rw [I 83 (by decide) (by decide) (by decide) (by decide)]; exact q1
  · rw [L 82 (by decide) (by decide) (by decide) (by decide)]; exact q2
  · obtain ⟨x, z1, z2, z3, z4⟩ := q4 i f hf
    exact ⟨x, by rw [N 82 i (by decide) (by decide) (by decide) (by decide)]; exact z1, z2, by omega, by rw [ht x z3]; exact z4⟩
  · rw [I 84 (by decide) (by decide) (by decide) (by decide), L 82 (by decide) (by decide) (by decide) (by decide)]; exact h84
def okCn (Fo : List Nat) (a : Int) : Prop := isS Fo 1 a ∧ lvL (frm Fo a) 0
theorem sz_c0 {k w : Nat} : szT (mk k w []) ≤ 1 := by
  rw [szT_eq]
  unfold szS
  rw [ps_mk]
  split
  · omega
  · split <;> simp
theorem cCons {d : Nat} (hd : 300 ≤ d) {W : Wd} {c : Nat} {Fo Pr : List Nat} {lc : Nat} {K : Int} {u : Sg} {X : Nat → Prop} (h : ReC W c Fo Pr lc K u) (hF : FoP Fo) (h9 : 0 ≤ gI u 99 ∧ gI u 99 < 1000000) (hFl : Fo.length < 400) (hc : c ≤ 1000) (a : Int) (hl : Lim nu2 u X) (hX : X (mk 1 (2 * c) [])) : wp (runC d 17 [a] u) (FcC (okCn Fo a) False (Fo.length : Int) (fun u' => ReC (wCn W c (frm Fo a)) (c + 1) (Fo ++ [mk 1 (2 * c) []]) Pr lc (K + 1) u' ∧ NdC u u' X) (fun u' => ReC W c Fo Pr lc (K + 1) u' ∧ NdC u u' X)) := by
  obtain ⟨d, rfl⟩ : ∃ e, d = e + 1 := ⟨d - 1, by omega⟩
  rw [runC_eq (by omega)]
  show wp (bX1_constant (runC d) a u) _
  have hs := h.1.1
  have hr0 := h.2.2.2.2.1
  have hn9 := nC_le hs
  have bad : ¬ okCn Fo a → FcC (okCn Fo a) False (Fo.length : Int) (fun u' => ReC (wCn W c (frm Fo a)) (c + 1) (Fo ++ [mk 1 (2 * c) []]) Pr lc (K + 1) u' ∧ NdC u u' X) (fun u' => ReC W c Fo Pr lc (K + 1) u' ∧ NdC u u' X) (exB + 1) (tS u) := fun hb => Or.inr (Or.inr ⟨hb, rfl, (h.tS h9).mono (by omega), fun z ⟨y, a, b, e⟩ => Or.inl ⟨y, a, b, e⟩⟩)
  unfold bX1_constant
  rw [wp_jn]; dsimp only
  rcases cS (d := d) (by omega) h hF h9 (s := 1) (by decide) a with ⟨hS, x, x0, hx, et, e⟩ | ⟨hS, e⟩
  · have e : runC d 2 [a] u = some ((x : Int), u) := e
    obtain ⟨fo, fz, -⟩ := hF _ hS.mem
    have fh := hF.ht hS.mem
    obtain ⟨k1, k2⟩ := cClosed hs h9 (d := d) (by omega) fo (by omega) x0 hx et
    rw [cl_eq e, pr_n (by omega)]
    by_cases hcl : lvL (frm Fo a) 0
    · have o1 := h.2.2.2.2.2.2.2.2.2.1.1
      rw [cl_eq (k1 hcl), pr_n (by omega), wp_un, o1, if_pos (by omega), cl_eq (room_ok (by omega)), pr_0, wp_un, wp_un]
      have h' : ReC (wCn W c (frm Fo a)) c Fo Pr lc K u := by
        obtain ⟨c1, c2, c3⟩ := h.1.2.2.1
        refine h.tb (fun _ _ => rfl) (fun _ _ => rfl) h.2.1 ⟨c1, c2, fun i hi => ?_⟩ h.1.2.2.2.1 h.1.2.2.2.2.1 h.1.2.2.2.2.2.1 h.1.2.2.2.2.2.2 h.2.2.2.2.2.2.2.2.2.1 h.2.2.2.2.2.2.2.2.2.2.1 h.2.2.2.2.2.2.2.2.2.2.2
        rw [wcT_cn, if_neg (by unfold nu2; omega)]
        exact c3 i hi
      have hL : CtL u := h.2.2.1.2.2.2.2.2.2.1
      refine wp_call (gX1_newOne h.2.1 ⟨by omega, by omega⟩ (tX1_newOneW (d := d) (X := X) (by omega) h'.1 h.2.1 hL (by omega) hx (by rw [wcT_cn, if_pos rfl]; exact et) (by omega) hX hl)) (fun r u1 ⟨⟨y, e1, y0, hy, ey, ⟨q1, q2, q3, ⟨q4, q5, q6⟩, q7⟩, hr1⟩, hg, hw1, _⟩ => ?_)
      rw [e1]
      have h1 : ReC (wCn W c (frm Fo a)) (c + 1) Fo Pr lc K u1 := h'.upc q1 q2 hg (fun k k1 k2 k3 k4 => (by decide +kernel : ∀ k, k ≤ 98 → 21 ≤ k → k ≠ 85 → k ≠ 86 → DX1_newOne.testBit k = false) k k2 k1 k3 k4) q3 q4 q5 (by omega)
      refine wp_call (cKeep1 (d := d) (by omega) h1 y0 hy ey hFl (Nat.le_trans sz_c0 (by decide))) (fun r2 u2 ⟨a1, a2, a3⟩ => ?_)
      have eB : exB = 1099511627776 := rfl
      rw [pr_n (by omega), wp_some]
      exact Or.inl ⟨⟨hS, hcl⟩, id, a1, a2.mono (by omega), fun z hz => q6 z (a3 z hz)⟩
    · rw [cl_eq (k2 hcl), pr_x (by decide), wp_some]
      exact bad (fun q => hcl q.2)
  · have e : runC d 2 [a] u = some (exB + 1, tS u) := e
    rw [cl_eq e, pr_x (by decide), wp_some]
    exact bad (fun q => hS q.1)
