/-! face: mode in the model -/
theorem tMode {d : Nat} (hd : 300 ≤ d) {W : Wd} {c : Nat} {Fo Pr : List Nat} {lc : Nat} {K : Int} {u : Sg} (h : ReT W c Fo Pr lc K u) (hF : FoP Fo) (hW : WOK W (NT nt2 (c + 2))) (a o : Int) (ho : o = 0 ∨ o = 1) : wp (runT d 11 [a, o] u) (FcT (okMd Fo a o) (wnM W = 20) (wnM W : Int) (ReT (wMd W (frm Fo a) o.toNat) c Fo Pr lc K) (ReT W c Fo Pr lc K)) := by
  obtain ⟨d, rfl⟩ : ∃ e, d = e + 1 := ⟨d - 1, by omega⟩
  rw [runT_eq (by omega)]
  show wp (bX3_mode (runT d) a o u) _
  unfold bX3_mode jn
  dsimp only
  rw [wp_gd]
  refine ⟨ho, ?_⟩
  have hs := h.s0 (v := 0) (by decide)
  have bad : ¬ okMd Fo a o → FcT (okMd Fo a o) (wnM W = 20) (wnM W : Int) (ReT (wMd W (frm Fo a) o.toNat) c Fo Pr lc K) (ReT W c Fo Pr lc K) 0 (sI (sI u 0 0) 0 1) := fun hb => Or.inr (Or.inr ⟨hb, rfl, by rw [gI_sI, if_pos rfl], hs.s0 (by decide)⟩)
  rw [wp_un]
  rcases tS' (d := d) (by omega) hs hF (s := 1) (by decide) a with ⟨hS, x, x0, hx, et, e⟩ | ⟨hS, e⟩
  · have e : runT d 12 [a, 1] (sI u 0 0) = some ((x : Int), sI u 0 0) := e
    have hn9 := nT_le hs.1.1
    obtain ⟨fo, fz, -⟩ := hF _ hS.mem
    have fh := hF.ht hS.mem
    rw [cl_eq e, if_neg (by omega)]
    obtain ⟨b1, b2⟩ := rX3_isBelow hs.1.1 hn9 fo (by omega) (d := d) (n := o.toNat) (by omega) x0 hx et
    rw [show ((o.toNat : Nat) : Int) = o by rcases ho with q | q <;> rw [q] <;> rfl] at b1 b2
    obtain ⟨h27, ⟨h1, h20⟩, h25, h26, hz, hen⟩ := hs.1.2.2.2.1
    have main : okMd Fo a o → wp (if (1 : Int) = 0 then cl (runT d 17 [1] (sI u 0 0)) fun v3 s4 => some (v3, s4) else un (gI (sI u 0 0) 27) fun v12 => if v12 = 20 then cl (runT d 17 [2] (sI u 0 0)) fun v13 s14 => some (v13, s14) else un (gI (sI u 0 0) 27) fun v15 => stA (sI u 0 0) 25 v15 (x : Int) fun s16 => un (gI s16 27) fun v17 => stA s16 26 v17 o fun s18 => un (gI s18 27) fun v19 => ar (v19 + 1) fun v20 => un (sI s18 27 v20) fun s21 => some (v19, s21)) (FcT (okMd Fo a o) (wnM W = 20) (wnM W : Int) (ReT (wMd W (frm Fo a) o.toNat) c Fo Pr lc K) (ReT W c Fo Pr lc K)) := fun hok => by
      rw [if_neg (by decide), wp_un, h27]
      by_cases hlt : wnM W = 20
      · rw [if_pos (by omega)]
        exact wp_fails (by omega) (Or.inr (Or.inl ⟨hok, hlt, rfl, by rw [gI_sI, if_pos rfl], hs.s0 (by decide)⟩))
      · rw [if_neg (by omega), wp_un, wp_stA]
        refine ⟨⟨by omega, by rw [h25]; omega⟩, ?_⟩
        rw [wp_un, gI_sA, h27, wp_stA]
        refine ⟨⟨by omega, by rw [gL_sA, h26]; omega⟩, ?_⟩
        rw [wp_un, gI_sA, gI_sA, h27, wp_ar]
        refine ⟨⟨by omega, by omega⟩, ?_⟩
        rw [wp_un, wp_some]
        refine Or.inl ⟨hok, hlt, rfl, rfl, ?_⟩
        have hw : WF FT (sI (sA (sA (sI u 0 0) 25 (wnM W : Int) (x : Int)) 26 (wnM W : Int) o) 27 ((wnM W : Int) + 1)) := wfIT (WF.sA (wfAT hs.2.1 rfl ⟨by omega, by omega⟩) (fun _ => by rcases ho with q | q <;> rw [q] <;> exact ⟨by decide, by decide⟩) (fun _ => by rcases ho with q | q <;> rw [q] <;> exact ⟨by decide, by decide⟩) (fun _ => ho)) rfl ⟨by omega, by omega⟩
        have he : EqH (sI u 0 0) (sI (sA (sA (sI u 0 0) 25 (wnM W : Int) (x : Int)) 26 (wnM W : Int) o) 27 ((wnM W : Int) + 1)) := (EqH.sA (by decide)).trn ((EqH.sA (by decide)).trn (EqH.sI (by decide)))
        refine hs.tb (fun k hk h2 => (aA (by unfold isTb at h2; omega)).trans (aA (by unfold isTb at h2; omega))) (fun k hk h2 => by rw [gI_sI, if_neg (by unfold isTb at h2; omega)]; rfl) hw hW wex_md hs.1.2.2.1 ⟨?_, ?_, h25, h26, ?_, fun i i1 hi => ?_⟩ hs.1.2.2.2.2.1 hs.1.2.2.2.2.2.1 (TWg.ag hs.1.2.2.2.2.2.2 he (fun k h1 h2 => (aA (by omega)).trans (aA (by omega))) rfl) hs.2.2.2.2.2.2.2.2.1 hs.2.2.2.2.2.2.2.2.2.1 hs.2.2.2.2.2.2.2.2.2.2
        · rw [gI_sI, if_pos rfl]; show _ = ((wnM W + 1 : Nat) : Int); omega
        · show 1 ≤ wnM W + 1 ∧ wnM W + 1 ≤ 20; omega
        · rw [gN_sI, gN_sAn, if_neg (by omega), gN_sAn, if_neg (by omega)]; exact hz
        · have hi : i < wnM W + 1 := hi
          rw [gN_sI, gN_sI, gN_sAn, if_neg (by omega), gN_sAn, gN_sAn, gN_sAn, wmP_md, wmH_md]
          by_cases q : i = wnM W
          · rw [if_pos ⟨rfl, q⟩, if_pos q, if_pos ⟨rfl, q⟩, if_pos q]
            exact ⟨⟨x, rfl, hx, et⟩, by omega⟩
          · rw [if_neg (fun z => q z.2), if_neg q, if_neg (fun z => q z.2), if_neg q, if_neg (by omega)]
            exact hen i i1 (by omega)
    by_cases hok : lvL (frm Fo a) o.toNat
    · have k1 := b1 hok
      rcases ho with rfl | rfl
      · rw [if_pos rfl, cl_eq k1]
        exact main ⟨hS, hok⟩
      · rw [if_neg (by decide), cl_eq k1]
        exact main ⟨hS, hok⟩
    · have k2 := b2 hok
      rcases ho with rfl | rfl
      · rw [if_pos rfl, cl_eq k2, if_pos rfl]
        exact wp_fails (by omega) (bad (fun q => hok q.2))
      · rw [if_neg (by decide), cl_eq k2, if_pos rfl]
        exact wp_fails (by omega) (bad (fun q => hok q.2))
  · have e : runT d 12 [a, 1] (sI u 0 0) = some (0, sI u 0 0) := e
    rw [cl_eq e, if_pos rfl]
    exact wp_fails (by omega) (bad (fun q => hS q.1))
/-! face: functor -/
def wFn (W : Wd) (m y : Nat) : Wd := setN (setF (setF W 3 (wnF W) m) 4 (wnF W) y) 1 (wnF W + 1)
theorem wfM_fn {W : Wd} {m y i : Nat} : wfM (wFn W m y) i = if i = wnF W then m else wfM W i := rfl
theorem wfR_fn {W : Wd} {m y i : Nat} : wfR (wFn W m y) i = if i = wnF W then y else wfR W i := rfl
theorem wex_fn {N : Nat → Prop} {W : Wd} {m y : Nat} : WEx N W (wFn W m y) := ⟨fun _ _ => rfl, ⟨Nat.le_refl _, fun _ _ => ⟨rfl, rfl⟩⟩, ⟨Nat.le_succ _, fun f hf => ⟨by rw [wfR_fn, if_neg (by omega)], by rw [wfM_fn, if_neg (by omega)]⟩⟩, ⟨Nat.le_refl _, fun _ _ => rfl⟩, Nat.le_refl _, rfl, rfl, rfl, rfl, rfl, rfl⟩
def okFn (Fo : List Nat) (m a : Int) : Prop := (0 ≤ m ∧ m ≤ 2) ∧ isS Fo 1 a ∧ lvL (frm Fo a) m.toNat
theorem cFunc {d : Nat} (hd : 300 ≤ d) {W : Wd} {c : Nat} {Fo Pr : List Nat} {lc : Nat} {K : Int} {u : Sg} (h : ReC W c Fo Pr lc K u) (hF : FoP Fo) (h9 : 0 ≤ gI u 99 ∧ gI u 99 < 1000000) (m a : Int) (hm : inR m) : wp (runC d 8 [m, a] u) (FcC (okFn Fo m a) (wnF W = 30) (wnF W : Int) (ReC (wFn W m.toNat (frm Fo a)) c Fo Pr lc K) (ReC W c Fo Pr lc K)) := by
  obtain ⟨d, rfl⟩ : ∃ e, d = e + 1 := ⟨d - 1, by omega⟩
  rw [runC_eq (by omega)]
  show wp (bX1_functor (runC d) m a u) _
  unfold bX1_functor jn
  dsimp only
  by_cases m0 : m < 0
  · rw [if_pos m0]
    exact wp_bad (by omega) h9 (fun q => by have := q.1; omega) (h.tS h9) _
  rw [if_neg m0]
  by_cases m2 : m ≤ 2
  · rw [if_pos m2, cl_eq (need_ok (by omega)), pr_0]
    rcases cS (d := d) (by omega) h hF h9 (s := 1) (by decide) a with ⟨hs, x, x0, hx, et, e⟩ | ⟨hs, e⟩
    · have hn9 := nC_le h.1.1
      obtain ⟨fo, fz, -⟩ := hF _ hs.mem
      have fh := hF.ht hs.mem
      have e : runC d 2 [a] u = some ((x : Int), u) := e
      obtain ⟨r, e1, e2, e3, e4⟩ := rX1_loci h.1.1 (frm Fo a) fo (by omega) d x (by omega) x0 hx et
      rw [cl_eq e, pr_n (by omega), cl_eq e1]
      obtain ⟨h74, h30, h71, h72, hen⟩ := h.1.2.2.2.2.1
      have hr := e4 m.toNat
      rw [show ((m.toNat : Nat) : Int) = m by omega] at hr
      by_cases hl : r < m
      · have hok : okFn Fo m a := ⟨⟨by omega, m2⟩, hs, hr.mp hl⟩
        rw [if_pos hl, cl_eq (need_ok (by omega)), pr_0, wp_un, h74]
        by_cases hlt : wnF W < 30
        · rw [if_pos (by omega), cl_eq (room_ok (by omega)), pr_0, wp_un, h74, wp_stA]
          refine ⟨⟨by omega, by rw [h71]; omega⟩, ?_⟩
          rw [wp_un, gI_sA, h74, wp_stA]
          refine ⟨⟨by omega, by rw [gL_sA, h72]; omega⟩, ?_⟩
          rw [wp_un, gI_sA, gI_sA, h74, wp_ar]
          refine ⟨⟨by omega, by omega⟩, ?_⟩
          rw [wp_un, wp_un, gI_sI, if_pos rfl, wp_ar]
          refine ⟨⟨by omega, by omega⟩, ?_⟩
          rw [wp_some]
          refine Or.inl ⟨hok, by omega, by omega, ?_⟩
          have hw : WF FC (sI (sA (sA u 71 (wnF W : Int) m) 72 (wnF W : Int) (x : Int)) 74 ((wnF W : Int) + 1)) := wfI (wfA (wfA h.2.1 rfl hm) rfl ⟨by omega, by omega⟩) rfl ⟨by omega, by omega⟩
          refine h.tb (fun k hk => (aA (by omega)).trans (aA (by omega))) (fun k hk => by rw [gI_sI, if_neg (by omega)]; rfl) hw h.1.2.2.1 h.1.2.2.2.1 ⟨?_, ?_, h71, h72, fun i hi => ?_⟩ h.1.2.2.2.2.2.1 h.1.2.2.2.2.2.2 h.2.2.2.2.2.2.2.2.2.1 h.2.2.2.2.2.2.2.2.2.2.1 h.2.2.2.2.2.2.2.2.2.2.2
          · rw [gI_sI, if_pos rfl]; show _ = ((wnF W + 1 : Nat) : Int); omega
          · show wnF W + 1 ≤ 30; omega
          · have hi : i < wnF W + 1 := hi
            rw [gN_sI, gN_sI, gN_sAn, if_neg (by omega), gN_sAn, gN_sAn, gN_sAn, wfM_fn, wfR_fn]
            by_cases q : i = wnF W
            · rw [if_pos ⟨rfl, q⟩, if_pos q, if_pos ⟨rfl, q⟩, if_pos q]
              exact ⟨by omega, ⟨x, rfl, hx, et⟩⟩
            · rw [if_neg (fun z => q z.2), if_neg q, if_neg (fun z => q z.2), if_neg q, if_neg (by omega)]
              exact hen i (by omega)
        · rw [if_neg (by omega)]
          exact wp_full (by omega) h9 hok (by omega) (h.tS h9) _
      · rw [if_neg hl]
        exact wp_bad (by omega) h9 (fun q => hl (hr.mpr q.2.2)) (h.tS h9) _
    · have e : runC d 2 [a] u = some (exB + 1, tS u) := e
      exact wp_thr1 e (fun q => hs q.2.1) (h.tS h9) _
  · rw [if_neg m2]
    exact wp_bad (by omega) h9 (fun q => m2 q.1.2) (h.tS h9) _
theorem tFunc {d : Nat} (hd : 300 ≤ d) {W : Wd} {c : Nat} {Fo Pr : List Nat} {lc : Nat} {K : Int} {u : Sg} (h : ReT W c Fo Pr lc K u) (hF : FoP Fo) (hW : WOK W (NT nt2 (c + 2))) (m a : Int) (hm : inR m) : wp (runT d 19 [m, a] u) (FcT (okFn Fo m a) (wnF W = 30) (wnF W : Int) (ReT (wFn W m.toNat (frm Fo a)) c Fo Pr lc K) (ReT W c Fo Pr lc K)) := by
  obtain ⟨d, rfl⟩ : ∃ e, d = e + 1 := ⟨d - 1, by omega⟩
  rw [runT_eq (by omega)]
  show wp (bX3_functor (runT d) m a u) _
  unfold bX3_functor jn
  dsimp only
  have hs := h.s0 (v := 0) (by decide)
  have bad : ¬ okFn Fo m a → FcT (okFn Fo m a) (wnF W = 30) (wnF W : Int) (ReT (wFn W m.toNat (frm Fo a)) c Fo Pr lc K) (ReT W c Fo Pr lc K) 0 (sI (sI u 0 0) 0 1) := fun hb => Or.inr (Or.inr ⟨hb, rfl, by rw [gI_sI, if_pos rfl], hs.s0 (by decide)⟩)
  rw [wp_un]
  rcases tS' (d := d) (by omega) hs hF (s := 1) (by decide) a with ⟨hS, x, x0, hx, et, e⟩ | ⟨hS, e⟩
  · have e : runT d 12 [a, 1] (sI u 0 0) = some ((x : Int), sI u 0 0) := e
    have hn9 := nT_le hs.1.1
    obtain ⟨fo, fz, -⟩ := hF _ hS.mem
    have fh := hF.ht hS.mem
    rw [cl_eq e]
    by_cases m0 : m < 0
    · rw [if_pos m0]
      exact wp_fails (by omega) (bad (fun q => by have := q.1; omega))
    rw [if_neg m0]
    by_cases m2 : m ≤ 2
    · rw [if_pos m2, if_neg (by omega)]
      obtain ⟨b1, b2⟩ := rX3_isBelow hs.1.1 hn9 fo (by omega) (d := d) (n := m.toNat) (by omega) x0 hx et
      rw [show ((m.toNat : Nat) : Int) = m by omega] at b1 b2
      obtain ⟨h22, h30, h20, h21, hen⟩ := hs.1.2.2.2.2.1
      by_cases hl : lvL (frm Fo a) m.toNat
      · have hok : okFn Fo m a := ⟨⟨by omega, m2⟩, hS, hl⟩
        rw [cl_eq (b1 hl), if_neg (by decide), wp_un, h22]
        by_cases hlt : wnF W = 30
        · rw [if_pos (by omega)]
          exact wp_fails (by omega) (Or.inr (Or.inl ⟨hok, hlt, rfl, by rw [gI_sI, if_pos rfl], hs.s0 (by decide)⟩))
        · rw [if_neg (by omega), wp_un, wp_stA]
          refine ⟨⟨by omega, by rw [h20]; omega⟩, ?_⟩
          rw [wp_un, gI_sA, h22, wp_stA]
          refine ⟨⟨by omega, by rw [gL_sA, h21]; omega⟩, ?_⟩
          rw [wp_un, gI_sA, gI_sA, h22, wp_ar]
          refine ⟨⟨by omega, by omega⟩, ?_⟩
          rw [wp_un, wp_some]
          refine Or.inl ⟨hok, hlt, rfl, rfl, ?_⟩
          have hw : WF FT (sI (sA (sA (sI u 0 0) 20 (wnF W : Int) m) 21 (wnF W : Int) (x : Int)) 22 ((wnF W : Int) + 1)) := wfIT (wfAT (wfAT hs.2.1 rfl hm) rfl ⟨by omega, by omega⟩) rfl ⟨by omega, by omega⟩
          have he : EqH (sI u 0 0) (sI (sA (sA (sI u 0 0) 20 (wnF W : Int) m) 21 (wnF W : Int) (x : Int)) 22 ((wnF W : Int) + 1)) := (EqH.sA (by decide)).trn ((EqH.sA (by decide)).trn (EqH.sI (by decide)))
          refine hs.tb (fun k hk h2 => (aA (by unfold isTb at h2; omega)).trans (aA (by unfold isTb at h2; omega))) (fun k hk h2 => by rw [gI_sI, if_neg (by unfold isTb at h2; omega)]; rfl) hw hW wex_fn hs.1.2.2.1 hs.1.2.2.2.1 ⟨?_, ?_, h20, h21, fun i hi => ?_⟩ hs.1.2.2.2.2.2.1 (TWg.ag hs.1.2.2.2.2.2.2 he (fun k h1 h2 => (aA (by omega)).trans (aA (by omega))) rfl) hs.2.2.2.2.2.2.2.2.1 hs.2.2.2.2.2.2.2.2.2.1 hs.2.2.2.2.2.2.2.2.2.2
          · rw [gI_sI, if_pos rfl]; show _ = ((wnF W + 1 : Nat) : Int); omega
          · show wnF W + 1 ≤ 30; omega
          · have hi : i < wnF W + 1 := hi
            rw [gN_sI, gN_sI, gN_sAn, if_neg (by omega), gN_sAn, gN_sAn, gN_sAn, wfM_fn, wfR_fn]
            by_cases q : i = wnF W
            · rw [if_pos ⟨rfl, q⟩, if_pos q, if_pos ⟨rfl, q⟩, if_pos q]
              exact ⟨by omega, ⟨x, rfl, hx, et⟩⟩
            · rw [if_neg (fun z => q z.2), if_neg q, if_neg (fun z => q z.2), if_neg q, if_neg (by omega)]
              exact hen i (by omega)
      · rw [cl_eq (b2 hl), if_pos rfl]
        exact wp_fails (by omega) (bad (fun q => hl q.2.2))
    · rw [if_neg m2]
      exact wp_fails (by omega) (bad (fun q => m2 q.1.2))
  · have e : runT d 12 [a, 1] (sI u 0 0) = some (0, sI u 0 0) := e
    rw [cl_eq e]
    have nb : ¬ okFn Fo m a := fun q => hS q.2.1
    by_cases m0 : m < 0
    · rw [if_pos m0]
      exact wp_fails (by omega) (bad nb)
    rw [if_neg m0]
    by_cases m2 : m ≤ 2
    · rw [if_pos m2, if_pos rfl]
      exact wp_fails (by omega) (bad nb)
    · rw [if_neg m2]
      exact wp_fails (by omega) (bad nb)
