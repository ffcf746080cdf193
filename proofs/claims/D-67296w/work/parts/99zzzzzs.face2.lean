/-! worlds that say the same of types and registrations -/
theorem ch_w {W W' : Wd} (hm : wmP W' = wmP W) : ∀ (n y : Nat), chT W' n y = chT W n y
  | 0, _ => rfl
  | n + 1, y => by
    have e : paT W' y = paT W y := by unfold paT; rw [hm]
    show (if y = 0 then [] else y :: chT W' n (paT W' y)) = (if y = 0 then [] else y :: chT W n (paT W y))
    rw [ch_w hm n, e]
theorem adT_w {W W' : Wd} (hc : wcT W' = wcT W) (hm : wmP W' = wmP W) (hf : wfR W' = wfR W) (hS : wgS W' = wgS W) (hO : wgO W' = wgO W) (hA : wgA W' = wgA W) (hB : wgB W' = wgB W) (hV : wgV W' = wgV W) (hG : wnG W' = wnG W) : adT W' = adT W := by
  have e1 : ∀ y, upT W' y = upT W y := fun y => ch_w hm _ _
  have e2 : hasT W' = hasT W := by
    funext y m x
    unfold hasT
    rw [e1]
  have e4 : tyT W' = tyT W := by
    funext t
    unfold tyT
    rw [hc, hf]
  have e : adjS W' = adjS W := by
    funext f t j
    have e5 : basA W' f t = basA W f t := by
      funext i
      unfold basA argF fitF
      rw [e1, e2, e4, hG, hS, hO, hA, hB, hV]
    have e6 : cluA W' (tyT W' t) = cluA W (tyT W t) := by
      funext S
      unfold cluA ofM
      rw [e1, e2, e4, hG, hS, hO, hA, hV]
    unfold adjS
    rw [e5, e6]
  funext t
  unfold adT
  rw [e]
def setF (W : Wd) (i j v : Nat) : Wd := (fun i' j' => if i' = i then (if j' = j then v else W.1 i' j') else W.1 i' j', W.2)
/-! face: clear -/
theorem cClear {d : Nat} (hd : 10 ≤ d) {W : Wd} {c : Nat} {Fo Pr : List Nat} {lc : Nat} {K : Int} {u : Sg} (h : ReC W c Fo Pr lc K u) : wp (runC d 0 [] u) (fun r u' => r = (Pr.length : Int) ∧ ReC W c Fo [] lc K u') := by
  obtain ⟨d, rfl⟩ : ∃ e, d = e + 1 := ⟨d - 1, by omega⟩
  rw [runC_eq (by omega)]
  show wp (bX1_clear (runC d) u) _
  unfold bX1_clear
  have h83 := h.2.2.2.2.2.2.2.2.2.2.1.1
  rw [wp_un, wp_un, h83, wp_some]
  refine ⟨rfl, ?_⟩
  have hw : WF FC (sI u 83 0) := wfI h.2.1 rfl (by decide)
  obtain ⟨⟨h1, h2, ha, hb, hf, hp, hg⟩, -, hArr, hm, hr, h36, h33, h61, h60, hFo, hPr, h84⟩ := h
  exact ⟨⟨sc_sI h1 (by decide), h2, ha, hb, hf, hp, hg⟩, hw, hArr, hm, hr, h36, h33, h61, h60, hFo, ⟨by rw [gI_sI, if_pos rfl]; rfl, Nat.zero_le _, by decide, fun i f q => by simp at q⟩, h84⟩
theorem tClear {d : Nat} (hd : 10 ≤ d) {W : Wd} {c : Nat} {Fo Pr : List Nat} {lc : Nat} {K : Int} {u : Sg} (h : ReT W c Fo Pr lc K u) : wp (runT d 51 [] u) (fun b v => b = (Pr.length : Int) ∧ ReT W c Fo [] lc K v) := by
  obtain ⟨d, rfl⟩ : ∃ e, d = e + 1 := ⟨d - 1, by omega⟩
  rw [runT_eq (by omega)]
  show wp (bX3_clear (runT d) u) _
  unfold bX3_clear
  have hs0 := h.s0 (v := 0) (by decide)
  have h81 := hs0.2.2.2.2.2.2.2.2.2.1.1
  rw [wp_un, wp_un, h81, wp_un, wp_some]
  refine ⟨rfl, ?_⟩
  have hw : WF FT (sI (sI u 0 0) 81 0) := wfIT hs0.2.1 rfl (by decide)
  obtain ⟨⟨h1, h2, ha, hb, hf, hp, hg⟩, -, hArr, hm, hh, h54, h76, h43, hFo, hPr, h82⟩ := hs0
  have hst : ST nt2 (c + 2) (sI (sI u 0 0) 81 0) := (EqH.sI (by decide)).st h1
  exact ⟨⟨hst, h2, ha, hb, hf, hp, hg⟩, hw, hArr, hm, hh, h54, h76, h43, hFo, ⟨by rw [gI_sI, if_pos rfl]; rfl, Nat.zero_le _, by decide, fun i f q => by simp at q⟩, h82⟩
