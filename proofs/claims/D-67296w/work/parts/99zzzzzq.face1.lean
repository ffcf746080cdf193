/-! face: attribute -/
def setN (W : Wd) (i n : Nat) : Wd := (W.1, fun k => if k = i then n else W.2 k)
theorem room_ok {d : Nat} (hd : 3 ≤ d) {u : Sg} : runC d 6 [1] u = some (0, u) := by
  obtain ⟨d, rfl⟩ : ∃ e, d = e + 1 := ⟨d - 1, by omega⟩
  rw [runC_eq (by omega)]
  rfl
theorem room_no {d : Nat} (hd : 3 ≤ d) {u : Sg} (h : 0 ≤ gI u 99 ∧ gI u 99 < 1000000) : runC d 6 [0] u = some (exB + 2, tS u) := by
  obtain ⟨d, rfl⟩ : ∃ e, d = e + 1 := ⟨d - 1, by omega⟩
  rw [runC_eq (by omega)]
  show thr u 2 = _
  unfold thr
  rw [if_pos h]
  rfl
theorem need_ok {d : Nat} (hd : 3 ≤ d) {u : Sg} : runC d 4 [1] u = some (0, u) := by
  obtain ⟨d, rfl⟩ : ∃ e, d = e + 1 := ⟨d - 1, by omega⟩
  rw [runC_eq (by omega)]
  rfl
theorem need_no {d : Nat} (hd : 3 ≤ d) {u : Sg} (h : 0 ≤ gI u 99 ∧ gI u 99 < 1000000) : runC d 4 [0] u = some (exB + 1, tS u) := by
  obtain ⟨d, rfl⟩ : ∃ e, d = e + 1 := ⟨d - 1, by omega⟩
  rw [runC_eq (by omega)]
  show thr u 1 = _
  unfold thr
  rw [if_pos h]
  rfl
theorem pr_0 {σ : Sg} {K : Option (Int × Sg)} : pr 0 σ K = K := by unfold pr; rw [if_neg (by decide)]
theorem pr_x {k : Int} {σ : Sg} {K : Option (Int × Sg)} (hk : 0 < k) : pr (exB + k) σ K = some (exB + k, σ) := by unfold pr; rw [if_pos (by omega)]
/-- a state behind a throw rests as before -/
theorem ReC.tS {W : Wd} {c : Nat} {Fo Pr : List Nat} {lc : Nat} {K : Int} {u : Sg} (h : ReC W c Fo Pr lc K u) (h9 : 0 ≤ gI u 99 ∧ gI u 99 < 1000000) : ReC W c Fo Pr lc K (tS u) := by
  have g : ∀ k, gI (Jvm.Pilot.CRoundCheckLaw_law_r3799_a790a3.tS u) k = if k = 99 then gI u 99 + 1 else gI u k := fun k => rfl
  refine ReC.cg (u := u) (fun k _ => rfl) (fun k hk => by rw [g, if_neg (by omega)]) ?_ h
  obtain ⟨w1, w2, w3, w4, w5, w6⟩ := h.2.1
  refine ⟨fun k => ?_, w2, w3, w4, w5, fun k hk => ?_⟩
  · rw [g]
    split
    · exact ⟨by omega, by omega⟩
    · exact w1 k
  · rw [g, if_neg (fun e => by rw [e] at hk; cases hk)]
    exact w6 k hk
theorem ch_n {a : Nat → Nat → Nat} {b b' : Nat → Nat} : ∀ (n y : Nat), chT (a, b') n y = chT (a, b) n y
  | 0, _ => rfl
  | n + 1, y => by
    show (if y = 0 then [] else y :: chT (a, b') n (paT (a, b') y)) = (if y = 0 then [] else y :: chT (a, b) n (paT (a, b) y))
    rw [ch_n n, show paT (a, b') y = paT (a, b) y from rfl]
theorem up_n {a : Nat → Nat → Nat} {b b' : Nat → Nat} (y : Nat) : upT (a, b') y = upT (a, b) y := ch_n _ _
theorem has_n {a : Nat → Nat → Nat} {b b' : Nat → Nat} : hasT (a, b') = hasT (a, b) := by
  funext y m x
  unfold hasT
  rw [up_n (b := b) (b' := b')]
theorem adjS_n {a : Nat → Nat → Nat} {b b' : Nat → Nat} (h : b' 4 = b 4) : adjS (a, b') = adjS (a, b) := by
  funext f t j
  have e1 : ∀ y, upT (a, b') y = upT (a, b) y := up_n
  have e2 : hasT (a, b') = hasT (a, b) := has_n
  have e3 : wnG (a, b') = wnG (a, b) := h
  have e4 : tyT (a, b') t = tyT (a, b) t := rfl
  have e5 : basA (a, b') f t = basA (a, b) f t := by
    funext i
    unfold basA argF fitF
    rw [e1, e2, e3]
    rfl
  have e6 : cluA (a, b') (tyT (a, b') t) = cluA (a, b) (tyT (a, b) t) := by
    funext S
    unfold cluA ofM
    rw [e1, e2, e3]
    rfl
  unfold adjS
  rw [e5, e6]
theorem adT_n {W : Wd} {n : Nat} : adT (setN W 3 n) = adT W := by
  funext t
  unfold adT
  rw [show adjS (setN W 3 n) = adjS W from adjS_n (a := W.1) (b := W.2) rfl]
theorem cAttr {d : Nat} (hd : 10 ≤ d) {W : Wd} {c : Nat} {Fo Pr : List Nat} {lc : Nat} {K : Int} {u : Sg} (h : ReC W c Fo Pr lc K u) (h9 : 0 ≤ gI u 99 ∧ gI u 99 < 1000000) : wp (runC d 7 [] u) (fun r u' => (wnA W < 15 ∧ r = (wnA W : Int) ∧ ReC (setN W 3 (wnA W + 1)) c Fo Pr lc K u') ∨ (wnA W = 15 ∧ r = exB + 2 ∧ ReC W c Fo Pr lc K u')) := by
  obtain ⟨d, rfl⟩ : ∃ e, d = e + 1 := ⟨d - 1, by omega⟩
  rw [runC_eq (by omega)]
  show wp (bX1_attribute (runC d) u) _
  unfold bX1_attribute jn
  have h70 := h.1.2.2.2.2.2.1.2.1
  have h15 := h.1.2.2.2.2.2.1.2.2
  rw [wp_un, h70]
  by_cases hlt : wnA W < 15
  · rw [if_pos (by omega)]
    show wp (cl (runC d 6 [1] u) _) _
    rw [room_ok (by omega)]
    show wp (pr 0 u _) _
    rw [pr_0, wp_un, h70, wp_ar]
    refine ⟨⟨by omega, by omega⟩, ?_⟩
    rw [wp_un, wp_un, gI_sI, if_pos rfl, wp_ar]
    refine ⟨⟨by omega, by omega⟩, ?_⟩
    rw [wp_some]
    refine Or.inl ⟨hlt, by omega, ?_⟩
    have hw : WF FC (sI u 70 ((wnA W : Int) + 1)) := wfI h.2.1 rfl ⟨by omega, by omega⟩
    obtain ⟨⟨h1, h2, ha, hb, hf, ⟨hp, -, -⟩, hg⟩, -, hArr, hm, hr, h36, h33, h61, h60, hFo, hPr, h84⟩ := h
    exact ⟨⟨sc_sI h1 (by decide), h2, ha, hb, hf, ⟨hp, by rw [gI_sI, if_pos rfl]; rfl, by show wnA W + 1 ≤ 15; omega⟩, hg⟩, hw, hArr, hm, hr, h36, h33, h61, h60, hFo, hPr, h84⟩
  · rw [if_neg (by omega)]
    show wp (cl (runC d 6 [0] u) _) _
    rw [room_no (by omega) h9]
    show wp (pr (exB + 2) (tS u) _) _
    rw [pr_x (by decide), wp_some]
    exact Or.inr ⟨by omega, rfl, h.tS h9⟩
