/-! worlds that grow: what was there is as it was -/
def WEx (N : Nat → Prop) (W W' : Wd) : Prop := (∀ n, N n → wcT W' n = wcT W n) ∧ (wnM W ≤ wnM W' ∧ ∀ m, m < wnM W → wmP W' m = wmP W m ∧ wmH W' m = wmH W m) ∧ (wnF W ≤ wnF W' ∧ ∀ f, f < wnF W → wfR W' f = wfR W f ∧ wfM W' f = wfM W f) ∧ (wnP W ≤ wnP W' ∧ ∀ p, p < wnP W → wpM W' p = wpM W p) ∧ wnA W ≤ wnA W' ∧ (wgS W' = wgS W ∧ wgO W' = wgO W ∧ wgA W' = wgA W ∧ wgB W' = wgB W ∧ wgV W' = wgV W ∧ wnG W' = wnG W)
section WEX
variable {N N' : Nat → Prop} {W W' : Wd}
theorem lc_ex (h : WEx N W W') (hN : ∀ n, N n → N' n) {s : Nat} (q : lcW W N s) : lcW W' N' s := by
  obtain ⟨-, ⟨m1, m2⟩, ⟨f1, f2⟩, ⟨p1, p2⟩, a1, -⟩ := h
  obtain ⟨q1, q2, q3, q4, q5, q6⟩ := q
  refine ⟨fun k => hN _ (q1 k), fun k => ?_, fun k => ?_, fun k => ?_, fun k => ?_, fun k => ?_⟩
  · obtain ⟨z1, z2⟩ := q2 k
    exact ⟨by omega, by rw [(f2 _ z1).2]; exact z2⟩
  · obtain ⟨z1, z2, z3⟩ := q3 k
    exact ⟨by omega, by rw [(m2 _ z1).2]; exact z2, fun j hj => by have := z3 j hj; omega⟩
  · obtain ⟨z1, z2⟩ := q4 k
    exact ⟨by omega, by rw [p2 _ z1]; exact z2⟩
  · have := q5 k; omega
  · obtain ⟨z1, z2, z3⟩ := q6 k
    exact ⟨z1, by omega, by rw [(m2 _ z2).2]; exact z3⟩
theorem fr_ex (h : WEx N W W') (hN : ∀ n, N n → N' n) {t : Nat} (q : frW W N t) : frW W' N' t := ⟨q.1, fun s hs => lc_ex h hN (q.2 s hs)⟩
theorem cltm_ex (h : WEx N W W') (hN : ∀ n, N n → N' n) {t : Nat} (q : cltm W N t) : cltm W' N' t := ⟨fr_ex h hN q.1, q.2⟩
theorem clty_ex (h : WEx N W W') (hN : ∀ n, N n → N' n) {t : Nat} (q : clty W N t) : clty W' N' t := ⟨fr_ex h hN q.1, q.2⟩
theorem gvn_ex (h : WEx N W W') (hN : ∀ n, N n → N' n) {t n : Nat} (q : gvn W N t n) : gvn W' N' t n := ⟨fr_ex h hN q.1, q.2⟩
theorem ty_ex (h : WEx N W W') {t : Nat} (ht : cltm W N t) : tyT W' t = tyT W t := by
  unfold tyT
  rcases ht.k with q | q | q
  · rw [if_pos q, if_pos q, h.1 _ (ht.1.lc.1 q)]
  · have q1 : ¬ kd t = 1 := by omega
    rw [if_neg q1, if_neg q1, if_pos q, if_pos q, (h.2.2.1.2 _ (ht.1.lc.2.1 q).1).1]
  · have q1 : ¬ kd t = 1 := by omega
    have q4 : ¬ kd t = 4 := by omega
    rw [if_neg q1, if_neg q1, if_neg q4, if_neg q4]
theorem pa_ex (h : WEx N W W') {y : Nat} (hy : clty W N y) : paT W' y = paT W y := by
  unfold paT
  rw [(h.2.1.2 _ (hy.1.lc.2.2.1 hy.2.1).1).1]
theorem ch_0 (W : Wd) (n : Nat) : chT W n 0 = [] := by
  cases n with
  | zero => rfl
  | succ n => show (if (0 : Nat) = 0 then [] else _) = _; rw [if_pos rfl]
theorem ch_ex (hW : WOK W N) (h : WEx N W W') : ∀ (n y : Nat), clty W N y → chT W' n y = chT W n y
  | 0, _, _ => rfl
  | n + 1, y, hy => by
    show (if y = 0 then [] else y :: chT W' n (paT W' y)) = (if y = 0 then [] else y :: chT W n (paT W y))
    rw [pa_ex h hy]
    by_cases h0 : wh y = 0
    · have e : paT W y = 0 := by unfold paT; rw [if_pos h0]
      rw [e, ch_0, ch_0]
    · rw [ch_ex hW h n _ (pa_ok hW hy h0).1]
theorem upx (hW : WOK W N) (h : WEx N W W') {y : Nat} (hy : clty W N y) : upT W' y = upT W y := ch_ex hW h _ _ hy
theorem has_ex (hW : WOK W N) (h : WEx N W W') {y m a : Nat} (hy : clty W N y) : hasT W' y m a ↔ hasT W y m a := by
  unfold hasT
  rw [upx hW h hy]
/-- adjectives of what was there are as they were -/
theorem adT_ex (hW : WOK W N) (h : WEx N W W') : ∀ (t : Nat), cltm W N t → adT W' t = adT W t := by
  obtain ⟨gS, gO, gA, gB, gV, gn⟩ := h.2.2.2.2.2
  intro t
  induction t using Nat.strongRecOn with
  | ind t ih =>
    intro ht
    have hty := ty_ok hW ht
    have e1 : tyT W' t = tyT W t := ty_ex h ht
    have hfit : kd t = 4 → ∀ i, i < (ps t).length → ∀ y, fitF W' (adT W') (pa t i) y ↔ fitF W (adT W) (pa t i) y := fun h4 i hi y => by
      obtain ⟨p1, p2⟩ := fun_part ht h4 hi
      unfold fitF
      rw [ty_ex h p1, ih _ (fms_lt p2) p1]
      exact and_congr (has_ex hW h (ty_ok hW p1)) Iff.rfl
    have hb : ∀ i, basA W' (adT W') t i ↔ basA W (adT W) t i := fun i => by
      unfold basA argF
      rw [e1, upx hW h hty, gS, gO, gA, gB, gV, gn]
      refine or_congr Iff.rfl (and_congr_right fun h4 => exists_congr fun g => and_congr_right fun _ => and_congr_right fun _ => and_congr_right fun _ => and_congr ?_ Iff.rfl)
      refine and_congr (imp_congr Iff.rfl ?_) (imp_congr Iff.rfl ?_)
      · exact and_congr_right fun hl => hfit h4 0 hl _
      · exact and_congr_right fun hl => hfit h4 1 hl _
    have hc : ∀ S, cluA W' (tyT W' t) S ↔ cluA W (tyT W t) S := fun S => by
      have ho : ∀ g, ofM W' (tyT W t) g ↔ ofM W (tyT W t) g := fun g => by
        unfold ofM
        rw [upx hW h hty, gO, gA]
        refine exists_congr fun z => and_congr_right fun hz => and_congr_right fun _ => or_congr Iff.rfl (and_congr_right fun h0 => ?_)
        have hzc := (up_cl hW _ _ (Nat.lt_succ_self _) hty z hz).1
        have hp := ((type_part hzc).2 h0).1
        rw [ty_ex h hp]
        exact has_ex hW h (ty_ok hW hp)
      unfold cluA
      rw [e1, gS, gO, gV, gn]
      exact forall_congr' fun g => imp_congr Iff.rfl (imp_congr Iff.rfl (imp_congr Iff.rfl (imp_congr (ho g) Iff.rfl)))
    funext j
    rw [adT_eq, adT_eq]
    exact propext ⟨fun q S h1 h2 => q S (fun i hi => h1 i ((hb i).mp hi)) ((hc S).mpr h2), fun q S h1 h2 => q S (fun i hi => h1 i ((hb i).mpr hi)) ((hc S).mp h2)⟩
theorem wex_rf : WEx N W W := ⟨fun _ _ => rfl, ⟨Nat.le_refl _, fun _ _ => ⟨rfl, rfl⟩⟩, ⟨Nat.le_refl _, fun _ _ => ⟨rfl, rfl⟩⟩, ⟨Nat.le_refl _, fun _ _ => rfl⟩, Nat.le_refl _, rfl, rfl, rfl, rfl, rfl, rfl⟩
end WEX
