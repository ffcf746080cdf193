/-! the law's loop -/
def LRun (d L : Nat) (xs : Nat → Int32) : Nat → Nat → Sg → Prop
  | 0, i, _ => L < i + 5
  | n + 1, i, σ => L < i + 5 ∨ ∃ σ', LStep d (fun j => (xs (i + j)).toInt) σ σ' ∧ LRun d L xs n (i + 5) σ'
theorem law_loop {p : Program} {l : Launch} {e : Env} {s : State} {m : MethodId} {below : List Frame} {meth : Method} {c : Code} {G : Gm} {b L d : Nat} {xs : Nat → Int32} {Q : State → Prop} (C0 : LwC p s m meth c G b L xs) (hlt : LT l) (hd : 12 ≤ d ∧ d + 2 ≤ 2048) (hL : L ≤ 320) (fin : ∀ σ i, Bnd σ → WL p l e s m below meth c G b Q σ 1717 (locL i) []) :
    ∀ (n i : Nat) (σ : Sg), i ≤ 330 → LRun d L xs n i σ → Bnd σ → WL p l e s m below meth c G b Q σ 23 (locL i) [] := by
  intro n
  induction n with
  | zero =>
    intro i σ hi hr hb
    refine wl_iload C0 0 dL_law_23 rfl (wl_aload_n C0 4 dL_law_25 rfl ?_)
    refine wl_lift (pc' := 1717) (stk' := []) (fun ad H locs cells slots ls h9 _ hS _ w => ?_) (fin σ i hb)
    show W p l e room_1 s m #[.ref b] below meth c H locs cells slots Q (F0 m _ ls (.ref (ad 9) :: .int (Int32.ofInt (i : Int)) :: []))
    rw [h9]
    refine va_slen C0.1.1 C0.1.2.1 C0.2.2.2.1 C0.2.2.2.2 (Nat.not_le.mpr C0.2.2.2.2) hS dL_law_26 (lv_iconst C0.1.1 C0.1.2.1 dL_law_27 rfl (lv_isub C0.1.1 C0.1.2.1 dL_law_28 ?_))
    have e1 : Int32.ofNat L - Int32.ofInt 5 = Int32.ofInt ((L : Int) - 5) := by rw [← Int32.ofInt_eq_ofNat, ← Int32.ofInt_sub]
    rw [e1]
    have hr : L < i + 5 := hr
    refine lv_icmp_gt C0.1.1 C0.1.2.1 (tgt := 1717) dL_law_29 (by decide) (fun _ => w) (fun h => absurd ((o_ofInt_lt (by omega) (by omega)).mpr (by omega)) h)
  | succ n ih =>
    intro i σ hi hr hb
    by_cases hc : L < i + 5
    · refine wl_iload C0 0 dL_law_23 rfl (wl_aload_n C0 4 dL_law_25 rfl ?_)
      refine wl_lift (pc' := 1717) (stk' := []) (fun ad H locs cells slots ls h9 _ hS _ w => ?_) (fin σ i hb)
      show W p l e room_1 s m #[.ref b] below meth c H locs cells slots Q (F0 m _ ls (.ref (ad 9) :: .int (Int32.ofInt (i : Int)) :: []))
      rw [h9]
      refine va_slen C0.1.1 C0.1.2.1 C0.2.2.2.1 C0.2.2.2.2 (Nat.not_le.mpr C0.2.2.2.2) hS dL_law_26 (lv_iconst C0.1.1 C0.1.2.1 dL_law_27 rfl (lv_isub C0.1.1 C0.1.2.1 dL_law_28 ?_))
      have e1 : Int32.ofNat L - Int32.ofInt 5 = Int32.ofInt ((L : Int) - 5) := by rw [← Int32.ofInt_eq_ofNat, ← Int32.ofInt_sub]
      rw [e1]
      refine lv_icmp_gt C0.1.1 C0.1.2.1 (tgt := 1717) dL_law_29 (by decide) (fun _ => w) (fun h => absurd ((o_ofInt_lt (by omega) (by omega)).mpr (by omega)) h)
    · obtain ⟨σ', hst, hr'⟩ : ∃ σ', LStep d (fun j => (xs (i + j)).toInt) σ σ' ∧ LRun d L xs n (i + 5) σ' := by
        rcases hr with h | h
        · exact absurd h hc
        · exact h
      have hb' := LStep_bnd hst
      have k1 := ih (i + 5) σ' (by omega) hr' hb'
      have k2 : WL p l e s m below meth c G b Q σ' 1711 (locL i) [] := by
        intro ad H locs ls h9 hw hP hD hS hl
        refine lv_iinc (k := 0) (v := Int32.ofInt ((i + 5 : Nat) : Int)) C0.1.1 C0.1.2.1 dL_law_1711 hl rfl (by rw [← Int32.ofInt_add]; rfl) (by decide) rfl (fun ls' h' => ?_)
        exact lv_goto C0.1.1 C0.1.2.1 (tgt := 23) dL_law_1714 (by decide) (k1 ad H locs ls' h9 hw hP hD hS h')
      have k3 := law_iter C0 hlt hd hL (by omega) hst k2
      refine wl_iload C0 0 dL_law_23 rfl (wl_aload_n C0 4 dL_law_25 rfl ?_)
      refine wl_lift (pc' := 32) (stk' := []) (fun ad H locs cells slots ls h9 _ hS _ w => ?_) k3
      show W p l e room_1 s m #[.ref b] below meth c H locs cells slots Q (F0 m _ ls (.ref (ad 9) :: .int (Int32.ofInt (i : Int)) :: []))
      rw [h9]
      refine va_slen C0.1.1 C0.1.2.1 C0.2.2.2.1 C0.2.2.2.2 (Nat.not_le.mpr C0.2.2.2.2) hS dL_law_26 (lv_iconst C0.1.1 C0.1.2.1 dL_law_27 rfl (lv_isub C0.1.1 C0.1.2.1 dL_law_28 ?_))
      have e1 : Int32.ofNat L - Int32.ofInt 5 = Int32.ofInt ((L : Int) - 5) := by rw [← Int32.ofInt_eq_ofNat, ← Int32.ofInt_sub]
      rw [e1]
      refine lv_icmp_gt C0.1.1 C0.1.2.1 (tgt := 1717) dL_law_29 (by decide) (fun h => absurd ((o_ofInt_lt (by omega) (by omega)).mp h) (by omega)) (fun _ => w)
