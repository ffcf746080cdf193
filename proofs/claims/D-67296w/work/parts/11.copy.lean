/-! new arrays: Arrays.copyOf, RoundCheckModel.more -/
def QcN (G : Gm) (cl0 : List vw_C) (ws : va_W) (sz N : Nat) (f : Nat → Int32) : Array Value → State → Outcome → State → Prop := fun _ st o t =>
  ∃ q : Nat, o = .returned (some (.ref q)) ∧ va_P G.1 cl0 (ws ++ [(q, .inl (G.2.1, N, .inl f))]) t.heap ∧ va_D (va_A ws sz) (ws ++ [(q, .inl (G.2.1, N, .inl f))]) ∧ va_K G.1 cl0 (tysA G) t ∧ va_F (va_A ws sz) st t
def PcN (G : Gm) (cl0 : List vw_C) (ws : va_W) (sz a : Nat) (n : Int32) : Array Value → State → Prop := va_Pc [.ref a, .int n] (fun U => U.heap.size = sz ∧ va_P G.1 cl0 ws U.heap ∧ va_K G.1 cl0 (tysA G) U ∧ va_D (fun _ => True) ws)
theorem n_ofNat {n : Nat} (h : n < 2147483648) : ¬ (Int32.ofNat n) < 0 ∧ (Int32.ofNat n).toNatClampNeg = n ∧ (Int32.ofNat n).toInt = (n : Int) := by
  have e : (Int32.ofNat n).toInt = (n : Int) := by
    rw [← Int32.ofInt_eq_ofNat]; exact Int32.toInt_ofInt_of_le (by omega) (by omega)
  refine ⟨?_, ?_, e⟩
  · rw [Int32.lt_iff_toInt_lt, e]
    simp
  · show (Int32.ofNat n).toInt.toNat = n
    rw [e]; rfl
theorem n_lt {a b : Nat} (ha : a < 2147483648) (hb : b < 2147483648) : Int32.ofNat a < Int32.ofNat b ↔ a < b := by
  rw [Int32.lt_iff_toInt_lt, (n_ofNat ha).2.2, (n_ofNat hb).2.2]; omega
theorem n_eq {a b : Nat} (ha : a < 2147483648) (hb : b < 2147483648) : Int32.ofNat a = Int32.ofNat b ↔ a = b := by
  constructor
  · intro h
    have := congrArg Int32.toInt h
    rw [(n_ofNat ha).2.2, (n_ofNat hb).2.2] at this; omega
  · intro h; rw [h]
theorem va_getl {ws : va_W} {x : Nat × va_E} {k : Nat} {y : Nat × va_E} (h : ws[k]? = some y) : (ws ++ [x])[k]? = some y := by
  rw [List.getElem?_append_left (List.getElem?_eq_some_iff.mp h).1]; exact h
theorem va_getr {ws : va_W} {x : Nat × va_E} : (ws ++ [x])[ws.length]? = some x := by
  rw [List.getElem?_append_right (Nat.le_refl _), Nat.sub_self]; rfl
theorem va_setr {ws : va_W} {x y : Nat × va_E} : (ws ++ [x]).set ws.length y = ws ++ [y] := by
  rw [List.set_append_right _ _ (Nat.le_refl _), Nat.sub_self]; rfl
theorem ct_copyOf (l : Launch) {G : Gm} {cl0 : List vw_C} {ws : va_W} {sz k a L N : Nat} {f : Nat → Int32} (hk : ws[k]? = some (a, .inl (G.2.1, L, .inl f))) (hLN : L < N) (hN : N ≤ 134217728) :
    Met l yJ0_copyOf (ws_ yJ0_copyOf cJ0_copyOf 3 (some (.array .int))) ({ frames := 1, cells := 1, slots := N, locals := 40 } : Room) (PcN G cl0 ws sz a (Int32.ofNat N)) (QcN G cl0 ws sz N (fun j => if j < L then f j else 0)) 1 N (va_A ws sz) := by
  have hLN' := hLN
  obtain ⟨hn1, hn2, hn3⟩ := n_ofNat (n := N) (by omega)
  obtain ⟨hm1, hm2, hm3⟩ := n_ofNat (n := L) (by omega)
  refine Met.ofW (cc := cJ0_copyOf) (maxL := 3) (ret := some (.array .int)) (by decide) rfl ?_
  intro p e s m args below meth c s₁ B hml hv
  obtain ⟨rfl, hsz, hP, hK, hD0⟩ := hv
  have hts := atoms_spec (ws := ws_ yJ0_copyOf cJ0_copyOf 3 (some (.array .int))) B.pre
  have hts : ∀ w ∈ lw_all, w.before _ s = true := fun w h => hts w (List.mem_cons_of_mem _ h)
  have hown : s.vm.findClass RJ0 = some m.cls := findClass_of_methodNamed B.named
  have hD : va_D (va_A ws s.heap.size) ws := hD0.self
  have hA : ∀ q, s.heap.size ≤ q → va_A ws s.heap.size q := fun q h => Or.inr h
  subst hsz
  have hl := lv_entry ([.ref a, .int (Int32.ofNat N)]) (n := 3) (Nat.le_of_ble_eq_true rfl)
  rw [lg_entry_eq]
  generalize (lg_sl ([.ref a, .int (Int32.ofNat N)]) ++ List.replicate (3 - (lg_sl ([.ref a, .int (Int32.ofNat N)])).length) Slot.unset).toArray = ls at hl ⊢
  have hl : lv_has ls 3 [(0, .ref a), (1, .int (Int32.ofNat N))] := hl
  have hx := B.exec
  have hb := B.bytes
  refine lv_iload_n hx hb dJ0_copyOf_0 rfl (lv_at hl 1 rfl) ?_
  refine lv_aload_n hx hb dJ0_copyOf_1 rfl (lv_at hl 0 rfl) ?_
  refine va_alen hx hb hK hP k 0 hk rfl rfl dJ0_copyOf_2 ?_
  refine lv_icmp_ne hx hb (tgt := 14) dJ0_copyOf_3 rfl (fun _ => ?_) (fun h => absurd ((n_eq (by omega) (by omega)).mp h) (by omega))
  refine lv_iload_n hx hb dJ0_copyOf_14 rfl (lv_at hl 1 rfl) ?_
  refine va_newa (atype := .int) hx hb (hts _ q306) rfl hK hP hD va_S.rf hA (a0 := (N, .inl fun _ => 0)) (fun cA => rfl) hn1 hn2 (by show N * 4 ≤ _; omega) (by show 0 + 1 ≤ 1; omega) (by show 0 + N ≤ N; omega) dJ0_copyOf_15 (fun q cA H1 hK1 hP1 hD1 hS1 => ?_)
  have hcA : cA = G.2.1 := by
    have e1 := (hK1.2 3 (cA, .int) rfl).2
    have e2 := (hK.2 0 (G.2.1, .int) rfl).2
    exact Option.some.inj (e1.symm.trans e2)
  subst hcA
  refine lv_astore_n hx hb dJ0_copyOf_17 rfl hl (by decide) rfl (fun ls' hl' => ?_)
  refine lv_aload_n hx hb dJ0_copyOf_18 rfl (lv_at hl' 1 rfl) ?_
  refine lv_iconst hx hb dJ0_copyOf_19 rfl ?_
  refine lv_aload_n hx hb dJ0_copyOf_20 rfl (lv_at hl' 0 rfl) ?_
  refine lv_iconst hx hb dJ0_copyOf_21 rfl ?_
  refine lv_aload_n hx hb dJ0_copyOf_22 rfl (lv_at hl' 1 rfl) ?_
  refine va_alen hx hb hK hP1 k 0 (va_getl hk) rfl rfl dJ0_copyOf_23 ?_
  refine lv_iload_n hx hb dJ0_copyOf_24 rfl (lv_at hl' 2 rfl) ?_
  refine va_mmin hx hb (hml.trans hl'.1.symm) hown (hts _ q210) (hts _ q211) (hts _ q166) (hts _ q212) (by show 1 ≤ 1; omega) (by show 4 + 13 ≤ 40; omega) (by show 0 + 1 ≤ 1; omega) (by show 0 + N ≤ N; omega) dJ0_copyOf_25 ?_
  rw [show (if Int32.ofNat N < Int32.ofNat (L, (Sum.inl f : (Nat → Int32) ⊕ (Nat → Int64) ⊕ (Nat → UInt32) ⊕ (Nat → UInt64) ⊕ (Nat → Option Nat))).1 then Int32.ofNat N else Int32.ofNat (L, (Sum.inl f : (Nat → Int32) ⊕ (Nat → Int64) ⊕ (Nat → UInt32) ⊕ (Nat → UInt64) ⊕ (Nat → Option Nat))).1) = Int32.ofNat L from if_neg (fun h => by have := (n_lt (a := N) (b := L) (by omega) (by omega)).mp h; omega)]
  refine va_copyi hx hb (hml.trans hl'.1.symm) hown (hts _ q213) (hts _ q215) (hts _ q214) (hts _ q167) hK hP1 hD1 hS1 k ws.length 0 0 (va_getl hk) va_getr rfl rfl rfl (by decide) (by decide) hm1 (by rw [hm2]; show 0 + L ≤ L; omega) (by rw [hm2]; show 0 + L ≤ N; omega) (fun i _ => rfl) (by show 1 ≤ 1; omega) (by show 0 + (nativeFrameWords "java/lang/System" "arraycopy" 5 + 11) ≤ 40; decide) dJ0_copyOf_28 (fun H2 locs2 hP2 hD2 hS2 => ?_)
  rw [va_setr] at hP2 hD2
  have ef : va_cpy f (fun _ => 0) (Int32.toNatClampNeg 0) (Int32.toNatClampNeg 0) (Int32.ofNat L).toNatClampNeg = (fun j => if j < L then f j else 0) := by
    funext j
    rw [hm2]
    show (if 0 ≤ j ∧ j < 0 + L then f (0 + (j - 0)) else 0) = _
    simp
  have hP2' : va_P G.1 cl0 (ws ++ [(q, .inl (G.2.1, N, .inl fun j => if j < L then f j else 0))]) H2 := by rw [← ef]; exact hP2
  have hD2' : va_D (va_A ws s.heap.size) (ws ++ [(q, .inl (G.2.1, N, .inl fun j => if j < L then f j else 0))]) := by rw [← ef]; exact hD2
  refine lv_aload_n hx hb dJ0_copyOf_31 rfl (lv_at hl' 0 rfl) ?_
  rw [Nat.zero_add, Nat.zero_add]
  exact W.aret hx hb B.returns (Or.inr ⟨_, rfl⟩) (Or.inr ⟨_, rfl⟩) (fun t ht hW => ⟨q, rfl, by rw [ht]; exact hP2', hD2', va_K.moved hW.alike hK, hS2.F ht⟩) hS2.2.2 dJ0_copyOf_32 B.notSynchronized
def QcO (G : Gm) (cl0 : List vw_C) (ws : va_W) (sz a : Nat) : Array Value → State → Outcome → State → Prop := fun _ st o t =>
  o = .returned (some (.ref a)) ∧ va_P G.1 cl0 ws t.heap ∧ va_K G.1 cl0 (tysA G) t ∧ va_F (va_A ws sz) st t
theorem ct_more0 (l : Launch) {G : Gm} {cl0 : List vw_C} {ws : va_W} {sz k a L : Nat} {n : Int32} {f : Nat → Int32} (hk : ws[k]? = some (a, .inl (G.2.1, L, .inl f))) (hn : n < Int32.ofNat L) :
    Met l yX3_more (ws_ yX3_more cX3_more 4 (some (.array .int))) ({ frames := 1, cells := 0, slots := 0, locals := 40 } : Room) (PcN G cl0 ws sz a n) (QcO G cl0 ws sz a) 0 0 (va_A ws sz) := by
  refine Met.ofW (cc := cX3_more) (maxL := 4) (ret := some (.array .int)) (by decide) rfl ?_
  intro p e s m args below meth c s₁ B hml hv
  obtain ⟨rfl, hsz, hP, hK, hD0⟩ := hv
  have hl := lv_entry ([.ref a, .int n]) (n := 4) (Nat.le_of_ble_eq_true rfl)
  rw [lg_entry_eq]
  generalize (lg_sl ([.ref a, .int n]) ++ List.replicate (4 - (lg_sl ([.ref a, .int n])).length) Slot.unset).toArray = ls at hl ⊢
  have hl : lv_has ls 4 [(0, .ref a), (1, .int n)] := hl
  have hx := B.exec
  have hb := B.bytes
  refine lv_iload_n hx hb dX3_more_0 rfl (lv_at hl 1 rfl) ?_
  refine lv_aload_n hx hb dX3_more_1 rfl (lv_at hl 0 rfl) ?_
  refine va_alen hx hb hK hP k 0 hk rfl rfl dX3_more_2 ?_
  refine lv_icmp_ge hx hb (tgt := 8) dX3_more_3 rfl (fun h => absurd h (Int32.not_le.mpr hn)) (fun _ => ?_)
  refine lv_aload_n hx hb dX3_more_6 rfl (lv_at hl 0 rfl) ?_
  exact W.aret hx hb B.returns (Or.inr ⟨_, rfl⟩) (Or.inr ⟨_, rfl⟩) (fun t ht hW => ⟨rfl, by rw [ht]; exact hP, va_K.moved hW.alike hK, (va_S.rf (A := va_A ws sz) (H0 := s.heap)).F ht⟩) (fun _ h => by cases h) dX3_more_7 B.notSynchronized
theorem ct_more (l : Launch) {G : Gm} {cl0 : List vw_C} {ws : va_W} {sz k a L n N : Nat} {f : Nat → Int32} (hk : ws[k]? = some (a, .inl (G.2.1, L, .inl f))) (hLn : L ≤ n) (hN : N = if n + 1 < 2 * L then 2 * L else n + 1) (hN2 : N ≤ 134217728) :
    Met l yX3_more (ws_ yX3_more cX3_more 4 (some (.array .int))) ({ frames := 2, cells := 1, slots := N, locals := 80 } : Room) (PcN G cl0 ws sz a (Int32.ofNat n)) (QcN G cl0 ws sz N (fun j => if j < L then f j else 0)) 1 N (va_A ws sz) := by
  have hb1 : n + 1 ≤ N ∧ 2 * L ≤ N := by subst hN; split <;> omega
  obtain ⟨hn1, hn2, hn3⟩ := n_ofNat (n := N) (by omega)
  refine Met.ofW (cc := cX3_more) (maxL := 4) (ret := some (.array .int)) (by decide) rfl ?_
  intro p e s m args below meth c s₁ B hml hv
  obtain ⟨rfl, hsz, hP, hK, hD0⟩ := hv
  have hts := atoms_spec (ws := ws_ yX3_more cX3_more 4 (some (.array .int))) B.pre
  have hts : ∀ w ∈ lw_all, w.before _ s = true := fun w h => hts w (List.mem_cons_of_mem _ h)
  have hown : s.vm.findClass RX3 = some m.cls := findClass_of_methodNamed B.named
  have hD : va_D (va_A ws s.heap.size) ws := hD0.self
  have hA : ∀ q, s.heap.size ≤ q → va_A ws s.heap.size q := fun q h => Or.inr h
  subst hsz
  have hl := lv_entry ([.ref a, .int (Int32.ofNat n)]) (n := 4) (Nat.le_of_ble_eq_true rfl)
  rw [lg_entry_eq]
  generalize (lg_sl ([.ref a, .int (Int32.ofNat n)]) ++ List.replicate (4 - (lg_sl ([.ref a, .int (Int32.ofNat n)])).length) Slot.unset).toArray = ls at hl ⊢
  have hl : lv_has ls 4 [(0, .ref a), (1, .int (Int32.ofNat n))] := hl
  have hx := B.exec
  have hb := B.bytes
  refine lv_iload_n hx hb dX3_more_0 rfl (lv_at hl 1 rfl) ?_
  refine lv_aload_n hx hb dX3_more_1 rfl (lv_at hl 0 rfl) ?_
  refine va_alen hx hb hK hP k 0 hk rfl rfl dX3_more_2 ?_
  refine lv_icmp_ge hx hb (tgt := 8) dX3_more_3 rfl (fun _ => ?_) (fun h => absurd ((n_lt (a := n) (b := L) (by omega) (by omega)).mp (Int32.not_le.mp h)) (by omega))
  refine lv_iload_n hx hb dX3_more_8 rfl (lv_at hl 1 rfl) ?_
  refine lv_iconst hx hb dX3_more_9 rfl ?_
  refine lv_iadd hx hb dX3_more_10 ?_
  refine lv_iconst hx hb dX3_more_11 rfl ?_
  refine lv_aload_n hx hb dX3_more_12 rfl (lv_at hl 0 rfl) ?_
  refine va_alen hx hb hK hP k 0 hk rfl rfl dX3_more_13 ?_
  refine lv_imul hx hb dX3_more_14 ?_
  refine va_mmax hx hb (hml.trans hl.1.symm) hown (hts _ q1107) (hts _ q217) (hts _ q166) (hts _ q218) (by show 1 ≤ 2; omega) (by show 0 + 13 ≤ 80; omega) (Nat.zero_le _) (Nat.zero_le _) dX3_more_15 ?_
  have e1 : Int32.ofNat n + Int32.ofInt 1 = Int32.ofNat (n + 1) := by rw [← Int32.ofInt_eq_ofNat, ← Int32.ofInt_add, ← Int32.ofInt_eq_ofNat]; rfl
  have e2 : Int32.ofInt 2 * Int32.ofNat L = Int32.ofNat (2 * L) := by rw [← Int32.ofInt_eq_ofNat, ← Int32.ofInt_mul, ← Int32.ofInt_eq_ofNat]; rfl
  have e3 : (if Int32.ofNat (n + 1) < Int32.ofNat (2 * L) then Int32.ofNat (2 * L) else Int32.ofNat (n + 1)) = Int32.ofNat N := by
    by_cases q : n + 1 < 2 * L
    · rw [if_pos ((n_lt (by omega) (by omega)).mpr q), hN, if_pos q]
    · rw [if_neg (fun h => q ((n_lt (by omega) (by omega)).mp h)), hN, if_neg q]
  refine W.eq (g2 := F0 m 18 ls [.int (Int32.ofNat N)]) (by
    show F0 m 18 ls [.int (if Int32.ofNat n + Int32.ofInt 1 < Int32.ofInt 2 * Int32.ofNat L then Int32.ofInt 2 * Int32.ofNat L else Int32.ofNat n + Int32.ofInt 1)] = _
    rw [e1, e2, e3]) ?_
  refine va_newa (atype := .int) hx hb (hts _ q306) rfl hK hP hD va_S.rf hA (a0 := (N, .inl fun _ => 0)) (fun cA => rfl) hn1 hn2 (by show N * 4 ≤ _; omega) (by show 0 + 1 ≤ 1; omega) (by show 0 + N ≤ N; omega) dX3_more_18 (fun q cA H1 hK1 hP1 hD1 hS1 => ?_)
  have hcA : cA = G.2.1 := by
    have e1 := (hK1.2 3 (cA, .int) rfl).2
    have e2 := (hK.2 0 (G.2.1, .int) rfl).2
    exact Option.some.inj (e1.symm.trans e2)
  subst hcA
  refine lv_astore_n hx hb dX3_more_20 rfl hl (by decide) rfl (fun ls1 hl1 => ?_)
  refine lv_iconst hx hb dX3_more_21 rfl ?_
  refine lv_istore_n hx hb dX3_more_22 rfl hl1 (by decide) rfl (fun ls2 hl2 => ?_)
  have hl2 : lv_has ls2 4 [(3, .int (Int32.ofNat 0)), (2, .ref q), (0, .ref a)] := lv_sub hl2 [0, 1, 2] rfl
  have loop : ∀ (r i : Nat), i + r = L → ∀ (H1 : Heap) (locs1 : List Loc) (ls2 : Array Slot), va_P G.1 cl0 (ws ++ [(q, .inl (G.2.1, N, .inl fun j => if j < i then f j else 0))]) H1 → va_D (va_A ws s.heap.size) (ws ++ [(q, .inl (G.2.1, N, .inl fun j => if j < i then f j else 0))]) → va_S (va_A ws s.heap.size) s.heap H1 locs1 → lv_has ls2 4 [(3, .int (Int32.ofNat i)), (2, .ref q), (0, .ref a)] →
      W p l e ({ frames := 2, cells := 1, slots := N, locals := 80 } : Room) s m #[Value.ref a, Value.int (Int32.ofNat n)] below meth c H1 locs1 1 N (MQ below (QcN G cl0 ws s.heap.size N (fun j => if j < L then f j else 0)) #[Value.ref a, Value.int (Int32.ofNat n)] s 1 N (va_A ws s.heap.size)) (F0 m 23 ls2 []) := by
    intro r
    induction r with
    | zero =>
      intro i hi H1 locs1 ls2 hP1 hD1 hS1 hl2
      obtain rfl : i = L := by omega
      refine lv_iload_n hx hb dX3_more_23 rfl (lv_at hl2 0 rfl) ?_
      refine lv_aload_n hx hb dX3_more_24 rfl (lv_at hl2 2 rfl) ?_
      refine va_alen hx hb hK hP1 k 0 (va_getl hk) rfl rfl dX3_more_25 ?_
      refine lv_icmp_ge hx hb (tgt := 41) dX3_more_26 rfl (fun _ => ?_) (fun h => absurd (Int32.le_refl _) h)
      refine lv_aload_n hx hb dX3_more_41 rfl (lv_at hl2 1 rfl) ?_
      exact W.aret hx hb B.returns (Or.inr ⟨_, rfl⟩) (Or.inr ⟨_, rfl⟩) (fun t ht hW => ⟨q, rfl, by rw [ht]; exact hP1, hD1, va_K.moved hW.alike hK, hS1.F ht⟩) hS1.2.2 dX3_more_42 B.notSynchronized
    | succ r ih =>
      intro i hi H1 locs1 ls2 hP1 hD1 hS1 hl2
      obtain ⟨hi1, hi2, hi3⟩ := n_ofNat (n := i) (by omega)
      refine lv_iload_n hx hb dX3_more_23 rfl (lv_at hl2 0 rfl) ?_
      refine lv_aload_n hx hb dX3_more_24 rfl (lv_at hl2 2 rfl) ?_
      refine va_alen hx hb hK hP1 k 0 (va_getl hk) rfl rfl dX3_more_25 ?_
      refine lv_icmp_ge hx hb (tgt := 41) dX3_more_26 rfl (fun h => absurd ((n_lt (a := i) (b := L) (by omega) (by omega)).mpr (by omega)) (Int32.not_lt.mpr h)) (fun _ => ?_)
      refine lv_aload_n hx hb dX3_more_29 rfl (lv_at hl2 1 rfl) ?_
      refine lv_iload_n hx hb dX3_more_30 rfl (lv_at hl2 0 rfl) ?_
      refine lv_aload_n hx hb dX3_more_31 rfl (lv_at hl2 2 rfl) ?_
      refine lv_iload_n hx hb dX3_more_32 rfl (lv_at hl2 0 rfl) ?_
      refine va_iald hx hb hK hP1 k 0 (va_getl hk) rfl (by rintro (h | h); exact hi1 h; rw [hi2] at h; omega) dX3_more_33 ?_
      refine va_iast hx hb hK hP1 hD1 hS1 ws.length 0 va_getr rfl (by rintro (h | h); exact hi1 h; rw [hi2] at h; omega) dX3_more_34 (fun H2 locs2 hP2 hD2 hS2 => ?_)
      rw [va_setr] at hP2 hD2
      have ef : upd (fun j => if j < i then f j else 0) (Int32.ofNat i).toNatClampNeg (f (Int32.ofNat i).toNatClampNeg) = (fun j => if j < i + 1 then f j else 0) := by
        funext j
        rw [hi2]
        unfold upd
        by_cases h1 : j = i
        · subst h1; simp
        · by_cases h2 : j < i
          · simp [h1, h2, Nat.lt_succ_of_lt h2]
          · simp [h1, h2, show ¬ j < i + 1 by omega]
      rw [ef] at hP2 hD2
      refine lv_iinc (k := 0) (v := Int32.ofNat (i + 1)) hx hb dX3_more_35 hl2 rfl (by rw [← Int32.ofInt_eq_ofNat, ← Int32.ofInt_add, ← Int32.ofInt_eq_ofNat]; rfl) (by decide) rfl (fun ls3 hl3 => ?_)
      refine lv_goto hx hb (tgt := 23) dX3_more_38 (by decide) ?_
      exact ih (i + 1) (by omega) H2 locs2 ls3 hP2 hD2 hS2 hl3
  rw [Nat.zero_add, Nat.zero_add]
  exact loop L 0 (by omega) H1 _ ls2 (by simpa using hP1) (by simpa using hD1) hS1 hl2
