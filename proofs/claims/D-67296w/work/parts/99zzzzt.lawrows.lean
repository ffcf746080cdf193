/-! the law's own body: the judgement and its rows -/
abbrev JL : Jm := (cL_law, RX0, 7, ret)
def LwC (p : Program) (s : State) (m : MethodId) (meth : Method) (c : Code) (G : Gm) (b L : Nat) (xs : Nat → Int32) : Prop :=
  OKx p s m #[.ref b] meth c JL G clA (fun q => s.heap.size ≤ q) ∧ XS s ∧ XN s ∧ va_X b L xs s s.heap ∧ b < s.heap.size
def WL (p : Program) (l : Launch) (e : Env) (s : State) (m : MethodId) (below : List Frame) (meth : Method) (c : Code) (G : Gm) (b : Nat) (Q : State → Prop) (σ : Sg) (pc : Nat) (loc : Lc) (stk : List AV) : Prop :=
  ∀ (ad : Nat → Nat) (H : Heap) (locs : List Loc) (ls : Array Slot), ad 9 = b → WF FL σ → va_P G.1 clA (wl FL G ad σ) H → va_D (fun q => s.heap.size ≤ q) (wl FL G ad σ) → va_S (fun q => s.heap.size ≤ q) s.heap H locs → lv_has ls 7 (lcV ad loc) →
    W p l e room_1 s m #[.ref b] below meth c H locs (gC σ) (gS σ) Q (F0 m pc ls (stk.map (toV ad)))
section LW
variable {p : Program} {l : Launch} {e : Env} {s : State} {m : MethodId} {below : List Frame} {meth : Method} {c : Code} {G : Gm} {b L : Nat} {xs : Nat → Int32} {Q : State → Prop} {σ : Sg} {pc : Nat} {loc : Lc} {stk : List AV}
theorem wl_lift {pc' : Nat} {stk' : List AV} (h : ∀ (ad : Nat → Nat) (H : Heap) (locs : List Loc) (cells slots : Nat) (ls : Array Slot), ad 9 = b → va_P G.1 clA (wl FL G ad σ) H → va_S (fun q => s.heap.size ≤ q) s.heap H locs → lv_has ls 7 (lcV ad loc) → W p l e room_1 s m #[.ref b] below meth c H locs cells slots Q (F0 m pc' ls (stk'.map (toV ad))) → W p l e room_1 s m #[.ref b] below meth c H locs cells slots Q (F0 m pc ls (stk.map (toV ad))))
    (k : WL p l e s m below meth c G b Q σ pc' loc stk') : WL p l e s m below meth c G b Q σ pc loc stk :=
  fun ad H locs ls h9 hw hP hD hS hl => h ad H locs _ _ ls h9 hP hS hl (k ad H locs ls h9 hw hP hD hS hl)
theorem wl_iconst (C0 : LwC p s m meth c G b L xs) {n : Int} (d : decode cL_law pc = .ok (.iconst n, 1)) (k : WL p l e s m below meth c G b Q σ (pc + 1) loc (vI n :: stk)) : WL p l e s m below meth c G b Q σ pc loc stk :=
  wl_lift (fun ad H locs cells slots ls _ _ _ _ kk => lv_iconst C0.1.1 C0.1.2.1 d rfl kk) k
theorem wl_bipush (C0 : LwC p s m meth c G b L xs) {n : Int} (hn : (Int8.ofInt n).toInt32 = Int32.ofInt n) (d : decode cL_law pc = .ok (.bipush n, 2)) (k : WL p l e s m below meth c G b Q σ (pc + 2) loc (vI n :: stk)) : WL p l e s m below meth c G b Q σ pc loc stk :=
  wl_lift (fun ad H locs cells slots ls _ _ _ _ kk => lv_bipush C0.1.1 C0.1.2.1 d hn kk) k
theorem wl_aload_n (C0 : LwC p s m meth c G b L xs) {i : Fin 4} {v : Nat} (j : Nat) (d : decode cL_law pc = .ok (.aload_n i, 1)) (hl : loc[j]? = some ((i : Nat), vR v)) (k : WL p l e s m below meth c G b Q σ (pc + 1) loc (vR v :: stk)) : WL p l e s m below meth c G b Q σ pc loc stk :=
  wl_lift (fun ad H locs cells slots ls _ _ _ h kk => lv_aload_n C0.1.1 C0.1.2.1 d rfl (lv_at h j (lcV_at hl)) kk) k
theorem wl_iload (C0 : LwC p s m meth c G b L xs) {i : Nat} {v : Int} (j : Nat) (d : decode cL_law pc = .ok (.iload i, 2)) (hl : loc[j]? = some (i, vI v)) (k : WL p l e s m below meth c G b Q σ (pc + 2) loc (vI v :: stk)) : WL p l e s m below meth c G b Q σ pc loc stk :=
  wl_lift (fun ad H locs cells slots ls _ _ _ h kk => lv_iload C0.1.1 C0.1.2.1 d (lv_at h j (lcV_at hl)) kk) k
theorem wl_istore (C0 : LwC p s m meth c G b L xs) {i : Nat} {v : Int} {loc' : Lc} (d : decode cL_law pc = .ok (.istore i, 2)) (hi : i < 7) (hl : lcS loc i (vI v) = loc') (k : WL p l e s m below meth c G b Q σ (pc + 2) loc' stk) : WL p l e s m below meth c G b Q σ pc loc (vI v :: stk) :=
  fun ad H locs ls h9 hw hP hD hS h => lv_istore C0.1.1 C0.1.2.1 d h hi (lcV_S ad loc i (vI v)) (fun ls' h' => k ad H locs ls' h9 hw hP hD hS (by rw [← hl]; exact h'))
theorem wl_goto (C0 : LwC p s m meth c G b L xs) {off : Int} (tgt : Nat) (d : decode cL_law pc = .ok (.goto off, 3)) (ht : (pc : Int) + off = (tgt : Int)) (k : WL p l e s m below meth c G b Q σ tgt loc stk) : WL p l e s m below meth c G b Q σ pc loc stk :=
  wl_lift (fun ad H locs cells slots ls _ _ _ _ kk => lv_goto C0.1.1 C0.1.2.1 d ht kk) k
/-- script[i + k] -/
theorem wl_scr (C0 : LwC p s m meth c G b L xs) {n : Int} {i j j0 kk : Nat} (hi : i + kk < L) (hL : L ≤ 320) (hn : n = (kk : Int)) (h0 : loc[j0]? = some (0, vR 9)) (hj : loc[j]? = some (4, vI (i : Int))) (d1 : decode cL_law pc = .ok (.aload_n 0, 1)) (d2 : decode cL_law (pc + 1) = .ok (.iload 4, 2)) (d3 : decode cL_law (pc + 1 + 2) = .ok (.iconst n, 1)) (d4 : decode cL_law (pc + 1 + 2 + 1) = .ok (.iadd, 1)) (d5 : decode cL_law (pc + 1 + 2 + 1 + 1) = .ok (.iaload, 1))
    (k : WL p l e s m below meth c G b Q σ (pc + 1 + 2 + 1 + 1 + 1) loc (vI (xs (i + kk)).toInt :: stk)) : WL p l e s m below meth c G b Q σ pc loc stk := by
  refine wl_aload_n C0 j0 d1 h0 (wl_iload C0 j d2 hj (wl_iconst C0 d3 ?_))
  refine wl_lift (fun ad H locs cells slots ls h9 _ hS _ w => ?_) k
  have e1 : Int32.ofInt (i : Int) + Int32.ofInt n = Int32.ofInt ((i + kk : Nat) : Int) := by rw [hn, ← Int32.ofInt_add]; rfl
  obtain ⟨hin, hcl⟩ := i_clamp (i := ((i + kk : Nat) : Int)) (n := L) (by omega) (by omega) (by omega)
  refine lv_iadd C0.1.1 C0.1.2.1 d4 ?_
  rw [e1]
  show W p l e room_1 s m #[.ref b] below meth c H locs cells slots Q (F0 m _ ls (.int _ :: .ref (ad 9) :: stk.map (toV ad)))
  rw [h9]
  refine va_sld C0.1.1 C0.1.2.1 C0.2.2.2.1 C0.2.2.2.2 (Nat.not_le.mpr C0.2.2.2.2) hS hin d5 ?_
  rw [hcl, show ((i + kk : Nat) : Int).toNat = i + kk by omega]
  have e2 : (Value.int (xs (i + kk)) :: stk.map (toV ad)) = (vI (xs (i + kk)).toInt :: stk).map (toV ad) := by
    show _ = Value.int (Int32.ofInt (xs (i + kk)).toInt) :: _
    rw [i32_wrap]
  rw [e2]
  exact w
/-- script[i] -/
theorem wl_scr0 (C0 : LwC p s m meth c G b L xs) {i j j0 : Nat} (hi : i < L) (hL : L ≤ 320) (h0 : loc[j0]? = some (0, vR 9)) (hj : loc[j]? = some (4, vI (i : Int))) (d1 : decode cL_law pc = .ok (.aload_n 0, 1)) (d2 : decode cL_law (pc + 1) = .ok (.iload 4, 2)) (d5 : decode cL_law (pc + 1 + 2) = .ok (.iaload, 1))
    (k : WL p l e s m below meth c G b Q σ (pc + 1 + 2 + 1) loc (vI (xs i).toInt :: stk)) : WL p l e s m below meth c G b Q σ pc loc stk := by
  refine wl_aload_n C0 j0 d1 h0 (wl_iload C0 j d2 hj ?_)
  refine wl_lift (fun ad H locs cells slots ls h9 _ hS _ w => ?_) k
  obtain ⟨hin, hcl⟩ := i_clamp (i := (i : Int)) (n := L) (by omega) (by omega) (by omega)
  show W p l e room_1 s m #[.ref b] below meth c H locs cells slots Q (F0 m _ ls (.int _ :: .ref (ad 9) :: stk.map (toV ad)))
  rw [h9]
  refine va_sld C0.1.1 C0.1.2.1 C0.2.2.2.1 C0.2.2.2.2 (Nat.not_le.mpr C0.2.2.2.2) hS hin d5 ?_
  rw [hcl, Int.toNat_natCast]
  have e2 : (Value.int (xs i) :: stk.map (toV ad)) = (vI (xs i).toInt :: stk).map (toV ad) := by
    show _ = Value.int (Int32.ofInt (xs i).toInt) :: _
    rw [i32_wrap]
  rw [e2]
  exact w
def b01 (v : Int) : Int := if v = 0 then 0 else 1
/-- v != 0 as a boolean -/
theorem wl_bool (C0 : LwC p s m meth c G b L xs) {v off off2 : Int} {t0 te : Nat} (hv : inR v) (d1 : decode cL_law pc = .ok (.ifCond .eq off, 3)) (h1 : (pc : Int) + off = (t0 : Int)) (d2 : decode cL_law (pc + 3) = .ok (.iconst 1, 1)) (d3 : decode cL_law (pc + 3 + 1) = .ok (.goto off2, 3)) (h3 : ((pc + 3 + 1 : Nat) : Int) + off2 = (te : Int)) (d4 : decode cL_law t0 = .ok (.iconst 0, 1)) (h4 : t0 + 1 = te)
    (k : WL p l e s m below meth c G b Q σ te loc (vI (b01 v) :: stk)) : WL p l e s m below meth c G b Q σ pc loc (vI v :: stk) := by
  refine wl_lift (fun ad H locs cells slots ls _ _ _ _ w => ?_) k
  refine lv_if_eq C0.1.1 C0.1.2.1 d1 h1 (fun h => ?_) (fun h => ?_)
  · have hz : v = 0 := (o_ofInt_eq hv (by decide)).mp h
    refine lv_iconst C0.1.1 C0.1.2.1 d4 rfl ?_
    rw [h4]
    rw [show b01 v = 0 by unfold b01; rw [if_pos hz]] at w
    exact w
  · have hz : ¬ v = 0 := fun e => h (by rw [e]; rfl)
    refine lv_iconst C0.1.1 C0.1.2.1 d2 rfl (lv_goto C0.1.1 C0.1.2.1 d3 h3 ?_)
    rw [show b01 v = 1 by unfold b01; rw [if_neg hz]] at w
    exact w
/-- the codes are the same -/
theorem wl_same (C0 : LwC p s m meth c G b L xs) {v off : Int} {t0 j : Nat} (hj : loc[j]? = some (5, vI v)) (d1 : decode cL_law pc = .ok (.iload 5, 2)) (d2 : decode cL_law (pc + 2) = .ok (.if_icmp .eq off, 3)) (h2 : ((pc + 2 : Nat) : Int) + off = (t0 : Int)) (k : WL p l e s m below meth c G b Q σ t0 loc stk) : WL p l e s m below meth c G b Q σ pc loc (vI v :: stk) := by
  refine wl_iload C0 j d1 hj ?_
  exact wl_lift (fun ad H locs cells slots ls _ _ _ _ w => lv_icmp_eq C0.1.1 C0.1.2.1 d2 h2 (fun _ => w) (fun h => absurd rfl h)) k
/-- two answers are the same -/
theorem wl_same2 (C0 : LwC p s m meth c G b L xs) {v off : Int} {t0 : Nat} (d2 : decode cL_law pc = .ok (.if_icmp .eq off, 3)) (h2 : (pc : Int) + off = (t0 : Int)) (k : WL p l e s m below meth c G b Q σ t0 loc stk) : WL p l e s m below meth c G b Q σ pc loc (vI v :: vI v :: stk) :=
  wl_lift (fun ad H locs cells slots ls _ _ _ _ w => lv_icmp_eq C0.1.1 C0.1.2.1 d2 h2 (fun _ => w) (fun h => absurd rfl h)) k
/-- what the class answers is what the model answers, or both throw -/
theorem wl_out (C0 : LwC p s m meth c G b L xs) {v r off off2 : Int} {t0 j3 j5 j6 : Nat} (hv : inR v) (hr : inR r) (h90 : gL σ 90 = 1) (hq : v = 0 → gF σ 90 0 = r) (hj3 : loc[j3]? = some (3, vR 100)) (hj5 : loc[j5]? = some (5, vI v)) (hj6 : loc[j6]? = some (6, vI r)) (d1 : decode cL_law pc = .ok (.iload 5, 2)) (d2 : decode cL_law (pc + 2) = .ok (.ifCond .ne off, 3)) (h2 : ((pc + 2 : Nat) : Int) + off = (t0 : Int))
    (d3 : decode cL_law (pc + 2 + 3) = .ok (.aload_n 3, 1)) (d4 : decode cL_law (pc + 2 + 3 + 1) = .ok (.iconst 0, 1)) (d5 : decode cL_law (pc + 2 + 3 + 1 + 1) = .ok (.laload, 1)) (d6 : decode cL_law (pc + 2 + 3 + 1 + 1 + 1) = .ok (.iload 6, 2)) (d7 : decode cL_law (pc + 2 + 3 + 1 + 1 + 1 + 2) = .ok (.i2l, 1)) (d8 : decode cL_law (pc + 2 + 3 + 1 + 1 + 1 + 2 + 1) = .ok (.lcmp, 1)) (d9 : decode cL_law (pc + 2 + 3 + 1 + 1 + 1 + 2 + 1 + 1) = .ok (.ifCond .eq off2, 3)) (h9 : ((pc + 2 + 3 + 1 + 1 + 1 + 2 + 1 + 1 : Nat) : Int) + off2 = (t0 : Int))
    (k : WL p l e s m below meth c G b Q σ t0 loc stk) : WL p l e s m below meth c G b Q σ pc loc stk := by
  refine wl_iload C0 j5 d1 hj5 ?_
  refine wl_lift (fun ad H locs cells slots ls _ hP _ hl w => ?_) k
  refine lv_if_ne C0.1.1 C0.1.2.1 d2 h2 (fun _ => w) (fun h => ?_)
  have hz : v = 0 := (o_ofInt_eq hv (by decide)).mp h
  refine lv_aload_n C0.1.1 C0.1.2.1 d3 rfl (lv_at hl j3 (lcV_at hj3)) ?_
  refine lv_iconst C0.1.1 C0.1.2.1 d4 rfl ?_
  have har := wl_ar (F := FL) (G := G) (ad := ad) (σ := σ) (j := 42) (id := 90) rfl
  rw [arE_l (show FL.2.1 90 = 2 from rfl), h90] at har
  refine va_lald C0.1.1 C0.1.2.1 C0.1.2.2.2.2.2.2.2.1 hP (FL.1.length + 42) 1 har rfl (i_clamp (i := 0) (n := 1) (by omega) (by omega) (by omega)).1 d5 ?_
  refine lv_iload C0.1.1 C0.1.2.1 d6 (lv_at hl j6 (lcV_at hj6)) ?_
  have e1 : (Int32.ofInt r).toInt64 = Int64.ofInt r := by
    apply Int64.toInt_inj.mp
    rw [Int32.toInt_toInt64, Int32.toInt_ofInt_of_le hr.1 hr.2, Int64.toInt_ofInt_of_le (by omega) (by omega)]
  refine lv_i2l C0.1.1 C0.1.2.1 d7 e1 ?_
  have e2 : (Int64.ofInt (gF σ 90 (Int32.ofInt 0).toNatClampNeg)) = Int64.ofInt r := by
    rw [show (Int32.ofInt 0).toNatClampNeg = 0 by decide, hq hz]
  refine W.lcmp C0.1.1 C0.1.2.1 d8 ?_
  rw [e2, cmp_eq (inL_i hr) (inL_i hr)]
  refine lv_if_eq C0.1.1 C0.1.2.1 d9 h9 (fun _ => w) (fun h => absurd ?_ h)
  unfold o_cmp
  rw [if_neg (Int.lt_irrefl _), if_pos rfl]
  rfl
/-- the same, for a boolean -/
theorem wl_outZ (C0 : LwC p s m meth c G b L xs) {v r off off1 off2 off3 : Int} {t0 t1 te j3 j5 j6 : Nat} (hv : inR v) (hr : r = 0 ∨ r = 1) (h90 : gL σ 90 = 1) (hq : v = 0 → gF σ 90 0 = r) (hj3 : loc[j3]? = some (3, vR 100)) (hj5 : loc[j5]? = some (5, vI v)) (hj6 : loc[j6]? = some (6, vI r)) (d1 : decode cL_law pc = .ok (.iload 5, 2)) (d2 : decode cL_law (pc + 2) = .ok (.ifCond .ne off, 3)) (h2 : ((pc + 2 : Nat) : Int) + off = (t0 : Int))
    (d3 : decode cL_law (pc + 2 + 3) = .ok (.aload_n 3, 1)) (d4 : decode cL_law (pc + 2 + 3 + 1) = .ok (.iconst 0, 1)) (d5 : decode cL_law (pc + 2 + 3 + 1 + 1) = .ok (.laload, 1)) (d6 : decode cL_law (pc + 2 + 3 + 1 + 1 + 1) = .ok (.iload 6, 2)) (d7 : decode cL_law (pc + 2 + 3 + 1 + 1 + 1 + 2) = .ok (.ifCond .eq off1, 3)) (h7 : ((pc + 2 + 3 + 1 + 1 + 1 + 2 : Nat) : Int) + off1 = (t1 : Int)) (da : decode cL_law (pc + 2 + 3 + 1 + 1 + 1 + 2 + 3) = .ok (.lconst 1, 1)) (db : decode cL_law (pc + 2 + 3 + 1 + 1 + 1 + 2 + 3 + 1) = .ok (.goto off3, 3)) (hb : ((pc + 2 + 3 + 1 + 1 + 1 + 2 + 3 + 1 : Nat) : Int) + off3 = (te : Int)) (dc : decode cL_law t1 = .ok (.lconst 0, 1)) (hc : t1 + 1 = te) (d8 : decode cL_law te = .ok (.lcmp, 1)) (d9 : decode cL_law (te + 1) = .ok (.ifCond .eq off2, 3)) (h9 : ((te + 1 : Nat) : Int) + off2 = (t0 : Int))
    (k : WL p l e s m below meth c G b Q σ t0 loc stk) : WL p l e s m below meth c G b Q σ pc loc stk := by
  refine wl_iload C0 j5 d1 hj5 ?_
  refine wl_lift (fun ad H locs cells slots ls _ hP _ hl w => ?_) k
  have hrR : inR r := inR_z hr
  refine lv_if_ne C0.1.1 C0.1.2.1 d2 h2 (fun _ => w) (fun h => ?_)
  have hz : v = 0 := (o_ofInt_eq hv (by decide)).mp h
  refine lv_aload_n C0.1.1 C0.1.2.1 d3 rfl (lv_at hl j3 (lcV_at hj3)) ?_
  refine lv_iconst C0.1.1 C0.1.2.1 d4 rfl ?_
  have har := wl_ar (F := FL) (G := G) (ad := ad) (σ := σ) (j := 42) (id := 90) rfl
  rw [arE_l (show FL.2.1 90 = 2 from rfl), h90] at har
  refine va_lald C0.1.1 C0.1.2.1 C0.1.2.2.2.2.2.2.2.1 hP (FL.1.length + 42) 1 har rfl (i_clamp (i := 0) (n := 1) (by omega) (by omega) (by omega)).1 d5 ?_
  refine lv_iload C0.1.1 C0.1.2.1 d6 (lv_at hl j6 (lcV_at hj6)) ?_
  have e2 : (Int64.ofInt (gF σ 90 (Int32.ofInt 0).toNatClampNeg)) = Int64.ofInt r := by
    rw [show (Int32.ofInt 0).toNatClampNeg = 0 by decide, hq hz]
  rw [e2]
  have hend : W p l e room_1 s m #[.ref b] below meth c H locs cells slots Q (F0 m te ls (.long (Int64.ofInt r) :: .long (Int64.ofInt r) :: stk.map (toV ad))) := by
    refine W.lcmp C0.1.1 C0.1.2.1 d8 ?_
    rw [cmp_eq (inL_i hrR) (inL_i hrR)]
    refine lv_if_eq C0.1.1 C0.1.2.1 d9 h9 (fun _ => w) (fun h => absurd ?_ h)
    unfold o_cmp
    rw [if_neg (Int.lt_irrefl _), if_pos rfl]
    rfl
  refine lv_if_eq C0.1.1 C0.1.2.1 d7 h7 (fun h => ?_) (fun h => ?_)
  · have h0 : r = 0 := (o_ofInt_eq hrR (by decide)).mp h
    subst h0
    refine lv_lconst C0.1.1 C0.1.2.1 dc rfl ?_
    rw [hc]
    exact hend
  · have h0 : r = 1 := by
      rcases hr with q | q
      · exact absurd (by rw [q]; rfl) h
      · exact q
    subst h0
    exact lv_lconst C0.1.1 C0.1.2.1 da rfl (lv_goto C0.1.1 C0.1.2.1 db hb hend)
end LW
