def un {α β : Type} (x : α) (K : α → Option β) : Option β := K x
def jn {β γ : Type} (k : β) (body : β → Option γ) : Option γ := body k
theorem inL_of {v : Int} (h : inR v) : inL v := ⟨by have := h.1; omega, by have := h.2; omega⟩
theorem inR_z {v : Int} (h : v = 0 ∨ v = 1) : inR v := by rcases h with q | q <;> subst q <;> decide
def lcS2 (loc : Lc) (i : Nat) (v : AV) : Lc := (i, v) :: loc.filter (fun q => !(q.1 == i) && (!(q.1 == i + 1) && !(q.1 + 1 == i && avC q.2 == 2)))
theorem lcV_S2 (ad : Nat → Nat) (loc : Lc) (i : Nat) (v : AV) : (i, toV ad v) :: (lcV ad loc).filter (fun q => !(q.1 == i) && (!(q.1 == i + 1) && !(q.1 + 1 == i && q.2.category == 2))) = lcV ad (lcS2 loc i v) := by
  simp only [lcV, lcS2, List.map_cons, List.filter_map]
  congr 2
  refine List.filter_congr (fun q _ => ?_)
  simp [Function.comp, toV_cat]
theorem l_ofInt {v : Int} (h : inL v) : (Int64.ofInt v).toInt = v := Int64.toInt_ofInt_of_le h.1 h.2
theorem i_ofInt {v : Int} (h : inR v) : (Int32.ofInt v).toInt = v := Int32.toInt_ofInt_of_le h.1 h.2
section G6
variable {p : Program} {l : Launch} {e : Env} {R : Room} {s : State} {m : MethodId} {args : Array Value} {below : List Frame} {meth : Method} {c : Code}
variable {J : Jm} {D : Nat} {G : Gm} {cl0 : List vw_C} {A : Nat → Prop} {F : Fm} {ad0 : Nat → Nat} {σ0 σ : Sg} {α : Type} {rv : α → Rs} {o : Option (α × Sg)} {pc : Nat} {loc : Lc} {stk : List AV}
variable {C : String} {T : u_T} {N ci b ob index : Nat}
theorem g_jn {β : Type} {kj : β} {body : β → Option (α × Sg)} (P : β → Prop) (h1 : P kj) (h2 : ∀ q, P q → WG p l e R s m args below meth c J D G cl0 A F ad0 σ0 rv (body q) σ pc loc stk) : WG p l e R s m args below meth c J D G cl0 A F ad0 σ0 rv (jn kj body) σ pc loc stk := h2 kj h1
/-- what holds of numbers in range may be used -/
theorem WG.wf (k : WF F σ → WG p l e R s m args below meth c J D G cl0 A F ad0 σ0 rv o σ pc loc stk) : WG p l e R s m args below meth c J D G cl0 A F ad0 σ0 rv o σ pc loc stk :=
  ⟨fun hw => (k hw).1 hw, fun ok r σ' ho h1 h2 h3 h4 hw => (k hw).2 ok r σ' ho h1 h2 h3 h4 hw⟩
theorem g_getI {id : Nat} {K : Int → Option (α × Sg)} (k : Nat) (hid : b + k = id) (hcl : cl0[ci]? = some (C, T, N)) (hob : F.1[ob]? = some (ci, b, N)) (hk : k < N) (hin : ∀ w ∈ u_ws C T N, w ∈ lw_all) (hC : (T k).1 = C) (hv : F.2.1 id = 0) (hq : Cond.fieldLink J.2.1 index C (T k).2.1 (T k).2.2.1 ∈ lw_all) (d : decode J.1 pc = .ok (.getfield index, 3)) (kk : ∀ w, inR w → WG p l e R s m args below meth c J D G cl0 A F ad0 σ0 rv (K w) σ (pc + 3) loc (vI w :: stk)) : WG p l e R s m args below meth c J D G cl0 A F ad0 σ0 rv (un (gI σ id) K) σ pc loc (vR ob :: stk) :=
  WG.wf (fun hw => g_get k hcl hob hk hin hC (by rw [hid]; unfold fv; simp only [hv]) hq d (kk _ (hw.1 id)))
theorem g_getZ {id : Nat} {K : Int → Option (α × Sg)} (k : Nat) (hid : b + k = id) (hcl : cl0[ci]? = some (C, T, N)) (hob : F.1[ob]? = some (ci, b, N)) (hk : k < N) (hin : ∀ w ∈ u_ws C T N, w ∈ lw_all) (hC : (T k).1 = C) (hv : F.2.1 id = 4) (hq : Cond.fieldLink J.2.1 index C (T k).2.1 (T k).2.2.1 ∈ lw_all) (d : decode J.1 pc = .ok (.getfield index, 3)) (kk : ∀ w, (w = 0 ∨ w = 1) → WG p l e R s m args below meth c J D G cl0 A F ad0 σ0 rv (K w) σ (pc + 3) loc (vI w :: stk)) : WG p l e R s m args below meth c J D G cl0 A F ad0 σ0 rv (un (gI σ id) K) σ pc loc (vR ob :: stk) :=
  WG.wf (fun hw => g_get k hcl hob hk hin hC (by rw [hid]; unfold fv; simp only [hv]) hq d (kk _ (hw.2.2.2.2.2 id hv)))
theorem g_sIU {id : Nat} {v : Int} {K : Sg → Option (α × Sg)} (hF : FOK F) (k : Nat) (hid : b + k = id) (hcl : cl0[ci]? = some (C, T, N)) (hob : F.1[ob]? = some (ci, b, N)) (hk : k < N) (hin : ∀ w ∈ u_ws C T N, w ∈ lw_all) (ty0 : Nat → FieldType) (hty : ∀ k, k < N → parseFieldDescriptor (T k).2.2.1 = some (ty0 k)) (hnm : ∀ a, a < N → ∀ b, b < N → a ≠ b → (T a).2.1 ≠ (T b).2.1) (hC : (T k).1 = C) (hkd : F.2.1 id = 0) (hti : ty0 k = .int) (hfin : (T k).2.2.2 = false) (hDk : D.testBit id = true) (hv : inR v) (hq : Cond.fieldLink J.2.1 index C (T k).2.1 (T k).2.2.1 ∈ lw_all) (d : decode J.1 pc = .ok (.putfield index, 3)) (kk : ∀ σ2, WG p l e R s m args below meth c J D G cl0 A F ad0 σ0 rv (K σ2) σ2 (pc + 3) loc stk) : WG p l e R s m args below meth c J D G cl0 A F ad0 σ0 rv (un (sI σ id v) K) σ pc loc (vI v :: vR ob :: stk) := by
  subst hid
  exact g_putI hF k hcl hob hk hin ty0 hty hnm hC hkd hti hfin hDk (fun _ => hv) hq d (kk _)
theorem g_sZU {id : Nat} {v : Int} {K : Sg → Option (α × Sg)} (hF : FOK F) (k : Nat) (hid : b + k = id) (hcl : cl0[ci]? = some (C, T, N)) (hob : F.1[ob]? = some (ci, b, N)) (hk : k < N) (hin : ∀ w ∈ u_ws C T N, w ∈ lw_all) (ty0 : Nat → FieldType) (hty : ∀ k, k < N → parseFieldDescriptor (T k).2.2.1 = some (ty0 k)) (hnm : ∀ a, a < N → ∀ b, b < N → a ≠ b → (T a).2.1 ≠ (T b).2.1) (hC : (T k).1 = C) (hkd : F.2.1 id = 4) (hti : ty0 k = .boolean) (hfin : (T k).2.2.2 = false) (hDk : D.testBit id = true) (hv : v = 0 ∨ v = 1) (hq : Cond.fieldLink J.2.1 index C (T k).2.1 (T k).2.2.1 ∈ lw_all) (d : decode J.1 pc = .ok (.putfield index, 3)) (kk : ∀ σ2, WG p l e R s m args below meth c J D G cl0 A F ad0 σ0 rv (K σ2) σ2 (pc + 3) loc stk) : WG p l e R s m args below meth c J D G cl0 A F ad0 σ0 rv (un (sI σ id v) K) σ pc loc (vI v :: vR ob :: stk) := by
  subst hid
  exact g_putZ hF k hcl hob hk hin ty0 hty hnm hC hkd hti hfin hDk (fun _ => hv) hq d (kk _)
theorem g_alenU {id : Nat} {K : Int → Option (α × Sg)} (j : Nat) (hj : F.2.2[j]? = some id) (hkd : F.2.1 id = 1 ∨ F.2.1 id = 2 ∨ F.2.1 id = 3) (d : decode J.1 pc = .ok (.arraylength, 1)) (k : ∀ w, inR w → WG p l e R s m args below meth c J D G cl0 A F ad0 σ0 rv (K w) σ (pc + 1) loc (vI w :: stk)) : WG p l e R s m args below meth c J D G cl0 A F ad0 σ0 rv (un (gL σ id : Int) K) σ pc loc (vR (10 + id) :: stk) :=
  WG.wf (fun hw => g_alen j hj hkd d (k _ (wf_gL hw id)))
theorem g_iandU {a b : Int} {K : Int → Option (α × Sg)} (d : decode J.1 pc = .ok (.iand, 1)) (k : ∀ w, inR w → WG p l e R s m args below meth c J D G cl0 A F ad0 σ0 rv (K w) σ (pc + 1) loc (vI w :: stk)) : WG p l e R s m args below meth c J D G cl0 A F ad0 σ0 rv (un (o_and a b) K) σ pc loc (vI b :: vI a :: stk) := g_iand d (k _ (inR_toInt _))
theorem g_iorU {a b : Int} {K : Int → Option (α × Sg)} (d : decode J.1 pc = .ok (.ior, 1)) (k : ∀ w, inR w → WG p l e R s m args below meth c J D G cl0 A F ad0 σ0 rv (K w) σ (pc + 1) loc (vI w :: stk)) : WG p l e R s m args below meth c J D G cl0 A F ad0 σ0 rv (un (o_or a b) K) σ pc loc (vI b :: vI a :: stk) := g_ior d (k _ (inR_toInt _))
theorem o_or_z {a b : Int} (ha : a = 0 ∨ a = 1) (hb : b = 0 ∨ b = 1) : o_or a b = 0 ∨ o_or a b = 1 := by
  rcases ha with q | q <;> rcases hb with q2 | q2 <;> subst q <;> subst q2 <;> decide
theorem g_iorZ {a b : Int} {K : Int → Option (α × Sg)} (ha : a = 0 ∨ a = 1) (hb : b = 0 ∨ b = 1) (d : decode J.1 pc = .ok (.ior, 1)) (k : ∀ w, (w = 0 ∨ w = 1) → WG p l e R s m args below meth c J D G cl0 A F ad0 σ0 rv (K w) σ (pc + 1) loc (vI w :: stk)) : WG p l e R s m args below meth c J D G cl0 A F ad0 σ0 rv (un (o_or a b) K) σ pc loc (vI b :: vI a :: stk) := g_ior d (k _ (o_or_z ha hb))
theorem g_ixorU {a b : Int} {K : Int → Option (α × Sg)} (d : decode J.1 pc = .ok (.ixor, 1)) (k : ∀ w, inR w → WG p l e R s m args below meth c J D G cl0 A F ad0 σ0 rv (K w) σ (pc + 1) loc (vI w :: stk)) : WG p l e R s m args below meth c J D G cl0 A F ad0 σ0 rv (un (o_xor a b) K) σ pc loc (vI b :: vI a :: stk) := g_ixor d (k _ (inR_toInt _))
theorem g_ishlU {a b : Int} {K : Int → Option (α × Sg)} (d : decode J.1 pc = .ok (.ishl, 1)) (k : ∀ w, inR w → WG p l e R s m args below meth c J D G cl0 A F ad0 σ0 rv (K w) σ (pc + 1) loc (vI w :: stk)) : WG p l e R s m args below meth c J D G cl0 A F ad0 σ0 rv (un (o_shl a b) K) σ pc loc (vI b :: vI a :: stk) := g_ishl d (k _ (inR_toInt _))
theorem g_ishrU {a b : Int} {K : Int → Option (α × Sg)} (d : decode J.1 pc = .ok (.ishr, 1)) (k : ∀ w, inR w → WG p l e R s m args below meth c J D G cl0 A F ad0 σ0 rv (K w) σ (pc + 1) loc (vI w :: stk)) : WG p l e R s m args below meth c J D G cl0 A F ad0 σ0 rv (un (o_shr a b) K) σ pc loc (vI b :: vI a :: stk) := g_ishr d (k _ (inR_toInt _))
theorem g_iushrU {a b : Int} {K : Int → Option (α × Sg)} (d : decode J.1 pc = .ok (.iushr, 1)) (k : ∀ w, inR w → WG p l e R s m args below meth c J D G cl0 A F ad0 σ0 rv (K w) σ (pc + 1) loc (vI w :: stk)) : WG p l e R s m args below meth c J D G cl0 A F ad0 σ0 rv (un (o_ushr a b) K) σ pc loc (vI b :: vI a :: stk) := g_iushr d (k _ (inR_toInt _))
theorem g_iaddWU {a b : Int} {K : Int → Option (α × Sg)} (d : decode J.1 pc = .ok (.iadd, 1)) (k : ∀ w, inR w → WG p l e R s m args below meth c J D G cl0 A F ad0 σ0 rv (K w) σ (pc + 1) loc (vI w :: stk)) : WG p l e R s m args below meth c J D G cl0 A F ad0 σ0 rv (un (wrap (a + b)) K) σ pc loc (vI b :: vI a :: stk) := g_iaddW d (k _ (inR_toInt _))
theorem g_imulWU {a b : Int} {K : Int → Option (α × Sg)} (d : decode J.1 pc = .ok (.imul, 1)) (k : ∀ w, inR w → WG p l e R s m args below meth c J D G cl0 A F ad0 σ0 rv (K w) σ (pc + 1) loc (vI w :: stk)) : WG p l e R s m args below meth c J D G cl0 A F ad0 σ0 rv (un (wrap (a * b)) K) σ pc loc (vI b :: vI a :: stk) := g_imulW d (k _ (inR_toInt _))
/-! longs -/
theorem g_lconst {n : Fin 2} {v : Int} (hv : Int64.ofNat (n : Nat) = Int64.ofInt v) (d : decode J.1 pc = .ok (.lconst n, 1)) (k : WG p l e R s m args below meth c J D G cl0 A F ad0 σ0 rv o σ (pc + 1) loc (vL v :: stk)) : WG p l e R s m args below meth c J D G cl0 A F ad0 σ0 rv o σ pc loc stk :=
  WG.lift (fun ok _ ad H locs cells slots Q ls _ _ _ kk => lv_lconst ok.1 ok.2.1 d hv kk) k
theorem g_ldc2 {n : Int} {i : Nat} {v : Int64} (hn : v = Int64.ofInt n) (hq : Cond.constantLong J.2.1 i v ∈ lw_all) (d : decode J.1 pc = .ok (.ldc2_w i, 3)) (k : WG p l e R s m args below meth c J D G cl0 A F ad0 σ0 rv o σ (pc + 3) loc (vL n :: stk)) : WG p l e R s m args below meth c J D G cl0 A F ad0 σ0 rv o σ pc loc stk :=
  WG.lift (fun ok _ ad H locs cells slots Q ls _ _ _ kk => lv_ldc2 ok.1 ok.2.1 ok.2.2.2.1 (ok.2.2.2.2.1 _ hq) d (by subst hn; exact kk)) k
theorem g_ldcw {n : Int} {i : Nat} {v : Int32} (hn : v = Int32.ofInt n) (hq : Cond.constant J.2.1 i v ∈ lw_all) (d : decode J.1 pc = .ok (.ldc_w i, 3)) (k : WG p l e R s m args below meth c J D G cl0 A F ad0 σ0 rv o σ (pc + 3) loc (vI n :: stk)) : WG p l e R s m args below meth c J D G cl0 A F ad0 σ0 rv o σ pc loc stk :=
  WG.lift (fun ok _ ad H locs cells slots Q ls _ _ _ kk => lv_ldcw ok.1 ok.2.1 ok.2.2.2.1 (ok.2.2.2.2.1 _ hq) d (by subst hn; exact kk)) k
theorem g_i2l {a : Int} (ha : inR a) (d : decode J.1 pc = .ok (.i2l, 1)) (k : WG p l e R s m args below meth c J D G cl0 A F ad0 σ0 rv o σ (pc + 1) loc (vL a :: stk)) : WG p l e R s m args below meth c J D G cl0 A F ad0 σ0 rv o σ pc loc (vI a :: stk) :=
  WG.lift (fun ok _ ad H locs cells slots Q ls _ _ _ kk => lv_i2l ok.1 ok.2.1 d (Int64.toInt_inj.mp (by rw [Int32.toInt_toInt64, i_ofInt ha, l_ofInt (inL_of ha)])) kk) k
theorem g_l2i {a : Int} {K : Int → Option (α × Sg)} (ha : inL a) (d : decode J.1 pc = .ok (.l2i, 1)) (k : ∀ w, inR w → WG p l e R s m args below meth c J D G cl0 A F ad0 σ0 rv (K w) σ (pc + 1) loc (vI w :: stk)) : WG p l e R s m args below meth c J D G cl0 A F ad0 σ0 rv (ar a K) σ pc loc (vL a :: stk) :=
  g_arE (fun w hw e => by
    subst e
    exact WG.lift (fun ok _ ad H locs cells slots Q ls _ _ _ kk => lv_l2i ok.1 ok.2.1 d (Int32.toInt_inj.mp (by rw [Int64.toInt_toInt32, l_ofInt ha, i_ofInt hw]; exact Int.bmod_eq_of_le (by have := hw.1; omega) (by have := hw.2; omega))) kk) (k w hw))
theorem WG.arithL {pc' : Nat} {stk0 : List AV} {v : Int} {K : Int → Option (α × Sg)} (h : inL v → OKx p s m args meth c J G cl0 A → ∀ (ad : Nat → Nat) (H : Heap) (locs : List Loc) (cells slots : Nat) (Q : State → Prop) (ls : Array Slot), W p l e R s m args below meth c H locs cells slots Q (F0 m pc' ls ((vL v :: stk0).map (toV ad))) → W p l e R s m args below meth c H locs cells slots Q (F0 m pc ls (stk.map (toV ad))))
    (k : ∀ w, inL w → WG p l e R s m args below meth c J D G cl0 A F ad0 σ0 rv (K w) σ pc' loc (vL w :: stk0)) : WG p l e R s m args below meth c J D G cl0 A F ad0 σ0 rv (arL v K) σ pc loc stk := by
  refine ⟨fun hw r σ' e => ?_, fun ok r σ' ho => ?_⟩
  · unfold arL at e
    split at e
    · exact (k _ (by assumption)).1 hw r σ' e
    · cases e
  · unfold arL at ho
    split at ho
    · intro h1 h2 h3 h4 hw ad H locs ls ha hP hD hS hl
      exact h (by assumption) ok ad H locs _ _ _ ls ((k v (by assumption)).2 ok r σ' ho h1 h2 h3 h4 hw ad H locs ls ha hP hD hS hl)
    · cases ho
theorem g_ladd {a b : Int} {K : Int → Option (α × Sg)} (d : decode J.1 pc = .ok (.ladd, 1)) (k : ∀ w, inL w → WG p l e R s m args below meth c J D G cl0 A F ad0 σ0 rv (K w) σ (pc + 1) loc (vL w :: stk)) : WG p l e R s m args below meth c J D G cl0 A F ad0 σ0 rv (arL (a + b) K) σ pc loc (vL b :: vL a :: stk) :=
  WG.arithL (fun _ ok ad H locs cells slots Q ls kk => lv_ladd ok.1 ok.2.1 d (by rw [← Int64.ofInt_add]; exact kk)) k
theorem g_lsub {a b : Int} {K : Int → Option (α × Sg)} (d : decode J.1 pc = .ok (.lsub, 1)) (k : ∀ w, inL w → WG p l e R s m args below meth c J D G cl0 A F ad0 σ0 rv (K w) σ (pc + 1) loc (vL w :: stk)) : WG p l e R s m args below meth c J D G cl0 A F ad0 σ0 rv (arL (a - b) K) σ pc loc (vL b :: vL a :: stk) :=
  WG.arithL (fun _ ok ad H locs cells slots Q ls kk => lv_lsub ok.1 ok.2.1 d (by rw [← Int64.ofInt_sub]; exact kk)) k
theorem g_lmul {a b : Int} {K : Int → Option (α × Sg)} (d : decode J.1 pc = .ok (.lmul, 1)) (k : ∀ w, inL w → WG p l e R s m args below meth c J D G cl0 A F ad0 σ0 rv (K w) σ (pc + 1) loc (vL w :: stk)) : WG p l e R s m args below meth c J D G cl0 A F ad0 σ0 rv (arL (a * b) K) σ pc loc (vL b :: vL a :: stk) :=
  WG.arithL (fun _ ok ad H locs cells slots Q ls kk => lv_lmul ok.1 ok.2.1 d (by rw [← Int64.ofInt_mul]; exact kk)) k
theorem g_gd {C : Prop} [Decidable C] {K : Option (α × Sg)} (k : C → WG p l e R s m args below meth c J D G cl0 A F ad0 σ0 rv K σ pc loc stk) : WG p l e R s m args below meth c J D G cl0 A F ad0 σ0 rv (gd C K) σ pc loc stk := by
  refine ⟨fun hw r σ' ho => ?_, fun ok r σ' ho => ?_⟩
  · unfold gd at ho
    split at ho
    · exact (k (by assumption)).1 hw r σ' ho
    · cases ho
  · unfold gd at ho
    split at ho
    · exact (k (by assumption)).2 ok r σ' ho
    · cases ho
theorem l_div {a b : Int} (ha : inL a) (hb : inL b) (hv : inL (a.tdiv b)) : Int64.ofInt a / Int64.ofInt b = Int64.ofInt (a.tdiv b) := by
  refine Int64.toInt_inj.mp ?_
  rw [Int64.toInt_div, l_ofInt ha, l_ofInt hb, l_ofInt hv]
  exact Int.bmod_eq_of_le (by have := hv.1; omega) (by have := hv.2; omega)
theorem i_div {a b : Int} (ha : inR a) (hb : inR b) (hv : inR (a.tdiv b)) : Int32.ofInt a / Int32.ofInt b = Int32.ofInt (a.tdiv b) := by
  refine Int32.toInt_inj.mp ?_
  rw [Int32.toInt_div, i_ofInt ha, i_ofInt hb, i_ofInt hv]
  exact Int.bmod_eq_of_le (by have := hv.1; omega) (by have := hv.2; omega)
theorem g_ldiv {a b : Int} {K : Int → Option (α × Sg)} (ha : inL a) (hb : inL b) (d : decode J.1 pc = .ok (.ldiv, 1)) (k : ∀ w, inL w → WG p l e R s m args below meth c J D G cl0 A F ad0 σ0 rv (K w) σ (pc + 1) loc (vL w :: stk)) : WG p l e R s m args below meth c J D G cl0 A F ad0 σ0 rv (gd (b ≠ 0) (arL (a.tdiv b) K)) σ pc loc (vL b :: vL a :: stk) :=
  g_gd (fun hb0 => WG.arithL (fun hv ok ad H locs cells slots Q ls kk => lv_ldiv ok.1 ok.2.1 d (fun h => hb0 (by have := congrArg Int64.toInt h; rw [l_ofInt hb] at this; simpa using this)) (by rw [l_div ha hb hv]; exact kk)) k)
theorem g_idiv {a b : Int} {K : Int → Option (α × Sg)} (ha : inR a) (hb : inR b) (d : decode J.1 pc = .ok (.idiv, 1)) (k : ∀ w, inR w → WG p l e R s m args below meth c J D G cl0 A F ad0 σ0 rv (K w) σ (pc + 1) loc (vI w :: stk)) : WG p l e R s m args below meth c J D G cl0 A F ad0 σ0 rv (gd (b ≠ 0) (ar (a.tdiv b) K)) σ pc loc (vI b :: vI a :: stk) :=
  g_gd (fun hb0 => g_arE (fun w hw e => by
    subst e
    exact WG.lift (fun ok _ ad H locs cells slots Q ls _ _ _ kk => lv_idiv ok.1 ok.2.1 d (fun h => hb0 (by have := congrArg Int32.toInt h; rw [i_ofInt hb] at this; simpa using this)) (by rw [i_div ha hb hw]; exact kk)) (k _ hw)))
theorem g_lrem {a b : Int} {K : Int → Option (α × Sg)} (ha : inL a) (hb : inL b) (d : decode J.1 pc = .ok (.lrem, 1)) (k : ∀ w, inL w → WG p l e R s m args below meth c J D G cl0 A F ad0 σ0 rv (K w) σ (pc + 1) loc (vL w :: stk)) : WG p l e R s m args below meth c J D G cl0 A F ad0 σ0 rv (gd (b ≠ 0 ∧ inL (a.tdiv b)) (arL (a - a.tdiv b * b) K)) σ pc loc (vL b :: vL a :: stk) :=
  g_gd (fun hb0 => WG.arithL (fun hv ok ad H locs cells slots Q ls kk => lv_lrem ok.1 ok.2.1 d (fun h => hb0.1 (by have := congrArg Int64.toInt h; rw [l_ofInt hb] at this; simpa using this)) (by rw [l_div ha hb hb0.2, ← Int64.ofInt_mul, ← Int64.ofInt_sub]; exact kk)) k)
theorem g_lstore_n {i : Fin 4} {v : Int} {loc' : Lc} (d : decode J.1 pc = .ok (.lstore_n i, 1)) (hi : (i : Nat) + 1 < J.2.2.1) (hl : lcS2 loc i (vL v) = loc') (k : WG p l e R s m args below meth c J D G cl0 A F ad0 σ0 rv o σ (pc + 1) loc' stk) : WG p l e R s m args below meth c J D G cl0 A F ad0 σ0 rv o σ pc loc (vL v :: stk) :=
  WG.liftS (fun ok _ ad H locs cells slots Q ls h kk => lv_lstore_n ok.1 ok.2.1 d rfl h hi (lcV_S2 ad loc i (vL v)) (fun ls' h' => kk ls' (by rw [← hl]; exact h'))) k
theorem g_lstore {i : Nat} {v : Int} {loc' : Lc} (d : decode J.1 pc = .ok (.lstore i, 2)) (hi : i + 1 < J.2.2.1) (hl : lcS2 loc i (vL v) = loc') (k : WG p l e R s m args below meth c J D G cl0 A F ad0 σ0 rv o σ (pc + 2) loc' stk) : WG p l e R s m args below meth c J D G cl0 A F ad0 σ0 rv o σ pc loc (vL v :: stk) :=
  WG.liftS (fun ok _ ad H locs cells slots Q ls h kk => lv_lstore ok.1 ok.2.1 d h hi (lcV_S2 ad loc i (vL v)) (fun ls' h' => kk ls' (by rw [← hl]; exact h'))) k
theorem cmp_eq {a b : Int} (ha : inL a) (hb : inL b) : lg_cmp (Int64.ofInt a) (Int64.ofInt b) = Int32.ofInt (o_cmp a b) := by
  have e1 : (Int64.ofInt a < Int64.ofInt b) ↔ a < b := by rw [Int64.lt_iff_toInt_lt, l_ofInt ha, l_ofInt hb]
  have e2 : (Int64.ofInt a = Int64.ofInt b) ↔ a = b := ⟨fun h => by have := congrArg Int64.toInt h; rwa [l_ofInt ha, l_ofInt hb] at this, fun h => by rw [h]⟩
  have e3 : (Int64.ofInt b < Int64.ofInt a) ↔ b < a := by rw [Int64.lt_iff_toInt_lt, l_ofInt ha, l_ofInt hb]
  unfold lg_cmp o_cmp
  by_cases h1 : a < b
  · have h3 : ¬ b < a := by omega
    have h4 : ¬ a = b := by omega
    simp [h1, h3, h4, e1, e2, e3]
  · by_cases h2 : a = b
    · subst h2; simp
    · have h3 : b < a := by omega
      simp [h1, h2, h3, e1, e2, e3]
theorem o_cmp_z (a b : Int) : inR (o_cmp a b) := by
  unfold o_cmp
  split
  · decide
  · split <;> decide
theorem g_lcmpU {a b : Int} {K : Int → Option (α × Sg)} (ha : inL a) (hb : inL b) (d : decode J.1 pc = .ok (.lcmp, 1)) (k : ∀ w, inR w → WG p l e R s m args below meth c J D G cl0 A F ad0 σ0 rv (K w) σ (pc + 1) loc (vI w :: stk)) : WG p l e R s m args below meth c J D G cl0 A F ad0 σ0 rv (un (o_cmp a b) K) σ pc loc (vL b :: vL a :: stk) :=
  WG.lift (fun ok _ ad H locs cells slots Q ls _ _ _ kk => W.lcmp ok.1 ok.2.1 d (by rw [cmp_eq ha hb]; exact kk)) (k _ (o_cmp_z a b))
/-! the JDK's own -/
theorem g_mmax {a b : Int} {K : Int → Option (α × Sg)} (ha : inR a) (hb : inR b) (hRf : 1 ≤ R.frames) (hRl : 40 ≤ R.locals) (hst : (stk.map avC).sum ≤ 8) (h1 : Cond.methodLink J.2.1 index Lib.Math.max.name ∈ lw_all) (h2 : Cond.static Lib.Math.max.name ∈ lw_all) (h3 : Cond.initialized "java/lang/Math" ∈ lw_all) (h4 : Cond.code Lib.Math.max.name Lib.Math.max.code 2 (some .int) ∈ lw_all) (d : decode J.1 pc = .ok (.invokestatic index, 3)) (k : ∀ w, inR w → WG p l e R s m args below meth c J D G cl0 A F ad0 σ0 rv (K w) σ (pc + 3) loc (vI w :: stk)) : WG p l e R s m args below meth c J D G cl0 A F ad0 σ0 rv (un (if a < b then b else a) K) σ pc loc (vI b :: vI a :: stk) := by
  have hk := k (if a < b then b else a) (by split; exact hb; exact ha)
  refine ⟨hk.1, fun ok r σ' ho g1 g2 g3 g4 hw ad H locs ls hm hP hD hS hl => ?_⟩
  have hps := hk.1 hw r σ' ho
  refine va_mmax ok.1 ok.2.1 (ok.2.2.1.trans hl.1.symm) ok.2.2.2.1 (ok.2.2.2.2.1 _ h1) (ok.2.2.2.2.1 _ h2) (ok.2.2.2.2.1 _ h3) (ok.2.2.2.2.1 _ h4) hRf ?_ (by have := hps.1.1.1; omega) (by have := hps.1.1.2; omega) d ?_
  · have : ((fun v : Value => v.category) ∘ toV ad) = avC := funext fun a => toV_cat ad a
    rw [List.map_map, this]; omega
  · have := hk.2 ok r σ' ho g1 g2 g3 g4 hw ad H locs ls hm hP hD hS hl
    rw [show (if Int32.ofInt a < Int32.ofInt b then Int32.ofInt b else Int32.ofInt a) = Int32.ofInt (if a < b then b else a) from by
      by_cases q : a < b
      · rw [if_pos q, if_pos ((o_ofInt_lt ha hb).mpr q)]
      · rw [if_neg q, if_neg (fun h => q ((o_ofInt_lt ha hb).mp h))]]
    exact this
theorem g_mmin {a b : Int} {K : Int → Option (α × Sg)} (ha : inR a) (hb : inR b) (hRf : 1 ≤ R.frames) (hRl : 40 ≤ R.locals) (hst : (stk.map avC).sum ≤ 8) (h1 : Cond.methodLink J.2.1 index Lib.Math.min.name ∈ lw_all) (h2 : Cond.static Lib.Math.min.name ∈ lw_all) (h3 : Cond.initialized "java/lang/Math" ∈ lw_all) (h4 : Cond.code Lib.Math.min.name Lib.Math.min.code 2 (some .int) ∈ lw_all) (d : decode J.1 pc = .ok (.invokestatic index, 3)) (k : ∀ w, inR w → WG p l e R s m args below meth c J D G cl0 A F ad0 σ0 rv (K w) σ (pc + 3) loc (vI w :: stk)) : WG p l e R s m args below meth c J D G cl0 A F ad0 σ0 rv (un (if b < a then b else a) K) σ pc loc (vI b :: vI a :: stk) := by
  have hk := k (if b < a then b else a) (by split; exact hb; exact ha)
  refine ⟨hk.1, fun ok r σ' ho g1 g2 g3 g4 hw ad H locs ls hm hP hD hS hl => ?_⟩
  have hps := hk.1 hw r σ' ho
  refine va_mmin ok.1 ok.2.1 (ok.2.2.1.trans hl.1.symm) ok.2.2.2.1 (ok.2.2.2.2.1 _ h1) (ok.2.2.2.2.1 _ h2) (ok.2.2.2.2.1 _ h3) (ok.2.2.2.2.1 _ h4) hRf ?_ (by have := hps.1.1.1; omega) (by have := hps.1.1.2; omega) d ?_
  · have : ((fun v : Value => v.category) ∘ toV ad) = avC := funext fun a => toV_cat ad a
    rw [List.map_map, this]; omega
  · have := hk.2 ok r σ' ho g1 g2 g3 g4 hw ad H locs ls hm hP hD hS hl
    rw [show (if Int32.ofInt b < Int32.ofInt a then Int32.ofInt b else Int32.ofInt a) = Int32.ofInt (if b < a then b else a) from by
      by_cases q : b < a
      · rw [if_pos q, if_pos ((o_ofInt_lt hb ha).mpr q)]
      · rw [if_neg q, if_neg (fun h => q ((o_ofInt_lt hb ha).mp h))]]
    exact this
theorem g_mminL {a b : Int} {K : Int → Option (α × Sg)} (ha : inL a) (hb : inL b) (hRf : 1 ≤ R.frames) (hRl : 40 ≤ R.locals) (hst : (stk.map avC).sum ≤ 8) (h1 : Cond.methodLink J.2.1 index Lib.MathLoose.min_long.x ∈ lw_all) (h2 : Cond.static Lib.MathLoose.min_long.x ∈ lw_all) (h3 : Cond.initialized "java/lang/Math" ∈ lw_all) (h4 : Cond.code Lib.MathLoose.min_long.x Lib.MathLoose.min_long.code 4 (some .long) ∈ lw_all) (d : decode J.1 pc = .ok (.invokestatic index, 3)) (k : ∀ w, inL w → WG p l e R s m args below meth c J D G cl0 A F ad0 σ0 rv (K w) σ (pc + 3) loc (vL w :: stk)) : WG p l e R s m args below meth c J D G cl0 A F ad0 σ0 rv (un (if b < a then b else a) K) σ pc loc (vL b :: vL a :: stk) := by
  have hk := k (if b < a then b else a) (by split; exact hb; exact ha)
  refine ⟨hk.1, fun ok r σ' ho g1 g2 g3 g4 hw ad H locs ls hm hP hD hS hl => ?_⟩
  have hps := hk.1 hw r σ' ho
  refine va_mmin_long ok.1 ok.2.1 (ok.2.2.1.trans hl.1.symm) ok.2.2.2.1 (ok.2.2.2.2.1 _ h1) (ok.2.2.2.2.1 _ h2) (ok.2.2.2.2.1 _ h3) (ok.2.2.2.2.1 _ h4) hRf ?_ (by have := hps.1.1.1; omega) (by have := hps.1.1.2; omega) d ?_
  · have : ((fun v : Value => v.category) ∘ toV ad) = avC := funext fun a => toV_cat ad a
    rw [List.map_map, this]; omega
  · have := hk.2 ok r σ' ho g1 g2 g3 g4 hw ad H locs ls hm hP hD hS hl
    rw [show (if Int64.ofInt b < Int64.ofInt a then Int64.ofInt b else Int64.ofInt a) = Int64.ofInt (if b < a then b else a) from by
      have e1 : (Int64.ofInt b < Int64.ofInt a) ↔ b < a := by rw [Int64.lt_iff_toInt_lt, l_ofInt ha, l_ofInt hb]
      by_cases q : b < a
      · rw [if_pos q, if_pos (e1.mpr q)]
      · rw [if_neg q, if_neg (fun h => q (e1.mp h))]]
    exact this
end G6
