/-! methods that may throw: the judgement -/
def tw (σ : Sg) : Nat := (gI σ 99).toNat
/-- as Gr, with what the exceptions take -/
def GrX (F : Fm) (D : Nat) (σ σ' : Sg) : Prop := (gC σ ≤ gC σ' ∧ gS σ ≤ gS σ') ∧ (∀ k, D.testBit k = false → gI σ' k = gI σ k ∧ σ'.2.1 k = σ.2.1 k) ∧ (∀ k, gL σ k ≤ gL σ' k) ∧ gS σ' + (F.1.length + 1) * SL F σ + 6 * tw σ ≤ gS σ + (F.1.length + 1) * SL F σ' + 6 * tw σ' ∧ 16 * gC σ' + SL F σ + 16 * tw σ ≤ 16 * gC σ + SL F σ' + 16 * tw σ'
theorem GrX.rf {F : Fm} {D : Nat} {σ : Sg} : GrX F D σ σ := ⟨⟨Nat.le_refl _, Nat.le_refl _⟩, fun _ _ => ⟨rfl, rfl⟩, fun _ => Nat.le_refl _, Nat.le_refl _, Nat.le_refl _⟩
theorem GrX.tr {F : Fm} {D : Nat} {σ σ1 σ2 : Sg} (h : GrX F D σ σ1) (h' : GrX F D σ1 σ2) : GrX F D σ σ2 :=
  ⟨⟨Nat.le_trans h.1.1 h'.1.1, Nat.le_trans h.1.2 h'.1.2⟩, fun k hk => ⟨(h'.2.1 k hk).1.trans (h.2.1 k hk).1, (h'.2.1 k hk).2.trans (h.2.1 k hk).2⟩, fun k => Nat.le_trans (h.2.2.1 k) (h'.2.2.1 k), by have a := h.2.2.2.1; have b := h'.2.2.2.1; omega, by have a := h.2.2.2.2; have b := h'.2.2.2.2; omega⟩
theorem GrX.sub {F : Fm} {D D' : Nat} {σ σ1 : Sg} (hd : D &&& D' = D) (h : GrX F D σ σ1) : GrX F D' σ σ1 :=
  ⟨h.1, fun k hk => h.2.1 k (by
    cases hq : D.testBit k with
    | false => rfl
    | true =>
      have := congrArg (fun z => z.testBit k) hd
      simp only [Nat.testBit_and, hq, hk] at this
      exact absurd this (by decide)), h.2.2⟩
theorem Gr.gx {F : Fm} {D : Nat} {σ σ1 : Sg} (h99 : D.testBit 99 = false) (h : Gr F D σ σ1) : GrX F D σ σ1 := by
  have e : tw σ1 = tw σ := by unfold tw; rw [(h.2.1 99 h99).1]
  refine ⟨h.1, h.2.1, h.2.2.1, ?_, ?_⟩
  · have := h.2.2.2.1; omega
  · have := h.2.2.2.2; omega
theorem GrX_sI {F : Fm} {D : Nat} {σ : Sg} {k : Nat} {v : Int} (hk : D.testBit k = true) (h99 : k ≠ 99) : GrX F D σ (sI σ k v) := by
  have e : tw (sI σ k v) = tw σ := by unfold tw; rw [gI_sI, if_neg (fun q => h99 q.symm)]
  have h := Gr_sI (F := F) (D := D) (σ := σ) (v := v) hk
  refine ⟨h.1, h.2.1, h.2.2.1, ?_, ?_⟩
  · have := h.2.2.2.1; omega
  · have := h.2.2.2.2; omega
theorem GrX_sA {F : Fm} {D : Nat} {σ : Sg} {k : Nat} {i v : Int} (hk : D.testBit k = true) : GrX F D σ (sA σ k i v) := by
  have e : tw (sA σ k i v) = tw σ := rfl
  have h := Gr_sA (F := F) (D := D) (σ := σ) (i := i) (v := v) hk
  refine ⟨h.1, h.2.1, h.2.2.1, ?_, ?_⟩
  · have := h.2.2.2.1; omega
  · have := h.2.2.2.2; omega
def PsX (F : Fm) (D : Nat) (ret : Option FieldType) {α : Type} (rv : α → Rs) (σ : Sg) (o : Option (α × Sg)) : Prop := WF F σ → ∀ r σ', o = some (r, σ') → GrX F D σ σ' ∧ WF F σ' ∧ ∀ v, rv r = .inl (some v) → retOK ret v
theorem PsX.back {F : Fm} {D : Nat} {ret : Option FieldType} {α : Type} {rv : α → Rs} {σ σ1 : Sg} {o : Option (α × Sg)} (hg : GrX F D σ σ1) (hw : WF F σ → WF F σ1) (k : PsX F D ret rv σ1 o) : PsX F D ret rv σ o := fun w r σ' h => by
  have := k (hw w) r σ' h
  exact ⟨hg.tr this.1, this.2⟩
/-- how a method that may throw ends -/
def FrameEndG (first : State) (o : Outcome) (t : State) (L : List Loc) (k n : Nat) : Prop := ((∃ v, o = .returned v) ∨ ∃ x, o = .threw x) ∧ first.WarmedH t.vm ∧ first.sameButNew ({ t with vm := first.vm } : State) L k n
def MQg (below : List Frame) (Qc : Array Value → State → Outcome → State → Prop) (a : Array Value) (s : State) (mc ms : Nat) (free : Addr → Prop) : State → Prop := fun t =>
  ∃ o, t.status = .running ∧ Ended t below o ∧ Qc a s o t ∧ ∃ L, FrameEndG s o t L mc ms ∧ ∀ q ∈ L, free q.base
theorem W.mq {p : Program} {l : Launch} {e : Env} {R : Room} {s : State} {m : MethodId} {args : Array Value} {below : List Frame} {meth : Method} {c : Code} {H : Heap} {locs : List Loc} {cells slots mc ms : Nat} {Qc : Array Value → State → Outcome → State → Prop} {a : Array Value} {free : Addr → Prop} {g : JFrame} (h : W p l e R s m args below meth c H locs cells slots (MQ below Qc a s mc ms free) g) : W p l e R s m args below meth c H locs cells slots (MQg below Qc a s mc ms free) g := fun T hT X => by
  obtain ⟨t, b1, o, b2, b3, b4, L, ⟨v, e1, e2⟩, b6⟩ := h T hT X
  exact ⟨t, b1, o, b2, b3, b4, L, ⟨Or.inl v, e1, e2⟩, b6⟩
/-- what an exception reads of its class's statics, and words that are no table words -/
def xsW : List Cond := [.laysStatic Bundle.tN "UNASSIGNED_STACK" Bundle.steD, .laysStatic Bundle.tN "SUPPRESSED_SENTINEL" Bundle.listD, .castable "java/lang/IllegalArgumentException" "java/lang/IllegalArgumentException", .castable "java/lang/IllegalStateException" "java/lang/IllegalStateException", .isRef (.static Bundle.tN "UNASSIGNED_STACK" Bundle.steD), .isRef (.static Bundle.tN "SUPPRESSED_SENTINEL" Bundle.listD), .declares (Bundle.init0 "java/lang/RuntimeException"), .declares (Bundle.init0 "java/lang/Exception"), .declares (Bundle.init0 Bundle.tN)]
def XS (U : State) : Prop := ∀ w ∈ xsW, w.before #[] U = true
def OKxX (p : Program) (s : State) (m : MethodId) (args : Array Value) (meth : Method) (c : Code) (J : Jm) (G : Gm) (cl0 : List vw_C) (A : Nat → Prop) : Prop := OKx p s m args meth c J G cl0 A ∧ XS s ∧ c.exceptionTable = #[] ∧ ∀ (q : Nat) (cell : Cell), A q → s.heap[q]? = some cell → cell.vm.isStatics = false
/-- the judgement: from here the machine computes what o says -/
def WGx (p : Program) (l : Launch) (e : Env) (R : Room) (s : State) (m : MethodId) (args : Array Value) (below : List Frame) (meth : Method) (c : Code)
    (J : Jm) (D : Nat) (G : Gm) (cl0 : List vw_C) (A : Nat → Prop) (F : Fm) (ad0 : Nat → Nat) (σ0 : Sg) {α : Type} (rv : α → Rs) (o : Option (α × Sg)) (σ : Sg) (pc : Nat) (loc : Lc) (stk : List AV) : Prop :=
  PsX F D J.2.2.2 rv σ o ∧ (OKxX p s m args meth c J G cl0 A → ∀ r σ', o = some (r, σ') → gC σ0 ≤ gC σ → gS σ0 ≤ gS σ → R.cells = gC σ' - gC σ0 → R.slots = gS σ' - gS σ0 → WF F σ → ∀ (ad : Nat → Nat) (H : Heap) (locs : List Loc) (ls : Array Slot), adM σ0 ad0 σ ad → va_P G.1 cl0 (wl F G ad σ) H → va_D A (wl F G ad σ) → va_S A s.heap H locs → lv_has ls J.2.2.1 (lcV ad loc) →
    W p l e R s m args below meth c H locs (gC σ - gC σ0) (gS σ - gS σ0) (MQg below (Qx F G cl0 A σ0 ad0 J.2.2.2 (rv r) σ') args s (gC σ' - gC σ0) (gS σ' - gS σ0) A) (F0 m pc ls (stk.map (toV ad))))

section G1
variable {p : Program} {l : Launch} {e : Env} {R : Room} {s : State} {m : MethodId} {args : Array Value} {below : List Frame} {meth : Method} {c : Code}
variable {J : Jm} {D : Nat} {G : Gm} {cl0 : List vw_C} {A : Nat → Prop} {F : Fm} {ad0 : Nat → Nat} {σ0 σ : Sg} {α : Type} {rv : α → Rs} {o : Option (α × Sg)} {pc : Nat} {loc : Lc} {stk : List AV}
theorem WGx.lift {pc' : Nat} {stk' : List AV} (h : OKxX p s m args meth c J G cl0 A → WF F σ → ∀ (ad : Nat → Nat) (H : Heap) (locs : List Loc) (cells slots : Nat) (Q : State → Prop) (ls : Array Slot), adM σ0 ad0 σ ad → va_P G.1 cl0 (wl F G ad σ) H → lv_has ls J.2.2.1 (lcV ad loc) → W p l e R s m args below meth c H locs cells slots Q (F0 m pc' ls (stk'.map (toV ad))) → W p l e R s m args below meth c H locs cells slots Q (F0 m pc ls (stk.map (toV ad))))
    (k : WGx p l e R s m args below meth c J D G cl0 A F ad0 σ0 rv o σ pc' loc stk') : WGx p l e R s m args below meth c J D G cl0 A F ad0 σ0 rv o σ pc loc stk :=
  ⟨k.1, fun ok r σ' ho h1 h2 h3 h4 hw ad H locs ls ha hP hD hS hl => h ok hw ad H locs _ _ _ ls ha hP hl (k.2 ok r σ' ho h1 h2 h3 h4 hw ad H locs ls ha hP hD hS hl)⟩
theorem WGx.liftS {pc' : Nat} {stk' : List AV} {loc' : Lc} (h : OKxX p s m args meth c J G cl0 A → WF F σ → ∀ (ad : Nat → Nat) (H : Heap) (locs : List Loc) (cells slots : Nat) (Q : State → Prop) (ls : Array Slot), lv_has ls J.2.2.1 (lcV ad loc) → (∀ ls' : Array Slot, lv_has ls' J.2.2.1 (lcV ad loc') → W p l e R s m args below meth c H locs cells slots Q (F0 m pc' ls' (stk'.map (toV ad)))) → W p l e R s m args below meth c H locs cells slots Q (F0 m pc ls (stk.map (toV ad))))
    (k : WGx p l e R s m args below meth c J D G cl0 A F ad0 σ0 rv o σ pc' loc' stk') : WGx p l e R s m args below meth c J D G cl0 A F ad0 σ0 rv o σ pc loc stk :=
  ⟨k.1, fun ok r σ' ho h1 h2 h3 h4 hw ad H locs ls ha hP hD hS hl => h ok hw ad H locs _ _ _ ls hl (fun ls' hl' => k.2 ok r σ' ho h1 h2 h3 h4 hw ad H locs ls' ha hP hD hS hl')⟩
theorem gx_iconst {n : Int} (d : decode J.1 pc = .ok (.iconst n, 1)) (k : WGx p l e R s m args below meth c J D G cl0 A F ad0 σ0 rv o σ (pc + 1) loc (vI n :: stk)) : WGx p l e R s m args below meth c J D G cl0 A F ad0 σ0 rv o σ pc loc stk :=
  WGx.lift (fun ok _ ad H locs cells slots Q ls _ _ _ kk => lv_iconst ok.1.1 ok.1.2.1 d rfl kk) k
theorem gx_bipush {n : Int} (hn : (Int8.ofInt n).toInt32 = Int32.ofInt n) (d : decode J.1 pc = .ok (.bipush n, 2)) (k : WGx p l e R s m args below meth c J D G cl0 A F ad0 σ0 rv o σ (pc + 2) loc (vI n :: stk)) : WGx p l e R s m args below meth c J D G cl0 A F ad0 σ0 rv o σ pc loc stk :=
  WGx.lift (fun ok _ ad H locs cells slots Q ls _ _ _ kk => lv_bipush ok.1.1 ok.1.2.1 d hn kk) k
theorem gx_sipush {n : Int} (hn : (Int16.ofInt n).toInt32 = Int32.ofInt n) (d : decode J.1 pc = .ok (.sipush n, 3)) (k : WGx p l e R s m args below meth c J D G cl0 A F ad0 σ0 rv o σ (pc + 3) loc (vI n :: stk)) : WGx p l e R s m args below meth c J D G cl0 A F ad0 σ0 rv o σ pc loc stk :=
  WGx.lift (fun ok _ ad H locs cells slots Q ls _ _ _ kk => lv_sipush ok.1.1 ok.1.2.1 d hn kk) k
theorem gx_iload_n {i : Fin 4} {v : Int} (j : Nat) (d : decode J.1 pc = .ok (.iload_n i, 1)) (hl : loc[j]? = some ((i : Nat), vI v)) (k : WGx p l e R s m args below meth c J D G cl0 A F ad0 σ0 rv o σ (pc + 1) loc (vI v :: stk)) : WGx p l e R s m args below meth c J D G cl0 A F ad0 σ0 rv o σ pc loc stk :=
  WGx.lift (fun ok _ ad H locs cells slots Q ls _ _ h kk => lv_iload_n ok.1.1 ok.1.2.1 d rfl (lv_at h j (lcV_at hl)) kk) k
theorem gx_iload {i : Nat} {v : Int} (j : Nat) (d : decode J.1 pc = .ok (.iload i, 2)) (hl : loc[j]? = some (i, vI v)) (k : WGx p l e R s m args below meth c J D G cl0 A F ad0 σ0 rv o σ (pc + 2) loc (vI v :: stk)) : WGx p l e R s m args below meth c J D G cl0 A F ad0 σ0 rv o σ pc loc stk :=
  WGx.lift (fun ok _ ad H locs cells slots Q ls _ _ h kk => lv_iload ok.1.1 ok.1.2.1 d (lv_at h j (lcV_at hl)) kk) k
theorem gx_aload_n {i : Fin 4} {v : Nat} (j : Nat) (d : decode J.1 pc = .ok (.aload_n i, 1)) (hl : loc[j]? = some ((i : Nat), vR v)) (k : WGx p l e R s m args below meth c J D G cl0 A F ad0 σ0 rv o σ (pc + 1) loc (vR v :: stk)) : WGx p l e R s m args below meth c J D G cl0 A F ad0 σ0 rv o σ pc loc stk :=
  WGx.lift (fun ok _ ad H locs cells slots Q ls _ _ h kk => lv_aload_n ok.1.1 ok.1.2.1 d rfl (lv_at h j (lcV_at hl)) kk) k
theorem gx_istore_n {i : Fin 4} {v : Int} {loc' : Lc} (d : decode J.1 pc = .ok (.istore_n i, 1)) (hi : (i : Nat) < J.2.2.1) (hl : lcS loc i (vI v) = loc') (k : WGx p l e R s m args below meth c J D G cl0 A F ad0 σ0 rv o σ (pc + 1) loc' stk) : WGx p l e R s m args below meth c J D G cl0 A F ad0 σ0 rv o σ pc loc (vI v :: stk) :=
  WGx.liftS (fun ok _ ad H locs cells slots Q ls h kk => lv_istore_n ok.1.1 ok.1.2.1 d rfl h hi (lcV_S ad loc i (vI v)) (fun ls' h' => kk ls' (by rw [← hl]; exact h'))) k
theorem gx_istore {i : Nat} {v : Int} {loc' : Lc} (d : decode J.1 pc = .ok (.istore i, 2)) (hi : i < J.2.2.1) (hl : lcS loc i (vI v) = loc') (k : WGx p l e R s m args below meth c J D G cl0 A F ad0 σ0 rv o σ (pc + 2) loc' stk) : WGx p l e R s m args below meth c J D G cl0 A F ad0 σ0 rv o σ pc loc (vI v :: stk) :=
  WGx.liftS (fun ok _ ad H locs cells slots Q ls h kk => lv_istore ok.1.1 ok.1.2.1 d h hi (lcV_S ad loc i (vI v)) (fun ls' h' => kk ls' (by rw [← hl]; exact h'))) k
theorem gx_dup {a : AV} (ha : avC a = 1) (d : decode J.1 pc = .ok (.dup, 1)) (k : WGx p l e R s m args below meth c J D G cl0 A F ad0 σ0 rv o σ (pc + 1) loc (a :: a :: stk)) : WGx p l e R s m args below meth c J D G cl0 A F ad0 σ0 rv o σ pc loc (a :: stk) :=
  WGx.lift (fun ok _ ad H locs cells slots Q ls _ _ h kk => lv_dup ok.1.1 ok.1.2.1 d ((toV_cat ad a).trans ha) kk) k
theorem gx_pop {a : AV} (ha : avC a = 1) (d : decode J.1 pc = .ok (.pop, 1)) (k : WGx p l e R s m args below meth c J D G cl0 A F ad0 σ0 rv o σ (pc + 1) loc stk) : WGx p l e R s m args below meth c J D G cl0 A F ad0 σ0 rv o σ pc loc (a :: stk) :=
  WGx.lift (fun ok _ ad H locs cells slots Q ls _ _ h kk => lv_pop ok.1.1 ok.1.2.1 d ((toV_cat ad a).trans ha) kk) k
theorem gx_goto {off : Int} (tgt : Nat) (d : decode J.1 pc = .ok (.goto off, 3)) (ht : (pc : Int) + off = (tgt : Int)) (k : WGx p l e R s m args below meth c J D G cl0 A F ad0 σ0 rv o σ tgt loc stk) : WGx p l e R s m args below meth c J D G cl0 A F ad0 σ0 rv o σ pc loc stk :=
  WGx.lift (fun ok _ ad H locs cells slots Q ls _ _ h kk => lv_goto ok.1.1 ok.1.2.1 d ht kk) k
theorem WGx.arith {pc' : Nat} {stk0 : List AV} {v : Int} {K : Int → Option (α × Sg)} (h : OKxX p s m args meth c J G cl0 A → ∀ (ad : Nat → Nat) (H : Heap) (locs : List Loc) (cells slots : Nat) (Q : State → Prop) (ls : Array Slot), W p l e R s m args below meth c H locs cells slots Q (F0 m pc' ls ((vI v :: stk0).map (toV ad))) → W p l e R s m args below meth c H locs cells slots Q (F0 m pc ls (stk.map (toV ad))))
    (k : ∀ w, inR w → WGx p l e R s m args below meth c J D G cl0 A F ad0 σ0 rv (K w) σ pc' loc (vI w :: stk0)) : WGx p l e R s m args below meth c J D G cl0 A F ad0 σ0 rv (ar v K) σ pc loc stk := by
  refine ⟨fun hw r σ' e => ?_, fun ok r σ' ho => ?_⟩
  · unfold ar at e
    split at e
    · exact (k _ (by assumption)).1 hw r σ' e
    · cases e
  · unfold ar at ho
    split at ho
    · intro h1 h2 h3 h4 hw ad H locs ls ha hP hD hS hl
      exact h ok ad H locs _ _ _ ls ((k v (by assumption)).2 ok r σ' ho h1 h2 h3 h4 hw ad H locs ls ha hP hD hS hl)
    · cases ho
theorem gx_iadd {a b : Int} {K : Int → Option (α × Sg)} (d : decode J.1 pc = .ok (.iadd, 1)) (k : ∀ w, inR w → WGx p l e R s m args below meth c J D G cl0 A F ad0 σ0 rv (K w) σ (pc + 1) loc (vI w :: stk)) : WGx p l e R s m args below meth c J D G cl0 A F ad0 σ0 rv (ar (a + b) K) σ pc loc (vI b :: vI a :: stk) :=
  WGx.arith (fun ok ad H locs cells slots Q ls kk => lv_iadd ok.1.1 ok.1.2.1 d (by rw [← Int32.ofInt_add]; exact kk)) k
theorem gx_isub {a b : Int} {K : Int → Option (α × Sg)} (d : decode J.1 pc = .ok (.isub, 1)) (k : ∀ w, inR w → WGx p l e R s m args below meth c J D G cl0 A F ad0 σ0 rv (K w) σ (pc + 1) loc (vI w :: stk)) : WGx p l e R s m args below meth c J D G cl0 A F ad0 σ0 rv (ar (a - b) K) σ pc loc (vI b :: vI a :: stk) :=
  WGx.arith (fun ok ad H locs cells slots Q ls kk => lv_isub ok.1.1 ok.1.2.1 d (by rw [← Int32.ofInt_sub]; exact kk)) k
theorem gx_imul {a b : Int} {K : Int → Option (α × Sg)} (d : decode J.1 pc = .ok (.imul, 1)) (k : ∀ w, inR w → WGx p l e R s m args below meth c J D G cl0 A F ad0 σ0 rv (K w) σ (pc + 1) loc (vI w :: stk)) : WGx p l e R s m args below meth c J D G cl0 A F ad0 σ0 rv (ar (a * b) K) σ pc loc (vI b :: vI a :: stk) :=
  WGx.arith (fun ok ad H locs cells slots Q ls kk => lv_imul ok.1.1 ok.1.2.1 d (by rw [← Int32.ofInt_mul]; exact kk)) k
theorem gx_iand {a b : Int} (d : decode J.1 pc = .ok (.iand, 1)) (k : WGx p l e R s m args below meth c J D G cl0 A F ad0 σ0 rv o σ (pc + 1) loc (vI (o_and a b) :: stk)) : WGx p l e R s m args below meth c J D G cl0 A F ad0 σ0 rv o σ pc loc (vI b :: vI a :: stk) :=
  WGx.lift (fun ok _ ad H locs cells slots Q ls _ _ h kk => lv_iand ok.1.1 ok.1.2.1 d (by rw [← i32_wrap (_ &&& _)]; exact kk)) k
theorem gx_ior {a b : Int} (d : decode J.1 pc = .ok (.ior, 1)) (k : WGx p l e R s m args below meth c J D G cl0 A F ad0 σ0 rv o σ (pc + 1) loc (vI (o_or a b) :: stk)) : WGx p l e R s m args below meth c J D G cl0 A F ad0 σ0 rv o σ pc loc (vI b :: vI a :: stk) :=
  WGx.lift (fun ok _ ad H locs cells slots Q ls _ _ h kk => lv_ior ok.1.1 ok.1.2.1 d (by rw [← i32_wrap (_ ||| _)]; exact kk)) k
theorem gx_ishl {a b : Int} (d : decode J.1 pc = .ok (.ishl, 1)) (k : WGx p l e R s m args below meth c J D G cl0 A F ad0 σ0 rv o σ (pc + 1) loc (vI (o_shl a b) :: stk)) : WGx p l e R s m args below meth c J D G cl0 A F ad0 σ0 rv o σ pc loc (vI b :: vI a :: stk) :=
  WGx.lift (fun ok _ ad H locs cells slots Q ls _ _ h kk => lv_ishl ok.1.1 ok.1.2.1 d (by rw [← i32_wrap (_ <<< _)]; exact kk)) k
theorem gx_iushr {a b : Int} (d : decode J.1 pc = .ok (.iushr, 1)) (k : WGx p l e R s m args below meth c J D G cl0 A F ad0 σ0 rv o σ (pc + 1) loc (vI (o_ushr a b) :: stk)) : WGx p l e R s m args below meth c J D G cl0 A F ad0 σ0 rv o σ pc loc (vI b :: vI a :: stk) :=
  WGx.lift (fun ok _ ad H locs cells slots Q ls _ _ h kk => lv_iushr ok.1.1 ok.1.2.1 d (i32_wrap _).symm kk) k
end G1

section G2
variable {p : Program} {l : Launch} {e : Env} {R : Room} {s : State} {m : MethodId} {args : Array Value} {below : List Frame} {meth : Method} {c : Code}
variable {J : Jm} {D : Nat} {G : Gm} {cl0 : List vw_C} {A : Nat → Prop} {F : Fm} {ad0 : Nat → Nat} {σ0 σ : Sg} {α : Type} {rv : α → Rs} {o T E : Option (α × Sg)} {pc : Nat} {loc : Lc} {stk : List AV}
theorem WGx.byc {C : Prop} [Decidable C] (kt : C → WGx p l e R s m args below meth c J D G cl0 A F ad0 σ0 rv T σ pc loc stk) (kf : ¬ C → WGx p l e R s m args below meth c J D G cl0 A F ad0 σ0 rv E σ pc loc stk) : WGx p l e R s m args below meth c J D G cl0 A F ad0 σ0 rv (if C then T else E) σ pc loc stk := by
  by_cases h : C
  · rw [if_pos h]; exact kt h
  · rw [if_neg h]; exact kf h
theorem WGx.br {C : Prop} [Decidable C] {pt pe : Nat} {stk0 : List AV} (h : OKxX p s m args meth c J G cl0 A → WF F σ → ∀ (ad : Nat → Nat) (H : Heap) (locs : List Loc) (cells slots : Nat) (Q : State → Prop) (ls : Array Slot), (C → W p l e R s m args below meth c H locs cells slots Q (F0 m pt ls (stk0.map (toV ad)))) → (¬ C → W p l e R s m args below meth c H locs cells slots Q (F0 m pe ls (stk0.map (toV ad)))) → W p l e R s m args below meth c H locs cells slots Q (F0 m pc ls (stk.map (toV ad))))
    (kt : C → WGx p l e R s m args below meth c J D G cl0 A F ad0 σ0 rv T σ pt loc stk0) (kf : ¬ C → WGx p l e R s m args below meth c J D G cl0 A F ad0 σ0 rv E σ pe loc stk0) : WGx p l e R s m args below meth c J D G cl0 A F ad0 σ0 rv (if C then T else E) σ pc loc stk := by
  refine ⟨fun hw r σ' e => by split at e; exact (kt (by assumption)).1 hw r σ' e; exact (kf (by assumption)).1 hw r σ' e, fun ok r σ' ho h1 h2 h3 h4 hw ad H locs ls ha hP hD hS hl => h ok hw ad H locs _ _ _ ls (fun hc => ?_) (fun hc => ?_)⟩
  · rw [if_pos hc] at ho
    exact (kt hc).2 ok r σ' ho h1 h2 h3 h4 hw ad H locs ls ha hP hD hS hl
  · rw [if_neg hc] at ho
    exact (kf hc).2 ok r σ' ho h1 h2 h3 h4 hw ad H locs ls ha hP hD hS hl
theorem gx_icmp_eq {a b off : Int} (tgt : Nat) (d : decode J.1 pc = .ok (.if_icmp .eq off, 3)) (ht : (pc : Int) + off = (tgt : Int)) (ha : WF F σ → inR a) (hb : WF F σ → inR b) (kt : a = b → WGx p l e R s m args below meth c J D G cl0 A F ad0 σ0 rv T σ tgt loc stk) (kf : ¬ a = b → WGx p l e R s m args below meth c J D G cl0 A F ad0 σ0 rv E σ (pc + 3) loc stk) : WGx p l e R s m args below meth c J D G cl0 A F ad0 σ0 rv (if a = b then T else E) σ pc loc (vI b :: vI a :: stk) :=
  WGx.br (fun ok hw ad H locs cells slots Q ls x y => lv_icmp_eq ok.1.1 ok.1.2.1 d ht (fun h => x ((o_ofInt_eq (ha hw) (hb hw)).mp h)) (fun h => y (fun h' => h ((o_ofInt_eq (ha hw) (hb hw)).mpr h')))) kt kf
theorem gx_icmp_ne {a b off : Int} (tgt : Nat) (d : decode J.1 pc = .ok (.if_icmp .ne off, 3)) (ht : (pc : Int) + off = (tgt : Int)) (ha : WF F σ → inR a) (hb : WF F σ → inR b) (kt : a = b → WGx p l e R s m args below meth c J D G cl0 A F ad0 σ0 rv T σ (pc + 3) loc stk) (kf : ¬ a = b → WGx p l e R s m args below meth c J D G cl0 A F ad0 σ0 rv E σ tgt loc stk) : WGx p l e R s m args below meth c J D G cl0 A F ad0 σ0 rv (if a = b then T else E) σ pc loc (vI b :: vI a :: stk) :=
  WGx.br (fun ok hw ad H locs cells slots Q ls x y => lv_icmp_ne ok.1.1 ok.1.2.1 d ht (fun h => y (fun h' => h ((o_ofInt_eq (ha hw) (hb hw)).mpr h'))) (fun h => x ((o_ofInt_eq (ha hw) (hb hw)).mp h))) kt kf
theorem gx_icmp_lt {a b off : Int} (tgt : Nat) (d : decode J.1 pc = .ok (.if_icmp .lt off, 3)) (ht : (pc : Int) + off = (tgt : Int)) (ha : WF F σ → inR a) (hb : WF F σ → inR b) (kt : a < b → WGx p l e R s m args below meth c J D G cl0 A F ad0 σ0 rv T σ tgt loc stk) (kf : ¬ a < b → WGx p l e R s m args below meth c J D G cl0 A F ad0 σ0 rv E σ (pc + 3) loc stk) : WGx p l e R s m args below meth c J D G cl0 A F ad0 σ0 rv (if a < b then T else E) σ pc loc (vI b :: vI a :: stk) :=
  WGx.br (fun ok hw ad H locs cells slots Q ls x y => lv_icmp_lt ok.1.1 ok.1.2.1 d ht (fun h => x ((o_ofInt_lt (ha hw) (hb hw)).mp h)) (fun h => y (fun h' => h ((o_ofInt_lt (ha hw) (hb hw)).mpr h')))) kt kf
theorem gx_icmp_ge {a b off : Int} (tgt : Nat) (d : decode J.1 pc = .ok (.if_icmp .ge off, 3)) (ht : (pc : Int) + off = (tgt : Int)) (ha : WF F σ → inR a) (hb : WF F σ → inR b) (kt : a < b → WGx p l e R s m args below meth c J D G cl0 A F ad0 σ0 rv T σ (pc + 3) loc stk) (kf : ¬ a < b → WGx p l e R s m args below meth c J D G cl0 A F ad0 σ0 rv E σ tgt loc stk) : WGx p l e R s m args below meth c J D G cl0 A F ad0 σ0 rv (if a < b then T else E) σ pc loc (vI b :: vI a :: stk) :=
  WGx.br (fun ok hw ad H locs cells slots Q ls x y => lv_icmp_ge ok.1.1 ok.1.2.1 d ht (fun h => y (fun h' => by have := (o_ofInt_le (hb hw) (ha hw)).mp h; omega)) (fun h => x (by have := mt (o_ofInt_le (hb hw) (ha hw)).mpr h; omega))) kt kf
theorem gx_icmp_gt {a b off : Int} (tgt : Nat) (d : decode J.1 pc = .ok (.if_icmp .gt off, 3)) (ht : (pc : Int) + off = (tgt : Int)) (ha : WF F σ → inR a) (hb : WF F σ → inR b) (kt : a ≤ b → WGx p l e R s m args below meth c J D G cl0 A F ad0 σ0 rv T σ (pc + 3) loc stk) (kf : ¬ a ≤ b → WGx p l e R s m args below meth c J D G cl0 A F ad0 σ0 rv E σ tgt loc stk) : WGx p l e R s m args below meth c J D G cl0 A F ad0 σ0 rv (if a ≤ b then T else E) σ pc loc (vI b :: vI a :: stk) :=
  WGx.br (fun ok hw ad H locs cells slots Q ls x y => lv_icmp_gt ok.1.1 ok.1.2.1 d ht (fun h => y (fun h' => by have := (o_ofInt_lt (hb hw) (ha hw)).mp h; omega)) (fun h => x (by have := mt (o_ofInt_lt (hb hw) (ha hw)).mpr h; omega))) kt kf
theorem gx_icmp_le {a b off : Int} (tgt : Nat) (d : decode J.1 pc = .ok (.if_icmp .le off, 3)) (ht : (pc : Int) + off = (tgt : Int)) (ha : WF F σ → inR a) (hb : WF F σ → inR b) (kt : a ≤ b → WGx p l e R s m args below meth c J D G cl0 A F ad0 σ0 rv T σ tgt loc stk) (kf : ¬ a ≤ b → WGx p l e R s m args below meth c J D G cl0 A F ad0 σ0 rv E σ (pc + 3) loc stk) : WGx p l e R s m args below meth c J D G cl0 A F ad0 σ0 rv (if a ≤ b then T else E) σ pc loc (vI b :: vI a :: stk) :=
  WGx.br (fun ok hw ad H locs cells slots Q ls x y => lv_icmp_le ok.1.1 ok.1.2.1 d ht (fun h => x ((o_ofInt_le (ha hw) (hb hw)).mp h)) (fun h => y (fun h' => h ((o_ofInt_le (ha hw) (hb hw)).mpr h')))) kt kf
theorem gx_if_eq {a off : Int} (tgt : Nat) (d : decode J.1 pc = .ok (.ifCond .eq off, 3)) (ht : (pc : Int) + off = (tgt : Int)) (ha : WF F σ → inR a) (kt : a = 0 → WGx p l e R s m args below meth c J D G cl0 A F ad0 σ0 rv T σ tgt loc stk) (kf : ¬ a = 0 → WGx p l e R s m args below meth c J D G cl0 A F ad0 σ0 rv E σ (pc + 3) loc stk) : WGx p l e R s m args below meth c J D G cl0 A F ad0 σ0 rv (if a = 0 then T else E) σ pc loc (vI a :: stk) :=
  WGx.br (fun ok hw ad H locs cells slots Q ls x y => lv_if_eq ok.1.1 ok.1.2.1 d ht (fun h => x ((o_ofInt_eq (ha hw) inR0).mp h)) (fun h => y (fun h' => h ((o_ofInt_eq (ha hw) inR0).mpr h')))) kt kf
theorem gx_if_ne {a off : Int} (tgt : Nat) (d : decode J.1 pc = .ok (.ifCond .ne off, 3)) (ht : (pc : Int) + off = (tgt : Int)) (ha : WF F σ → inR a) (kt : a = 0 → WGx p l e R s m args below meth c J D G cl0 A F ad0 σ0 rv T σ (pc + 3) loc stk) (kf : ¬ a = 0 → WGx p l e R s m args below meth c J D G cl0 A F ad0 σ0 rv E σ tgt loc stk) : WGx p l e R s m args below meth c J D G cl0 A F ad0 σ0 rv (if a = 0 then T else E) σ pc loc (vI a :: stk) :=
  WGx.br (fun ok hw ad H locs cells slots Q ls x y => lv_if_ne ok.1.1 ok.1.2.1 d ht (fun h => y (fun h' => h ((o_ofInt_eq (ha hw) inR0).mpr h'))) (fun h => x ((o_ofInt_eq (ha hw) inR0).mp h))) kt kf
theorem gx_if_lt {a off : Int} (tgt : Nat) (d : decode J.1 pc = .ok (.ifCond .lt off, 3)) (ht : (pc : Int) + off = (tgt : Int)) (ha : WF F σ → inR a) (kt : a < 0 → WGx p l e R s m args below meth c J D G cl0 A F ad0 σ0 rv T σ tgt loc stk) (kf : ¬ a < 0 → WGx p l e R s m args below meth c J D G cl0 A F ad0 σ0 rv E σ (pc + 3) loc stk) : WGx p l e R s m args below meth c J D G cl0 A F ad0 σ0 rv (if a < 0 then T else E) σ pc loc (vI a :: stk) :=
  WGx.br (fun ok hw ad H locs cells slots Q ls x y => lv_if_lt ok.1.1 ok.1.2.1 d ht (fun h => x ((o_ofInt_lt (ha hw) inR0).mp h)) (fun h => y (fun h' => h ((o_ofInt_lt (ha hw) inR0).mpr h')))) kt kf
theorem gx_if_ge {a off : Int} (tgt : Nat) (d : decode J.1 pc = .ok (.ifCond .ge off, 3)) (ht : (pc : Int) + off = (tgt : Int)) (ha : WF F σ → inR a) (kt : a < 0 → WGx p l e R s m args below meth c J D G cl0 A F ad0 σ0 rv T σ (pc + 3) loc stk) (kf : ¬ a < 0 → WGx p l e R s m args below meth c J D G cl0 A F ad0 σ0 rv E σ tgt loc stk) : WGx p l e R s m args below meth c J D G cl0 A F ad0 σ0 rv (if a < 0 then T else E) σ pc loc (vI a :: stk) :=
  WGx.br (fun ok hw ad H locs cells slots Q ls x y => lv_if_ge ok.1.1 ok.1.2.1 d ht (fun h => y (fun h' => by have := (o_ofInt_le inR0 (ha hw)).mp h; omega)) (fun h => x (by have := mt (o_ofInt_le inR0 (ha hw)).mpr h; omega))) kt kf
theorem gx_if_gt {a off : Int} (tgt : Nat) (d : decode J.1 pc = .ok (.ifCond .gt off, 3)) (ht : (pc : Int) + off = (tgt : Int)) (ha : WF F σ → inR a) (kt : a ≤ 0 → WGx p l e R s m args below meth c J D G cl0 A F ad0 σ0 rv T σ (pc + 3) loc stk) (kf : ¬ a ≤ 0 → WGx p l e R s m args below meth c J D G cl0 A F ad0 σ0 rv E σ tgt loc stk) : WGx p l e R s m args below meth c J D G cl0 A F ad0 σ0 rv (if a ≤ 0 then T else E) σ pc loc (vI a :: stk) :=
  WGx.br (fun ok hw ad H locs cells slots Q ls x y => lv_if_gt ok.1.1 ok.1.2.1 d ht (fun h => y (fun h' => by have := (o_ofInt_lt inR0 (ha hw)).mp h; omega)) (fun h => x (by have := mt (o_ofInt_lt inR0 (ha hw)).mpr h; omega))) kt kf
theorem gx_if_le {a off : Int} (tgt : Nat) (d : decode J.1 pc = .ok (.ifCond .le off, 3)) (ht : (pc : Int) + off = (tgt : Int)) (ha : WF F σ → inR a) (kt : a ≤ 0 → WGx p l e R s m args below meth c J D G cl0 A F ad0 σ0 rv T σ tgt loc stk) (kf : ¬ a ≤ 0 → WGx p l e R s m args below meth c J D G cl0 A F ad0 σ0 rv E σ (pc + 3) loc stk) : WGx p l e R s m args below meth c J D G cl0 A F ad0 σ0 rv (if a ≤ 0 then T else E) σ pc loc (vI a :: stk) :=
  WGx.br (fun ok hw ad H locs cells slots Q ls x y => lv_if_le ok.1.1 ok.1.2.1 d ht (fun h => x ((o_ofInt_le (ha hw) inR0).mp h)) (fun h => y (fun h' => h ((o_ofInt_le (ha hw) inR0).mpr h')))) kt kf
theorem gx_tswIn {a dflt lo hi off : Int} {offs : Array Int} {len : Nat} (tgt : Nat) (v : Int) (d : decode J.1 pc = .ok (.tableswitch dflt lo hi offs, len)) (hv : inR v ∧ ¬ v < lo ∧ ¬ hi < v) (ho : offs[(v - lo).toNat]? = some off) (ht : (pc : Int) + off = (tgt : Int)) (e0 : a = v) (k : WGx p l e R s m args below meth c J D G cl0 A F ad0 σ0 rv o σ tgt loc stk) : WGx p l e R s m args below meth c J D G cl0 A F ad0 σ0 rv o σ pc loc (vI a :: stk) := by
  subst e0
  have e1 : (Int32.ofInt a).toInt = a := Int32.toInt_ofInt_of_le hv.1.1 hv.1.2
  exact WGx.lift (fun ok _ ad H locs cells slots Q ls _ _ h kk => lv_tableIn ok.1.1 ok.1.2.1 d (by rw [e1]; exact hv.2.1) (by rw [e1]; exact hv.2.2) (by rw [e1]; exact ho) ht kk) k
theorem gx_tswOut {a dflt lo hi : Int} {offs : Array Int} {len : Nat} (tgt : Nat) (d : decode J.1 pc = .ok (.tableswitch dflt lo hi offs, len)) (ha : WF F σ → inR a) (hv : a < lo ∨ hi < a) (ht : (pc : Int) + dflt = (tgt : Int)) (k : WGx p l e R s m args below meth c J D G cl0 A F ad0 σ0 rv o σ tgt loc stk) : WGx p l e R s m args below meth c J D G cl0 A F ad0 σ0 rv o σ pc loc (vI a :: stk) :=
  WGx.lift (fun ok hw ad H locs cells slots Q ls _ _ h kk => lv_tableOut ok.1.1 ok.1.2.1 d (by rw [Int32.toInt_ofInt_of_le (ha hw).1 (ha hw).2]; exact hv) ht kk) k
theorem gx_iinc {i : Nat} {v n : Int} {K : Int → Option (α × Sg)} (j : Nat) {loc' : Int → Lc} (d : decode J.1 pc = .ok (.iinc i n, 3)) (hj : loc[j]? = some (i, vI v)) (hi : i < J.2.2.1) (hl : ∀ w, lcS loc i (vI w) = loc' w) (k : ∀ w, inR w → WGx p l e R s m args below meth c J D G cl0 A F ad0 σ0 rv (K w) σ (pc + 3) (loc' w) stk) : WGx p l e R s m args below meth c J D G cl0 A F ad0 σ0 rv (ar (v + n) K) σ pc loc stk := by
  refine ⟨fun hw r σ' e => ?_, fun ok r σ' ho => ?_⟩
  · unfold ar at e
    split at e
    · exact (k _ (by assumption)).1 hw r σ' e
    · cases e
  · unfold ar at ho
    split at ho
    · intro h1 h2 h3 h4 hw ad H locs ls ha hP hD hS hl2
      refine lv_iinc (v := Int32.ofInt (v + n)) ok.1.1 ok.1.2.1 d hl2 (lcV_at (ad := ad) hj) (by show Int32.ofInt v + _ = _; rw [← Int32.ofInt_add]) hi (lcV_S ad loc i (vI (v + n))) (fun ls' h' => ?_)
      rw [hl] at h'
      exact (k (v + n) (by assumption)).2 ok r σ' ho h1 h2 h3 h4 hw ad H locs ls' ha hP hD hS h'
    · cases ho
theorem gx_iret {v : Int} {r : α} (hJ : J.2.2.2 = some .int) (hr : rv r = .inl (some (vI v))) (hv : WF F σ → inR v) (d : decode J.1 pc = .ok (.ireturn, 1)) : WGx p l e R s m args below meth c J D G cl0 A F ad0 σ0 rv (some (r, σ)) σ pc loc (vI v :: []) := by
  refine ⟨fun hw r' σ' h => by cases h; exact ⟨GrX.rf, hw, fun v' h' => by rw [hr] at h'; cases h'; rw [hJ]; exact hv hw⟩, fun ok r' σ' ho h1 h2 h3 h4 hw ad H locs ls ha hP hD hS hl => ?_⟩
  cases ho
  exact (W.iret ok.1.1 ok.1.2.1 (ok.1.2.2.2.2.2.2.1.trans hJ) (fun t ht hW => ⟨ad, ha, (by rw [hr]; exact rfl), (fun v' h' => by rw [hr] at h'; cases h'; rw [hJ]; exact hv hw), hw, by rw [ht]; exact hP, hD, va_K.moved hW.alike ok.1.2.2.2.2.2.2.2.1, hS.F ht⟩) hS.2.2 d ok.1.2.2.2.2.2.1).mq
theorem gx_zret {v : Int} {r : α} (hJ : J.2.2.2 = some .boolean) (hr : rv r = .inl (some (vI v))) (hv : WF F σ → v = 0 ∨ v = 1) (d : decode J.1 pc = .ok (.ireturn, 1)) : WGx p l e R s m args below meth c J D G cl0 A F ad0 σ0 rv (some (r, σ)) σ pc loc (vI v :: []) := by
  refine ⟨fun hw r' σ' h => by cases h; exact ⟨GrX.rf, hw, fun v' h' => by rw [hr] at h'; cases h'; rw [hJ]; exact (hv hw).imp (congrArg vI) (congrArg vI)⟩, fun ok r' σ' ho h1 h2 h3 h4 hw ad H locs ls ha hP hD hS hl => ?_⟩
  cases ho
  exact (W.zret ok.1.1 ok.1.2.1 (ok.1.2.2.2.2.2.2.1.trans hJ) (narrow_z (hv hw)) (fun t ht hW => ⟨ad, ha, (by rw [hr]; exact rfl), (fun v' h' => by rw [hr] at h'; cases h'; rw [hJ]; exact (hv hw).imp (congrArg vI) (congrArg vI)), hw, by rw [ht]; exact hP, hD, va_K.moved hW.alike ok.1.2.2.2.2.2.2.2.1, hS.F ht⟩) hS.2.2 d ok.1.2.2.2.2.2.1).mq
theorem gx_vret {r : α} (hJ : J.2.2.2 = none) (hr : rv r = .inl none) (d : decode J.1 pc = .ok (.return_, 1)) : WGx p l e R s m args below meth c J D G cl0 A F ad0 σ0 rv (some (r, σ)) σ pc loc [] := by
  refine ⟨fun hw r' σ' h => by cases h; exact ⟨GrX.rf, hw, fun v' h' => by rw [hr] at h'; cases h'⟩, fun ok r' σ' ho h1 h2 h3 h4 hw ad H locs ls ha hP hD hS hl => ?_⟩
  cases ho
  exact (W.vret ok.1.1 ok.1.2.1 (ok.1.2.2.2.2.2.2.1.trans hJ) (fun t ht hW => ⟨ad, ha, (by rw [hr]; exact rfl), (fun v' h' => by rw [hr] at h'; cases h'), hw, by rw [ht]; exact hP, hD, va_K.moved hW.alike ok.1.2.2.2.2.2.2.2.1, hS.F ht⟩) hS.2.2 d ok.1.2.2.2.2.2.1).mq
end G2
section G3
variable {p : Program} {l : Launch} {e : Env} {R : Room} {s : State} {m : MethodId} {args : Array Value} {below : List Frame} {meth : Method} {c : Code}
variable {J : Jm} {D : Nat} {G : Gm} {cl0 : List vw_C} {A : Nat → Prop} {F : Fm} {ad0 : Nat → Nat} {σ0 σ : Sg} {α : Type} {rv : α → Rs} {o : Option (α × Sg)} {pc : Nat} {loc : Lc} {stk : List AV}
variable {C : String} {T : u_T} {N ci b ob index : Nat}
theorem gx_get {v : AV} (k : Nat) (hcl : cl0[ci]? = some (C, T, N)) (hob : F.1[ob]? = some (ci, b, N)) (hk : k < N) (hin : ∀ w ∈ u_ws C T N, w ∈ lw_all) (hC : (T k).1 = C) (hv : fv F.2.1 σ (b + k) = v) (hq : Cond.fieldLink J.2.1 index C (T k).2.1 (T k).2.2.1 ∈ lw_all) (d : decode J.1 pc = .ok (.getfield index, 3)) (kk : WGx p l e R s m args below meth c J D G cl0 A F ad0 σ0 rv o σ (pc + 3) loc (v :: stk)) : WGx p l e R s m args below meth c J D G cl0 A F ad0 σ0 rv o σ pc loc (vR ob :: stk) :=
  WGx.lift (fun ok _ ad H locs cells slots Q ls _ hP _ w => va_get ok.1.1 ok.1.2.1 ok.1.2.2.2.2.1 hin ok.1.2.2.2.1 ok.1.2.2.2.2.2.2.2.1 hP ob (wl_ob hob) hcl k hk (ok.1.2.2.2.2.1 _ hq) (fun x h => by rw [← hC]; exact h) (fvs_at hk) d (by rw [hv]; exact w)) kk
theorem gx_putI {v : Int} (hF : FOK F) (k : Nat) (hcl : cl0[ci]? = some (C, T, N)) (hob : F.1[ob]? = some (ci, b, N)) (hk : k < N) (hin : ∀ w ∈ u_ws C T N, w ∈ lw_all) (ty0 : Nat → FieldType) (hty : ∀ k, k < N → parseFieldDescriptor (T k).2.2.1 = some (ty0 k)) (hnm : ∀ a, a < N → ∀ b, b < N → a ≠ b → (T a).2.1 ≠ (T b).2.1) (hC : (T k).1 = C) (hkd : F.2.1 (b + k) = 0) (hti : ty0 k = .int) (hfin : (T k).2.2.2 = false) (hDk : D.testBit (b + k) = true ∧ b + k ≠ 99) (hv : WF F σ → inR v) (hq : Cond.fieldLink J.2.1 index C (T k).2.1 (T k).2.2.1 ∈ lw_all) (d : decode J.1 pc = .ok (.putfield index, 3)) (kk : WGx p l e R s m args below meth c J D G cl0 A F ad0 σ0 rv o (sI σ (b + k) v) (pc + 3) loc stk) : WGx p l e R s m args below meth c J D G cl0 A F ad0 σ0 rv o σ pc loc (vI v :: vR ob :: stk) := by
  have wf : WF F σ → WF F (sI σ (b + k) v) := fun hw => hw.sI (hv hw) (fun h => by rw [hkd] at h; cases h)
  refine ⟨PsX.back (GrX_sI hDk.1 hDk.2) wf kk.1, fun ok r σ' ho h1 h2 h3 h4 hw ad H locs ls ha hP hD hS hl => ?_⟩
  refine va_put ok.1.1 ok.1.2.1 ok.1.2.2.2.2.1 hin ty0 hty hnm ok.1.2.2.2.1 ok.1.2.2.2.2.2.2.2.1 hP hD hS ob (wl_ob hob) hcl k hk (ok.1.2.2.2.2.1 _ hq) (fun x h => by rw [← hC]; exact h) hfin ((hty k hk).trans (by rw [hti])) rfl rfl (by rw [fvs_len]; exact hk) d (fun H1 locs1 hP1 hD1 hS1 => ?_)
  exact kk.2 ok r σ' ho h1 h2 h3 h4 (wf hw) ad H1 locs1 ls ha.sI (by rw [← wl_sI hF hob hk (Or.inl hkd)]; exact hP1) (by rw [← wl_sI hF hob hk (Or.inl hkd)]; exact hD1) hS1 hl
theorem ld_psX {ret : Option FieldType} {id : Nat} {i : Int} {K : Int → Option (α × Sg)} {P : Int → Prop} (hP : WF F σ → P (gA σ id i)) (k : ∀ w, P w → PsX F D ret rv σ (K w)) : PsX F D ret rv σ (ld σ id i K) := by
  intro hw r σ' e
  unfold ld at e
  split at e
  · exact k _ (hP hw) hw r σ' e
  · cases e
theorem gx_iald {id : Nat} {i : Int} {K : Int → Option (α × Sg)} (j : Nat) (hj : F.2.2[j]? = some id) (hkd : F.2.1 id = 1) (d : decode J.1 pc = .ok (.iaload, 1)) (k : ∀ w, inR w → WGx p l e R s m args below meth c J D G cl0 A F ad0 σ0 rv (K w) σ (pc + 1) loc (vI w :: stk)) : WGx p l e R s m args below meth c J D G cl0 A F ad0 σ0 rv (ld σ id i K) σ pc loc (vI i :: vR (10 + id) :: stk) := by
  have hr : WF F σ → inR (gA σ id i) := fun hw => hw.2.2.2.1 id i.toNat (by rw [hkd]; decide)
  refine ⟨ld_psX hr (fun w h => (k w h).1), fun ok r σ' ho h1 h2 h3 h4 hw ad H locs ls ha hP hD hS hl => ?_⟩
  unfold ld at ho
  split at ho
  · rename_i hi
    obtain ⟨hin, hc⟩ := i_clamp hi.1 hi.2 (hw.2.1 id)
    have hx := wl_ar (G := G) (ad := ad) (σ := σ) hj
    rw [arE_i hkd] at hx
    refine va_iald ok.1.1 ok.1.2.1 ok.1.2.2.2.2.2.2.2.1 hP _ 0 hx rfl hin d ?_
    rw [hc]
    exact (k _ (hr hw)).2 ok r σ' ho h1 h2 h3 h4 hw ad H locs ls ha hP hD hS hl
  · cases ho
theorem gx_zald {id : Nat} {i : Int} {K : Int → Option (α × Sg)} (j : Nat) (hj : F.2.2[j]? = some id) (hkd : F.2.1 id = 3) (d : decode J.1 pc = .ok (.baload, 1)) (k : ∀ w, (w = 0 ∨ w = 1) → WGx p l e R s m args below meth c J D G cl0 A F ad0 σ0 rv (K w) σ (pc + 1) loc (vI w :: stk)) : WGx p l e R s m args below meth c J D G cl0 A F ad0 σ0 rv (ld σ id i K) σ pc loc (vI i :: vR (10 + id) :: stk) := by
  have hr : WF F σ → gA σ id i = 0 ∨ gA σ id i = 1 := fun hw => hw.2.2.2.2.1 id i.toNat hkd
  refine ⟨ld_psX hr (fun w h => (k w h).1), fun ok r σ' ho h1 h2 h3 h4 hw ad H locs ls ha hP hD hS hl => ?_⟩
  unfold ld at ho
  split at ho
  · rename_i hi
    obtain ⟨hin, hc⟩ := i_clamp hi.1 hi.2 (hw.2.1 id)
    have hx := wl_ar (G := G) (ad := ad) (σ := σ) hj
    rw [arE_z hkd] at hx
    refine va_zald ok.1.1 ok.1.2.1 ok.1.2.2.2.2.2.2.2.1 hP _ 2 hx rfl hin d ?_
    rw [hc]
    exact (k _ (hr hw)).2 ok r σ' ho h1 h2 h3 h4 hw ad H locs ls ha hP hD hS hl
  · cases ho
end G3
section G4
variable {p : Program} {l : Launch} {e : Env} {R : Room} {s : State} {m : MethodId} {args : Array Value} {below : List Frame} {meth : Method} {c : Code}
variable {J : Jm} {D : Nat} {G : Gm} {cl0 : List vw_C} {A : Nat → Prop} {F : Fm} {ad0 : Nat → Nat} {σ0 σ : Sg} {α : Type} {rv : α → Rs} {o : Option (α × Sg)} {pc : Nat} {loc : Lc} {stk : List AV}
theorem st_psX {ret : Option FieldType} {id : Nat} {i v : Int} {K : Sg → Option (α × Sg)} (hDk : D.testBit id = true) (hw2 : WF F σ → WF F (sA σ id i v)) (k : PsX F D ret rv (sA σ id i v) (K (sA σ id i v))) : PsX F D ret rv σ (stA σ id i v K) := by
  intro hw r σ' e
  unfold stA at e
  split at e
  · exact PsX.back (GrX_sA hDk) hw2 k hw r σ' e
  · cases e
theorem gx_iast {id : Nat} {i v : Int} {K : Sg → Option (α × Sg)} (hF : FOK F) (j : Nat) (hj : F.2.2[j]? = some id) (hkd : F.2.1 id = 1) (hDk : D.testBit id = true) (hv : WF F σ → inR v) (d : decode J.1 pc = .ok (.iastore, 1)) (k : WGx p l e R s m args below meth c J D G cl0 A F ad0 σ0 rv (K (sA σ id i v)) (sA σ id i v) (pc + 1) loc stk) : WGx p l e R s m args below meth c J D G cl0 A F ad0 σ0 rv (stA σ id i v K) σ pc loc (vI v :: vI i :: vR (10 + id) :: stk) := by
  have wf : WF F σ → WF F (sA σ id i v) := fun hw => hw.sA (fun _ => hv hw) (fun h => by rw [hkd] at h; cases h) (fun h => by rw [hkd] at h; cases h)
  refine ⟨st_psX hDk wf k.1, fun ok r σ' ho h1 h2 h3 h4 hw ad H locs ls ha hP hD hS hl => ?_⟩
  unfold stA at ho
  split at ho
  · rename_i hi
    obtain ⟨hin, hc⟩ := i_clamp hi.1 hi.2 (hw.2.1 id)
    have hx := wl_ar (G := G) (ad := ad) (σ := σ) hj
    rw [arE_i hkd] at hx
    refine va_iast ok.1.1 ok.1.2.1 ok.1.2.2.2.2.2.2.2.1 hP hD hS _ 0 hx rfl hin d (fun H1 locs1 hP1 hD1 hS1 => ?_)
    have e1 : (Sum.inl (G.2.1, gL σ id, Sum.inl (upd (fun j => Int32.ofInt (gF σ id j)) (Int32.ofInt i).toNatClampNeg (Int32.ofInt v))) : va_E) = arE G F.2.1 (sA σ id i v) id := by
      rw [arE_i hkd, gL_sA, gF_sA, if_pos rfl, hc]
      congr 4
      funext q
      unfold upd va_up
      split <;> rfl
    rw [e1, wl_sA hF hj] at hP1 hD1
    exact k.2 ok r σ' ho h1 h2 h3 h4 (wf hw) ad H1 locs1 ls ha.sA hP1 hD1 hS1 hl
  · cases ho
theorem gx_zast {id : Nat} {i v : Int} {K : Sg → Option (α × Sg)} (hF : FOK F) (j : Nat) (hj : F.2.2[j]? = some id) (hkd : F.2.1 id = 3) (hDk : D.testBit id = true) (hv : WF F σ → v = 0 ∨ v = 1) (d : decode J.1 pc = .ok (.bastore, 1)) (k : WGx p l e R s m args below meth c J D G cl0 A F ad0 σ0 rv (K (sA σ id i v)) (sA σ id i v) (pc + 1) loc stk) : WGx p l e R s m args below meth c J D G cl0 A F ad0 σ0 rv (stA σ id i v K) σ pc loc (vI v :: vI i :: vR (10 + id) :: stk) := by
  have wf : WF F σ → WF F (sA σ id i v) := fun hw => hw.sA (fun _ => by rcases hv hw with q | q <;> subst q <;> decide) (fun h => by rw [hkd] at h; cases h) (fun _ => hv hw)
  refine ⟨st_psX hDk wf k.1, fun ok r σ' ho h1 h2 h3 h4 hw ad H locs ls ha hP hD hS hl => ?_⟩
  unfold stA at ho
  split at ho
  · rename_i hi
    obtain ⟨hin, hc⟩ := i_clamp hi.1 hi.2 (hw.2.1 id)
    have hx := wl_ar (G := G) (ad := ad) (σ := σ) hj
    rw [arE_z hkd] at hx
    refine va_zast ok.1.1 ok.1.2.1 ok.1.2.2.2.2.2.2.2.1 hP hD hS _ 2 hx rfl hin d (fun H1 locs1 hP1 hD1 hS1 => ?_)
    have e1 : (Sum.inl (G.2.2.2, gL σ id, Sum.inl (upd (fun j => Int32.ofInt (gF σ id j)) (Int32.ofInt i).toNatClampNeg (vp_nar .boolean (Int32.ofInt v)))) : va_E) = arE G F.2.1 (sA σ id i v) id := by
      rw [arE_z hkd, gL_sA, gF_sA, if_pos rfl, hc, nar_z (hv hw)]
      congr 4
      funext q
      unfold upd va_up
      split <;> rfl
    rw [e1, wl_sA hF hj] at hP1 hD1
    exact k.2 ok r σ' ho h1 h2 h3 h4 (wf hw) ad H1 locs1 ls ha.sA hP1 hD1 hS1 hl
  · cases ho
end G4

section G5
variable {p : Program} {l : Launch} {e : Env} {R : Room} {s : State} {m : MethodId} {args : Array Value} {below : List Frame} {meth : Method} {c : Code}
variable {J : Jm} {D : Nat} {G : Gm} {cl0 : List vw_C} {A : Nat → Prop} {F : Fm} {ad0 : Nat → Nat} {σ0 σ : Sg} {α : Type} {rv : α → Rs} {o : Option (α × Sg)} {pc : Nat} {loc : Lc} {stk : List AV}
variable {C : String} {T : u_T} {N ci b ob index n d : Nat} {Dc : Nat} {β : Type} {rvc : β → Rs} {oc : Option (β × Sg)} {K : β → Sg → Option (α × Sg)} {y : MethodName} {cy : ByteArray} {nLy : Nat} {rety : Option FieldType} {As : List AV}
theorem gx_back {stk0 : List AV} {Aw : List AV} (hM : Ct l d F cl0 y cy nLy rety Dc rvc Aw σ oc) (hDc : Dc &&& D = Dc ∧ Dc.testBit 99 = false) (hrv : ∀ r, ∃ v, rvc r = .inl v) (hA : WF F σ → ∀ a ∈ Aw, avR a)
    (hrun : OKx p s m args meth c J G cl0 A → WF F σ → ∀ r1 σ1, oc = some (r1, σ1) → ∀ (ad : Nat → Nat) (H : Heap) (locs : List Loc) (ls : Array Slot) (cells slots : Nat), va_P G.1 cl0 (wl F G ad σ) H → va_D A (wl F G ad σ) → lv_has ls J.2.2.1 (lcV ad loc) → cells + (gC σ1 - gC σ) ≤ R.cells → slots + (gS σ1 - gS σ) ≤ R.slots →
      va_Run p l e R s m args below meth c H locs cells slots (gC σ1 - gC σ) (gS σ1 - gS σ) (F0 m pc ls (stk0.map (toV ad))) (stk.map (toV ad)) (Qx F G cl0 (va_A (wl F G ad σ) H.size) σ ad rety (rvc r1) σ1 (Aw.map (toV ad)).toArray) (va_A (wl F G ad σ) H.size))
    (hkeep : ∀ r1 σ1, oc = some (r1, σ1) → K r1 σ1 ≠ none → ∀ ad ad1 : Nat → Nat, adM σ ad σ1 ad1 → lcV ad1 loc = lcV ad loc ∧ stk.map (toV ad1) = stk.map (toV ad))
    (k : ∀ r1 σ1 w, rvc r1 = .inl w → (∀ v, w = some v → retOK rety v) → WGx p l e R s m args below meth c J D G cl0 A F ad0 σ0 rv (K r1 σ1) σ1 (pc + 3) loc (w.toList ++ stk)) : WGx p l e R s m args below meth c J D G cl0 A F ad0 σ0 rv (cl oc K) σ pc loc stk0 := by
  refine ⟨fun hw r σ' ho => ?_, fun ok r σ' ho h1 h2 h3 h4 hw ad H locs ls ha hP hD hS hl => ?_⟩
  · obtain ⟨r1, σ1, hoc, ho⟩ := cl_some ho
    have hps := hM.1 (hA hw) hw r1 σ1 hoc
    obtain ⟨w, hw'⟩ := hrv r1
    have hk := (k r1 σ1 w hw' (fun v h => hps.2.2 v (by rw [hw', h]))).1 hps.2.1 r σ' ho
    exact ⟨((hps.1.gx hDc.2).sub hDc.1).tr hk.1, hk.2⟩
  · obtain ⟨r1, σ1, hoc, ho⟩ := cl_some ho
    have hps := hM.1 (hA hw) hw r1 σ1 hoc
    obtain ⟨w, hw'⟩ := hrv r1
    have hk := k r1 σ1 w hw' (fun v h => hps.2.2 v (by rw [hw', h]))
    have hm := hk.1 hps.2.1 r σ' ho
    have a1 := hps.1.1.1
    have a2 := hps.1.1.2
    have a3 := hm.1.1.1
    have a4 := hm.1.1.2
    have hr := hrun ok.1 hw r1 σ1 hoc ad H locs ls (gC σ - gC σ0) (gS σ - gS σ0) hP hD hl (by omega) (by omega)
    intro T hT X
    obtain ⟨v, st₀, t, T', L, e0, X', hL, e1, e2, ⟨ad1, had, hv, -, hw1, hP1, hD1, hK1, hz, hkp⟩, st⟩ := hr T hT X
    rw [hw'] at hv
    have hv' : v = w.map (toV ad1) := by
      have hv2 : (Outcome.returned v) = .returned (w.map (toV ad1)) := hv
      injection hv2
    subst hv'
    obtain ⟨kl, ks⟩ := hkeep r1 σ1 hoc (by rw [ho]; exact fun h => by cases h) ad ad1 had
    have hfree : ∀ q, va_A (wl F G ad σ) H.size q → A q := by
      intro q hq
      rcases hq with ⟨i, en, hi⟩ | hq
      · exact hD.2 i (q, en) hi
      · exact ok.1.2.2.2.2.2.2.2.2 q (Nat.le_trans hS.1 hq)
    rw [e0] at hz hkp
    have hh : T'.heap = t.heap := e1
    have hS1 : va_S A s.heap T'.heap (locs ++ L) := by
      rw [hh]
      refine ⟨Nat.le_trans hS.1 hz, fun q g1 g2 => ?_, fun q hq => ?_⟩
      · rw [hkp q (Nat.lt_of_lt_of_le g1 hS.1) (fun z => g2 (hfree q z))]
        exact hS.2.1 q g1 g2
      · rcases List.mem_append.mp hq with h | h
        · exact hS.2.2 q h
        · exact hfree _ (hL q h)
    have ww := hk.2 ok r σ' ho (by omega) (by omega) h3 h4 hw1 ad1 T'.heap (locs ++ L) ls (ha.tr had) (by rw [hh]; exact hP1) (hD1.weaken (fun _ _ _ h => hfree _ h)) hS1 (by rw [kl]; exact hl)
    rw [show gC σ1 - gC σ0 = gC σ - gC σ0 + (gC σ1 - gC σ) by omega, show gS σ1 - gS σ0 = gS σ - gS σ0 + (gS σ1 - gS σ) by omega] at ww
    obtain ⟨t2, b1, b2⟩ := ww T' rfl X'
    refine ⟨t2, st t2 ?_, b2⟩
    have ef : (F0 m (pc + 3) ls ((w.toList ++ stk).map (toV ad1))) = ({ (F0 m pc ls (stk0.map (toV ad))) with pc := (F0 m pc ls (stk0.map (toV ad))).pc + 3, stack := (w.map (toV ad1)).toList ++ stk.map (toV ad) } : JFrame) := by
      rw [List.map_append, ks]
      cases w <;> rfl
    rw [ef] at b1
    exact b1
theorem gx_callV (hM : Ct l d F cl0 y cy nLy rety Dc rvc (vR ob :: As) σ oc) (hDc : Dc &&& D = Dc ∧ Dc.testBit 99 = false) (hrv : ∀ r, ∃ v, rvc r = .inl v) (hcl : cl0[ci]? = some (C, T, N)) (hob : F.1[ob]? = some (ci, b, N)) (hV : GoodIn lw_all (wsV J.2.1 index C y (ws_ y cy nLy rety))) (hd : y.cls = C ∧ y.cls ≠ "java/lang/invoke/MethodHandle" ∧ y.cls ≠ "java/lang/invoke/VarHandle" ∧ (parseMethodDescriptor y.desc).map (fun d => d.parameters.length) = some n) (hn : As.length = n) (hnL : nLy ≤ 21) (hRf : d + 1 ≤ R.frames) (hRl : 40 * (d + 1) ≤ R.locals) (hA : WF F σ → ∀ a ∈ As, avR a) (hst : (stk.map avC).sum ≤ 8) (hno : stk.all avO = true) (hno2 : loc.all (fun q => avO q.2) = true) (dd : decode J.1 pc = .ok (.invokevirtual index, 3))
    (k : ∀ r1 σ1 w, rvc r1 = .inl w → (∀ v, w = some v → retOK rety v) → WGx p l e R s m args below meth c J D G cl0 A F ad0 σ0 rv (K r1 σ1) σ1 (pc + 3) loc (w.toList ++ stk)) : WGx p l e R s m args below meth c J D G cl0 A F ad0 σ0 rv (cl oc K) σ pc loc (As.reverse ++ vR ob :: stk) :=
  gx_back hM hDc hrv (fun hw a ha => by rcases List.mem_cons.mp ha with q | q; rw [q]; trivial; exact hA hw a q) (g_runV hM hcl hob hV hd hn hnL hRf hRl hA hst dd) (fun r1 σ1 _ _ ad ad1 h => ⟨avO_loc h.1 hno2, avO_stk h.1 hno⟩) k
theorem gx_callS (hM : Ct l d F cl0 y cy nLy rety Dc rvc As σ oc) (hDc : Dc &&& D = Dc ∧ Dc.testBit 99 = false) (hrv : ∀ r, ∃ v, rvc r = .inl v) (hV : GoodIn lw_all (va_wsS J.2.1 index y (ws_ y cy nLy rety))) (hd : y.cls ≠ "java/lang/invoke/MethodHandle" ∧ y.cls ≠ "java/lang/invoke/VarHandle" ∧ (parseMethodDescriptor y.desc).map (fun d => d.parameters.length) = some n) (hn : As.length = n) (hnL : nLy ≤ 21) (hRf : d + 1 ≤ R.frames) (hRl : 40 * (d + 1) ≤ R.locals) (hA : WF F σ → ∀ a ∈ As, avR a) (hst : (stk.map avC).sum ≤ 8) (hno : stk.all avO = true) (hno2 : loc.all (fun q => avO q.2) = true) (dd : decode J.1 pc = .ok (.invokestatic index, 3))
    (k : ∀ r1 σ1 w, rvc r1 = .inl w → (∀ v, w = some v → retOK rety v) → WGx p l e R s m args below meth c J D G cl0 A F ad0 σ0 rv (K r1 σ1) σ1 (pc + 3) loc (w.toList ++ stk)) : WGx p l e R s m args below meth c J D G cl0 A F ad0 σ0 rv (cl oc K) σ pc loc (As.reverse ++ stk) := by
  refine gx_back hM hDc hrv hA ?_ (fun r1 σ1 _ _ ad ad1 h => ⟨avO_loc h.1 hno2, avO_stk h.1 hno⟩) k
  intro ok hw r1 σ1 hoc ad H locs ls cells slots hP hD hl hc hs
  have hm := hM.2 r1 σ1 hoc (hA hw) G ad H.size
  have hK := ok.2.2.2.2.2.2.2.1
  refine va_runS (As := As.map (toV ad)) (rest := stk.map (toV ad)) ⟨ok.1, ok.2.1, ok.2.2.1, ok.2.2.2.1, ok.2.2.2.2.1⟩ hm (va_cwS n ok.2.2.2.2.1 hV rfl rfl rfl hd ⟨hRf, by show 8 + (nLy + 11) + 40 * d ≤ R.locals; omega⟩) ⟨?_, ?_⟩ rfl (by rw [List.length_map]; exact hn) hl.1 ?_ ?_ dd ⟨hc, hs⟩
  · intro a U g mk q
    obtain ⟨q0, q1, qw, qP, qK, qD⟩ := q
    exact ⟨q0, q1, qw, qP, va_K.moved (u := U) (U := U.calling g mk a) (Vm.Alike.refl U.vm) qK, qD⟩
  · intro U hU hW
    exact ⟨rfl, by rw [hU], hw, by rw [hU]; exact hP, va_K.moved hW.alike hK, hD.weaken (fun _ _ _ _ => trivial)⟩
  · show List.map (toV ad) (As.reverse ++ stk) = _
    rw [List.map_append, List.map_reverse]
  · refine lv_room ?_
    rw [List.map_map]
    have : ((fun v : Value => v.category) ∘ toV ad) = avC := funext fun a => toV_cat ad a
    rw [this]
    exact hst
end G5
section G6
variable {p : Program} {l : Launch} {e : Env} {R : Room} {s : State} {m : MethodId} {args : Array Value} {below : List Frame} {meth : Method} {c : Code}
variable {J : Jm} {D : Nat} {G : Gm} {cl0 : List vw_C} {A : Nat → Prop} {F : Fm} {ad0 : Nat → Nat} {σ0 σ : Sg} {α : Type} {rv : α → Rs} {o : Option (α × Sg)} {pc : Nat} {loc : Lc} {stk : List AV}
variable {C : String} {T : u_T} {N ci b ob index : Nat}
theorem gx_jn {β : Type} {kj : β} {body : β → Option (α × Sg)} (P : β → Prop) (h1 : P kj) (h2 : ∀ q, P q → WGx p l e R s m args below meth c J D G cl0 A F ad0 σ0 rv (body q) σ pc loc stk) : WGx p l e R s m args below meth c J D G cl0 A F ad0 σ0 rv (jn kj body) σ pc loc stk := h2 kj h1
theorem WGx.wf (k : WF F σ → WGx p l e R s m args below meth c J D G cl0 A F ad0 σ0 rv o σ pc loc stk) : WGx p l e R s m args below meth c J D G cl0 A F ad0 σ0 rv o σ pc loc stk :=
  ⟨fun hw => (k hw).1 hw, fun ok r σ' ho h1 h2 h3 h4 hw => (k hw).2 ok r σ' ho h1 h2 h3 h4 hw⟩
theorem gx_getI {id : Nat} {K : Int → Option (α × Sg)} (k : Nat) (hid : b + k = id) (hcl : cl0[ci]? = some (C, T, N)) (hob : F.1[ob]? = some (ci, b, N)) (hk : k < N) (hin : ∀ w ∈ u_ws C T N, w ∈ lw_all) (hC : (T k).1 = C) (hv : F.2.1 id = 0) (hq : Cond.fieldLink J.2.1 index C (T k).2.1 (T k).2.2.1 ∈ lw_all) (d : decode J.1 pc = .ok (.getfield index, 3)) (kk : ∀ w, inR w → WGx p l e R s m args below meth c J D G cl0 A F ad0 σ0 rv (K w) σ (pc + 3) loc (vI w :: stk)) : WGx p l e R s m args below meth c J D G cl0 A F ad0 σ0 rv (un (gI σ id) K) σ pc loc (vR ob :: stk) :=
  WGx.wf (fun hw => gx_get k hcl hob hk hin hC (by rw [hid]; unfold fv; simp only [hv]) hq d (kk _ (hw.1 id)))
theorem gx_getZ {id : Nat} {K : Int → Option (α × Sg)} (k : Nat) (hid : b + k = id) (hcl : cl0[ci]? = some (C, T, N)) (hob : F.1[ob]? = some (ci, b, N)) (hk : k < N) (hin : ∀ w ∈ u_ws C T N, w ∈ lw_all) (hC : (T k).1 = C) (hv : F.2.1 id = 4) (hq : Cond.fieldLink J.2.1 index C (T k).2.1 (T k).2.2.1 ∈ lw_all) (d : decode J.1 pc = .ok (.getfield index, 3)) (kk : ∀ w, (w = 0 ∨ w = 1) → WGx p l e R s m args below meth c J D G cl0 A F ad0 σ0 rv (K w) σ (pc + 3) loc (vI w :: stk)) : WGx p l e R s m args below meth c J D G cl0 A F ad0 σ0 rv (un (gI σ id) K) σ pc loc (vR ob :: stk) :=
  WGx.wf (fun hw => gx_get k hcl hob hk hin hC (by rw [hid]; unfold fv; simp only [hv]) hq d (kk _ (hw.2.2.2.2.2 id hv)))
theorem gx_sIU {id : Nat} {v : Int} {K : Sg → Option (α × Sg)} (hF : FOK F) (k : Nat) (hid : b + k = id) (hcl : cl0[ci]? = some (C, T, N)) (hob : F.1[ob]? = some (ci, b, N)) (hk : k < N) (hin : ∀ w ∈ u_ws C T N, w ∈ lw_all) (ty0 : Nat → FieldType) (hty : ∀ k, k < N → parseFieldDescriptor (T k).2.2.1 = some (ty0 k)) (hnm : ∀ a, a < N → ∀ b, b < N → a ≠ b → (T a).2.1 ≠ (T b).2.1) (hC : (T k).1 = C) (hkd : F.2.1 id = 0) (hti : ty0 k = .int) (hfin : (T k).2.2.2 = false) (hDk : D.testBit id = true ∧ id ≠ 99) (hv : inR v) (hq : Cond.fieldLink J.2.1 index C (T k).2.1 (T k).2.2.1 ∈ lw_all) (d : decode J.1 pc = .ok (.putfield index, 3)) (kk : ∀ σ2, WGx p l e R s m args below meth c J D G cl0 A F ad0 σ0 rv (K σ2) σ2 (pc + 3) loc stk) : WGx p l e R s m args below meth c J D G cl0 A F ad0 σ0 rv (un (sI σ id v) K) σ pc loc (vI v :: vR ob :: stk) := by
  subst hid
  exact gx_putI hF k hcl hob hk hin ty0 hty hnm hC hkd hti hfin hDk (fun _ => hv) hq d (kk _)
theorem gx_iorU {a b : Int} {K : Int → Option (α × Sg)} (d : decode J.1 pc = .ok (.ior, 1)) (k : ∀ w, inR w → WGx p l e R s m args below meth c J D G cl0 A F ad0 σ0 rv (K w) σ (pc + 1) loc (vI w :: stk)) : WGx p l e R s m args below meth c J D G cl0 A F ad0 σ0 rv (un (o_or a b) K) σ pc loc (vI b :: vI a :: stk) := gx_ior d (k _ (inR_toInt _))
theorem gx_ishlU {a b : Int} {K : Int → Option (α × Sg)} (d : decode J.1 pc = .ok (.ishl, 1)) (k : ∀ w, inR w → WGx p l e R s m args below meth c J D G cl0 A F ad0 σ0 rv (K w) σ (pc + 1) loc (vI w :: stk)) : WGx p l e R s m args below meth c J D G cl0 A F ad0 σ0 rv (un (o_shl a b) K) σ pc loc (vI b :: vI a :: stk) := gx_ishl d (k _ (inR_toInt _))
theorem gx_iushrU {a b : Int} {K : Int → Option (α × Sg)} (d : decode J.1 pc = .ok (.iushr, 1)) (k : ∀ w, inR w → WGx p l e R s m args below meth c J D G cl0 A F ad0 σ0 rv (K w) σ (pc + 1) loc (vI w :: stk)) : WGx p l e R s m args below meth c J D G cl0 A F ad0 σ0 rv (un (o_ushr a b) K) σ pc loc (vI b :: vI a :: stk) := gx_iushr d (k _ (inR_toInt _))
theorem gx_gd {C : Prop} [Decidable C] {K : Option (α × Sg)} (k : C → WGx p l e R s m args below meth c J D G cl0 A F ad0 σ0 rv K σ pc loc stk) : WGx p l e R s m args below meth c J D G cl0 A F ad0 σ0 rv (gd C K) σ pc loc stk := by
  refine ⟨fun hw r σ' ho => ?_, fun ok r σ' ho => ?_⟩
  · unfold gd at ho
    split at ho
    · exact (k (by assumption)).1 hw r σ' ho
    · cases ho
  · unfold gd at ho
    split at ho
    · exact (k (by assumption)).2 ok r σ' ho
    · cases ho
end G6

section G7
variable {p : Program} {l : Launch} {e : Env} {R : Room} {s : State} {m : MethodId} {args : Array Value} {below : List Frame} {meth : Method} {c : Code}
variable {J : Jm} {D : Nat} {G : Gm} {cl0 : List vw_C} {A : Nat → Prop} {F : Fm} {ad0 : Nat → Nat} {σ0 σ : Sg} {α : Type} {rv : α → Rs} {o : Option (α × Sg)} {pc : Nat} {loc : Lc} {stk : List AV}
variable {C : String} {T : u_T} {N ci b ob index n d : Nat} {Dc : Nat} {oc : Option (Int × Sg)} {K : Int → Sg → Option (α × Sg)} {y : MethodName} {cy : ByteArray} {nLy : Nat} {As : List AV}
theorem gx_none : WGx p l e R s m args below meth c J D G cl0 A F ad0 σ0 rv ((none : Option (α × Sg))) σ pc loc stk := ⟨(fun _ r σ' h => by cases h), (fun _ r σ' h => by cases h)⟩
theorem gx_pick {loc' : Lc} (ks : List Nat) (h : ks.filterMap (fun k => loc[k]?) = loc') (k : WGx p l e R s m args below meth c J D G cl0 A F ad0 σ0 rv o σ pc loc' stk) : WGx p l e R s m args below meth c J D G cl0 A F ad0 σ0 rv o σ pc loc stk :=
  ⟨k.1, fun ok r σ' ho h1 h2 h3 h4 hw ad H locs ls ha hP hD hS hl => k.2 ok r σ' ho h1 h2 h3 h4 hw ad H locs ls ha hP hD hS ⟨hl.1, hl.2.1, fun q hq => by
    subst h
    obtain ⟨x, hx, rfl⟩ := List.mem_map.mp hq
    obtain ⟨i, -, hi⟩ := List.mem_filterMap.mp hx
    exact hl.2.2 _ (List.mem_map.mpr ⟨x, List.mem_of_getElem? hi, rfl⟩)⟩⟩
theorem gx_iastU {id : Nat} {i v : Int} {K : Sg → Option (α × Sg)} (hF : FOK F) (j : Nat) (hj : F.2.2[j]? = some id) (hkd : F.2.1 id = 1) (hDk : D.testBit id = true) (hv : inR v) (d : decode J.1 pc = .ok (.iastore, 1)) (k : ∀ σ2, WGx p l e R s m args below meth c J D G cl0 A F ad0 σ0 rv (K σ2) σ2 (pc + 1) loc stk) : WGx p l e R s m args below meth c J D G cl0 A F ad0 σ0 rv (stA σ id i v K) σ pc loc (vI v :: vI i :: vR (10 + id) :: stk) := gx_iast hF j hj hkd hDk (fun _ => hv) d (k _)
theorem gx_zastU {id : Nat} {i v : Int} {K : Sg → Option (α × Sg)} (hF : FOK F) (j : Nat) (hj : F.2.2[j]? = some id) (hkd : F.2.1 id = 3) (hDk : D.testBit id = true) (hv : v = 0 ∨ v = 1) (d : decode J.1 pc = .ok (.bastore, 1)) (k : ∀ σ2, WGx p l e R s m args below meth c J D G cl0 A F ad0 σ0 rv (K σ2) σ2 (pc + 1) loc stk) : WGx p l e R s m args below meth c J D G cl0 A F ad0 σ0 rv (stA σ id i v K) σ pc loc (vI v :: vI i :: vR (10 + id) :: stk) := gx_zast hF j hj hkd hDk (fun _ => hv) d (k _)
theorem gx_cVI (hM : Ct l d F cl0 y cy nLy (some .int) Dc rvI (vR ob :: As) σ oc) (hDc : Dc &&& D = Dc ∧ Dc.testBit 99 = false) (hcl : cl0[ci]? = some (C, T, N)) (hob : F.1[ob]? = some (ci, b, N)) (hV : GoodIn lw_all (wsV J.2.1 index C y (ws_ y cy nLy (some .int)))) (hd : y.cls = C ∧ y.cls ≠ "java/lang/invoke/MethodHandle" ∧ y.cls ≠ "java/lang/invoke/VarHandle" ∧ (parseMethodDescriptor y.desc).map (fun d => d.parameters.length) = some n) (hn : As.length = n) (hnL : nLy ≤ 21) (hRf : d + 1 ≤ R.frames) (hRl : 40 * (d + 1) ≤ R.locals) (hA : WF F σ → ∀ a ∈ As, avR a) (hst : (stk.map avC).sum ≤ 8) (hno : stk.all avO = true) (hno2 : loc.all (fun q => avO q.2) = true) (dd : decode J.1 pc = .ok (.invokevirtual index, 3)) (k : ∀ v σ1, inR v → WGx p l e R s m args below meth c J D G cl0 A F ad0 σ0 rv (K v σ1) σ1 (pc + 3) loc (vI v :: stk)) : WGx p l e R s m args below meth c J D G cl0 A F ad0 σ0 rv (cl oc K) σ pc loc (As.reverse ++ vR ob :: stk) :=
  gx_callV hM hDc (fun r => ⟨_, rfl⟩) hcl hob hV hd hn hnL hRf hRl hA hst hno hno2 dd (fun v σ1 w e hr => by have hv := rOf e hr; cases e; exact k v σ1 hv)
theorem gx_cVZ (hM : Ct l d F cl0 y cy nLy (some .boolean) Dc rvI (vR ob :: As) σ oc) (hDc : Dc &&& D = Dc ∧ Dc.testBit 99 = false) (hcl : cl0[ci]? = some (C, T, N)) (hob : F.1[ob]? = some (ci, b, N)) (hV : GoodIn lw_all (wsV J.2.1 index C y (ws_ y cy nLy (some .boolean)))) (hd : y.cls = C ∧ y.cls ≠ "java/lang/invoke/MethodHandle" ∧ y.cls ≠ "java/lang/invoke/VarHandle" ∧ (parseMethodDescriptor y.desc).map (fun d => d.parameters.length) = some n) (hn : As.length = n) (hnL : nLy ≤ 21) (hRf : d + 1 ≤ R.frames) (hRl : 40 * (d + 1) ≤ R.locals) (hA : WF F σ → ∀ a ∈ As, avR a) (hst : (stk.map avC).sum ≤ 8) (hno : stk.all avO = true) (hno2 : loc.all (fun q => avO q.2) = true) (dd : decode J.1 pc = .ok (.invokevirtual index, 3)) (k : ∀ v σ1, (v = 0 ∨ v = 1) → WGx p l e R s m args below meth c J D G cl0 A F ad0 σ0 rv (K v σ1) σ1 (pc + 3) loc (vI v :: stk)) : WGx p l e R s m args below meth c J D G cl0 A F ad0 σ0 rv (cl oc K) σ pc loc (As.reverse ++ vR ob :: stk) :=
  gx_callV hM hDc (fun r => ⟨_, rfl⟩) hcl hob hV hd hn hnL hRf hRl hA hst hno hno2 dd (fun v σ1 w e hr => by have hv := zOf e hr; cases e; exact k v σ1 hv)
theorem gx_cSZ (hM : Ct l d F cl0 y cy nLy (some .boolean) Dc rvI As σ oc) (hDc : Dc &&& D = Dc ∧ Dc.testBit 99 = false) (hV : GoodIn lw_all (va_wsS J.2.1 index y (ws_ y cy nLy (some .boolean)))) (hd : y.cls ≠ "java/lang/invoke/MethodHandle" ∧ y.cls ≠ "java/lang/invoke/VarHandle" ∧ (parseMethodDescriptor y.desc).map (fun d => d.parameters.length) = some n) (hn : As.length = n) (hnL : nLy ≤ 21) (hRf : d + 1 ≤ R.frames) (hRl : 40 * (d + 1) ≤ R.locals) (hA : WF F σ → ∀ a ∈ As, avR a) (hst : (stk.map avC).sum ≤ 8) (hno : stk.all avO = true) (hno2 : loc.all (fun q => avO q.2) = true) (dd : decode J.1 pc = .ok (.invokestatic index, 3)) (k : ∀ v σ1, (v = 0 ∨ v = 1) → WGx p l e R s m args below meth c J D G cl0 A F ad0 σ0 rv (K v σ1) σ1 (pc + 3) loc (vI v :: stk)) : WGx p l e R s m args below meth c J D G cl0 A F ad0 σ0 rv (cl oc K) σ pc loc (As.reverse ++ stk) :=
  gx_callS hM hDc (fun r => ⟨_, rfl⟩) hV hd hn hnL hRf hRl hA hst hno hno2 dd (fun v σ1 w e hr => by have hv := zOf e hr; cases e; exact k v σ1 hv)
theorem gx_cVV (hM : Ct l d F cl0 y cy nLy none Dc rvV (vR ob :: As) σ oc) (hDc : Dc &&& D = Dc ∧ Dc.testBit 99 = false) (hcl : cl0[ci]? = some (C, T, N)) (hob : F.1[ob]? = some (ci, b, N)) (hV : GoodIn lw_all (wsV J.2.1 index C y (ws_ y cy nLy none))) (hd : y.cls = C ∧ y.cls ≠ "java/lang/invoke/MethodHandle" ∧ y.cls ≠ "java/lang/invoke/VarHandle" ∧ (parseMethodDescriptor y.desc).map (fun d => d.parameters.length) = some n) (hn : As.length = n) (hnL : nLy ≤ 21) (hRf : d + 1 ≤ R.frames) (hRl : 40 * (d + 1) ≤ R.locals) (hA : WF F σ → ∀ a ∈ As, avR a) (hst : (stk.map avC).sum ≤ 8) (hno : stk.all avO = true) (hno2 : loc.all (fun q => avO q.2) = true) (dd : decode J.1 pc = .ok (.invokevirtual index, 3)) (k : ∀ v σ1, WGx p l e R s m args below meth c J D G cl0 A F ad0 σ0 rv (K v σ1) σ1 (pc + 3) loc stk) : WGx p l e R s m args below meth c J D G cl0 A F ad0 σ0 rv (cl oc K) σ pc loc (As.reverse ++ vR ob :: stk) :=
  gx_callV hM hDc (fun r => ⟨_, rfl⟩) hcl hob hV hd hn hnL hRf hRl hA hst hno hno2 dd (fun v σ1 w e hr => by cases e; exact k v σ1)
end G7

