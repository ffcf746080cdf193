/-! methods with handlers: the judgement -/
def IAEn : String := "java/lang/IllegalArgumentException"
def ISEn : String := "java/lang/IllegalStateException"
def XN (U : State) : Prop := ∀ cT cS, U.vm.findClass IAEn = some cT → U.vm.findClass ISEn = some cS → U.vm.assignable cS cT = false
theorem XN.moved {u U : State} (hvm : u.vm.Alike U.vm) (h : XN u) : XN U := fun cT cS h1 h2 => by
  rw [hvm.assignable]
  exact h cT cS (by rw [← hvm.findClass]; exact h1) (by rw [← hvm.findClass]; exact h2)
def OKxY (p : Program) (s : State) (m : MethodId) (args : Array Value) (meth : Method) (c : Code) (hh : List (Nat × Nat × Nat × Nat)) (J : Jm) (G : Gm) (cl0 : List vw_C) (A : Nat → Prop) : Prop := OKx p s m args meth c J G cl0 A ∧ XS s ∧ XN s ∧ c.exceptionTable.toList = tableOf hh ∧ ∀ (q : Nat) (cell : Cell), A q → s.heap[q]? = some cell → cell.vm.isStatics = false
def WGy (p : Program) (l : Launch) (e : Env) (R : Room) (s : State) (m : MethodId) (args : Array Value) (below : List Frame) (meth : Method) (c : Code) (hh : List (Nat × Nat × Nat × Nat))
    (J : Jm) (D : Nat) (G : Gm) (cl0 : List vw_C) (A : Nat → Prop) (F : Fm) (ad0 : Nat → Nat) (σ0 : Sg) {α : Type} (rv : α → Rs) (o : Option (α × Sg)) (σ : Sg) (pc : Nat) (loc : Lc) (stk : List AV) : Prop :=
  PsX F D J.2.2.2 rv σ o ∧ (OKxY p s m args meth c hh J G cl0 A → ∀ r σ', o = some (r, σ') → gC σ0 ≤ gC σ → gS σ0 ≤ gS σ → R.cells = gC σ' - gC σ0 → R.slots = gS σ' - gS σ0 → WF F σ → ∀ (ad : Nat → Nat) (H : Heap) (locs : List Loc) (ls : Array Slot), adM σ0 ad0 σ ad → va_P G.1 cl0 (wl F G ad σ) H → va_D A (wl F G ad σ) → va_S A s.heap H locs → lv_has ls J.2.2.1 (lcV ad loc) →
    W p l e R s m args below meth c H locs (gC σ - gC σ0) (gS σ - gS σ0) (MQg below (Qx F G cl0 A σ0 ad0 J.2.2.2 (rv r) σ') args s (gC σ' - gC σ0) (gS σ' - gS σ0) A) (F0 m pc ls (stk.map (toV ad))))
section TCV
variable {p : Program} {l : Launch} {e : Env} {R : Room} {s : State} {m : MethodId} {args : Array Value} {below : List Frame} {meth : Method} {c : Code} {T : State} {locs : List Loc} {cells slots : Nat}
variable {y : MethodName} {ws : List Cond} {rm : Room} {Pc : Array Value → State → Prop} {Qc : Array Value → State → Outcome → State → Prop} {mc ms n index : Nat} {free : Addr → Prop} {own : String} {bytes : ByteArray} {maxL : Nat} {ret : Option FieldType}
/-- a callee of an object throws: to the note over the caller's frame -/
theorem thr_Vc (X : Stand p l e R s m args below meth c T locs cells slots) (hexec : p.tables.exec = Jvm.exec) (hM : MetG l y ws rm Pc Qc mc ms free) {C : String} (cw : CallW R s args own C index y bytes maxL ret ws rm mc ms n) (hown : s.vm.findClass own = some m.cls) {b : Addr} {As rest : List Value} (hp : PreV s T.heap C b Pc As) {g : JFrame} (hg : g.method = m) (hn : As.length = n) (hsize : g.locals.size = c.maxLocals) (hstack : g.stack = As.reverse ++ .ref b :: rest) (hW : 2 * g.monitorRoom + (rest.map fun v => v.category).sum ≤ 8) (hdg : decode c.code g.pc = .ok (.invokevirtual index, 3)) (hf : cells + mc ≤ R.cells ∧ slots + ms ≤ R.slots)
    (hthr : ∀ st o t, Qc (Value.ref b :: As).toArray st o t → ∃ x, o = .threw x) :
    ∃ (x : Addr) (st₀ t T' : State) (L : List Loc), st₀.heap = T.heap ∧ s.WarmedH st₀.vm ∧ T'.heap = t.heap ∧ T'.vm = t.vm ∧ (∀ q ∈ L, free q.base) ∧ Qc (Value.ref b :: As).toArray st₀ (.threw x) t ∧ Stand p l e R s m args below meth c T' (locs ++ L) (cells + mc) (slots + ms) ∧ ∀ target, Steps p.tables e below ((T'.setTop { g with stack := rest }).pushFrame (.throwing x)) target → Steps p.tables e below (T.setTop g) target := by
  obtain ⟨hbl, ⟨cellB, hcB, hoB, hclB⟩, hPc⟩ := hp
  obtain ⟨cb, hin, hse⟩ := cw
  obtain ⟨-, -, -, -, -, -, hcode, -, hy, hlen, hl⟩ := id cb
  obtain ⟨mk, methM, hnm, hmm, hstM, habM⟩ := Cond.instanceMethod_spec hin
  obtain ⟨methM', cM, hmm', -, -, -, -, -, -, hsig⟩ := Cond.code_spec hnm hcode
  cases hmm.symm.trans hmm'
  obtain ⟨c2, r2, m2, q1, q2, q3, q4, kP, hkP, hkPi⟩ := Cond.selects_spec hse
  cases hclB.symm.trans q1
  cases (State.methodFound?_of_named hnm hy).symm.trans q2
  cases hnm.symm.trans q3
  have hsel : selectMethod e.platform s.vm cellB.cls mk = .method mk := by rw [Launch.admits_selectMethod X.admits]; exact q4
  obtain ⟨vm₁, X₁, st1⟩ := X.invokevirtual hexec hown hl hnm hmm hstM hkP hkPi hy (a := b) (cell := cellB) hcB (fun z h => by rw [h] at hoB; cases hoB) hsel hmm habM hkP hkPi (g := g) hg (argsL := As) (rest := rest) (hn.trans (hlen _ hsig)) hstack hdg
  obtain ⟨x, t, T', L, e1, e2, X', hL, hq, st2⟩ := thr_call X₁ hM cb hbl (g := { g with stack := rest }) (ig := .invokevirtual index) (mk := mk) (a := (Value.ref b :: As).toArray) hg hsize hdg hW (X₁.named hnm) hf.1 hf.2 (hPc (T.setVm vm₁) rfl X₁.warmed) hthr
  exact ⟨x, (T.setVm vm₁).calling { g with stack := rest } mk (Value.ref b :: As).toArray, t, T', L, rfl, X₁.warmed, e1, e2, hL, hq, X', fun target h => st1 _ (fun acts => by rw [doInvoke_state]; exact st2.trans h)⟩
end TCV
section G1
variable {p : Program} {l : Launch} {e : Env} {R : Room} {s : State} {m : MethodId} {args : Array Value} {below : List Frame} {meth : Method} {c : Code}
variable {hh : List (Nat × Nat × Nat × Nat)} {J : Jm} {D : Nat} {G : Gm} {cl0 : List vw_C} {A : Nat → Prop} {F : Fm} {ad0 : Nat → Nat} {σ0 σ : Sg} {α : Type} {rv : α → Rs} {o : Option (α × Sg)} {pc : Nat} {loc : Lc} {stk : List AV}
theorem WGy.lift {pc' : Nat} {stk' : List AV} (h : OKxY p s m args meth c hh J G cl0 A → WF F σ → ∀ (ad : Nat → Nat) (H : Heap) (locs : List Loc) (cells slots : Nat) (Q : State → Prop) (ls : Array Slot), adM σ0 ad0 σ ad → va_P G.1 cl0 (wl F G ad σ) H → lv_has ls J.2.2.1 (lcV ad loc) → W p l e R s m args below meth c H locs cells slots Q (F0 m pc' ls (stk'.map (toV ad))) → W p l e R s m args below meth c H locs cells slots Q (F0 m pc ls (stk.map (toV ad))))
    (k : WGy p l e R s m args below meth c hh J D G cl0 A F ad0 σ0 rv o σ pc' loc stk') : WGy p l e R s m args below meth c hh J D G cl0 A F ad0 σ0 rv o σ pc loc stk :=
  ⟨k.1, fun ok r σ' ho h1 h2 h3 h4 hw ad H locs ls ha hP hD hS hl => h ok hw ad H locs _ _ _ ls ha hP hl (k.2 ok r σ' ho h1 h2 h3 h4 hw ad H locs ls ha hP hD hS hl)⟩
theorem gy_iconst {n : Int} (d : decode J.1 pc = .ok (.iconst n, 1)) (k : WGy p l e R s m args below meth c hh J D G cl0 A F ad0 σ0 rv o σ (pc + 1) loc (vI n :: stk)) : WGy p l e R s m args below meth c hh J D G cl0 A F ad0 σ0 rv o σ pc loc stk :=
  WGy.lift (fun ok _ ad H locs cells slots Q ls _ _ _ kk => lv_iconst ok.1.1 ok.1.2.1 d rfl kk) k
theorem gy_iload_n {i : Fin 4} {v : Int} (j : Nat) (d : decode J.1 pc = .ok (.iload_n i, 1)) (hl : loc[j]? = some ((i : Nat), vI v)) (k : WGy p l e R s m args below meth c hh J D G cl0 A F ad0 σ0 rv o σ (pc + 1) loc (vI v :: stk)) : WGy p l e R s m args below meth c hh J D G cl0 A F ad0 σ0 rv o σ pc loc stk :=
  WGy.lift (fun ok _ ad H locs cells slots Q ls _ _ h kk => lv_iload_n ok.1.1 ok.1.2.1 d rfl (lv_at h j (lcV_at hl)) kk) k
theorem gy_iload {i : Nat} {v : Int} (j : Nat) (d : decode J.1 pc = .ok (.iload i, 2)) (hl : loc[j]? = some (i, vI v)) (k : WGy p l e R s m args below meth c hh J D G cl0 A F ad0 σ0 rv o σ (pc + 2) loc (vI v :: stk)) : WGy p l e R s m args below meth c hh J D G cl0 A F ad0 σ0 rv o σ pc loc stk :=
  WGy.lift (fun ok _ ad H locs cells slots Q ls _ _ h kk => lv_iload ok.1.1 ok.1.2.1 d (lv_at h j (lcV_at hl)) kk) k
theorem gy_aload_n {i : Fin 4} {v : Nat} (j : Nat) (d : decode J.1 pc = .ok (.aload_n i, 1)) (hl : loc[j]? = some ((i : Nat), vR v)) (k : WGy p l e R s m args below meth c hh J D G cl0 A F ad0 σ0 rv o σ (pc + 1) loc (vR v :: stk)) : WGy p l e R s m args below meth c hh J D G cl0 A F ad0 σ0 rv o σ pc loc stk :=
  WGy.lift (fun ok _ ad H locs cells slots Q ls _ _ h kk => lv_aload_n ok.1.1 ok.1.2.1 d rfl (lv_at h j (lcV_at hl)) kk) k
theorem gy_goto {off : Int} (tgt : Nat) (d : decode J.1 pc = .ok (.goto off, 3)) (ht : (pc : Int) + off = (tgt : Int)) (k : WGy p l e R s m args below meth c hh J D G cl0 A F ad0 σ0 rv o σ tgt loc stk) : WGy p l e R s m args below meth c hh J D G cl0 A F ad0 σ0 rv o σ pc loc stk :=
  WGy.lift (fun ok _ ad H locs cells slots Q ls _ _ h kk => lv_goto ok.1.1 ok.1.2.1 d ht kk) k
end G1

section G2
variable {p : Program} {l : Launch} {e : Env} {R : Room} {s : State} {m : MethodId} {args : Array Value} {below : List Frame} {meth : Method} {c : Code}
variable {hh : List (Nat × Nat × Nat × Nat)} {J : Jm} {D : Nat} {G : Gm} {cl0 : List vw_C} {A : Nat → Prop} {F : Fm} {ad0 : Nat → Nat} {σ0 σ : Sg} {α : Type} {rv : α → Rs} {o T E : Option (α × Sg)} {pc : Nat} {loc : Lc} {stk : List AV}
theorem WGy.byc {C : Prop} [Decidable C] (kt : C → WGy p l e R s m args below meth c hh J D G cl0 A F ad0 σ0 rv T σ pc loc stk) (kf : ¬ C → WGy p l e R s m args below meth c hh J D G cl0 A F ad0 σ0 rv E σ pc loc stk) : WGy p l e R s m args below meth c hh J D G cl0 A F ad0 σ0 rv (if C then T else E) σ pc loc stk := by
  by_cases h : C
  · rw [if_pos h]; exact kt h
  · rw [if_neg h]; exact kf h
theorem WGy.br {C : Prop} [Decidable C] {pt pe : Nat} {stk0 : List AV} (h : OKxY p s m args meth c hh J G cl0 A → WF F σ → ∀ (ad : Nat → Nat) (H : Heap) (locs : List Loc) (cells slots : Nat) (Q : State → Prop) (ls : Array Slot), (C → W p l e R s m args below meth c H locs cells slots Q (F0 m pt ls (stk0.map (toV ad)))) → (¬ C → W p l e R s m args below meth c H locs cells slots Q (F0 m pe ls (stk0.map (toV ad)))) → W p l e R s m args below meth c H locs cells slots Q (F0 m pc ls (stk.map (toV ad))))
    (kt : C → WGy p l e R s m args below meth c hh J D G cl0 A F ad0 σ0 rv T σ pt loc stk0) (kf : ¬ C → WGy p l e R s m args below meth c hh J D G cl0 A F ad0 σ0 rv E σ pe loc stk0) : WGy p l e R s m args below meth c hh J D G cl0 A F ad0 σ0 rv (if C then T else E) σ pc loc stk := by
  refine ⟨fun hw r σ' e => by split at e; exact (kt (by assumption)).1 hw r σ' e; exact (kf (by assumption)).1 hw r σ' e, fun ok r σ' ho h1 h2 h3 h4 hw ad H locs ls ha hP hD hS hl => h ok hw ad H locs _ _ _ ls (fun hc => ?_) (fun hc => ?_)⟩
  · rw [if_pos hc] at ho
    exact (kt hc).2 ok r σ' ho h1 h2 h3 h4 hw ad H locs ls ha hP hD hS hl
  · rw [if_neg hc] at ho
    exact (kf hc).2 ok r σ' ho h1 h2 h3 h4 hw ad H locs ls ha hP hD hS hl
theorem gy_if_eq {a off : Int} (tgt : Nat) (d : decode J.1 pc = .ok (.ifCond .eq off, 3)) (ht : (pc : Int) + off = (tgt : Int)) (ha : WF F σ → inR a) (kt : a = 0 → WGy p l e R s m args below meth c hh J D G cl0 A F ad0 σ0 rv T σ tgt loc stk) (kf : ¬ a = 0 → WGy p l e R s m args below meth c hh J D G cl0 A F ad0 σ0 rv E σ (pc + 3) loc stk) : WGy p l e R s m args below meth c hh J D G cl0 A F ad0 σ0 rv (if a = 0 then T else E) σ pc loc (vI a :: stk) :=
  WGy.br (fun ok hw ad H locs cells slots Q ls x y => lv_if_eq ok.1.1 ok.1.2.1 d ht (fun h => x ((o_ofInt_eq (ha hw) inR0).mp h)) (fun h => y (fun h' => h ((o_ofInt_eq (ha hw) inR0).mpr h')))) kt kf
theorem gy_iret {v : Int} {r : α} (hJ : J.2.2.2 = some .int) (hr : rv r = .inl (some (vI v))) (hv : WF F σ → inR v) (d : decode J.1 pc = .ok (.ireturn, 1)) : WGy p l e R s m args below meth c hh J D G cl0 A F ad0 σ0 rv (some (r, σ)) σ pc loc (vI v :: []) := by
  refine ⟨fun hw r' σ' h => by cases h; exact ⟨GrX.rf, hw, fun v' h' => by rw [hr] at h'; cases h'; rw [hJ]; exact hv hw⟩, fun ok r' σ' ho h1 h2 h3 h4 hw ad H locs ls ha hP hD hS hl => ?_⟩
  cases ho
  exact (W.iret ok.1.1 ok.1.2.1 (ok.1.2.2.2.2.2.2.1.trans hJ) (fun t ht hW => ⟨ad, ha, (by rw [hr]; exact rfl), (fun v' h' => by rw [hr] at h'; cases h'; rw [hJ]; exact hv hw), hw, by rw [ht]; exact hP, hD, va_K.moved hW.alike ok.1.2.2.2.2.2.2.2.1, hS.F ht⟩) hS.2.2 d ok.1.2.2.2.2.2.1).mq
end G2
section G3
variable {p : Program} {l : Launch} {e : Env} {R : Room} {s : State} {m : MethodId} {args : Array Value} {below : List Frame} {meth : Method} {c : Code}
variable {hh : List (Nat × Nat × Nat × Nat)} {J : Jm} {D : Nat} {G : Gm} {cl0 : List vw_C} {A : Nat → Prop} {F : Fm} {ad0 : Nat → Nat} {σ0 σ : Sg} {α : Type} {rv : α → Rs} {o : Option (α × Sg)} {pc : Nat} {loc : Lc} {stk : List AV}
variable {C : String} {T : u_T} {N ci b ob index : Nat}
end G3
section G4
variable {p : Program} {l : Launch} {e : Env} {R : Room} {s : State} {m : MethodId} {args : Array Value} {below : List Frame} {meth : Method} {c : Code}
variable {hh : List (Nat × Nat × Nat × Nat)} {J : Jm} {D : Nat} {G : Gm} {cl0 : List vw_C} {A : Nat → Prop} {F : Fm} {ad0 : Nat → Nat} {σ0 σ : Sg} {α : Type} {rv : α → Rs} {o : Option (α × Sg)} {pc : Nat} {loc : Lc} {stk : List AV}
theorem gy_last {id : Nat} {i v : Int} {K : Sg → Option (α × Sg)} (hF : FOK F) (j : Nat) (hj : F.2.2[j]? = some id) (hkd : F.2.1 id = 2) (hDk : D.testBit id = true) (hv : WF F σ → inL v) (d : decode J.1 pc = .ok (.lastore, 1)) (k : WGy p l e R s m args below meth c hh J D G cl0 A F ad0 σ0 rv (K (sA σ id i v)) (sA σ id i v) (pc + 1) loc stk) : WGy p l e R s m args below meth c hh J D G cl0 A F ad0 σ0 rv (stA σ id i v K) σ pc loc (vL v :: vI i :: vR (10 + id) :: stk) := by
  have wf : WF F σ → WF F (sA σ id i v) := fun hw => hw.sA (fun h => absurd hkd h) (fun _ => hv hw) (fun h => by rw [hkd] at h; cases h)
  refine ⟨st_psX hDk wf k.1, fun ok r σ' ho h1 h2 h3 h4 hw ad H locs ls ha hP hD hS hl => ?_⟩
  unfold stA at ho
  split at ho
  · rename_i hi
    obtain ⟨hin, hc⟩ := i_clamp hi.1 hi.2 (hw.2.1 id)
    have hx := wl_ar (G := G) (ad := ad) (σ := σ) hj
    rw [arE_l hkd] at hx
    refine va_last ok.1.1 ok.1.2.1 ok.1.2.2.2.2.2.2.2.1 hP hD hS _ 1 hx rfl hin d (fun H1 locs1 hP1 hD1 hS1 => ?_)
    have e1 : (Sum.inl (G.2.2.1, gL σ id, Sum.inr (Sum.inl (vp_updL (fun j => Int64.ofInt (gF σ id j)) (Int32.ofInt i).toNatClampNeg (Int64.ofInt v)))) : va_E) = arE G F.2.1 (sA σ id i v) id := by
      rw [arE_l hkd, gL_sA, gF_sA, if_pos rfl, hc]
      congr 5
      funext q
      unfold vp_updL va_up
      split <;> rfl
    rw [e1, wl_sA hF hj] at hP1 hD1
    exact k.2 ok r σ' ho h1 h2 h3 h4 (wf hw) ad H1 locs1 ls ha.sA hP1 hD1 hS1 hl
  · cases ho
end G4

section G5
variable {p : Program} {l : Launch} {e : Env} {R : Room} {s : State} {m : MethodId} {args : Array Value} {below : List Frame} {meth : Method} {c : Code}
variable {hh : List (Nat × Nat × Nat × Nat)} {J : Jm} {D : Nat} {G : Gm} {cl0 : List vw_C} {A : Nat → Prop} {F : Fm} {ad0 : Nat → Nat} {σ0 σ : Sg} {α : Type} {rv : α → Rs} {o : Option (α × Sg)} {pc : Nat} {loc : Lc} {stk : List AV}
variable {C : String} {T : u_T} {N ci b ob index n d : Nat} {Dc : Nat} {β : Type} {rvc : β → Rs} {oc : Option (β × Sg)} {K : β → Sg → Option (α × Sg)} {y : MethodName} {cy : ByteArray} {nLy : Nat} {rety : Option FieldType} {As : List AV}
end G5
section G6
variable {p : Program} {l : Launch} {e : Env} {R : Room} {s : State} {m : MethodId} {args : Array Value} {below : List Frame} {meth : Method} {c : Code}
variable {hh : List (Nat × Nat × Nat × Nat)} {J : Jm} {D : Nat} {G : Gm} {cl0 : List vw_C} {A : Nat → Prop} {F : Fm} {ad0 : Nat → Nat} {σ0 σ : Sg} {α : Type} {rv : α → Rs} {o : Option (α × Sg)} {pc : Nat} {loc : Lc} {stk : List AV}
variable {C : String} {T : u_T} {N ci b ob index : Nat}
theorem WGy.wf (k : WF F σ → WGy p l e R s m args below meth c hh J D G cl0 A F ad0 σ0 rv o σ pc loc stk) : WGy p l e R s m args below meth c hh J D G cl0 A F ad0 σ0 rv o σ pc loc stk :=
  ⟨fun hw => (k hw).1 hw, fun ok r σ' ho h1 h2 h3 h4 hw => (k hw).2 ok r σ' ho h1 h2 h3 h4 hw⟩
theorem gy_lconst {n : Fin 2} {v : Int} (hv : Int64.ofNat (n : Nat) = Int64.ofInt v) (d : decode J.1 pc = .ok (.lconst n, 1)) (k : WGy p l e R s m args below meth c hh J D G cl0 A F ad0 σ0 rv o σ (pc + 1) loc (vL v :: stk)) : WGy p l e R s m args below meth c hh J D G cl0 A F ad0 σ0 rv o σ pc loc stk :=
  WGy.lift (fun ok _ ad H locs cells slots Q ls _ _ _ kk => lv_lconst ok.1.1 ok.1.2.1 d hv kk) k
theorem gy_i2l {a : Int} (ha : inR a) (d : decode J.1 pc = .ok (.i2l, 1)) (k : WGy p l e R s m args below meth c hh J D G cl0 A F ad0 σ0 rv o σ (pc + 1) loc (vL a :: stk)) : WGy p l e R s m args below meth c hh J D G cl0 A F ad0 σ0 rv o σ pc loc (vI a :: stk) :=
  WGy.lift (fun ok _ ad H locs cells slots Q ls _ _ _ kk => lv_i2l ok.1.1 ok.1.2.1 d (Int64.toInt_inj.mp (by rw [Int32.toInt_toInt64, i_ofInt ha, l_ofInt (inL_of ha)])) kk) k
theorem gy_gd {C : Prop} [Decidable C] {K : Option (α × Sg)} (k : C → WGy p l e R s m args below meth c hh J D G cl0 A F ad0 σ0 rv K σ pc loc stk) : WGy p l e R s m args below meth c hh J D G cl0 A F ad0 σ0 rv (gd C K) σ pc loc stk := by
  refine ⟨fun hw r σ' ho => ?_, fun ok r σ' ho => ?_⟩
  · unfold gd at ho
    split at ho
    · exact (k (by assumption)).1 hw r σ' ho
    · cases ho
  · unfold gd at ho
    split at ho
    · exact (k (by assumption)).2 ok r σ' ho
    · cases ho
end G6

section G7
variable {p : Program} {l : Launch} {e : Env} {R : Room} {s : State} {m : MethodId} {args : Array Value} {below : List Frame} {meth : Method} {c : Code}
variable {hh : List (Nat × Nat × Nat × Nat)} {J : Jm} {D : Nat} {G : Gm} {cl0 : List vw_C} {A : Nat → Prop} {F : Fm} {ad0 : Nat → Nat} {σ0 σ : Sg} {α : Type} {rv : α → Rs} {o : Option (α × Sg)} {pc : Nat} {loc : Lc} {stk : List AV}
variable {C : String} {T : u_T} {N ci b ob index n d : Nat} {Dc : Nat} {oc : Option (Int × Sg)} {K : Int → Sg → Option (α × Sg)} {y : MethodName} {cy : ByteArray} {nLy : Nat} {As : List AV}
end G7

section GY1
variable {p : Program} {l : Launch} {e : Env} {R : Room} {s : State} {m : MethodId} {args : Array Value} {below : List Frame} {meth : Method} {c : Code} {hh : List (Nat × Nat × Nat × Nat)}
variable {J : Jm} {D : Nat} {G : Gm} {cl0 : List vw_C} {A : Nat → Prop} {F : Fm} {ad0 : Nat → Nat} {σ0 σ : Sg} {α : Type} {rv : α → Rs} {o : Option (α × Sg)} {pc : Nat} {loc : Lc} {stk : List AV}
theorem gy_aload {i : Nat} {v : Nat} (j : Nat) (d : decode J.1 pc = .ok (.aload i, 2)) (hl : loc[j]? = some (i, vR v)) (k : WGy p l e R s m args below meth c hh J D G cl0 A F ad0 σ0 rv o σ (pc + 2) loc (vR v :: stk)) : WGy p l e R s m args below meth c hh J D G cl0 A F ad0 σ0 rv o σ pc loc stk :=
  WGy.lift (fun ok _ ad H locs cells slots Q ls _ _ h kk => lv_aload ok.1.1 ok.1.2.1 d (lv_at h j (lcV_at hl)) kk) k
end GY1
/-- a handler that gives a number back -/
def HdE (J : Jm) (h : Nat) (c0 : Int) : Prop := (∃ i, decode J.1 h = .ok (.astore i, 2) ∧ i < J.2.2.1 ∧ decode J.1 (h + 2) = .ok (.iconst c0, 1) ∧ decode J.1 (h + 2 + 1) = .ok (.ireturn, 1)) ∨ (∃ i : Fin 4, decode J.1 h = .ok (.astore_n i, 1) ∧ (i : Nat) < J.2.2.1 ∧ decode J.1 (h + 1) = .ok (.iconst c0, 1) ∧ decode J.1 (h + 1 + 1) = .ok (.ireturn, 1))
/-- where the table takes the exception k, thrown at pc -/
def TbC (hh : List (Nat × Nat × Nat × Nat)) (pc k h : Nat) : Prop := (k = 1 ∧ ∃ e rest, hh = (0, e, h, 13) :: rest ∧ pc < e) ∨ (k = 2 ∧ ∃ e rest, hh = (0, e, h, 15) :: rest ∧ pc < e) ∨ (k = 2 ∧ ∃ e e' h1 rest, hh = (0, e, h1, 13) :: (0, e', h, 15) :: rest ∧ pc < e ∧ pc < e')
def trK (hk : Nat → Option Int) (v : Int) (σ : Sg) (K : Option (Int × Sg)) : Option (Int × Sg) := if exB < v then (match hk (v - exB).toNat with | some c => some (c, σ) | none => none) else K
section GY2
variable {p : Program} {l : Launch} {e : Env} {R : Room} {s : State} {m : MethodId} {args : Array Value} {below : List Frame} {meth : Method} {c : Code} {hh : List (Nat × Nat × Nat × Nat)}
variable {J : Jm} {D : Nat} {G : Gm} {cl0 : List vw_C} {A : Nat → Prop} {F : Fm} {ad0 : Nat → Nat} {σ0 σ : Sg} {rv : Int → Rs} {pc : Nat} {loc : Lc} {stk : List AV}
variable {C : String} {T : u_T} {N ci b ob index n d : Nat} {Dc : Nat} {oc : Option (Int × Sg)} {K : Int → Sg → Option (Int × Sg)} {y : MethodName} {cy : ByteArray} {nLy : Nat} {rety : Option FieldType} {As : List AV} {hk : Nat → Option Int}
theorem catch_tb {T : State} {locs : List Loc} {cells slots : Nat} (X : Stand p l e R s m args below meth c T locs cells slots) (ok : OKxY p s m args meth c hh J G cl0 A) (hJ : J.2.1 = "RoundCheckLaw") {k h : Nat} (ht : TbC hh pc k h) {a : Addr} {cell : Cell} (hcell : T.heap[a]? = some cell) (hvm : cell.vm = .none) (hcls : s.vm.findClass (exN k) = some cell.cls) {g : JFrame} (hg : g.method = m) (hpc : g.pc = pc) :
    ∃ vm', Stand p l e R s m args below meth c (T.setVm vm') locs cells slots ∧ ∀ target, Steps p.tables e below ((T.setVm vm').setTop { g with pc := h, stack := [.ref a] }) target → Steps p.tables e below ((T.setTop g).pushFrame (.throwing a)) target := by
  have hown : s.vm.findClass "RoundCheckLaw" = some m.cls := by rw [← hJ]; exact ok.1.2.2.2.1
  have hts := ok.1.2.2.2.2.1
  have f1 : ∀ cT, s.vm.findClass IAEn = some cT → s.vm.assignable cT cT = true := fun cT h1 => by
    obtain ⟨c1, t1, w1, w2, w3⟩ := Cond.castable_spec (ok.2.1 (.castable "java/lang/IllegalArgumentException" "java/lang/IllegalArgumentException") (by simp [xsW]))
    cases h1.symm.trans w1
    cases w1.symm.trans w2
    exact w3
  have f2 : ∀ cT, s.vm.findClass ISEn = some cT → s.vm.assignable cT cT = true := fun cT h1 => by
    obtain ⟨c1, t1, w1, w2, w3⟩ := Cond.castable_spec (ok.2.1 (.castable "java/lang/IllegalStateException" "java/lang/IllegalStateException") (by simp [xsW]))
    cases h1.symm.trans w1
    cases w1.symm.trans w2
    exact w3
  have cv : ∀ e h1 ct, pc < e → covers (⟨0, e, h1, ct⟩ : ExceptionTableEntry) g.pc = true := fun e h1 ct hlt => by
    unfold covers
    rw [hpc]
    simp [hlt]
  rcases ht with ⟨rfl, e', rest, rfl, hlt⟩ | ⟨rfl, e', rest, rfl, hlt⟩ | ⟨rfl, e', e2, h1, rest, rfl, hlt, hlt2⟩
  · exact catch_first X (x := ⟨0, e', h, 13⟩) (name := IAEn) ok.2.2.2.1 hg (cv _ _ _ hlt) (by show (13 : Nat) ≠ 0; decide) hown (hts _ q488) hcell hvm hcls f1
  · exact catch_first X (x := ⟨0, e', h, 15⟩) (name := ISEn) ok.2.2.2.1 hg (cv _ _ _ hlt) (by show (15 : Nat) ≠ 0; decide) hown (hts _ q489) hcell hvm hcls f2
  · exact catch_second X (x := ⟨0, e', h1, 13⟩) (x2 := ⟨0, e2, h, 15⟩) (name := IAEn) (name2 := ISEn) ok.2.2.2.1 hg (cv _ _ _ hlt) (by show (13 : Nat) ≠ 0; decide) (cv _ _ _ hlt2) (by show (15 : Nat) ≠ 0; decide) hown (hts _ q488) (hts _ q489) hcell hvm hcls ok.2.2.1 f2
/-- a call of the class's method within a try -/
theorem gy_try (hM : CtX l d F cl0 y cy nLy rety Dc (rvX true) (vR ob :: As) σ oc) (hDc : Dc &&& D = Dc) (hJ : J.2.1 = "RoundCheckLaw" ∧ J.2.2.2 = some .int) (hrv : ∀ v, rv v = .inl (some (vI v))) (hcat : ∀ k c0, hk k = some c0 → inR c0 ∧ ∃ h, TbC hh pc k h ∧ HdE J h c0) (hcl : cl0[ci]? = some (C, T, N)) (hob : F.1[ob]? = some (ci, b, N)) (hV : GoodIn lw_all (wsV J.2.1 index C y (ws_ y cy nLy rety))) (hd : y.cls = C ∧ y.cls ≠ "java/lang/invoke/MethodHandle" ∧ y.cls ≠ "java/lang/invoke/VarHandle" ∧ (parseMethodDescriptor y.desc).map (fun d => d.parameters.length) = some n) (hn : As.length = n) (hnL : nLy ≤ 21) (hRf : d + 1 ≤ R.frames) (hRl : 40 * (d + 1) ≤ R.locals) (hA : WF F σ → ∀ a ∈ As, avR a) (hst : (stk.map avC).sum ≤ 8) (hkeep : ∀ r1 σ1, oc = some (r1, σ1) → K r1 σ1 ≠ none → ∀ ad ad1 : Nat → Nat, adM σ ad σ1 ad1 → lcV ad1 loc = lcV ad loc ∧ stk.map (toV ad1) = stk.map (toV ad)) (dd : decode J.1 pc = .ok (.invokevirtual index, 3))
    (k : ∀ r1 σ1, ¬ exB < r1 → retOK rety (vI r1) → WGy p l e R s m args below meth c hh J D G cl0 A F ad0 σ0 rv (K r1 σ1) σ1 (pc + 3) loc (vI r1 :: stk)) : WGy p l e R s m args below meth c hh J D G cl0 A F ad0 σ0 rv (cl oc (fun v σ1 => trK hk v σ1 (K v σ1))) σ pc loc (As.reverse ++ vR ob :: stk) := by
  have hA' : WF F σ → ∀ a ∈ vR ob :: As, avR a := fun hw a ha => by rcases List.mem_cons.mp ha with q | q; rw [q]; trivial; exact hA hw a q
  have hstk : ∀ ad : Nat → Nat, List.map (toV ad) (As.reverse ++ vR ob :: stk) = (As.map (toV ad)).reverse ++ .ref (ad ob) :: stk.map (toV ad) := fun ad => by
    rw [List.map_append, List.map_reverse]
    rfl
  refine ⟨fun hw r σ' ho => ?_, fun ok r σ' ho h1 h2 h3 h4 hw ad H locs ls ha hP hD hS hl => ?_⟩
  · obtain ⟨r1, σ1, hoc, ho⟩ := cl_some ho
    have hps := hM.1 (hA' hw) hw r1 σ1 hoc
    have ho : trK hk r1 σ1 (K r1 σ1) = some (r, σ') := ho
    unfold trK at ho
    by_cases ht : exB < r1
    · rw [if_pos ht] at ho
      cases hc : hk (r1 - exB).toNat with
      | none => rw [hc] at ho; cases ho
      | some c0 =>
        rw [hc] at ho
        injection ho with ho
        injection ho with e1 e2
        subst e1; subst e2
        exact ⟨hps.1.sub hDc, hps.2.1, fun v hv => by rw [hrv] at hv; injection hv with hv; injection hv with hv; subst hv; rw [hJ.2]; exact (hcat _ _ hc).1⟩
    · rw [if_neg ht] at ho
      have hk := (k r1 σ1 ht (hps.2.2 _ (rvX_i ht))).1 hps.2.1 r σ' ho
      exact ⟨(hps.1.sub hDc).tr hk.1, hk.2⟩
  · obtain ⟨r1, σ1, hoc, ho⟩ := cl_some ho
    have hps := hM.1 (hA' hw) hw r1 σ1 hoc
    have ho : trK hk r1 σ1 (K r1 σ1) = some (r, σ') := ho
    unfold trK at ho
    have hfree : ∀ q, va_A (wl F G ad σ) H.size q → A q := by
      intro q hq
      rcases hq with ⟨i, en, hi⟩ | hq
      · exact hD.2 i (q, en) hi
      · exact ok.1.2.2.2.2.2.2.2.2 q (Nat.le_trans hS.1 hq)
    have a1 := hps.1.1.1
    have a2 := hps.1.1.2
    have hPV : PreV s H C (ad ob) (PcXX F G cl0 ad σ H.size (vR ob :: As)) (As.map (toV ad)) :=
      ⟨PcXX_blind, va_recv ok.1.2.2.2.2.2.2.2.1 hP hcl (wl_ob hob), fun U hU hW => ⟨⟨rfl, by rw [hU], hw, by rw [hU]; exact hP, va_K.moved hW.alike ok.1.2.2.2.2.2.2.2.1, hD.weaken (fun _ _ _ _ => trivial)⟩, XS.at ok.2.1 ok.2.2.2.2 hS hU hW⟩⟩
    by_cases ht : exB < r1
    · rw [if_pos ht] at ho
      cases hc : hk (r1 - exB).toNat with
      | none => rw [hc] at ho; cases ho
      | some c0 =>
        rw [hc] at ho
        injection ho with ho
        injection ho with e1 e2
        subst e1; subst e2
        obtain ⟨hc0, h, hTb, hHd⟩ := hcat _ _ hc
        intro T hT X
        subst hT
        obtain ⟨x, st₀, t, T', L, g1, g2, g3, g4, g5, ⟨ad1, had, hv, -, hw1, hP1, hD1, -, hz, hkp⟩, X', st⟩ := thr_Vc (As := As.map (toV ad)) (rest := stk.map (toV ad)) (b := ad ob) (g := F0 m pc ls (List.map (toV ad) (As.reverse ++ vR ob :: stk))) X ok.1.1 (hM.2 r1 σ1 hoc (hA' hw) G ad T.heap.size) (cwV n ok.1.2.2.2.2.1 hV rfl rfl rfl hd ⟨hRf, by show 8 + (nLy + 11) + 40 * d ≤ R.locals; omega⟩) ok.1.2.2.2.1 hPV rfl (by rw [List.length_map]; exact hn) (hl.1.trans ok.1.2.2.1.symm) (hstk ad) (stk_room rfl hst) (by rw [ok.1.2.1]; exact dd) ⟨by omega, by omega⟩ (fun st o t q => by
          obtain ⟨ad1, -, hv, -⟩ := q
          rw [rvX_thr ht] at hv
          obtain ⟨a, e1, -⟩ := hv
          exact ⟨a, e1⟩)
        rw [rvX_thr ht] at hv
        obtain ⟨a, e1, h5, cell, h6, h7, h8⟩ := hv
        injection e1 with e1
        subst e1
        rw [g1] at hz hkp h5
        rw [g2.alike.findClass] at h7
        rw [show gC σ - gC σ0 + (gC σ1 - gC σ) = gC σ1 - gC σ0 by omega, show gS σ - gS σ0 + (gS σ1 - gS σ) = gS σ1 - gS σ0 by omega] at X'
        obtain ⟨vm', X2, st2⟩ := catch_tb X' ok hJ.1 hTb (a := x) (cell := cell) (by rw [g3]; exact h6) h8 h7 (g := F0 m pc ls (stk.map (toV ad))) rfl rfl
        have hS1 : va_S A s.heap T'.heap (locs ++ L) := by
          rw [g3]
          refine ⟨Nat.le_trans hS.1 hz, fun q b1 b2 => ?_, fun q hq => ?_⟩
          · rw [hkp q (Nat.lt_of_lt_of_le b1 hS.1) (fun z => b2 (hfree q z))]
            exact hS.2.1 q b1 b2
          · rcases List.mem_append.mp hq with h | h
            · exact hS.2.2 q h
            · exact hfree _ (g5 q h)
        have hret : ∀ (ls' : Array Slot) (pc' : Nat), decode J.1 pc' = .ok (.ireturn, 1) → W p l e R s m args below meth c T'.heap (locs ++ L) (gC σ1 - gC σ0) (gS σ1 - gS σ0) (MQg below (Qx F G cl0 A σ0 ad0 J.2.2.2 (rv c0) σ1) args s (gC σ1 - gC σ0) (gS σ1 - gS σ0) A) (F0 m pc' ls' [.int (Int32.ofInt c0)]) := fun ls' pc' dr =>
          (W.iret ok.1.1 ok.1.2.1 (ok.1.2.2.2.2.2.2.1.trans hJ.2) (fun t' ht' hW' => ⟨ad1, ha.tr had, (by rw [hrv]; exact rfl), (fun v' h' => by rw [hrv] at h'; injection h' with h'; injection h' with h'; subst h'; rw [hJ.2]; exact hc0), hw1, by rw [ht', g3]; exact hP1, hD1.weaken (fun _ _ _ h => hfree _ h), va_K.moved hW'.alike ok.1.2.2.2.2.2.2.2.1, hS1.F ht'⟩) hS1.2.2 dr ok.1.2.2.2.2.2.1).mq
        have ww : W p l e R s m args below meth c T'.heap (locs ++ L) (gC σ1 - gC σ0) (gS σ1 - gS σ0) (MQg below (Qx F G cl0 A σ0 ad0 J.2.2.2 (rv c0) σ1) args s (gC σ1 - gC σ0) (gS σ1 - gS σ0) A) (F0 m h ls [.ref x]) := by
          rcases hHd with ⟨i, d1, d2, d3, d4⟩ | ⟨i, d1, d2, d3, d4⟩
          · exact lv_astore ok.1.1 ok.1.2.1 d1 hl d2 rfl (fun ls' _ => lv_iconst ok.1.1 ok.1.2.1 d3 rfl (hret ls' _ d4))
          · exact lv_astore_n ok.1.1 ok.1.2.1 d1 rfl hl d2 rfl (fun ls' _ => lv_iconst ok.1.1 ok.1.2.1 d3 rfl (hret ls' _ d4))
        obtain ⟨t2, b1, b2⟩ := ww (T'.setVm vm') rfl X2
        exact ⟨t2, st t2 (st2 t2 b1), b2⟩
    · rw [if_neg ht] at ho
      have hk := k r1 σ1 ht (hps.2.2 _ (rvX_i ht))
      have hm := hk.1 hps.2.1 r σ' ho
      have a3 := hm.1.1.1
      have a4 := hm.1.1.2
      have hmet := (hM.2 r1 σ1 hoc (hA' hw) G ad H.size).met (fun a st o t q => by
        obtain ⟨ad1, -, hv, -⟩ := q
        rw [rvX_i ht] at hv
        exact ⟨_, hv⟩)
      have hr := va_runV (e := e) (g := F0 m pc ls (List.map (toV ad) (As.reverse ++ vR ob :: stk))) (locs := locs) (cells := gC σ - gC σ0) (slots := gS σ - gS σ0) (below := below) (meth := meth) (As := As.map (toV ad)) (rest := stk.map (toV ad)) ⟨ok.1.1, ok.1.2.1, ok.1.2.2.1, ok.1.2.2.2.1, ok.1.2.2.2.2.1⟩ hmet (cwV n ok.1.2.2.2.2.1 hV rfl rfl rfl hd ⟨hRf, by show 8 + (nLy + 11) + 40 * d ≤ R.locals; omega⟩) hPV rfl (by rw [List.length_map]; exact hn) hl.1 (hstk ad) (stk_room rfl hst) dd ⟨by omega, by omega⟩
      intro T hT X
      obtain ⟨v, st₀, t, T', L, e0, X', hL, e1, e2, ⟨ad1, had, hv, -, hw1, hP1, hD1, hK1, hz, hkp⟩, st⟩ := hr T hT X
      rw [rvX_i ht] at hv
      have hv' : v = some (toV ad1 (vI r1)) := by
        have hv2 : (Outcome.returned v) = .returned (some (toV ad1 (vI r1))) := hv
        injection hv2
      subst hv'
      obtain ⟨kl, ks⟩ := hkeep r1 σ1 hoc (by rw [ho]; exact fun h => by cases h) ad ad1 had
      rw [e0] at hz hkp
      have hh' : T'.heap = t.heap := e1
      have hS1 : va_S A s.heap T'.heap (locs ++ L) := by
        rw [hh']
        refine ⟨Nat.le_trans hS.1 hz, fun q g1 g2 => ?_, fun q hq => ?_⟩
        · rw [hkp q (Nat.lt_of_lt_of_le g1 hS.1) (fun z => g2 (hfree q z))]
          exact hS.2.1 q g1 g2
        · rcases List.mem_append.mp hq with h | h
          · exact hS.2.2 q h
          · exact hfree _ (hL q h)
      have ww := hk.2 ok r σ' ho (by omega) (by omega) h3 h4 hw1 ad1 T'.heap (locs ++ L) ls (ha.tr had) (by rw [hh']; exact hP1) (hD1.weaken (fun _ _ _ h => hfree _ h)) hS1 (by rw [kl]; exact hl)
      rw [show gC σ1 - gC σ0 = gC σ - gC σ0 + (gC σ1 - gC σ) by omega, show gS σ1 - gS σ0 = gS σ - gS σ0 + (gS σ1 - gS σ) by omega] at ww
      obtain ⟨t2, b1, b2⟩ := ww T' rfl X'
      refine ⟨t2, st t2 ?_, b2⟩
      have ef : (F0 m (pc + 3) ls ((vI r1 :: stk).map (toV ad1))) = ({ (F0 m pc ls ((As.reverse ++ vR ob :: stk).map (toV ad))) with pc := (F0 m pc ls ((As.reverse ++ vR ob :: stk).map (toV ad))).pc + 3, stack := (some (toV ad1 (vI r1))).toList ++ stk.map (toV ad) } : JFrame) := by
        rw [List.map_cons, ks]
        rfl
      rw [ef] at b1
      exact b1
end GY2
