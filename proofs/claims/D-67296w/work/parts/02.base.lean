/-! THE PURE STATE: int fields by number, array fields by number (length, contents), cells and slots made so far -/
abbrev Sg : Type := (Nat → Int) × (Nat → Nat × (Nat → Int)) × Nat × Nat
def gI (σ : Sg) (k : Nat) : Int := σ.1 k
def gL (σ : Sg) (k : Nat) : Nat := (σ.2.1 k).1
def gF (σ : Sg) (k : Nat) : Nat → Int := (σ.2.1 k).2
def gA (σ : Sg) (k : Nat) (i : Int) : Int := gF σ k i.toNat
def gC (σ : Sg) : Nat := σ.2.2.1
def gS (σ : Sg) : Nat := σ.2.2.2
def sI (σ : Sg) (k : Nat) (v : Int) : Sg := (va_up σ.1 k v, σ.2)
def sA (σ : Sg) (k : Nat) (i v : Int) : Sg := (σ.1, va_up σ.2.1 k (gL σ k, va_up (gF σ k) i.toNat v), σ.2.2)
def sN (σ : Sg) (k n : Nat) (f : Nat → Int) : Sg := (σ.1, va_up σ.2.1 k (n, f), gC σ + 1, gS σ + n)
abbrev inR (v : Int) : Prop := -2147483648 ≤ v ∧ v < 2147483648
abbrev inL (v : Int) : Prop := -9223372036854775808 ≤ v ∧ v < 9223372036854775808
/-! what a step computes; none: it leaves what is covered -/
def ld {β : Type} (σ : Sg) (k : Nat) (i : Int) (K : Int → Option β) : Option β := if 0 ≤ i ∧ i < (gL σ k : Int) then K (gA σ k i) else none
def stA {β : Type} (σ : Sg) (k : Nat) (i v : Int) (K : Sg → Option β) : Option β := if 0 ≤ i ∧ i < (gL σ k : Int) then K (sA σ k i v) else none
def ar {β : Type} (v : Int) (K : Int → Option β) : Option β := if inR v then K v else none
def arL {β : Type} (v : Int) (K : Int → Option β) : Option β := if inL v then K v else none
def gd {β : Type} (c : Prop) [Decidable c] (K : Option β) : Option β := if c then K else none
def cl {α β : Type} (o : Option (α × Sg)) (K : α → Sg → Option β) : Option β := match o with
  | some q => K q.1 q.2
  | none => none
def wrap (v : Int) : Int := (Int32.ofInt v).toInt
def o_and (a b : Int) : Int := (Int32.ofInt a &&& Int32.ofInt b).toInt
def o_or (a b : Int) : Int := (Int32.ofInt a ||| Int32.ofInt b).toInt
def o_xor (a b : Int) : Int := (Int32.ofInt a ^^^ Int32.ofInt b).toInt
def o_shl (a b : Int) : Int := (Int32.ofInt a <<< (Int32.ofInt b &&& 31)).toInt
def o_shr (a b : Int) : Int := (Int32.ofInt a >>> (Int32.ofInt b &&& 31)).toInt
def o_ushr (a b : Int) : Int := ((Int32.ofInt a).toUInt32 >>> ((Int32.ofInt b).toUInt32 &&& Int32.toUInt32 31)).toInt32.toInt
def o_cmp (a b : Int) : Int := if a < b then -1 else if a = b then 0 else 1
/-! values -/
abbrev AV : Type := Int ⊕ Int ⊕ Nat
abbrev vI (v : Int) : AV := Sum.inl v
abbrev vL (v : Int) : AV := Sum.inr (Sum.inl v)
abbrev vR (n : Nat) : AV := Sum.inr (Sum.inr n)
def toV (ad : Nat → Nat) (a : AV) : Value := match a with
  | .inl v => .int (Int32.ofInt v)
  | .inr (.inl v) => .long (Int64.ofInt v)
  | .inr (.inr n) => .ref (ad n)
def avR (a : AV) : Prop := match a with
  | .inl v => inR v
  | .inr (.inl v) => inL v
  | .inr (.inr _) => True
def avC (a : AV) : Nat := match a with
  | .inr (.inl _) => 2
  | _ => 1
def avO (a : AV) : Bool := match a with
  | .inr (.inr n) => n < 10
  | _ => true
def retOK (ret : Option FieldType) (v : AV) : Prop := match ret with
  | some .boolean => v = vI 0 ∨ v = vI 1
  | _ => avR v
theorem toV_cat (ad : Nat → Nat) (a : AV) : (toV ad a).category = avC a := by
  rcases a with v | v | n <;> rfl
/-- how a method ends: it returns (with a value), or it throws (the number of the exception) -/
abbrev Rs : Type := Option AV ⊕ Nat
def exN (k : Nat) : String := if k = 1 then "java/lang/IllegalArgumentException" else "java/lang/IllegalStateException"
def excAt (k : Nat) (a : Nat) (st t : State) : Prop := st.heap.size ≤ a ∧ ∃ cell : Cell, t.heap[a]? = some cell ∧ st.vm.findClass (exN k) = some cell.cls ∧ cell.vm = .none
def rsO (ad : Nat → Nat) (st : State) (o : Outcome) (t : State) : Rs → Prop
  | .inl v => o = .returned (v.map (toV ad))
  | .inr k => ∃ a, o = .threw a ∧ excAt k a st t
abbrev Lc : Type := List (Nat × AV)
def lcV (ad : Nat → Nat) (loc : Lc) : List (Nat × Value) := loc.map (fun q => (q.1, toV ad q.2))
def lcS (loc : Lc) (i : Nat) (v : AV) : Lc := (i, v) :: loc.filter (fun q => !(q.1 == i) && !(q.1 + 1 == i && avC q.2 == 2))
theorem lcV_at {ad : Nat → Nat} {loc : Lc} {k i : Nat} {v : AV} (h : loc[k]? = some (i, v)) : (lcV ad loc)[k]? = some (i, toV ad v) := by
  simp [lcV, h]
theorem lcV_S (ad : Nat → Nat) (loc : Lc) (i : Nat) (v : AV) : (i, toV ad v) :: (lcV ad loc).filter (fun q => !(q.1 == i) && !(q.1 + 1 == i && q.2.category == 2)) = lcV ad (lcS loc i v) := by
  simp only [lcV, lcS, List.map_cons, List.filter_map]
  congr 2
  refine List.filter_congr (fun q _ => ?_)
  simp [Function.comp, toV_cat]
/-! the families: objects (number of the class, first field's number, how many), kinds of the fields (0 int, 4 boolean, 1 int[], 2 long[], 3 boolean[], 5 + k the object k), arrays -/
abbrev Fm : Type := List (Nat × Nat × Nat) × (Nat → Nat) × List Nat
abbrev Gm : Type := va_G × ClassId × ClassId × ClassId
def fv (kd : Nat → Nat) (σ : Sg) (id : Nat) : AV := match kd id with
  | 0 => vI (gI σ id)
  | 1 => vR (10 + id)
  | 2 => vR (10 + id)
  | 3 => vR (10 + id)
  | 4 => vI (gI σ id)
  | k + 5 => vR k
def fvs (kd : Nat → Nat) (ad : Nat → Nat) (σ : Sg) (b n : Nat) : List Value := (List.range n).map fun k => toV ad (fv kd σ (b + k))
def arE (G : Gm) (kd : Nat → Nat) (σ : Sg) (id : Nat) : va_E := match kd id with
  | 2 => .inl (G.2.2.1, gL σ id, .inr (.inl fun j => Int64.ofInt (gF σ id j)))
  | 3 => .inl (G.2.2.2, gL σ id, .inl fun j => Int32.ofInt (gF σ id j))
  | _ => .inl (G.2.1, gL σ id, .inl fun j => Int32.ofInt (gF σ id j))
def obW (kd : Nat → Nat) (ad : Nat → Nat) (σ : Sg) : Nat → List (Nat × Nat × Nat) → va_W
  | _, [] => []
  | i, o :: l => (ad i, .inr (o.1, fvs kd ad σ o.2.1 o.2.2)) :: obW kd ad σ (i + 1) l
def arW (G : Gm) (kd : Nat → Nat) (ad : Nat → Nat) (σ : Sg) (l : List Nat) : va_W := l.map fun id => (ad (10 + id), arE G kd σ id)
def wl (F : Fm) (G : Gm) (ad : Nat → Nat) (σ : Sg) : va_W := obW F.2.1 ad σ 0 F.1 ++ arW G F.2.1 ad σ F.2.2
def tysA (G : Gm) : List (ClassId × FieldType) := [(G.2.1, .int), (G.2.2.1, .long), (G.2.2.2, .boolean)]
/-- all numbers are in range -/
def WF (F : Fm) (σ : Sg) : Prop := (∀ id, inR (gI σ id)) ∧ (∀ id, gL σ id < 2147483648) ∧ (∀ id j, F.2.1 id = 2 → inL (gF σ id j)) ∧ (∀ id j, F.2.1 id ≠ 2 → inR (gF σ id j)) ∧ (∀ id j, F.2.1 id = 3 → gF σ id j = 0 ∨ gF σ id j = 1) ∧ ∀ id, F.2.1 id = 4 → gI σ id = 0 ∨ gI σ id = 1
/-- the objects keep their addresses; arrays do, or they are longer -/
def adM (σ0 : Sg) (ad0 : Nat → Nat) (σ : Sg) (ad : Nat → Nat) : Prop := (∀ k, k < 10 → ad k = ad0 k) ∧ ∀ id, gL σ0 id ≤ gL σ id ∧ (gL σ id = gL σ0 id → ad (10 + id) = ad0 (10 + id))
theorem adM.rf {σ : Sg} {ad : Nat → Nat} : adM σ ad σ ad := ⟨fun _ _ => rfl, fun _ => ⟨Nat.le_refl _, fun _ => rfl⟩⟩
theorem adM.tr {σ0 σ1 σ2 : Sg} {a0 a1 a2 : Nat → Nat} (h : adM σ0 a0 σ1 a1) (h' : adM σ1 a1 σ2 a2) : adM σ0 a0 σ2 a2 :=
  ⟨fun k hk => (h'.1 k hk).trans (h.1 k hk), fun id => ⟨Nat.le_trans (h.2 id).1 (h'.2 id).1, fun e => by
    have h1 := (h.2 id).1
    have h2 := (h'.2 id).1
    rw [(h'.2 id).2 (by omega), (h.2 id).2 (by omega)]⟩⟩
/-- the lengths of a family's arrays, added up -/
def SL (F : Fm) (σ : Sg) : Nat := (F.2.2.map (gL σ)).sum
/-- from σ to σ': only the fields of the mask D are touched, arrays grow, what is made is paid by the arrays' growth -/
def Gr (F : Fm) (D : Nat) (σ σ' : Sg) : Prop := (gC σ ≤ gC σ' ∧ gS σ ≤ gS σ') ∧ (∀ k, D.testBit k = false → gI σ' k = gI σ k ∧ σ'.2.1 k = σ.2.1 k) ∧ (∀ k, gL σ k ≤ gL σ' k) ∧ gS σ' + (F.1.length + 1) * SL F σ ≤ gS σ + (F.1.length + 1) * SL F σ' ∧ 16 * gC σ' + SL F σ ≤ 16 * gC σ + SL F σ'
theorem Gr.rf {F : Fm} {D : Nat} {σ : Sg} : Gr F D σ σ := ⟨⟨Nat.le_refl _, Nat.le_refl _⟩, fun _ _ => ⟨rfl, rfl⟩, fun _ => Nat.le_refl _, Nat.le_refl _, Nat.le_refl _⟩
theorem Gr.tr {F : Fm} {D : Nat} {σ σ1 σ2 : Sg} (h : Gr F D σ σ1) (h' : Gr F D σ1 σ2) : Gr F D σ σ2 :=
  ⟨⟨Nat.le_trans h.1.1 h'.1.1, Nat.le_trans h.1.2 h'.1.2⟩, fun k hk => ⟨(h'.2.1 k hk).1.trans (h.2.1 k hk).1, (h'.2.1 k hk).2.trans (h.2.1 k hk).2⟩, fun k => Nat.le_trans (h.2.2.1 k) (h'.2.2.1 k), by have a := h.2.2.2.1; have b := h'.2.2.2.1; omega, by have a := h.2.2.2.2; have b := h'.2.2.2.2; omega⟩
theorem Gr.sub {F : Fm} {D D' : Nat} {σ σ1 : Sg} (hd : D &&& D' = D) (h : Gr F D σ σ1) : Gr F D' σ σ1 :=
  ⟨h.1, fun k hk => h.2.1 k (by
    cases hq : D.testBit k with
    | false => rfl
    | true =>
      have := congrArg (fun z => z.testBit k) hd
      simp only [Nat.testBit_and, hq, hk] at this
      exact absurd this (by decide)), h.2.2⟩
/-- the pure part: what is touched and what is made is paid for, numbers stay in range -/
def Ps (F : Fm) (D : Nat) (ret : Option FieldType) {α : Type} (rv : α → Rs) (σ : Sg) (o : Option (α × Sg)) : Prop := WF F σ → ∀ r σ', o = some (r, σ') → Gr F D σ σ' ∧ WF F σ' ∧ ∀ v, rv r = .inl (some v) → retOK ret v
abbrev Jm : Type := ByteArray × String × Nat × Option FieldType
/-- a method's end: its answer r, its world σ' -/
def Qx (F : Fm) (G : Gm) (cl0 : List vw_C) (A : Nat → Prop) (σ0 : Sg) (ad0 : Nat → Nat) (ret : Option FieldType) (r : Rs) (σ' : Sg) : Array Value → State → Outcome → State → Prop := fun _ st o t =>
  ∃ ad : Nat → Nat, adM σ0 ad0 σ' ad ∧ rsO ad st o t r ∧ (∀ v, r = .inl (some v) → retOK ret v) ∧ WF F σ' ∧ va_P G.1 cl0 (wl F G ad σ') t.heap ∧ va_D A (wl F G ad σ') ∧ va_K G.1 cl0 (tysA G) t ∧ va_F A st t
def OKx (p : Program) (s : State) (m : MethodId) (args : Array Value) (meth : Method) (c : Code) (J : Jm) (G : Gm) (cl0 : List vw_C) (A : Nat → Prop) : Prop :=
  p.tables.exec = Jvm.exec ∧ c.code = J.1 ∧ c.maxLocals = J.2.2.1 ∧ s.vm.findClass J.2.1 = some m.cls ∧ (∀ w ∈ lw_all, w.before args s = true) ∧ meth.locks = false ∧ meth.sig.returnType = J.2.2.2 ∧ va_K G.1 cl0 (tysA G) s ∧ ∀ q : Nat, s.heap.size ≤ q → A q
/-- the judgement: from here the machine computes what o says -/
def WG (p : Program) (l : Launch) (e : Env) (R : Room) (s : State) (m : MethodId) (args : Array Value) (below : List Frame) (meth : Method) (c : Code)
    (J : Jm) (D : Nat) (G : Gm) (cl0 : List vw_C) (A : Nat → Prop) (F : Fm) (ad0 : Nat → Nat) (σ0 : Sg) {α : Type} (rv : α → Rs) (o : Option (α × Sg)) (σ : Sg) (pc : Nat) (loc : Lc) (stk : List AV) : Prop :=
  Ps F D J.2.2.2 rv σ o ∧ (OKx p s m args meth c J G cl0 A → ∀ r σ', o = some (r, σ') → gC σ0 ≤ gC σ → gS σ0 ≤ gS σ → R.cells = gC σ' - gC σ0 → R.slots = gS σ' - gS σ0 → WF F σ → ∀ (ad : Nat → Nat) (H : Heap) (locs : List Loc) (ls : Array Slot), adM σ0 ad0 σ ad → va_P G.1 cl0 (wl F G ad σ) H → va_D A (wl F G ad σ) → va_S A s.heap H locs → lv_has ls J.2.2.1 (lcV ad loc) →
    W p l e R s m args below meth c H locs (gC σ - gC σ0) (gS σ - gS σ0) (MQ below (Qx F G cl0 A σ0 ad0 J.2.2.2 (rv r) σ') args s (gC σ' - gC σ0) (gS σ' - gS σ0) A) (F0 m pc ls (stk.map (toV ad))))
section G1
variable {p : Program} {l : Launch} {e : Env} {R : Room} {s : State} {m : MethodId} {args : Array Value} {below : List Frame} {meth : Method} {c : Code}
variable {J : Jm} {D : Nat} {G : Gm} {cl0 : List vw_C} {A : Nat → Prop} {F : Fm} {ad0 : Nat → Nat} {σ0 σ : Sg} {α : Type} {rv : α → Rs} {o : Option (α × Sg)} {pc : Nat} {loc : Lc} {stk : List AV}
/-- a step that leaves the heap and the locals -/
theorem WG.lift {pc' : Nat} {stk' : List AV} (h : OKx p s m args meth c J G cl0 A → WF F σ → ∀ (ad : Nat → Nat) (H : Heap) (locs : List Loc) (cells slots : Nat) (Q : State → Prop) (ls : Array Slot), adM σ0 ad0 σ ad → va_P G.1 cl0 (wl F G ad σ) H → lv_has ls J.2.2.1 (lcV ad loc) → W p l e R s m args below meth c H locs cells slots Q (F0 m pc' ls (stk'.map (toV ad))) → W p l e R s m args below meth c H locs cells slots Q (F0 m pc ls (stk.map (toV ad))))
    (k : WG p l e R s m args below meth c J D G cl0 A F ad0 σ0 rv o σ pc' loc stk') : WG p l e R s m args below meth c J D G cl0 A F ad0 σ0 rv o σ pc loc stk :=
  ⟨k.1, fun ok r σ' ho h1 h2 h3 h4 hw ad H locs ls ha hP hD hS hl => h ok hw ad H locs _ _ _ ls ha hP hl (k.2 ok r σ' ho h1 h2 h3 h4 hw ad H locs ls ha hP hD hS hl)⟩
/-- a step that sets a local -/
theorem WG.liftS {pc' : Nat} {stk' : List AV} {loc' : Lc} (h : OKx p s m args meth c J G cl0 A → WF F σ → ∀ (ad : Nat → Nat) (H : Heap) (locs : List Loc) (cells slots : Nat) (Q : State → Prop) (ls : Array Slot), lv_has ls J.2.2.1 (lcV ad loc) → (∀ ls' : Array Slot, lv_has ls' J.2.2.1 (lcV ad loc') → W p l e R s m args below meth c H locs cells slots Q (F0 m pc' ls' (stk'.map (toV ad)))) → W p l e R s m args below meth c H locs cells slots Q (F0 m pc ls (stk.map (toV ad))))
    (k : WG p l e R s m args below meth c J D G cl0 A F ad0 σ0 rv o σ pc' loc' stk') : WG p l e R s m args below meth c J D G cl0 A F ad0 σ0 rv o σ pc loc stk :=
  ⟨k.1, fun ok r σ' ho h1 h2 h3 h4 hw ad H locs ls ha hP hD hS hl => h ok hw ad H locs _ _ _ ls hl (fun ls' hl' => k.2 ok r σ' ho h1 h2 h3 h4 hw ad H locs ls' ha hP hD hS hl')⟩
theorem g_iconst {n : Int} (d : decode J.1 pc = .ok (.iconst n, 1)) (k : WG p l e R s m args below meth c J D G cl0 A F ad0 σ0 rv o σ (pc + 1) loc (vI n :: stk)) : WG p l e R s m args below meth c J D G cl0 A F ad0 σ0 rv o σ pc loc stk :=
  WG.lift (fun ok _ ad H locs cells slots Q ls _ _ _ kk => lv_iconst ok.1 ok.2.1 d rfl kk) k
theorem g_bipush {n : Int} (hn : (Int8.ofInt n).toInt32 = Int32.ofInt n) (d : decode J.1 pc = .ok (.bipush n, 2)) (k : WG p l e R s m args below meth c J D G cl0 A F ad0 σ0 rv o σ (pc + 2) loc (vI n :: stk)) : WG p l e R s m args below meth c J D G cl0 A F ad0 σ0 rv o σ pc loc stk :=
  WG.lift (fun ok _ ad H locs cells slots Q ls _ _ _ kk => lv_bipush ok.1 ok.2.1 d hn kk) k
theorem g_sipush {n : Int} (hn : (Int16.ofInt n).toInt32 = Int32.ofInt n) (d : decode J.1 pc = .ok (.sipush n, 3)) (k : WG p l e R s m args below meth c J D G cl0 A F ad0 σ0 rv o σ (pc + 3) loc (vI n :: stk)) : WG p l e R s m args below meth c J D G cl0 A F ad0 σ0 rv o σ pc loc stk :=
  WG.lift (fun ok _ ad H locs cells slots Q ls _ _ _ kk => lv_sipush ok.1 ok.2.1 d hn kk) k
theorem g_ldc {n : Int} {i : Nat} {v : Int32} (hn : v = Int32.ofInt n) (hq : Cond.constant J.2.1 i v ∈ lw_all) (d : decode J.1 pc = .ok (.ldc i, 2)) (k : WG p l e R s m args below meth c J D G cl0 A F ad0 σ0 rv o σ (pc + 2) loc (vI n :: stk)) : WG p l e R s m args below meth c J D G cl0 A F ad0 σ0 rv o σ pc loc stk :=
  WG.lift (fun ok _ ad H locs cells slots Q ls _ _ _ kk => lv_ldc ok.1 ok.2.1 ok.2.2.2.1 (ok.2.2.2.2.1 _ hq) d (by subst hn; exact kk)) k
theorem g_iload_n {i : Fin 4} {v : Int} (j : Nat) (d : decode J.1 pc = .ok (.iload_n i, 1)) (hl : loc[j]? = some ((i : Nat), vI v)) (k : WG p l e R s m args below meth c J D G cl0 A F ad0 σ0 rv o σ (pc + 1) loc (vI v :: stk)) : WG p l e R s m args below meth c J D G cl0 A F ad0 σ0 rv o σ pc loc stk :=
  WG.lift (fun ok _ ad H locs cells slots Q ls _ _ h kk => lv_iload_n ok.1 ok.2.1 d rfl (lv_at h j (lcV_at hl)) kk) k
theorem g_iload {i : Nat} {v : Int} (j : Nat) (d : decode J.1 pc = .ok (.iload i, 2)) (hl : loc[j]? = some (i, vI v)) (k : WG p l e R s m args below meth c J D G cl0 A F ad0 σ0 rv o σ (pc + 2) loc (vI v :: stk)) : WG p l e R s m args below meth c J D G cl0 A F ad0 σ0 rv o σ pc loc stk :=
  WG.lift (fun ok _ ad H locs cells slots Q ls _ _ h kk => lv_iload ok.1 ok.2.1 d (lv_at h j (lcV_at hl)) kk) k
theorem g_lload_n {i : Fin 4} {v : Int} (j : Nat) (d : decode J.1 pc = .ok (.lload_n i, 1)) (hl : loc[j]? = some ((i : Nat), vL v)) (k : WG p l e R s m args below meth c J D G cl0 A F ad0 σ0 rv o σ (pc + 1) loc (vL v :: stk)) : WG p l e R s m args below meth c J D G cl0 A F ad0 σ0 rv o σ pc loc stk :=
  WG.lift (fun ok _ ad H locs cells slots Q ls _ _ h kk => lv_lload_n ok.1 ok.2.1 d rfl (lv_at h j (lcV_at hl)) kk) k
theorem g_lload {i : Nat} {v : Int} (j : Nat) (d : decode J.1 pc = .ok (.lload i, 2)) (hl : loc[j]? = some (i, vL v)) (k : WG p l e R s m args below meth c J D G cl0 A F ad0 σ0 rv o σ (pc + 2) loc (vL v :: stk)) : WG p l e R s m args below meth c J D G cl0 A F ad0 σ0 rv o σ pc loc stk :=
  WG.lift (fun ok _ ad H locs cells slots Q ls _ _ h kk => lv_lload ok.1 ok.2.1 d (lv_at h j (lcV_at hl)) kk) k
theorem g_aload_n {i : Fin 4} {v : Nat} (j : Nat) (d : decode J.1 pc = .ok (.aload_n i, 1)) (hl : loc[j]? = some ((i : Nat), vR v)) (k : WG p l e R s m args below meth c J D G cl0 A F ad0 σ0 rv o σ (pc + 1) loc (vR v :: stk)) : WG p l e R s m args below meth c J D G cl0 A F ad0 σ0 rv o σ pc loc stk :=
  WG.lift (fun ok _ ad H locs cells slots Q ls _ _ h kk => lv_aload_n ok.1 ok.2.1 d rfl (lv_at h j (lcV_at hl)) kk) k
theorem g_istore_n {i : Fin 4} {v : Int} {loc' : Lc} (d : decode J.1 pc = .ok (.istore_n i, 1)) (hi : (i : Nat) < J.2.2.1) (hl : lcS loc i (vI v) = loc') (k : WG p l e R s m args below meth c J D G cl0 A F ad0 σ0 rv o σ (pc + 1) loc' stk) : WG p l e R s m args below meth c J D G cl0 A F ad0 σ0 rv o σ pc loc (vI v :: stk) :=
  WG.liftS (fun ok _ ad H locs cells slots Q ls h kk => lv_istore_n ok.1 ok.2.1 d rfl h hi (lcV_S ad loc i (vI v)) (fun ls' h' => kk ls' (by rw [← hl]; exact h'))) k
theorem g_istore {i : Nat} {v : Int} {loc' : Lc} (d : decode J.1 pc = .ok (.istore i, 2)) (hi : i < J.2.2.1) (hl : lcS loc i (vI v) = loc') (k : WG p l e R s m args below meth c J D G cl0 A F ad0 σ0 rv o σ (pc + 2) loc' stk) : WG p l e R s m args below meth c J D G cl0 A F ad0 σ0 rv o σ pc loc (vI v :: stk) :=
  WG.liftS (fun ok _ ad H locs cells slots Q ls h kk => lv_istore ok.1 ok.2.1 d h hi (lcV_S ad loc i (vI v)) (fun ls' h' => kk ls' (by rw [← hl]; exact h'))) k
theorem g_dup {a : AV} (ha : avC a = 1) (d : decode J.1 pc = .ok (.dup, 1)) (k : WG p l e R s m args below meth c J D G cl0 A F ad0 σ0 rv o σ (pc + 1) loc (a :: a :: stk)) : WG p l e R s m args below meth c J D G cl0 A F ad0 σ0 rv o σ pc loc (a :: stk) :=
  WG.lift (fun ok _ ad H locs cells slots Q ls _ _ h kk => lv_dup ok.1 ok.2.1 d ((toV_cat ad a).trans ha) kk) k
theorem g_dup_x1 {a b : AV} (ha : avC a = 1) (hb : avC b = 1) (d : decode J.1 pc = .ok (.dup_x1, 1)) (k : WG p l e R s m args below meth c J D G cl0 A F ad0 σ0 rv o σ (pc + 1) loc (a :: b :: a :: stk)) : WG p l e R s m args below meth c J D G cl0 A F ad0 σ0 rv o σ pc loc (a :: b :: stk) :=
  WG.lift (fun ok _ ad H locs cells slots Q ls _ _ h kk => lv_dup_x1 ok.1 ok.2.1 d ((toV_cat ad a).trans ha) ((toV_cat ad b).trans hb) kk) k
theorem g_pop {a : AV} (ha : avC a = 1) (d : decode J.1 pc = .ok (.pop, 1)) (k : WG p l e R s m args below meth c J D G cl0 A F ad0 σ0 rv o σ (pc + 1) loc stk) : WG p l e R s m args below meth c J D G cl0 A F ad0 σ0 rv o σ pc loc (a :: stk) :=
  WG.lift (fun ok _ ad H locs cells slots Q ls _ _ h kk => lv_pop ok.1 ok.2.1 d ((toV_cat ad a).trans ha) kk) k
theorem g_goto {off : Int} (tgt : Nat) (d : decode J.1 pc = .ok (.goto off, 3)) (ht : (pc : Int) + off = (tgt : Int)) (k : WG p l e R s m args below meth c J D G cl0 A F ad0 σ0 rv o σ tgt loc stk) : WG p l e R s m args below meth c J D G cl0 A F ad0 σ0 rv o σ pc loc stk :=
  WG.lift (fun ok _ ad H locs cells slots Q ls _ _ h kk => lv_goto ok.1 ok.2.1 d ht kk) k
/-- a computed number, checked to be in range -/
theorem WG.arith {pc' : Nat} {stk0 : List AV} {v : Int} {K : Int → Option (α × Sg)} (h : OKx p s m args meth c J G cl0 A → ∀ (ad : Nat → Nat) (H : Heap) (locs : List Loc) (cells slots : Nat) (Q : State → Prop) (ls : Array Slot), W p l e R s m args below meth c H locs cells slots Q (F0 m pc' ls ((vI v :: stk0).map (toV ad))) → W p l e R s m args below meth c H locs cells slots Q (F0 m pc ls (stk.map (toV ad))))
    (k : ∀ w, inR w → WG p l e R s m args below meth c J D G cl0 A F ad0 σ0 rv (K w) σ pc' loc (vI w :: stk0)) : WG p l e R s m args below meth c J D G cl0 A F ad0 σ0 rv (ar v K) σ pc loc stk := by
  refine ⟨fun hw r σ' e => ?_, fun ok r σ' ho => ?_⟩
  · unfold ar at e
    split at e
    · exact (k _ (by assumption)).1 hw r σ' e
    · cases e
  · unfold ar at ho
    split at ho
    · intro h1 h2 h3 h4 hw ad H locs ls ha hP hD hS hl
      exact h ok ad H locs _ _ _ ls ((k v (by assumption)).2 ok r σ' ho h1 h2 h3 h4 hw ad H locs ls ha hP hD hS hl)
    · cases ho
theorem g_iadd {a b : Int} {K : Int → Option (α × Sg)} (d : decode J.1 pc = .ok (.iadd, 1)) (k : ∀ w, inR w → WG p l e R s m args below meth c J D G cl0 A F ad0 σ0 rv (K w) σ (pc + 1) loc (vI w :: stk)) : WG p l e R s m args below meth c J D G cl0 A F ad0 σ0 rv (ar (a + b) K) σ pc loc (vI b :: vI a :: stk) :=
  WG.arith (fun ok ad H locs cells slots Q ls kk => lv_iadd ok.1 ok.2.1 d (by rw [← Int32.ofInt_add]; exact kk)) k
theorem g_isub {a b : Int} {K : Int → Option (α × Sg)} (d : decode J.1 pc = .ok (.isub, 1)) (k : ∀ w, inR w → WG p l e R s m args below meth c J D G cl0 A F ad0 σ0 rv (K w) σ (pc + 1) loc (vI w :: stk)) : WG p l e R s m args below meth c J D G cl0 A F ad0 σ0 rv (ar (a - b) K) σ pc loc (vI b :: vI a :: stk) :=
  WG.arith (fun ok ad H locs cells slots Q ls kk => lv_isub ok.1 ok.2.1 d (by rw [← Int32.ofInt_sub]; exact kk)) k
theorem g_imul {a b : Int} {K : Int → Option (α × Sg)} (d : decode J.1 pc = .ok (.imul, 1)) (k : ∀ w, inR w → WG p l e R s m args below meth c J D G cl0 A F ad0 σ0 rv (K w) σ (pc + 1) loc (vI w :: stk)) : WG p l e R s m args below meth c J D G cl0 A F ad0 σ0 rv (ar (a * b) K) σ pc loc (vI b :: vI a :: stk) :=
  WG.arith (fun ok ad H locs cells slots Q ls kk => lv_imul ok.1 ok.2.1 d (by rw [← Int32.ofInt_mul]; exact kk)) k
theorem i32_wrap (x : Int32) : Int32.ofInt x.toInt = x := by simp
theorem inR_toInt (x : Int32) : inR x.toInt := ⟨Int32.le_toInt x, Int32.toInt_lt x⟩
theorem g_iaddW {a b : Int} (d : decode J.1 pc = .ok (.iadd, 1)) (k : WG p l e R s m args below meth c J D G cl0 A F ad0 σ0 rv o σ (pc + 1) loc (vI (wrap (a + b)) :: stk)) : WG p l e R s m args below meth c J D G cl0 A F ad0 σ0 rv o σ pc loc (vI b :: vI a :: stk) :=
  WG.lift (fun ok _ ad H locs cells slots Q ls _ _ h kk => lv_iadd ok.1 ok.2.1 d (by rw [← Int32.ofInt_add, ← i32_wrap (Int32.ofInt (a + b))]; exact kk)) k
theorem g_imulW {a b : Int} (d : decode J.1 pc = .ok (.imul, 1)) (k : WG p l e R s m args below meth c J D G cl0 A F ad0 σ0 rv o σ (pc + 1) loc (vI (wrap (a * b)) :: stk)) : WG p l e R s m args below meth c J D G cl0 A F ad0 σ0 rv o σ pc loc (vI b :: vI a :: stk) :=
  WG.lift (fun ok _ ad H locs cells slots Q ls _ _ h kk => lv_imul ok.1 ok.2.1 d (by rw [← Int32.ofInt_mul, ← i32_wrap (Int32.ofInt (a * b))]; exact kk)) k
theorem g_iand {a b : Int} (d : decode J.1 pc = .ok (.iand, 1)) (k : WG p l e R s m args below meth c J D G cl0 A F ad0 σ0 rv o σ (pc + 1) loc (vI (o_and a b) :: stk)) : WG p l e R s m args below meth c J D G cl0 A F ad0 σ0 rv o σ pc loc (vI b :: vI a :: stk) :=
  WG.lift (fun ok _ ad H locs cells slots Q ls _ _ h kk => lv_iand ok.1 ok.2.1 d (by rw [← i32_wrap (_ &&& _)]; exact kk)) k
theorem g_ior {a b : Int} (d : decode J.1 pc = .ok (.ior, 1)) (k : WG p l e R s m args below meth c J D G cl0 A F ad0 σ0 rv o σ (pc + 1) loc (vI (o_or a b) :: stk)) : WG p l e R s m args below meth c J D G cl0 A F ad0 σ0 rv o σ pc loc (vI b :: vI a :: stk) :=
  WG.lift (fun ok _ ad H locs cells slots Q ls _ _ h kk => lv_ior ok.1 ok.2.1 d (by rw [← i32_wrap (_ ||| _)]; exact kk)) k
theorem g_ixor {a b : Int} (d : decode J.1 pc = .ok (.ixor, 1)) (k : WG p l e R s m args below meth c J D G cl0 A F ad0 σ0 rv o σ (pc + 1) loc (vI (o_xor a b) :: stk)) : WG p l e R s m args below meth c J D G cl0 A F ad0 σ0 rv o σ pc loc (vI b :: vI a :: stk) :=
  WG.lift (fun ok _ ad H locs cells slots Q ls _ _ h kk => lv_ixor ok.1 ok.2.1 d (by rw [← i32_wrap (_ ^^^ _)]; exact kk)) k
theorem g_ishl {a b : Int} (d : decode J.1 pc = .ok (.ishl, 1)) (k : WG p l e R s m args below meth c J D G cl0 A F ad0 σ0 rv o σ (pc + 1) loc (vI (o_shl a b) :: stk)) : WG p l e R s m args below meth c J D G cl0 A F ad0 σ0 rv o σ pc loc (vI b :: vI a :: stk) :=
  WG.lift (fun ok _ ad H locs cells slots Q ls _ _ h kk => lv_ishl ok.1 ok.2.1 d (by rw [← i32_wrap (_ <<< _)]; exact kk)) k
theorem g_ishr {a b : Int} (d : decode J.1 pc = .ok (.ishr, 1)) (k : WG p l e R s m args below meth c J D G cl0 A F ad0 σ0 rv o σ (pc + 1) loc (vI (o_shr a b) :: stk)) : WG p l e R s m args below meth c J D G cl0 A F ad0 σ0 rv o σ pc loc (vI b :: vI a :: stk) :=
  WG.lift (fun ok _ ad H locs cells slots Q ls _ _ h kk => lv_ishr ok.1 ok.2.1 d (by rw [← i32_wrap (_ >>> _)]; exact kk)) k
theorem g_iushr {a b : Int} (d : decode J.1 pc = .ok (.iushr, 1)) (k : WG p l e R s m args below meth c J D G cl0 A F ad0 σ0 rv o σ (pc + 1) loc (vI (o_ushr a b) :: stk)) : WG p l e R s m args below meth c J D G cl0 A F ad0 σ0 rv o σ pc loc (vI b :: vI a :: stk) :=
  WG.lift (fun ok _ ad H locs cells slots Q ls _ _ h kk => lv_iushr ok.1 ok.2.1 d (i32_wrap _).symm kk) k
theorem o_ofInt_le {a b : Int} (ha : inR a) (hb : inR b) : Int32.ofInt a ≤ Int32.ofInt b ↔ a ≤ b := by
  rw [Int32.le_iff_toInt_le, Int32.toInt_ofInt_of_le ha.1 ha.2, Int32.toInt_ofInt_of_le hb.1 hb.2]
theorem o_ofInt_lt {a b : Int} (ha : inR a) (hb : inR b) : Int32.ofInt a < Int32.ofInt b ↔ a < b := by
  rw [Int32.lt_iff_toInt_lt, Int32.toInt_ofInt_of_le ha.1 ha.2, Int32.toInt_ofInt_of_le hb.1 hb.2]
theorem o_ofInt_eq {a b : Int} (ha : inR a) (hb : inR b) : Int32.ofInt a = Int32.ofInt b ↔ a = b := by
  constructor
  · intro h
    have := congrArg Int32.toInt h
    rwa [Int32.toInt_ofInt_of_le ha.1 ha.2, Int32.toInt_ofInt_of_le hb.1 hb.2] at this
  · intro h; rw [h]
end G1
