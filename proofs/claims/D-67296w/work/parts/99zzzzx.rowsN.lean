/-! the store alone: the judgement without the account of slots -/
def GrN (D : Nat) (σ σ' : Sg) : Prop := (gC σ ≤ gC σ' ∧ gS σ ≤ gS σ') ∧ (∀ k, D.testBit k = false → gI σ' k = gI σ k ∧ σ'.2.1 k = σ.2.1 k) ∧ (∀ k, gL σ k ≤ gL σ' k)
theorem GrN.rf {D : Nat} {σ : Sg} : GrN D σ σ := ⟨⟨Nat.le_refl _, Nat.le_refl _⟩, fun _ _ => ⟨rfl, rfl⟩, fun _ => Nat.le_refl _⟩
theorem GrN.tr {D : Nat} {σ σ1 σ2 : Sg} (h : GrN D σ σ1) (h' : GrN D σ1 σ2) : GrN D σ σ2 :=
  ⟨⟨Nat.le_trans h.1.1 h'.1.1, Nat.le_trans h.1.2 h'.1.2⟩, fun k hk => ⟨(h'.2.1 k hk).1.trans (h.2.1 k hk).1, (h'.2.1 k hk).2.trans (h.2.1 k hk).2⟩, fun k => Nat.le_trans (h.2.2 k) (h'.2.2 k)⟩
theorem GrN.sub {D D' : Nat} {σ σ1 : Sg} (hd : D &&& D' = D) (h : GrN D σ σ1) : GrN D' σ σ1 :=
  ⟨h.1, fun k hk => h.2.1 k (by
    cases hq : D.testBit k with
    | false => rfl
    | true =>
      have := congrArg (fun z => z.testBit k) hd
      simp only [Nat.testBit_and, hq, hk] at this
      exact absurd this (by decide)), h.2.2⟩
theorem GrN_sI {D : Nat} {σ : Sg} {k : Nat} {v : Int} (hk : D.testBit k = true) : GrN D σ (sI σ k v) := by
  have h := Gr_sI (F := FC) (D := D) (σ := σ) (v := v) hk
  exact ⟨h.1, h.2.1, h.2.2.1⟩
theorem GrN_sA {D : Nat} {σ : Sg} {k : Nat} {i v : Int} (hk : D.testBit k = true) : GrN D σ (sA σ k i v) := by
  have h := Gr_sA (F := FC) (D := D) (σ := σ) (i := i) (v := v) hk
  exact ⟨h.1, h.2.1, h.2.2.1⟩
theorem GrN_sN {D : Nat} {σ : Sg} {k n : Nat} {f : Nat → Int} (hk : D.testBit k = true) (h2 : gL σ k ≤ n) : GrN D σ (sN σ k n f) := by
  refine ⟨⟨by rw [gC_sN]; omega, by rw [gS_sN]; omega⟩, fun q hq => ⟨rfl, ?_⟩, fun q => ?_⟩
  · have hne : q ≠ k := fun h => by rw [h, hk] at hq; cases hq
    simp [sN, va_up, hne]
  · rw [gL_sN]; split
    · rename_i h; subst h; exact h2
    · exact Nat.le_refl _
def PsN (F : Fm) (D : Nat) (ret : Option FieldType) {α : Type} (rv : α → Rs) (σ : Sg) (o : Option (α × Sg)) : Prop := WF F σ → ∀ r σ', o = some (r, σ') → GrN D σ σ' ∧ WF F σ' ∧ ∀ v, rv r = .inl (some v) → retOK ret v
theorem PsN.back {F : Fm} {D : Nat} {ret : Option FieldType} {α : Type} {rv : α → Rs} {σ σ1 : Sg} {o : Option (α × Sg)} (hg : GrN D σ σ1) (hw : WF F σ → WF F σ1) (k : PsN F D ret rv σ1 o) : PsN F D ret rv σ o := fun w r σ' h => by
  have := k (hw w) r σ' h
  exact ⟨hg.tr this.1, this.2⟩
def CtN (l : Launch) (d : Nat) (F : Fm) (cl0 : List vw_C) (y : MethodName) (cy : ByteArray) (nL : Nat) (ret : Option FieldType) (D : Nat) {α : Type} (rv : α → Rs) (As : List AV) (σ : Sg) (oc : Option (α × Sg)) : Prop :=
  ((∀ a ∈ As, avR a) → PsN F D ret rv σ oc) ∧ ∀ r1 σ1, oc = some (r1, σ1) → (∀ a ∈ As, avR a) → ∀ (G : Gm) (ad : Nat → Nat) (sz : Nat), Met l y (ws_ y cy nL ret) ({ frames := d, cells := gC σ1 - gC σ, slots := gS σ1 - gS σ, locals := 40 * d } : Room) (PcX F G cl0 ad σ sz As) (Qx F G cl0 (va_A (wl F G ad σ) sz) σ ad ret (rv r1) σ1) (gC σ1 - gC σ) (gS σ1 - gS σ) (va_A (wl F G ad σ) sz)

def WGn (p : Program) (l : Launch) (e : Env) (R : Room) (s : State) (m : MethodId) (args : Array Value) (below : List Frame) (meth : Method) (c : Code)
    (J : Jm) (D : Nat) (G : Gm) (cl0 : List vw_C) (A : Nat → Prop) (F : Fm) (ad0 : Nat → Nat) (σ0 : Sg) {α : Type} (rv : α → Rs) (o : Option (α × Sg)) (σ : Sg) (pc : Nat) (loc : Lc) (stk : List AV) : Prop :=
  PsN F D J.2.2.2 rv σ o ∧ (OKx p s m args meth c J G cl0 A → ∀ r σ', o = some (r, σ') → gC σ0 ≤ gC σ → gS σ0 ≤ gS σ → R.cells = gC σ' - gC σ0 → R.slots = gS σ' - gS σ0 → WF F σ → ∀ (ad : Nat → Nat) (H : Heap) (locs : List Loc) (ls : Array Slot), adM σ0 ad0 σ ad → va_P G.1 cl0 (wl F G ad σ) H → va_D A (wl F G ad σ) → va_S A s.heap H locs → lv_has ls J.2.2.1 (lcV ad loc) →
    W p l e R s m args below meth c H locs (gC σ - gC σ0) (gS σ - gS σ0) (MQ below (Qx F G cl0 A σ0 ad0 J.2.2.2 (rv r) σ') args s (gC σ' - gC σ0) (gS σ' - gS σ0) A) (F0 m pc ls (stk.map (toV ad))))
section G1
variable {p : Program} {l : Launch} {e : Env} {R : Room} {s : State} {m : MethodId} {args : Array Value} {below : List Frame} {meth : Method} {c : Code}
variable {J : Jm} {D : Nat} {G : Gm} {cl0 : List vw_C} {A : Nat → Prop} {F : Fm} {ad0 : Nat → Nat} {σ0 σ : Sg} {α : Type} {rv : α → Rs} {o : Option (α × Sg)} {pc : Nat} {loc : Lc} {stk : List AV}
theorem WGn.lift {pc' : Nat} {stk' : List AV} (h : OKx p s m args meth c J G cl0 A → WF F σ → ∀ (ad : Nat → Nat) (H : Heap) (locs : List Loc) (cells slots : Nat) (Q : State → Prop) (ls : Array Slot), adM σ0 ad0 σ ad → va_P G.1 cl0 (wl F G ad σ) H → lv_has ls J.2.2.1 (lcV ad loc) → W p l e R s m args below meth c H locs cells slots Q (F0 m pc' ls (stk'.map (toV ad))) → W p l e R s m args below meth c H locs cells slots Q (F0 m pc ls (stk.map (toV ad))))
    (k : WGn p l e R s m args below meth c J D G cl0 A F ad0 σ0 rv o σ pc' loc stk') : WGn p l e R s m args below meth c J D G cl0 A F ad0 σ0 rv o σ pc loc stk :=
  ⟨k.1, fun ok r σ' ho h1 h2 h3 h4 hw ad H locs ls ha hP hD hS hl => h ok hw ad H locs _ _ _ ls ha hP hl (k.2 ok r σ' ho h1 h2 h3 h4 hw ad H locs ls ha hP hD hS hl)⟩
theorem WGn.liftS {pc' : Nat} {stk' : List AV} {loc' : Lc} (h : OKx p s m args meth c J G cl0 A → WF F σ → ∀ (ad : Nat → Nat) (H : Heap) (locs : List Loc) (cells slots : Nat) (Q : State → Prop) (ls : Array Slot), lv_has ls J.2.2.1 (lcV ad loc) → (∀ ls' : Array Slot, lv_has ls' J.2.2.1 (lcV ad loc') → W p l e R s m args below meth c H locs cells slots Q (F0 m pc' ls' (stk'.map (toV ad)))) → W p l e R s m args below meth c H locs cells slots Q (F0 m pc ls (stk.map (toV ad))))
    (k : WGn p l e R s m args below meth c J D G cl0 A F ad0 σ0 rv o σ pc' loc' stk') : WGn p l e R s m args below meth c J D G cl0 A F ad0 σ0 rv o σ pc loc stk :=
  ⟨k.1, fun ok r σ' ho h1 h2 h3 h4 hw ad H locs ls ha hP hD hS hl => h ok hw ad H locs _ _ _ ls hl (fun ls' hl' => k.2 ok r σ' ho h1 h2 h3 h4 hw ad H locs ls' ha hP hD hS hl')⟩
theorem ng_iconst {n : Int} (d : decode J.1 pc = .ok (.iconst n, 1)) (k : WGn p l e R s m args below meth c J D G cl0 A F ad0 σ0 rv o σ (pc + 1) loc (vI n :: stk)) : WGn p l e R s m args below meth c J D G cl0 A F ad0 σ0 rv o σ pc loc stk :=
  WGn.lift (fun ok _ ad H locs cells slots Q ls _ _ _ kk => lv_iconst ok.1 ok.2.1 d rfl kk) k
theorem ng_bipush {n : Int} (hn : (Int8.ofInt n).toInt32 = Int32.ofInt n) (d : decode J.1 pc = .ok (.bipush n, 2)) (k : WGn p l e R s m args below meth c J D G cl0 A F ad0 σ0 rv o σ (pc + 2) loc (vI n :: stk)) : WGn p l e R s m args below meth c J D G cl0 A F ad0 σ0 rv o σ pc loc stk :=
  WGn.lift (fun ok _ ad H locs cells slots Q ls _ _ _ kk => lv_bipush ok.1 ok.2.1 d hn kk) k
theorem ng_ldc {n : Int} {i : Nat} {v : Int32} (hn : v = Int32.ofInt n) (hq : Cond.constant J.2.1 i v ∈ lw_all) (d : decode J.1 pc = .ok (.ldc i, 2)) (k : WGn p l e R s m args below meth c J D G cl0 A F ad0 σ0 rv o σ (pc + 2) loc (vI n :: stk)) : WGn p l e R s m args below meth c J D G cl0 A F ad0 σ0 rv o σ pc loc stk :=
  WGn.lift (fun ok _ ad H locs cells slots Q ls _ _ _ kk => lv_ldc ok.1 ok.2.1 ok.2.2.2.1 (ok.2.2.2.2.1 _ hq) d (by subst hn; exact kk)) k
theorem ng_iload_n {i : Fin 4} {v : Int} (j : Nat) (d : decode J.1 pc = .ok (.iload_n i, 1)) (hl : loc[j]? = some ((i : Nat), vI v)) (k : WGn p l e R s m args below meth c J D G cl0 A F ad0 σ0 rv o σ (pc + 1) loc (vI v :: stk)) : WGn p l e R s m args below meth c J D G cl0 A F ad0 σ0 rv o σ pc loc stk :=
  WGn.lift (fun ok _ ad H locs cells slots Q ls _ _ h kk => lv_iload_n ok.1 ok.2.1 d rfl (lv_at h j (lcV_at hl)) kk) k
theorem ng_iload {i : Nat} {v : Int} (j : Nat) (d : decode J.1 pc = .ok (.iload i, 2)) (hl : loc[j]? = some (i, vI v)) (k : WGn p l e R s m args below meth c J D G cl0 A F ad0 σ0 rv o σ (pc + 2) loc (vI v :: stk)) : WGn p l e R s m args below meth c J D G cl0 A F ad0 σ0 rv o σ pc loc stk :=
  WGn.lift (fun ok _ ad H locs cells slots Q ls _ _ h kk => lv_iload ok.1 ok.2.1 d (lv_at h j (lcV_at hl)) kk) k
theorem ng_lload {i : Nat} {v : Int} (j : Nat) (d : decode J.1 pc = .ok (.lload i, 2)) (hl : loc[j]? = some (i, vL v)) (k : WGn p l e R s m args below meth c J D G cl0 A F ad0 σ0 rv o σ (pc + 2) loc (vL v :: stk)) : WGn p l e R s m args below meth c J D G cl0 A F ad0 σ0 rv o σ pc loc stk :=
  WGn.lift (fun ok _ ad H locs cells slots Q ls _ _ h kk => lv_lload ok.1 ok.2.1 d (lv_at h j (lcV_at hl)) kk) k
theorem ng_aload_n {i : Fin 4} {v : Nat} (j : Nat) (d : decode J.1 pc = .ok (.aload_n i, 1)) (hl : loc[j]? = some ((i : Nat), vR v)) (k : WGn p l e R s m args below meth c J D G cl0 A F ad0 σ0 rv o σ (pc + 1) loc (vR v :: stk)) : WGn p l e R s m args below meth c J D G cl0 A F ad0 σ0 rv o σ pc loc stk :=
  WGn.lift (fun ok _ ad H locs cells slots Q ls _ _ h kk => lv_aload_n ok.1 ok.2.1 d rfl (lv_at h j (lcV_at hl)) kk) k
theorem ng_istore {i : Nat} {v : Int} {loc' : Lc} (d : decode J.1 pc = .ok (.istore i, 2)) (hi : i < J.2.2.1) (hl : lcS loc i (vI v) = loc') (k : WGn p l e R s m args below meth c J D G cl0 A F ad0 σ0 rv o σ (pc + 2) loc' stk) : WGn p l e R s m args below meth c J D G cl0 A F ad0 σ0 rv o σ pc loc (vI v :: stk) :=
  WGn.liftS (fun ok _ ad H locs cells slots Q ls h kk => lv_istore ok.1 ok.2.1 d h hi (lcV_S ad loc i (vI v)) (fun ls' h' => kk ls' (by rw [← hl]; exact h'))) k
theorem ng_dup {a : AV} (ha : avC a = 1) (d : decode J.1 pc = .ok (.dup, 1)) (k : WGn p l e R s m args below meth c J D G cl0 A F ad0 σ0 rv o σ (pc + 1) loc (a :: a :: stk)) : WGn p l e R s m args below meth c J D G cl0 A F ad0 σ0 rv o σ pc loc (a :: stk) :=
  WGn.lift (fun ok _ ad H locs cells slots Q ls _ _ h kk => lv_dup ok.1 ok.2.1 d ((toV_cat ad a).trans ha) kk) k
theorem ng_goto {off : Int} (tgt : Nat) (d : decode J.1 pc = .ok (.goto off, 3)) (ht : (pc : Int) + off = (tgt : Int)) (k : WGn p l e R s m args below meth c J D G cl0 A F ad0 σ0 rv o σ tgt loc stk) : WGn p l e R s m args below meth c J D G cl0 A F ad0 σ0 rv o σ pc loc stk :=
  WGn.lift (fun ok _ ad H locs cells slots Q ls _ _ h kk => lv_goto ok.1 ok.2.1 d ht kk) k
theorem WGn.arith {pc' : Nat} {stk0 : List AV} {v : Int} {K : Int → Option (α × Sg)} (h : OKx p s m args meth c J G cl0 A → ∀ (ad : Nat → Nat) (H : Heap) (locs : List Loc) (cells slots : Nat) (Q : State → Prop) (ls : Array Slot), W p l e R s m args below meth c H locs cells slots Q (F0 m pc' ls ((vI v :: stk0).map (toV ad))) → W p l e R s m args below meth c H locs cells slots Q (F0 m pc ls (stk.map (toV ad))))
    (k : ∀ w, inR w → WGn p l e R s m args below meth c J D G cl0 A F ad0 σ0 rv (K w) σ pc' loc (vI w :: stk0)) : WGn p l e R s m args below meth c J D G cl0 A F ad0 σ0 rv (ar v K) σ pc loc stk := by
  refine ⟨fun hw r σ' e => ?_, fun ok r σ' ho => ?_⟩
  · unfold ar at e
    split at e
    · exact (k _ (by assumption)).1 hw r σ' e
    · cases e
  · unfold ar at ho
    split at ho
    · intro h1 h2 h3 h4 hw ad H locs ls ha hP hD hS hl
      exact h ok ad H locs _ _ _ ls ((k v (by assumption)).2 ok r σ' ho h1 h2 h3 h4 hw ad H locs ls ha hP hD hS hl)
    · cases ho
theorem ng_iadd {a b : Int} {K : Int → Option (α × Sg)} (d : decode J.1 pc = .ok (.iadd, 1)) (k : ∀ w, inR w → WGn p l e R s m args below meth c J D G cl0 A F ad0 σ0 rv (K w) σ (pc + 1) loc (vI w :: stk)) : WGn p l e R s m args below meth c J D G cl0 A F ad0 σ0 rv (ar (a + b) K) σ pc loc (vI b :: vI a :: stk) :=
  WGn.arith (fun ok ad H locs cells slots Q ls kk => lv_iadd ok.1 ok.2.1 d (by rw [← Int32.ofInt_add]; exact kk)) k
theorem ng_isub {a b : Int} {K : Int → Option (α × Sg)} (d : decode J.1 pc = .ok (.isub, 1)) (k : ∀ w, inR w → WGn p l e R s m args below meth c J D G cl0 A F ad0 σ0 rv (K w) σ (pc + 1) loc (vI w :: stk)) : WGn p l e R s m args below meth c J D G cl0 A F ad0 σ0 rv (ar (a - b) K) σ pc loc (vI b :: vI a :: stk) :=
  WGn.arith (fun ok ad H locs cells slots Q ls kk => lv_isub ok.1 ok.2.1 d (by rw [← Int32.ofInt_sub]; exact kk)) k
theorem ng_imul {a b : Int} {K : Int → Option (α × Sg)} (d : decode J.1 pc = .ok (.imul, 1)) (k : ∀ w, inR w → WGn p l e R s m args below meth c J D G cl0 A F ad0 σ0 rv (K w) σ (pc + 1) loc (vI w :: stk)) : WGn p l e R s m args below meth c J D G cl0 A F ad0 σ0 rv (ar (a * b) K) σ pc loc (vI b :: vI a :: stk) :=
  WGn.arith (fun ok ad H locs cells slots Q ls kk => lv_imul ok.1 ok.2.1 d (by rw [← Int32.ofInt_mul]; exact kk)) k
theorem ng_iaddW {a b : Int} (d : decode J.1 pc = .ok (.iadd, 1)) (k : WGn p l e R s m args below meth c J D G cl0 A F ad0 σ0 rv o σ (pc + 1) loc (vI (wrap (a + b)) :: stk)) : WGn p l e R s m args below meth c J D G cl0 A F ad0 σ0 rv o σ pc loc (vI b :: vI a :: stk) :=
  WGn.lift (fun ok _ ad H locs cells slots Q ls _ _ h kk => lv_iadd ok.1 ok.2.1 d (by rw [← Int32.ofInt_add, ← i32_wrap (Int32.ofInt (a + b))]; exact kk)) k
theorem ng_imulW {a b : Int} (d : decode J.1 pc = .ok (.imul, 1)) (k : WGn p l e R s m args below meth c J D G cl0 A F ad0 σ0 rv o σ (pc + 1) loc (vI (wrap (a * b)) :: stk)) : WGn p l e R s m args below meth c J D G cl0 A F ad0 σ0 rv o σ pc loc (vI b :: vI a :: stk) :=
  WGn.lift (fun ok _ ad H locs cells slots Q ls _ _ h kk => lv_imul ok.1 ok.2.1 d (by rw [← Int32.ofInt_mul, ← i32_wrap (Int32.ofInt (a * b))]; exact kk)) k
theorem ng_iushr {a b : Int} (d : decode J.1 pc = .ok (.iushr, 1)) (k : WGn p l e R s m args below meth c J D G cl0 A F ad0 σ0 rv o σ (pc + 1) loc (vI (o_ushr a b) :: stk)) : WGn p l e R s m args below meth c J D G cl0 A F ad0 σ0 rv o σ pc loc (vI b :: vI a :: stk) :=
  WGn.lift (fun ok _ ad H locs cells slots Q ls _ _ h kk => lv_iushr ok.1 ok.2.1 d (i32_wrap _).symm kk) k
end G1

section G2
variable {p : Program} {l : Launch} {e : Env} {R : Room} {s : State} {m : MethodId} {args : Array Value} {below : List Frame} {meth : Method} {c : Code}
variable {J : Jm} {D : Nat} {G : Gm} {cl0 : List vw_C} {A : Nat → Prop} {F : Fm} {ad0 : Nat → Nat} {σ0 σ : Sg} {α : Type} {rv : α → Rs} {o T E : Option (α × Sg)} {pc : Nat} {loc : Lc} {stk : List AV}
theorem WGn.br {C : Prop} [Decidable C] {pt pe : Nat} {stk0 : List AV} (h : OKx p s m args meth c J G cl0 A → WF F σ → ∀ (ad : Nat → Nat) (H : Heap) (locs : List Loc) (cells slots : Nat) (Q : State → Prop) (ls : Array Slot), (C → W p l e R s m args below meth c H locs cells slots Q (F0 m pt ls (stk0.map (toV ad)))) → (¬ C → W p l e R s m args below meth c H locs cells slots Q (F0 m pe ls (stk0.map (toV ad)))) → W p l e R s m args below meth c H locs cells slots Q (F0 m pc ls (stk.map (toV ad))))
    (kt : C → WGn p l e R s m args below meth c J D G cl0 A F ad0 σ0 rv T σ pt loc stk0) (kf : ¬ C → WGn p l e R s m args below meth c J D G cl0 A F ad0 σ0 rv E σ pe loc stk0) : WGn p l e R s m args below meth c J D G cl0 A F ad0 σ0 rv (if C then T else E) σ pc loc stk := by
  refine ⟨fun hw r σ' e => by split at e; exact (kt (by assumption)).1 hw r σ' e; exact (kf (by assumption)).1 hw r σ' e, fun ok r σ' ho h1 h2 h3 h4 hw ad H locs ls ha hP hD hS hl => h ok hw ad H locs _ _ _ ls (fun hc => ?_) (fun hc => ?_)⟩
  · rw [if_pos hc] at ho
    exact (kt hc).2 ok r σ' ho h1 h2 h3 h4 hw ad H locs ls ha hP hD hS hl
  · rw [if_neg hc] at ho
    exact (kf hc).2 ok r σ' ho h1 h2 h3 h4 hw ad H locs ls ha hP hD hS hl
theorem ng_icmp_eq {a b off : Int} (tgt : Nat) (d : decode J.1 pc = .ok (.if_icmp .eq off, 3)) (ht : (pc : Int) + off = (tgt : Int)) (ha : WF F σ → inR a) (hb : WF F σ → inR b) (kt : a = b → WGn p l e R s m args below meth c J D G cl0 A F ad0 σ0 rv T σ tgt loc stk) (kf : ¬ a = b → WGn p l e R s m args below meth c J D G cl0 A F ad0 σ0 rv E σ (pc + 3) loc stk) : WGn p l e R s m args below meth c J D G cl0 A F ad0 σ0 rv (if a = b then T else E) σ pc loc (vI b :: vI a :: stk) :=
  WGn.br (fun ok hw ad H locs cells slots Q ls x y => lv_icmp_eq ok.1 ok.2.1 d ht (fun h => x ((o_ofInt_eq (ha hw) (hb hw)).mp h)) (fun h => y (fun h' => h ((o_ofInt_eq (ha hw) (hb hw)).mpr h')))) kt kf
theorem ng_icmp_ne {a b off : Int} (tgt : Nat) (d : decode J.1 pc = .ok (.if_icmp .ne off, 3)) (ht : (pc : Int) + off = (tgt : Int)) (ha : WF F σ → inR a) (hb : WF F σ → inR b) (kt : a = b → WGn p l e R s m args below meth c J D G cl0 A F ad0 σ0 rv T σ (pc + 3) loc stk) (kf : ¬ a = b → WGn p l e R s m args below meth c J D G cl0 A F ad0 σ0 rv E σ tgt loc stk) : WGn p l e R s m args below meth c J D G cl0 A F ad0 σ0 rv (if a = b then T else E) σ pc loc (vI b :: vI a :: stk) :=
  WGn.br (fun ok hw ad H locs cells slots Q ls x y => lv_icmp_ne ok.1 ok.2.1 d ht (fun h => y (fun h' => h ((o_ofInt_eq (ha hw) (hb hw)).mpr h'))) (fun h => x ((o_ofInt_eq (ha hw) (hb hw)).mp h))) kt kf
theorem ng_icmp_lt {a b off : Int} (tgt : Nat) (d : decode J.1 pc = .ok (.if_icmp .lt off, 3)) (ht : (pc : Int) + off = (tgt : Int)) (ha : WF F σ → inR a) (hb : WF F σ → inR b) (kt : a < b → WGn p l e R s m args below meth c J D G cl0 A F ad0 σ0 rv T σ tgt loc stk) (kf : ¬ a < b → WGn p l e R s m args below meth c J D G cl0 A F ad0 σ0 rv E σ (pc + 3) loc stk) : WGn p l e R s m args below meth c J D G cl0 A F ad0 σ0 rv (if a < b then T else E) σ pc loc (vI b :: vI a :: stk) :=
  WGn.br (fun ok hw ad H locs cells slots Q ls x y => lv_icmp_lt ok.1 ok.2.1 d ht (fun h => x ((o_ofInt_lt (ha hw) (hb hw)).mp h)) (fun h => y (fun h' => h ((o_ofInt_lt (ha hw) (hb hw)).mpr h')))) kt kf
theorem ng_icmp_ge {a b off : Int} (tgt : Nat) (d : decode J.1 pc = .ok (.if_icmp .ge off, 3)) (ht : (pc : Int) + off = (tgt : Int)) (ha : WF F σ → inR a) (hb : WF F σ → inR b) (kt : a < b → WGn p l e R s m args below meth c J D G cl0 A F ad0 σ0 rv T σ (pc + 3) loc stk) (kf : ¬ a < b → WGn p l e R s m args below meth c J D G cl0 A F ad0 σ0 rv E σ tgt loc stk) : WGn p l e R s m args below meth c J D G cl0 A F ad0 σ0 rv (if a < b then T else E) σ pc loc (vI b :: vI a :: stk) :=
  WGn.br (fun ok hw ad H locs cells slots Q ls x y => lv_icmp_ge ok.1 ok.2.1 d ht (fun h => y (fun h' => by have := (o_ofInt_le (hb hw) (ha hw)).mp h; omega)) (fun h => x (by have := mt (o_ofInt_le (hb hw) (ha hw)).mpr h; omega))) kt kf
theorem ng_icmp_le {a b off : Int} (tgt : Nat) (d : decode J.1 pc = .ok (.if_icmp .le off, 3)) (ht : (pc : Int) + off = (tgt : Int)) (ha : WF F σ → inR a) (hb : WF F σ → inR b) (kt : a ≤ b → WGn p l e R s m args below meth c J D G cl0 A F ad0 σ0 rv T σ tgt loc stk) (kf : ¬ a ≤ b → WGn p l e R s m args below meth c J D G cl0 A F ad0 σ0 rv E σ (pc + 3) loc stk) : WGn p l e R s m args below meth c J D G cl0 A F ad0 σ0 rv (if a ≤ b then T else E) σ pc loc (vI b :: vI a :: stk) :=
  WGn.br (fun ok hw ad H locs cells slots Q ls x y => lv_icmp_le ok.1 ok.2.1 d ht (fun h => x ((o_ofInt_le (ha hw) (hb hw)).mp h)) (fun h => y (fun h' => h ((o_ofInt_le (ha hw) (hb hw)).mpr h')))) kt kf
theorem ng_if_eq {a off : Int} (tgt : Nat) (d : decode J.1 pc = .ok (.ifCond .eq off, 3)) (ht : (pc : Int) + off = (tgt : Int)) (ha : WF F σ → inR a) (kt : a = 0 → WGn p l e R s m args below meth c J D G cl0 A F ad0 σ0 rv T σ tgt loc stk) (kf : ¬ a = 0 → WGn p l e R s m args below meth c J D G cl0 A F ad0 σ0 rv E σ (pc + 3) loc stk) : WGn p l e R s m args below meth c J D G cl0 A F ad0 σ0 rv (if a = 0 then T else E) σ pc loc (vI a :: stk) :=
  WGn.br (fun ok hw ad H locs cells slots Q ls x y => lv_if_eq ok.1 ok.2.1 d ht (fun h => x ((o_ofInt_eq (ha hw) inR0).mp h)) (fun h => y (fun h' => h ((o_ofInt_eq (ha hw) inR0).mpr h')))) kt kf
theorem ng_iinc {i : Nat} {v n : Int} {K : Int → Option (α × Sg)} (j : Nat) {loc' : Int → Lc} (d : decode J.1 pc = .ok (.iinc i n, 3)) (hj : loc[j]? = some (i, vI v)) (hi : i < J.2.2.1) (hl : ∀ w, lcS loc i (vI w) = loc' w) (k : ∀ w, inR w → WGn p l e R s m args below meth c J D G cl0 A F ad0 σ0 rv (K w) σ (pc + 3) (loc' w) stk) : WGn p l e R s m args below meth c J D G cl0 A F ad0 σ0 rv (ar (v + n) K) σ pc loc stk := by
  refine ⟨fun hw r σ' e => ?_, fun ok r σ' ho => ?_⟩
  · unfold ar at e
    split at e
    · exact (k _ (by assumption)).1 hw r σ' e
    · cases e
  · unfold ar at ho
    split at ho
    · intro h1 h2 h3 h4 hw ad H locs ls ha hP hD hS hl2
      refine lv_iinc (v := Int32.ofInt (v + n)) ok.1 ok.2.1 d hl2 (lcV_at (ad := ad) hj) (by show Int32.ofInt v + _ = _; rw [← Int32.ofInt_add]) hi (lcV_S ad loc i (vI (v + n))) (fun ls' h' => ?_)
      rw [hl] at h'
      exact (k (v + n) (by assumption)).2 ok r σ' ho h1 h2 h3 h4 hw ad H locs ls' ha hP hD hS h'
    · cases ho
theorem ng_arE {v : Int} {K : Int → Option (α × Sg)} {pc' : Nat} {loc' : Lc} {stk' : List AV} (k : ∀ w, inR w → w = v → WGn p l e R s m args below meth c J D G cl0 A F ad0 σ0 rv (K w) σ pc' loc' stk') : WGn p l e R s m args below meth c J D G cl0 A F ad0 σ0 rv (ar v K) σ pc' loc' stk' := by
  refine ⟨fun hw r σ' e => ?_, fun ok r σ' ho => ?_⟩
  · unfold ar at e
    split at e
    · exact (k _ (by assumption) rfl).1 hw r σ' e
    · cases e
  · unfold ar at ho
    split at ho
    · exact (k v (by assumption) rfl).2 ok r σ' ho
    · cases ho
theorem ng_iret {v : Int} {r : α} (hJ : J.2.2.2 = some .int) (hr : rv r = .inl (some (vI v))) (hv : WF F σ → inR v) (d : decode J.1 pc = .ok (.ireturn, 1)) : WGn p l e R s m args below meth c J D G cl0 A F ad0 σ0 rv (some (r, σ)) σ pc loc (vI v :: []) := by
  refine ⟨fun hw r' σ' h => by cases h; exact ⟨GrN.rf, hw, fun v' h' => by rw [hr] at h'; cases h'; rw [hJ]; exact hv hw⟩, fun ok r' σ' ho h1 h2 h3 h4 hw ad H locs ls ha hP hD hS hl => ?_⟩
  cases ho
  exact W.iret ok.1 ok.2.1 (ok.2.2.2.2.2.2.1.trans hJ) (fun t ht hW => ⟨ad, ha, (by rw [hr]; exact rfl), (fun v' h' => by rw [hr] at h'; cases h'; rw [hJ]; exact hv hw), hw, by rw [ht]; exact hP, hD, va_K.moved hW.alike ok.2.2.2.2.2.2.2.1, hS.F ht⟩) hS.2.2 d ok.2.2.2.2.2.1
theorem ng_vret {r : α} (hJ : J.2.2.2 = none) (hr : rv r = .inl none) (d : decode J.1 pc = .ok (.return_, 1)) : WGn p l e R s m args below meth c J D G cl0 A F ad0 σ0 rv (some (r, σ)) σ pc loc [] := by
  refine ⟨fun hw r' σ' h => by cases h; exact ⟨GrN.rf, hw, fun v' h' => by rw [hr] at h'; cases h'⟩, fun ok r' σ' ho h1 h2 h3 h4 hw ad H locs ls ha hP hD hS hl => ?_⟩
  cases ho
  exact W.vret ok.1 ok.2.1 (ok.2.2.2.2.2.2.1.trans hJ) (fun t ht hW => ⟨ad, ha, (by rw [hr]; exact rfl), (fun v' h' => by rw [hr] at h'; cases h'), hw, by rw [ht]; exact hP, hD, va_K.moved hW.alike ok.2.2.2.2.2.2.2.1, hS.F ht⟩) hS.2.2 d ok.2.2.2.2.2.1
end G2
section G3
variable {p : Program} {l : Launch} {e : Env} {R : Room} {s : State} {m : MethodId} {args : Array Value} {below : List Frame} {meth : Method} {c : Code}
variable {J : Jm} {D : Nat} {G : Gm} {cl0 : List vw_C} {A : Nat → Prop} {F : Fm} {ad0 : Nat → Nat} {σ0 σ : Sg} {α : Type} {rv : α → Rs} {o : Option (α × Sg)} {pc : Nat} {loc : Lc} {stk : List AV}
variable {C : String} {T : u_T} {N ci b ob index : Nat}
theorem ng_get {v : AV} (k : Nat) (hcl : cl0[ci]? = some (C, T, N)) (hob : F.1[ob]? = some (ci, b, N)) (hk : k < N) (hin : ∀ w ∈ u_ws C T N, w ∈ lw_all) (hC : (T k).1 = C) (hv : fv F.2.1 σ (b + k) = v) (hq : Cond.fieldLink J.2.1 index C (T k).2.1 (T k).2.2.1 ∈ lw_all) (d : decode J.1 pc = .ok (.getfield index, 3)) (kk : WGn p l e R s m args below meth c J D G cl0 A F ad0 σ0 rv o σ (pc + 3) loc (v :: stk)) : WGn p l e R s m args below meth c J D G cl0 A F ad0 σ0 rv o σ pc loc (vR ob :: stk) :=
  WGn.lift (fun ok _ ad H locs cells slots Q ls _ hP _ w => va_get ok.1 ok.2.1 ok.2.2.2.2.1 hin ok.2.2.2.1 ok.2.2.2.2.2.2.2.1 hP ob (wl_ob hob) hcl k hk (ok.2.2.2.2.1 _ hq) (fun x h => by rw [← hC]; exact h) (fvs_at hk) d (by rw [hv]; exact w)) kk
theorem ng_putI {v : Int} (hF : FOK F) (k : Nat) (hcl : cl0[ci]? = some (C, T, N)) (hob : F.1[ob]? = some (ci, b, N)) (hk : k < N) (hin : ∀ w ∈ u_ws C T N, w ∈ lw_all) (ty0 : Nat → FieldType) (hty : ∀ k, k < N → parseFieldDescriptor (T k).2.2.1 = some (ty0 k)) (hnm : ∀ a, a < N → ∀ b, b < N → a ≠ b → (T a).2.1 ≠ (T b).2.1) (hC : (T k).1 = C) (hkd : F.2.1 (b + k) = 0) (hti : ty0 k = .int) (hfin : (T k).2.2.2 = false) (hDk : D.testBit (b + k) = true) (hv : WF F σ → inR v) (hq : Cond.fieldLink J.2.1 index C (T k).2.1 (T k).2.2.1 ∈ lw_all) (d : decode J.1 pc = .ok (.putfield index, 3)) (kk : WGn p l e R s m args below meth c J D G cl0 A F ad0 σ0 rv o (sI σ (b + k) v) (pc + 3) loc stk) : WGn p l e R s m args below meth c J D G cl0 A F ad0 σ0 rv o σ pc loc (vI v :: vR ob :: stk) := by
  have wf : WF F σ → WF F (sI σ (b + k) v) := fun hw => hw.sI (hv hw) (fun h => by rw [hkd] at h; cases h)
  refine ⟨PsN.back (GrN_sI hDk) wf kk.1, fun ok r σ' ho h1 h2 h3 h4 hw ad H locs ls ha hP hD hS hl => ?_⟩
  refine va_put ok.1 ok.2.1 ok.2.2.2.2.1 hin ty0 hty hnm ok.2.2.2.1 ok.2.2.2.2.2.2.2.1 hP hD hS ob (wl_ob hob) hcl k hk (ok.2.2.2.2.1 _ hq) (fun x h => by rw [← hC]; exact h) hfin ((hty k hk).trans (by rw [hti])) rfl rfl (by rw [fvs_len]; exact hk) d (fun H1 locs1 hP1 hD1 hS1 => ?_)
  exact kk.2 ok r σ' ho h1 h2 h3 h4 (wf hw) ad H1 locs1 ls ha.sI (by rw [← wl_sI hF hob hk (Or.inl hkd)]; exact hP1) (by rw [← wl_sI hF hob hk (Or.inl hkd)]; exact hD1) hS1 hl
theorem nld_ps {ret : Option FieldType} {id : Nat} {i : Int} {K : Int → Option (α × Sg)} {P : Int → Prop} (hP : WF F σ → P (gA σ id i)) (k : ∀ w, P w → PsN F D ret rv σ (K w)) : PsN F D ret rv σ (ld σ id i K) := by
  intro hw r σ' e
  unfold ld at e
  split at e
  · exact k _ (hP hw) hw r σ' e
  · cases e
theorem ng_iald {id : Nat} {i : Int} {K : Int → Option (α × Sg)} (j : Nat) (hj : F.2.2[j]? = some id) (hkd : F.2.1 id = 1) (d : decode J.1 pc = .ok (.iaload, 1)) (k : ∀ w, inR w → WGn p l e R s m args below meth c J D G cl0 A F ad0 σ0 rv (K w) σ (pc + 1) loc (vI w :: stk)) : WGn p l e R s m args below meth c J D G cl0 A F ad0 σ0 rv (ld σ id i K) σ pc loc (vI i :: vR (10 + id) :: stk) := by
  have hr : WF F σ → inR (gA σ id i) := fun hw => hw.2.2.2.1 id i.toNat (by rw [hkd]; decide)
  refine ⟨nld_ps hr (fun w h => (k w h).1), fun ok r σ' ho h1 h2 h3 h4 hw ad H locs ls ha hP hD hS hl => ?_⟩
  unfold ld at ho
  split at ho
  · rename_i hi
    obtain ⟨hin, hc⟩ := i_clamp hi.1 hi.2 (hw.2.1 id)
    have hx := wl_ar (G := G) (ad := ad) (σ := σ) hj
    rw [arE_i hkd] at hx
    refine va_iald ok.1 ok.2.1 ok.2.2.2.2.2.2.2.1 hP _ 0 hx rfl hin d ?_
    rw [hc]
    exact (k _ (hr hw)).2 ok r σ' ho h1 h2 h3 h4 hw ad H locs ls ha hP hD hS hl
  · cases ho
theorem ng_alen {id : Nat} (j : Nat) (hj : F.2.2[j]? = some id) (hkd : F.2.1 id = 1 ∨ F.2.1 id = 2 ∨ F.2.1 id = 3) (d : decode J.1 pc = .ok (.arraylength, 1)) (k : WGn p l e R s m args below meth c J D G cl0 A F ad0 σ0 rv o σ (pc + 1) loc (vI (gL σ id : Int) :: stk)) : WGn p l e R s m args below meth c J D G cl0 A F ad0 σ0 rv o σ pc loc (vR (10 + id) :: stk) :=
  WGn.lift (fun ok hw ad H locs cells slots Q ls _ hP _ w => by
    have hx := wl_ar (G := G) (ad := ad) (σ := σ) hj
    rcases hkd with q | q | q
    · rw [arE_i q] at hx
      exact va_alen ok.1 ok.2.1 ok.2.2.2.2.2.2.2.1 hP _ 0 hx rfl (by show Int32.ofNat (gL σ id) = Int32.ofInt (gL σ id : Int); rw [Int32.ofInt_eq_ofNat]) d w
    · rw [arE_l q] at hx
      exact va_alen ok.1 ok.2.1 ok.2.2.2.2.2.2.2.1 hP _ 1 hx rfl (by show Int32.ofNat (gL σ id) = Int32.ofInt (gL σ id : Int); rw [Int32.ofInt_eq_ofNat]) d w
    · rw [arE_z q] at hx
      exact va_alen ok.1 ok.2.1 ok.2.2.2.2.2.2.2.1 hP _ 2 hx rfl (by show Int32.ofNat (gL σ id) = Int32.ofInt (gL σ id : Int); rw [Int32.ofInt_eq_ofNat]) d w) k
end G3
section G4
variable {p : Program} {l : Launch} {e : Env} {R : Room} {s : State} {m : MethodId} {args : Array Value} {below : List Frame} {meth : Method} {c : Code}
variable {J : Jm} {D : Nat} {G : Gm} {cl0 : List vw_C} {A : Nat → Prop} {F : Fm} {ad0 : Nat → Nat} {σ0 σ : Sg} {α : Type} {rv : α → Rs} {o : Option (α × Sg)} {pc : Nat} {loc : Lc} {stk : List AV}
theorem nst_ps {ret : Option FieldType} {id : Nat} {i v : Int} {K : Sg → Option (α × Sg)} (hDk : D.testBit id = true) (hw2 : WF F σ → WF F (sA σ id i v)) (k : PsN F D ret rv (sA σ id i v) (K (sA σ id i v))) : PsN F D ret rv σ (stA σ id i v K) := by
  intro hw r σ' e
  unfold stA at e
  split at e
  · exact PsN.back (GrN_sA hDk) hw2 k hw r σ' e
  · cases e
theorem ng_iast {id : Nat} {i v : Int} {K : Sg → Option (α × Sg)} (hF : FOK F) (j : Nat) (hj : F.2.2[j]? = some id) (hkd : F.2.1 id = 1) (hDk : D.testBit id = true) (hv : WF F σ → inR v) (d : decode J.1 pc = .ok (.iastore, 1)) (k : WGn p l e R s m args below meth c J D G cl0 A F ad0 σ0 rv (K (sA σ id i v)) (sA σ id i v) (pc + 1) loc stk) : WGn p l e R s m args below meth c J D G cl0 A F ad0 σ0 rv (stA σ id i v K) σ pc loc (vI v :: vI i :: vR (10 + id) :: stk) := by
  have wf : WF F σ → WF F (sA σ id i v) := fun hw => hw.sA (fun _ => hv hw) (fun h => by rw [hkd] at h; cases h) (fun h => by rw [hkd] at h; cases h)
  refine ⟨nst_ps hDk wf k.1, fun ok r σ' ho h1 h2 h3 h4 hw ad H locs ls ha hP hD hS hl => ?_⟩
  unfold stA at ho
  split at ho
  · rename_i hi
    obtain ⟨hin, hc⟩ := i_clamp hi.1 hi.2 (hw.2.1 id)
    have hx := wl_ar (G := G) (ad := ad) (σ := σ) hj
    rw [arE_i hkd] at hx
    refine va_iast ok.1 ok.2.1 ok.2.2.2.2.2.2.2.1 hP hD hS _ 0 hx rfl hin d (fun H1 locs1 hP1 hD1 hS1 => ?_)
    have e1 : (Sum.inl (G.2.1, gL σ id, Sum.inl (upd (fun j => Int32.ofInt (gF σ id j)) (Int32.ofInt i).toNatClampNeg (Int32.ofInt v))) : va_E) = arE G F.2.1 (sA σ id i v) id := by
      rw [arE_i hkd, gL_sA, gF_sA, if_pos rfl, hc]
      congr 4
      funext q
      unfold upd va_up
      split <;> rfl
    rw [e1, wl_sA hF hj] at hP1 hD1
    exact k.2 ok r σ' ho h1 h2 h3 h4 (wf hw) ad H1 locs1 ls ha.sA hP1 hD1 hS1 hl
  · cases ho
end G4

section G5
variable {p : Program} {l : Launch} {e : Env} {R : Room} {s : State} {m : MethodId} {args : Array Value} {below : List Frame} {meth : Method} {c : Code}
variable {J : Jm} {D : Nat} {G : Gm} {cl0 : List vw_C} {A : Nat → Prop} {F : Fm} {ad0 : Nat → Nat} {σ0 σ : Sg} {α : Type} {rv : α → Rs} {o : Option (α × Sg)} {pc : Nat} {loc : Lc} {stk : List AV}
variable {C : String} {T : u_T} {N ci b ob index n d : Nat} {Dc : Nat} {β : Type} {rvc : β → Rs} {oc : Option (β × Sg)} {K : β → Sg → Option (α × Sg)} {y : MethodName} {cy : ByteArray} {nLy : Nat} {rety : Option FieldType} {As : List AV}
theorem ng_back {stk0 : List AV} {Aw : List AV} (hM : CtN l d F cl0 y cy nLy rety Dc rvc Aw σ oc) (hDc : Dc &&& D = Dc) (hrv : ∀ r, ∃ v, rvc r = .inl v) (hA : WF F σ → ∀ a ∈ Aw, avR a)
    (hrun : OKx p s m args meth c J G cl0 A → WF F σ → ∀ r1 σ1, oc = some (r1, σ1) → ∀ (ad : Nat → Nat) (H : Heap) (locs : List Loc) (ls : Array Slot) (cells slots : Nat), va_P G.1 cl0 (wl F G ad σ) H → va_D A (wl F G ad σ) → lv_has ls J.2.2.1 (lcV ad loc) → cells + (gC σ1 - gC σ) ≤ R.cells → slots + (gS σ1 - gS σ) ≤ R.slots →
      va_Run p l e R s m args below meth c H locs cells slots (gC σ1 - gC σ) (gS σ1 - gS σ) (F0 m pc ls (stk0.map (toV ad))) (stk.map (toV ad)) (Qx F G cl0 (va_A (wl F G ad σ) H.size) σ ad rety (rvc r1) σ1 (Aw.map (toV ad)).toArray) (va_A (wl F G ad σ) H.size))
    (hkeep : ∀ r1 σ1, oc = some (r1, σ1) → K r1 σ1 ≠ none → ∀ ad ad1 : Nat → Nat, adM σ ad σ1 ad1 → lcV ad1 loc = lcV ad loc ∧ stk.map (toV ad1) = stk.map (toV ad))
    (k : ∀ r1 σ1 w, rvc r1 = .inl w → (∀ v, w = some v → retOK rety v) → WGn p l e R s m args below meth c J D G cl0 A F ad0 σ0 rv (K r1 σ1) σ1 (pc + 3) loc (w.toList ++ stk)) : WGn p l e R s m args below meth c J D G cl0 A F ad0 σ0 rv (cl oc K) σ pc loc stk0 := by
  refine ⟨fun hw r σ' ho => ?_, fun ok r σ' ho h1 h2 h3 h4 hw ad H locs ls ha hP hD hS hl => ?_⟩
  · obtain ⟨r1, σ1, hoc, ho⟩ := cl_some ho
    have hps := hM.1 (hA hw) hw r1 σ1 hoc
    obtain ⟨w, hw'⟩ := hrv r1
    have hk := (k r1 σ1 w hw' (fun v h => hps.2.2 v (by rw [hw', h]))).1 hps.2.1 r σ' ho
    exact ⟨(hps.1.sub hDc).tr hk.1, hk.2⟩
  · obtain ⟨r1, σ1, hoc, ho⟩ := cl_some ho
    have hps := hM.1 (hA hw) hw r1 σ1 hoc
    obtain ⟨w, hw'⟩ := hrv r1
    have hk := k r1 σ1 w hw' (fun v h => hps.2.2 v (by rw [hw', h]))
    have hm := hk.1 hps.2.1 r σ' ho
    have a1 := hps.1.1.1
    have a2 := hps.1.1.2
    have a3 := hm.1.1.1
    have a4 := hm.1.1.2
    have hr := hrun ok hw r1 σ1 hoc ad H locs ls (gC σ - gC σ0) (gS σ - gS σ0) hP hD hl (by omega) (by omega)
    intro T hT X
    obtain ⟨v, st₀, t, T', L, e0, X', hL, e1, e2, ⟨ad1, had, hv, -, hw1, hP1, hD1, hK1, hz, hkp⟩, st⟩ := hr T hT X
    rw [hw'] at hv
    have hv' : v = w.map (toV ad1) := by
      have hv2 : (Outcome.returned v) = .returned (w.map (toV ad1)) := hv
      injection hv2
    subst hv'
    obtain ⟨kl, ks⟩ := hkeep r1 σ1 hoc (by rw [ho]; exact fun h => by cases h) ad ad1 had
    have hfree : ∀ q, va_A (wl F G ad σ) H.size q → A q := by
      intro q hq
      rcases hq with ⟨i, en, hi⟩ | hq
      · exact hD.2 i (q, en) hi
      · exact ok.2.2.2.2.2.2.2.2 q (Nat.le_trans hS.1 hq)
    rw [e0] at hz hkp
    have hh : T'.heap = t.heap := e1
    have hS1 : va_S A s.heap T'.heap (locs ++ L) := by
      rw [hh]
      refine ⟨Nat.le_trans hS.1 hz, fun q g1 g2 => ?_, fun q hq => ?_⟩
      · rw [hkp q (Nat.lt_of_lt_of_le g1 hS.1) (fun z => g2 (hfree q z))]
        exact hS.2.1 q g1 g2
      · rcases List.mem_append.mp hq with h | h
        · exact hS.2.2 q h
        · exact hfree _ (hL q h)
    have ww := hk.2 ok r σ' ho (by omega) (by omega) h3 h4 hw1 ad1 T'.heap (locs ++ L) ls (ha.tr had) (by rw [hh]; exact hP1) (hD1.weaken (fun _ _ _ h => hfree _ h)) hS1 (by rw [kl]; exact hl)
    rw [show gC σ1 - gC σ0 = gC σ - gC σ0 + (gC σ1 - gC σ) by omega, show gS σ1 - gS σ0 = gS σ - gS σ0 + (gS σ1 - gS σ) by omega] at ww
    obtain ⟨t2, b1, b2⟩ := ww T' rfl X'
    refine ⟨t2, st t2 ?_, b2⟩
    have ef : (F0 m (pc + 3) ls ((w.toList ++ stk).map (toV ad1))) = ({ (F0 m pc ls (stk0.map (toV ad))) with pc := (F0 m pc ls (stk0.map (toV ad))).pc + 3, stack := (w.map (toV ad1)).toList ++ stk.map (toV ad) } : JFrame) := by
      rw [List.map_append, ks]
      cases w <;> rfl
    rw [ef] at b1
    exact b1
theorem ng_runV (hM : CtN l d F cl0 y cy nLy rety Dc rvc (vR ob :: As) σ oc) (hcl : cl0[ci]? = some (C, T, N)) (hob : F.1[ob]? = some (ci, b, N)) (hV : GoodIn lw_all (wsV J.2.1 index C y (ws_ y cy nLy rety))) (hd : y.cls = C ∧ y.cls ≠ "java/lang/invoke/MethodHandle" ∧ y.cls ≠ "java/lang/invoke/VarHandle" ∧ (parseMethodDescriptor y.desc).map (fun d => d.parameters.length) = some n) (hn : As.length = n) (hnL : nLy ≤ 21) (hRf : d + 1 ≤ R.frames) (hRl : 40 * (d + 1) ≤ R.locals) (hA : WF F σ → ∀ a ∈ As, avR a) (hst : (stk.map avC).sum ≤ 8) (dd : decode J.1 pc = .ok (.invokevirtual index, 3)) :
    OKx p s m args meth c J G cl0 A → WF F σ → ∀ r1 σ1, oc = some (r1, σ1) → ∀ (ad : Nat → Nat) (H : Heap) (locs : List Loc) (ls : Array Slot) (cells slots : Nat), va_P G.1 cl0 (wl F G ad σ) H → va_D A (wl F G ad σ) → lv_has ls J.2.2.1 (lcV ad loc) → cells + (gC σ1 - gC σ) ≤ R.cells → slots + (gS σ1 - gS σ) ≤ R.slots →
      va_Run p l e R s m args below meth c H locs cells slots (gC σ1 - gC σ) (gS σ1 - gS σ) (F0 m pc ls ((As.reverse ++ vR ob :: stk).map (toV ad))) (stk.map (toV ad)) (Qx F G cl0 (va_A (wl F G ad σ) H.size) σ ad rety (rvc r1) σ1 ((vR ob :: As).map (toV ad)).toArray) (va_A (wl F G ad σ) H.size) := by
  intro ok hw r1 σ1 hoc ad H locs ls cells slots hP hD hl hc hs
  have hm := hM.2 r1 σ1 hoc (fun a ha => by rcases List.mem_cons.mp ha with q | q; rw [q]; trivial; exact hA hw a q) G ad H.size
  have hK := ok.2.2.2.2.2.2.2.1
  refine va_runV (As := As.map (toV ad)) (rest := stk.map (toV ad)) ⟨ok.1, ok.2.1, ok.2.2.1, ok.2.2.2.1, ok.2.2.2.2.1⟩ hm (cwV n ok.2.2.2.2.1 hV rfl rfl rfl hd ⟨hRf, by show 8 + (nLy + 11) + 40 * d ≤ R.locals; omega⟩) ⟨?_, va_recv hK hP hcl (wl_ob hob), ?_⟩ rfl (by rw [List.length_map]; exact hn) hl.1 ?_ ?_ dd ⟨hc, hs⟩
  · intro a U g mk q
    obtain ⟨q0, q1, qw, qP, qK, qD⟩ := q
    exact ⟨q0, q1, qw, qP, va_K.moved (u := U) (U := U.calling g mk a) (Vm.Alike.refl U.vm) qK, qD⟩
  · intro U hU hW
    exact ⟨rfl, by rw [hU], hw, by rw [hU]; exact hP, va_K.moved hW.alike hK, hD.weaken (fun _ _ _ _ => trivial)⟩
  · show List.map (toV ad) (As.reverse ++ vR ob :: stk) = _
    rw [List.map_append, List.map_reverse]
    rfl
  · refine lv_room ?_
    rw [List.map_map]
    have : ((fun v : Value => v.category) ∘ toV ad) = avC := funext fun a => toV_cat ad a
    rw [this]
    exact hst
theorem ng_callV (hM : CtN l d F cl0 y cy nLy rety Dc rvc (vR ob :: As) σ oc) (hDc : Dc &&& D = Dc) (hrv : ∀ r, ∃ v, rvc r = .inl v) (hcl : cl0[ci]? = some (C, T, N)) (hob : F.1[ob]? = some (ci, b, N)) (hV : GoodIn lw_all (wsV J.2.1 index C y (ws_ y cy nLy rety))) (hd : y.cls = C ∧ y.cls ≠ "java/lang/invoke/MethodHandle" ∧ y.cls ≠ "java/lang/invoke/VarHandle" ∧ (parseMethodDescriptor y.desc).map (fun d => d.parameters.length) = some n) (hn : As.length = n) (hnL : nLy ≤ 21) (hRf : d + 1 ≤ R.frames) (hRl : 40 * (d + 1) ≤ R.locals) (hA : WF F σ → ∀ a ∈ As, avR a) (hst : (stk.map avC).sum ≤ 8) (hno : stk.all avO = true) (hno2 : loc.all (fun q => avO q.2) = true) (dd : decode J.1 pc = .ok (.invokevirtual index, 3))
    (k : ∀ r1 σ1 w, rvc r1 = .inl w → (∀ v, w = some v → retOK rety v) → WGn p l e R s m args below meth c J D G cl0 A F ad0 σ0 rv (K r1 σ1) σ1 (pc + 3) loc (w.toList ++ stk)) : WGn p l e R s m args below meth c J D G cl0 A F ad0 σ0 rv (cl oc K) σ pc loc (As.reverse ++ vR ob :: stk) :=
  ng_back hM hDc hrv (fun hw a ha => by rcases List.mem_cons.mp ha with q | q; rw [q]; trivial; exact hA hw a q) (ng_runV hM hcl hob hV hd hn hnL hRf hRl hA hst dd) (fun r1 σ1 _ _ ad ad1 h => ⟨avO_loc h.1 hno2, avO_stk h.1 hno⟩) k
end G5
section G6
variable {p : Program} {l : Launch} {e : Env} {R : Room} {s : State} {m : MethodId} {args : Array Value} {below : List Frame} {meth : Method} {c : Code}
variable {J : Jm} {D : Nat} {G : Gm} {cl0 : List vw_C} {A : Nat → Prop} {F : Fm} {ad0 : Nat → Nat} {σ0 σ : Sg} {α : Type} {rv : α → Rs} {o : Option (α × Sg)} {pc : Nat} {loc : Lc} {stk : List AV}
variable {C : String} {T : u_T} {N ci b ob index : Nat}
theorem ng_jn {β : Type} {kj : β} {body : β → Option (α × Sg)} (P : β → Prop) (h1 : P kj) (h2 : ∀ q, P q → WGn p l e R s m args below meth c J D G cl0 A F ad0 σ0 rv (body q) σ pc loc stk) : WGn p l e R s m args below meth c J D G cl0 A F ad0 σ0 rv (jn kj body) σ pc loc stk := h2 kj h1
theorem WGn.wf (k : WF F σ → WGn p l e R s m args below meth c J D G cl0 A F ad0 σ0 rv o σ pc loc stk) : WGn p l e R s m args below meth c J D G cl0 A F ad0 σ0 rv o σ pc loc stk :=
  ⟨fun hw => (k hw).1 hw, fun ok r σ' ho h1 h2 h3 h4 hw => (k hw).2 ok r σ' ho h1 h2 h3 h4 hw⟩
theorem ng_getI {id : Nat} {K : Int → Option (α × Sg)} (k : Nat) (hid : b + k = id) (hcl : cl0[ci]? = some (C, T, N)) (hob : F.1[ob]? = some (ci, b, N)) (hk : k < N) (hin : ∀ w ∈ u_ws C T N, w ∈ lw_all) (hC : (T k).1 = C) (hv : F.2.1 id = 0) (hq : Cond.fieldLink J.2.1 index C (T k).2.1 (T k).2.2.1 ∈ lw_all) (d : decode J.1 pc = .ok (.getfield index, 3)) (kk : ∀ w, inR w → WGn p l e R s m args below meth c J D G cl0 A F ad0 σ0 rv (K w) σ (pc + 3) loc (vI w :: stk)) : WGn p l e R s m args below meth c J D G cl0 A F ad0 σ0 rv (un (gI σ id) K) σ pc loc (vR ob :: stk) :=
  WGn.wf (fun hw => ng_get k hcl hob hk hin hC (by rw [hid]; unfold fv; simp only [hv]) hq d (kk _ (hw.1 id)))
theorem ng_sIU {id : Nat} {v : Int} {K : Sg → Option (α × Sg)} (hF : FOK F) (k : Nat) (hid : b + k = id) (hcl : cl0[ci]? = some (C, T, N)) (hob : F.1[ob]? = some (ci, b, N)) (hk : k < N) (hin : ∀ w ∈ u_ws C T N, w ∈ lw_all) (ty0 : Nat → FieldType) (hty : ∀ k, k < N → parseFieldDescriptor (T k).2.2.1 = some (ty0 k)) (hnm : ∀ a, a < N → ∀ b, b < N → a ≠ b → (T a).2.1 ≠ (T b).2.1) (hC : (T k).1 = C) (hkd : F.2.1 id = 0) (hti : ty0 k = .int) (hfin : (T k).2.2.2 = false) (hDk : D.testBit id = true) (hv : inR v) (hq : Cond.fieldLink J.2.1 index C (T k).2.1 (T k).2.2.1 ∈ lw_all) (d : decode J.1 pc = .ok (.putfield index, 3)) (kk : ∀ σ2, WGn p l e R s m args below meth c J D G cl0 A F ad0 σ0 rv (K σ2) σ2 (pc + 3) loc stk) : WGn p l e R s m args below meth c J D G cl0 A F ad0 σ0 rv (un (sI σ id v) K) σ pc loc (vI v :: vR ob :: stk) := by
  subst hid
  exact ng_putI hF k hcl hob hk hin ty0 hty hnm hC hkd hti hfin hDk (fun _ => hv) hq d (kk _)
theorem ng_alenU {id : Nat} {K : Int → Option (α × Sg)} (j : Nat) (hj : F.2.2[j]? = some id) (hkd : F.2.1 id = 1 ∨ F.2.1 id = 2 ∨ F.2.1 id = 3) (d : decode J.1 pc = .ok (.arraylength, 1)) (k : ∀ w, inR w → WGn p l e R s m args below meth c J D G cl0 A F ad0 σ0 rv (K w) σ (pc + 1) loc (vI w :: stk)) : WGn p l e R s m args below meth c J D G cl0 A F ad0 σ0 rv (un (gL σ id : Int) K) σ pc loc (vR (10 + id) :: stk) :=
  WGn.wf (fun hw => ng_alen j hj hkd d (k _ (wf_gL hw id)))
theorem ng_iushrU {a b : Int} {K : Int → Option (α × Sg)} (d : decode J.1 pc = .ok (.iushr, 1)) (k : ∀ w, inR w → WGn p l e R s m args below meth c J D G cl0 A F ad0 σ0 rv (K w) σ (pc + 1) loc (vI w :: stk)) : WGn p l e R s m args below meth c J D G cl0 A F ad0 σ0 rv (un (o_ushr a b) K) σ pc loc (vI b :: vI a :: stk) := ng_iushr d (k _ (inR_toInt _))
theorem ng_iaddWU {a b : Int} {K : Int → Option (α × Sg)} (d : decode J.1 pc = .ok (.iadd, 1)) (k : ∀ w, inR w → WGn p l e R s m args below meth c J D G cl0 A F ad0 σ0 rv (K w) σ (pc + 1) loc (vI w :: stk)) : WGn p l e R s m args below meth c J D G cl0 A F ad0 σ0 rv (un (wrap (a + b)) K) σ pc loc (vI b :: vI a :: stk) := ng_iaddW d (k _ (inR_toInt _))
theorem ng_imulWU {a b : Int} {K : Int → Option (α × Sg)} (d : decode J.1 pc = .ok (.imul, 1)) (k : ∀ w, inR w → WGn p l e R s m args below meth c J D G cl0 A F ad0 σ0 rv (K w) σ (pc + 1) loc (vI w :: stk)) : WGn p l e R s m args below meth c J D G cl0 A F ad0 σ0 rv (un (wrap (a * b)) K) σ pc loc (vI b :: vI a :: stk) := ng_imulW d (k _ (inR_toInt _))
theorem ng_lconst {n : Fin 2} {v : Int} (hv : Int64.ofNat (n : Nat) = Int64.ofInt v) (d : decode J.1 pc = .ok (.lconst n, 1)) (k : WGn p l e R s m args below meth c J D G cl0 A F ad0 σ0 rv o σ (pc + 1) loc (vL v :: stk)) : WGn p l e R s m args below meth c J D G cl0 A F ad0 σ0 rv o σ pc loc stk :=
  WGn.lift (fun ok _ ad H locs cells slots Q ls _ _ _ kk => lv_lconst ok.1 ok.2.1 d hv kk) k
theorem ng_ldc2 {n : Int} {i : Nat} {v : Int64} (hn : v = Int64.ofInt n) (hq : Cond.constantLong J.2.1 i v ∈ lw_all) (d : decode J.1 pc = .ok (.ldc2_w i, 3)) (k : WGn p l e R s m args below meth c J D G cl0 A F ad0 σ0 rv o σ (pc + 3) loc (vL n :: stk)) : WGn p l e R s m args below meth c J D G cl0 A F ad0 σ0 rv o σ pc loc stk :=
  WGn.lift (fun ok _ ad H locs cells slots Q ls _ _ _ kk => lv_ldc2 ok.1 ok.2.1 ok.2.2.2.1 (ok.2.2.2.2.1 _ hq) d (by subst hn; exact kk)) k
theorem ng_i2l {a : Int} (ha : inR a) (d : decode J.1 pc = .ok (.i2l, 1)) (k : WGn p l e R s m args below meth c J D G cl0 A F ad0 σ0 rv o σ (pc + 1) loc (vL a :: stk)) : WGn p l e R s m args below meth c J D G cl0 A F ad0 σ0 rv o σ pc loc (vI a :: stk) :=
  WGn.lift (fun ok _ ad H locs cells slots Q ls _ _ _ kk => lv_i2l ok.1 ok.2.1 d (Int64.toInt_inj.mp (by rw [Int32.toInt_toInt64, i_ofInt ha, l_ofInt (inL_of ha)])) kk) k
theorem ng_l2i {a : Int} {K : Int → Option (α × Sg)} (ha : inL a) (d : decode J.1 pc = .ok (.l2i, 1)) (k : ∀ w, inR w → WGn p l e R s m args below meth c J D G cl0 A F ad0 σ0 rv (K w) σ (pc + 1) loc (vI w :: stk)) : WGn p l e R s m args below meth c J D G cl0 A F ad0 σ0 rv (ar a K) σ pc loc (vL a :: stk) :=
  ng_arE (fun w hw e => by
    subst e
    exact WGn.lift (fun ok _ ad H locs cells slots Q ls _ _ _ kk => lv_l2i ok.1 ok.2.1 d (Int32.toInt_inj.mp (by rw [Int64.toInt_toInt32, l_ofInt ha, i_ofInt hw]; exact Int.bmod_eq_of_le (by have := hw.1; omega) (by have := hw.2; omega))) kk) (k w hw))
theorem WGn.arithL {pc' : Nat} {stk0 : List AV} {v : Int} {K : Int → Option (α × Sg)} (h : inL v → OKx p s m args meth c J G cl0 A → ∀ (ad : Nat → Nat) (H : Heap) (locs : List Loc) (cells slots : Nat) (Q : State → Prop) (ls : Array Slot), W p l e R s m args below meth c H locs cells slots Q (F0 m pc' ls ((vL v :: stk0).map (toV ad))) → W p l e R s m args below meth c H locs cells slots Q (F0 m pc ls (stk.map (toV ad))))
    (k : ∀ w, inL w → WGn p l e R s m args below meth c J D G cl0 A F ad0 σ0 rv (K w) σ pc' loc (vL w :: stk0)) : WGn p l e R s m args below meth c J D G cl0 A F ad0 σ0 rv (arL v K) σ pc loc stk := by
  refine ⟨fun hw r σ' e => ?_, fun ok r σ' ho => ?_⟩
  · unfold arL at e
    split at e
    · exact (k _ (by assumption)).1 hw r σ' e
    · cases e
  · unfold arL at ho
    split at ho
    · intro h1 h2 h3 h4 hw ad H locs ls ha hP hD hS hl
      exact h (by assumption) ok ad H locs _ _ _ ls ((k v (by assumption)).2 ok r σ' ho h1 h2 h3 h4 hw ad H locs ls ha hP hD hS hl)
    · cases ho
theorem ng_ladd {a b : Int} {K : Int → Option (α × Sg)} (d : decode J.1 pc = .ok (.ladd, 1)) (k : ∀ w, inL w → WGn p l e R s m args below meth c J D G cl0 A F ad0 σ0 rv (K w) σ (pc + 1) loc (vL w :: stk)) : WGn p l e R s m args below meth c J D G cl0 A F ad0 σ0 rv (arL (a + b) K) σ pc loc (vL b :: vL a :: stk) :=
  WGn.arithL (fun _ ok ad H locs cells slots Q ls kk => lv_ladd ok.1 ok.2.1 d (by rw [← Int64.ofInt_add]; exact kk)) k
theorem ng_gd {C : Prop} [Decidable C] {K : Option (α × Sg)} (k : C → WGn p l e R s m args below meth c J D G cl0 A F ad0 σ0 rv K σ pc loc stk) : WGn p l e R s m args below meth c J D G cl0 A F ad0 σ0 rv (gd C K) σ pc loc stk := by
  refine ⟨fun hw r σ' ho => ?_, fun ok r σ' ho => ?_⟩
  · unfold gd at ho
    split at ho
    · exact (k (by assumption)).1 hw r σ' ho
    · cases ho
  · unfold gd at ho
    split at ho
    · exact (k (by assumption)).2 ok r σ' ho
    · cases ho
theorem ng_idiv {a b : Int} {K : Int → Option (α × Sg)} (ha : inR a) (hb : inR b) (d : decode J.1 pc = .ok (.idiv, 1)) (k : ∀ w, inR w → WGn p l e R s m args below meth c J D G cl0 A F ad0 σ0 rv (K w) σ (pc + 1) loc (vI w :: stk)) : WGn p l e R s m args below meth c J D G cl0 A F ad0 σ0 rv (gd (b ≠ 0) (ar (a.tdiv b) K)) σ pc loc (vI b :: vI a :: stk) :=
  ng_gd (fun hb0 => ng_arE (fun w hw e => by
    subst e
    exact WGn.lift (fun ok _ ad H locs cells slots Q ls _ _ _ kk => lv_idiv ok.1 ok.2.1 d (fun h => hb0 (by have := congrArg Int32.toInt h; rw [i_ofInt hb] at this; simpa using this)) (by rw [i_div ha hb hw]; exact kk)) (k _ hw)))
theorem ng_lstore {i : Nat} {v : Int} {loc' : Lc} (d : decode J.1 pc = .ok (.lstore i, 2)) (hi : i + 1 < J.2.2.1) (hl : lcS2 loc i (vL v) = loc') (k : WGn p l e R s m args below meth c J D G cl0 A F ad0 σ0 rv o σ (pc + 2) loc' stk) : WGn p l e R s m args below meth c J D G cl0 A F ad0 σ0 rv o σ pc loc (vL v :: stk) :=
  WGn.liftS (fun ok _ ad H locs cells slots Q ls h kk => lv_lstore ok.1 ok.2.1 d h hi (lcV_S2 ad loc i (vL v)) (fun ls' h' => kk ls' (by rw [← hl]; exact h'))) k
theorem ng_mmax {a b : Int} {K : Int → Option (α × Sg)} (ha : inR a) (hb : inR b) (hRf : 1 ≤ R.frames) (hRl : 40 ≤ R.locals) (hst : (stk.map avC).sum ≤ 8) (h1 : Cond.methodLink J.2.1 index Lib.Math.max.name ∈ lw_all) (h2 : Cond.static Lib.Math.max.name ∈ lw_all) (h3 : Cond.initialized "java/lang/Math" ∈ lw_all) (h4 : Cond.code Lib.Math.max.name Lib.Math.max.code 2 (some .int) ∈ lw_all) (d : decode J.1 pc = .ok (.invokestatic index, 3)) (k : ∀ w, inR w → WGn p l e R s m args below meth c J D G cl0 A F ad0 σ0 rv (K w) σ (pc + 3) loc (vI w :: stk)) : WGn p l e R s m args below meth c J D G cl0 A F ad0 σ0 rv (un (if a < b then b else a) K) σ pc loc (vI b :: vI a :: stk) := by
  have hk := k (if a < b then b else a) (by split; exact hb; exact ha)
  refine ⟨hk.1, fun ok r σ' ho g1 g2 g3 g4 hw ad H locs ls hm hP hD hS hl => ?_⟩
  have hps := hk.1 hw r σ' ho
  refine va_mmax ok.1 ok.2.1 (ok.2.2.1.trans hl.1.symm) ok.2.2.2.1 (ok.2.2.2.2.1 _ h1) (ok.2.2.2.2.1 _ h2) (ok.2.2.2.2.1 _ h3) (ok.2.2.2.2.1 _ h4) hRf ?_ (by have := hps.1.1.1; omega) (by have := hps.1.1.2; omega) d ?_
  · have : ((fun v : Value => v.category) ∘ toV ad) = avC := funext fun a => toV_cat ad a
    rw [List.map_map, this]; omega
  · have := hk.2 ok r σ' ho g1 g2 g3 g4 hw ad H locs ls hm hP hD hS hl
    rw [show (if Int32.ofInt a < Int32.ofInt b then Int32.ofInt b else Int32.ofInt a) = Int32.ofInt (if a < b then b else a) from by
      by_cases q : a < b
      · rw [if_pos q, if_pos ((o_ofInt_lt ha hb).mpr q)]
      · rw [if_neg q, if_neg (fun h => q ((o_ofInt_lt ha hb).mp h))]]
    exact this
theorem ng_mminL {a b : Int} {K : Int → Option (α × Sg)} (ha : inL a) (hb : inL b) (hRf : 1 ≤ R.frames) (hRl : 40 ≤ R.locals) (hst : (stk.map avC).sum ≤ 8) (h1 : Cond.methodLink J.2.1 index Lib.MathLoose.min_long.x ∈ lw_all) (h2 : Cond.static Lib.MathLoose.min_long.x ∈ lw_all) (h3 : Cond.initialized "java/lang/Math" ∈ lw_all) (h4 : Cond.code Lib.MathLoose.min_long.x Lib.MathLoose.min_long.code 4 (some .long) ∈ lw_all) (d : decode J.1 pc = .ok (.invokestatic index, 3)) (k : ∀ w, inL w → WGn p l e R s m args below meth c J D G cl0 A F ad0 σ0 rv (K w) σ (pc + 3) loc (vL w :: stk)) : WGn p l e R s m args below meth c J D G cl0 A F ad0 σ0 rv (un (if b < a then b else a) K) σ pc loc (vL b :: vL a :: stk) := by
  have hk := k (if b < a then b else a) (by split; exact hb; exact ha)
  refine ⟨hk.1, fun ok r σ' ho g1 g2 g3 g4 hw ad H locs ls hm hP hD hS hl => ?_⟩
  have hps := hk.1 hw r σ' ho
  refine va_mmin_long ok.1 ok.2.1 (ok.2.2.1.trans hl.1.symm) ok.2.2.2.1 (ok.2.2.2.2.1 _ h1) (ok.2.2.2.2.1 _ h2) (ok.2.2.2.2.1 _ h3) (ok.2.2.2.2.1 _ h4) hRf ?_ (by have := hps.1.1.1; omega) (by have := hps.1.1.2; omega) d ?_
  · have : ((fun v : Value => v.category) ∘ toV ad) = avC := funext fun a => toV_cat ad a
    rw [List.map_map, this]; omega
  · have := hk.2 ok r σ' ho g1 g2 g3 g4 hw ad H locs ls hm hP hD hS hl
    rw [show (if Int64.ofInt b < Int64.ofInt a then Int64.ofInt b else Int64.ofInt a) = Int64.ofInt (if b < a then b else a) from by
      have e1 : (Int64.ofInt b < Int64.ofInt a) ↔ b < a := by rw [Int64.lt_iff_toInt_lt, l_ofInt ha, l_ofInt hb]
      by_cases q : b < a
      · rw [if_pos q, if_pos (e1.mpr q)]
      · rw [if_neg q, if_neg (fun h => q (e1.mp h))]]
    exact this
end G6

section G7
variable {p : Program} {l : Launch} {e : Env} {R : Room} {s : State} {m : MethodId} {args : Array Value} {below : List Frame} {meth : Method} {c : Code}
variable {J : Jm} {D : Nat} {G : Gm} {cl0 : List vw_C} {A : Nat → Prop} {F : Fm} {ad0 : Nat → Nat} {σ0 σ : Sg} {α : Type} {rv : α → Rs} {o : Option (α × Sg)} {pc : Nat} {loc : Lc} {stk : List AV}
variable {C : String} {T : u_T} {N ci b ob index n d : Nat} {Dc : Nat} {oc : Option (Int × Sg)} {K : Int → Sg → Option (α × Sg)} {y : MethodName} {cy : ByteArray} {nLy : Nat} {As : List AV}
theorem ng_none : WGn p l e R s m args below meth c J D G cl0 A F ad0 σ0 rv ((none : Option (α × Sg))) σ pc loc stk := ⟨(fun _ r σ' h => by cases h), (fun _ r σ' h => by cases h)⟩
theorem ng_pick {loc' : Lc} (ks : List Nat) (h : ks.filterMap (fun k => loc[k]?) = loc') (k : WGn p l e R s m args below meth c J D G cl0 A F ad0 σ0 rv o σ pc loc' stk) : WGn p l e R s m args below meth c J D G cl0 A F ad0 σ0 rv o σ pc loc stk :=
  ⟨k.1, fun ok r σ' ho h1 h2 h3 h4 hw ad H locs ls ha hP hD hS hl => k.2 ok r σ' ho h1 h2 h3 h4 hw ad H locs ls ha hP hD hS ⟨hl.1, hl.2.1, fun q hq => by
    subst h
    obtain ⟨x, hx, rfl⟩ := List.mem_map.mp hq
    obtain ⟨i, -, hi⟩ := List.mem_filterMap.mp hx
    exact hl.2.2 _ (List.mem_map.mpr ⟨x, List.mem_of_getElem? hi, rfl⟩)⟩⟩
theorem ng_iastU {id : Nat} {i v : Int} {K : Sg → Option (α × Sg)} (hF : FOK F) (j : Nat) (hj : F.2.2[j]? = some id) (hkd : F.2.1 id = 1) (hDk : D.testBit id = true) (hv : inR v) (d : decode J.1 pc = .ok (.iastore, 1)) (k : ∀ σ2, WGn p l e R s m args below meth c J D G cl0 A F ad0 σ0 rv (K σ2) σ2 (pc + 1) loc stk) : WGn p l e R s m args below meth c J D G cl0 A F ad0 σ0 rv (stA σ id i v K) σ pc loc (vI v :: vI i :: vR (10 + id) :: stk) := ng_iast hF j hj hkd hDk (fun _ => hv) d (k _)
theorem ng_cVI (hM : CtN l d F cl0 y cy nLy (some .int) Dc rvI (vR ob :: As) σ oc) (hDc : Dc &&& D = Dc) (hcl : cl0[ci]? = some (C, T, N)) (hob : F.1[ob]? = some (ci, b, N)) (hV : GoodIn lw_all (wsV J.2.1 index C y (ws_ y cy nLy (some .int)))) (hd : y.cls = C ∧ y.cls ≠ "java/lang/invoke/MethodHandle" ∧ y.cls ≠ "java/lang/invoke/VarHandle" ∧ (parseMethodDescriptor y.desc).map (fun d => d.parameters.length) = some n) (hn : As.length = n) (hnL : nLy ≤ 21) (hRf : d + 1 ≤ R.frames) (hRl : 40 * (d + 1) ≤ R.locals) (hA : WF F σ → ∀ a ∈ As, avR a) (hst : (stk.map avC).sum ≤ 8) (hno : stk.all avO = true) (hno2 : loc.all (fun q => avO q.2) = true) (dd : decode J.1 pc = .ok (.invokevirtual index, 3)) (k : ∀ v σ1, inR v → WGn p l e R s m args below meth c J D G cl0 A F ad0 σ0 rv (K v σ1) σ1 (pc + 3) loc (vI v :: stk)) : WGn p l e R s m args below meth c J D G cl0 A F ad0 σ0 rv (cl oc K) σ pc loc (As.reverse ++ vR ob :: stk) :=
  ng_callV hM hDc (fun r => ⟨_, rfl⟩) hcl hob hV hd hn hnL hRf hRl hA hst hno hno2 dd (fun v σ1 w e hr => by have hv := rOf e hr; cases e; exact k v σ1 hv)
theorem ng_cVV (hM : CtN l d F cl0 y cy nLy none Dc rvV (vR ob :: As) σ oc) (hDc : Dc &&& D = Dc) (hcl : cl0[ci]? = some (C, T, N)) (hob : F.1[ob]? = some (ci, b, N)) (hV : GoodIn lw_all (wsV J.2.1 index C y (ws_ y cy nLy none))) (hd : y.cls = C ∧ y.cls ≠ "java/lang/invoke/MethodHandle" ∧ y.cls ≠ "java/lang/invoke/VarHandle" ∧ (parseMethodDescriptor y.desc).map (fun d => d.parameters.length) = some n) (hn : As.length = n) (hnL : nLy ≤ 21) (hRf : d + 1 ≤ R.frames) (hRl : 40 * (d + 1) ≤ R.locals) (hA : WF F σ → ∀ a ∈ As, avR a) (hst : (stk.map avC).sum ≤ 8) (hno : stk.all avO = true) (hno2 : loc.all (fun q => avO q.2) = true) (dd : decode J.1 pc = .ok (.invokevirtual index, 3)) (k : ∀ v σ1, WGn p l e R s m args below meth c J D G cl0 A F ad0 σ0 rv (K v σ1) σ1 (pc + 3) loc stk) : WGn p l e R s m args below meth c J D G cl0 A F ad0 σ0 rv (cl oc K) σ pc loc (As.reverse ++ vR ob :: stk) :=
  ng_callV hM hDc (fun r => ⟨_, rfl⟩) hcl hob hV hd hn hnL hRf hRl hA hst hno hno2 dd (fun v σ1 w e hr => by cases e; exact k v σ1)
end G7

section G8
variable {p : Program} {l : Launch} {e : Env} {R : Room} {s : State} {m : MethodId} {args : Array Value} {below : List Frame} {meth : Method} {c : Code}
variable {J : Jm} {D : Nat} {G : Gm} {cl0 : List vw_C} {A : Nat → Prop} {F : Fm} {ad0 : Nat → Nat} {σ0 σ : Sg} {α : Type} {rv : α → Rs} {o : Option (α × Sg)} {pc : Nat} {loc : Lc} {stk : List AV}
variable {C : String} {T : u_T} {N ci b ob i1 i2 d : Nat}
theorem ng_grow {K : Sg → Option (α × Sg)} {id n' : Nat} {f : Nat → Int} (hF : FOK F) (h10 : FO10 F) (hlen : F.1.length ≤ 10) (k j : Nat) (hid : b + k = id) (hcl : cl0[ci]? = some (C, T, N)) (hob : F.1[ob]? = some (ci, b, N)) (hj : F.2.2[j]? = some id) (hk : k < N) (hin : ∀ w ∈ u_ws C T N, w ∈ lw_all) (ty0 : Nat → FieldType) (hty : ∀ k, k < N → parseFieldDescriptor (T k).2.2.1 = some (ty0 k)) (hnm : ∀ a, a < N → ∀ b, b < N → a ≠ b → (T a).2.1 ≠ (T b).2.1) (hC : (T k).1 = C) (hkd : F.2.1 id = 1) (hti : ty0 k = .array .int) (hfin : (T k).2.2.2 = false) (hq : Cond.fieldLink J.2.1 i2 C (T k).2.1 (T k).2.2.1 ∈ lw_all) (hno : stk.all avO = true) (hno2 : loc.all (fun q => avO q.2) = true) (dd : decode J.1 pc = .ok (.putfield i2, 3))
    (hn : gL σ id + 1 ≤ n') (wf : WF F σ → WF F (sN σ id n' f)) (kk : WGn p l e R s m args below meth c J D G cl0 A F ad0 σ0 rv (K (sN σ id n' f)) (sN σ id n' f) (pc + 3) loc stk) (ok : OKx p s m args meth c J G cl0 A) {r : α} {σ' : Sg} (ho : K (sN σ id n' f) = some (r, σ')) (h1 : gC σ0 ≤ gC σ) (h2 : gS σ0 ≤ gS σ) (h3 : R.cells = gC σ' - gC σ0) (h4 : R.slots = gS σ' - gS σ0) (hw : WF F σ) {ad : Nat → Nat} (q : Nat) {H : Heap} {locs : List Loc} {ls : Array Slot} (ha : adM σ0 ad0 σ ad)
    (hP : va_P G.1 cl0 (wl F G ad σ ++ [(q, .inl (G.2.1, n', .inl fun i => Int32.ofInt (f i)))]) H) (hD : va_D A (wl F G ad σ ++ [(q, .inl (G.2.1, n', .inl fun i => Int32.ofInt (f i)))])) (hS : va_S A s.heap H locs) (hl : lv_has ls J.2.2.1 (lcV ad loc)) :
    W p l e R s m args below meth c H locs (gC σ - gC σ0 + 1) (gS σ - gS σ0 + n') (MQ below (Qx F G cl0 A σ0 ad0 J.2.2.2 (rv r) σ') args s (gC σ' - gC σ0) (gS σ' - gS σ0) A) (F0 m pc ls (.ref q :: .ref (ad ob) :: stk.map (toV ad))) := by
  subst hid
  have hol : ob < (wl F G ad σ).length := (List.getElem?_eq_some_iff.mp (wl_ob (G := G) (ad := ad) (σ := σ) hob)).1
  have hjl : F.1.length + j < (wl F G ad σ).length := (List.getElem?_eq_some_iff.mp (wl_ar (G := G) (ad := ad) (σ := σ) hj)).1
  have hob' : ob < F.1.length := (List.getElem?_eq_some_iff.mp hob).1
  refine va_put ok.1 ok.2.1 ok.2.2.2.2.1 hin ty0 hty hnm ok.2.2.2.1 ok.2.2.2.2.2.2.2.1 hP hD hS ob (va_getl (wl_ob hob)) hcl k hk (ok.2.2.2.2.1 _ hq) (fun x h => by rw [← hC]; exact h) hfin ((hty k hk).trans (by rw [hti])) rfl rfl (by rw [fvs_len]; exact hk) dd (fun H1 locs1 hP1 hD1 hS1 => ?_)
  obtain ⟨hP2, hD2⟩ := P_new (r := F.1.length + j) (by omega) hol hjl hP1 hD1
  rw [← wl_new hF h10 hlen hob hk hj hkd] at hP2 hD2
  have kl : lcV (va_up ad (10 + (b + k)) q) loc = lcV ad loc := avO_loc avO_up hno2
  have ks : stk.map (toV (va_up ad (10 + (b + k)) q)) = stk.map (toV ad) := avO_stk avO_up hno
  have had : adM σ ad (sN σ (b + k) n' f) (va_up ad (10 + (b + k)) q) := ⟨avO_up, fun i => by
    rw [gL_sN]
    by_cases hi : i = b + k
    · subst hi; rw [if_pos rfl]; exact ⟨by omega, fun h => by omega⟩
    · rw [if_neg hi]; exact ⟨Nat.le_refl _, fun _ => by rw [va_up, if_neg (by omega)]⟩⟩
  have ww := kk.2 ok r σ' ho (by rw [gC_sN]; omega) (by rw [gS_sN]; omega) h3 h4 (wf hw) _ H1 locs1 ls (ha.tr had) hP2 hD2 hS1 (by rw [kl]; exact hl)
  rw [ks, gC_sN, gS_sN, show gC σ + 1 - gC σ0 = gC σ - gC σ0 + 1 by omega, show gS σ + n' - gS σ0 = gS σ - gS σ0 + n' by omega] at ww
  exact ww
theorem ng_newArr {y : MethodName} {cy : ByteArray} {nLy fr : Nat} {K : Sg → Option (α × Sg)} {n : Int} {id n' : Nat} (hF : FOK F) (h10 : FO10 F) (hlen : F.1.length ≤ 10) (k j : Nat) (hid : b + k = id) (hcl : cl0[ci]? = some (C, T, N)) (hob : F.1[ob]? = some (ci, b, N)) (hj : F.2.2[j]? = some id) (hk : k < N) (hin : ∀ w ∈ u_ws C T N, w ∈ lw_all) (ty0 : Nat → FieldType) (hty : ∀ k, k < N → parseFieldDescriptor (T k).2.2.1 = some (ty0 k)) (hnm : ∀ a, a < N → ∀ b, b < N → a ≠ b → (T a).2.1 ≠ (T b).2.1) (hC : (T k).1 = C) (hkd : F.2.1 id = 1) (hti : ty0 k = .array .int) (hfin : (T k).2.2.2 = false) (hq2 : Cond.fieldLink J.2.1 i2 C (T k).2.1 (T k).2.2.1 ∈ lw_all)
    (hfr : fr ≤ R.frames ∧ 20 + (nLy + 11) + 40 * fr ≤ R.locals + 40) (hfr0 : 1 ≤ fr) (hst : (stk.map avC).sum ≤ 7) (hno : stk.all avO = true) (hno2 : loc.all (fun q => avO q.2) = true) (hV : GoodIn lw_all (va_wsS J.2.1 i1 y (ws_ y cy nLy (some (.array .int))))) (hd : y.cls ≠ "java/lang/invoke/MethodHandle" ∧ y.cls ≠ "java/lang/invoke/VarHandle" ∧ (parseMethodDescriptor y.desc).map (fun d => d.parameters.length) = some 2) (d1 : decode J.1 pc = .ok (.invokestatic i1, 3)) (d2 : decode J.1 (pc + 3) = .ok (.putfield i2, 3))
    (hn0 : 0 ≤ n) (hn : gL σ id + 1 ≤ n') (hn2 : n' < 2147483648) (hg : gC σ + 1 ≤ gC (sN σ id n' (fun j => if j < gL σ id then gF σ id j else 0)) ∧ gS σ + n' ≤ gS (sN σ id n' (fun j => if j < gL σ id then gF σ id j else 0)))
    (hM : ∀ (ad : Nat → Nat) (sz : Nat), Met l y (ws_ y cy nLy (some (.array .int))) ({ frames := fr - 1, cells := 1, slots := n', locals := 40 * (fr - 1) } : Room) (PcN G cl0 (wl F G ad σ) sz (ad (10 + id)) (Int32.ofNat n.toNat)) (QcN G cl0 (wl F G ad σ) sz n' (fun j => if j < gL σ id then Int32.ofInt (gF σ id j) else 0)) 1 n' (va_A (wl F G ad σ) sz))
    (kk : ∀ σ2, WGn p l e R s m args below meth c J D G cl0 A F ad0 σ0 rv (K σ2) σ2 (pc + 3 + 3) loc stk) (ok : OKx p s m args meth c J G cl0 A) {r : α} {σ' : Sg} (ho : K (sN σ id n' (fun j => if j < gL σ id then gF σ id j else 0)) = some (r, σ')) (h1 : gC σ0 ≤ gC σ) (h2 : gS σ0 ≤ gS σ) (h3 : R.cells = gC σ' - gC σ0) (h4 : R.slots = gS σ' - gS σ0) (hw : WF F σ) {ad : Nat → Nat} {H : Heap} {locs : List Loc} {ls : Array Slot} (ha : adM σ0 ad0 σ ad)
    (hP : va_P G.1 cl0 (wl F G ad σ) H) (hD : va_D A (wl F G ad σ)) (hS : va_S A s.heap H locs) (hl : lv_has ls J.2.2.1 (lcV ad loc)) :
    W p l e R s m args below meth c H locs (gC σ - gC σ0) (gS σ - gS σ0) (MQ below (Qx F G cl0 A σ0 ad0 J.2.2.2 (rv r) σ') args s (gC σ' - gC σ0) (gS σ' - gS σ0) A) (F0 m pc ls ((vI n :: vR (10 + id) :: vR ob :: stk).map (toV ad))) := by
  have wf : WF F σ → WF F (sN σ id n' (fun j => if j < gL σ id then gF σ id j else 0)) := fun hw => hw.sN hkd hn2 (cp_rng hw hkd)
  have hps := (kk _).1 (wf hw) r σ' ho
  have a1 := hps.1.1.1
  have a2 := hps.1.1.2
  have hK := ok.2.2.2.2.2.2.2.1
  have e32 : Int32.ofInt n = Int32.ofNat n.toNat := by rw [← Int32.ofInt_eq_ofNat]; congr 1; omega
  have hrun := va_runS (p := p) (e := e) (R := R) (below := below) (meth := meth) (locs := locs) (cells := gC σ - gC σ0) (slots := gS σ - gS σ0) (H := H) (g := F0 m pc ls ((vI n :: vR (10 + id) :: vR ob :: stk).map (toV ad))) (As := [.ref (ad (10 + id)), .int (Int32.ofNat n.toNat)]) (rest := .ref (ad ob) :: stk.map (toV ad)) ⟨ok.1, ok.2.1, ok.2.2.1, ok.2.2.2.1, ok.2.2.2.2.1⟩ (hM ad H.size) (va_cwS 2 ok.2.2.2.2.1 hV rfl rfl rfl hd ⟨by show fr - 1 + 1 ≤ _; omega, by show 8 + (nLy + 11) + 40 * (fr - 1) ≤ R.locals; omega⟩) ⟨?_, ?_⟩ rfl rfl hl.1 ?_ ?_ d1 ⟨by omega, by omega⟩
  · intro T hT X
    obtain ⟨v, st₀, t, T', L, e0, X', hL, e1, e2, ⟨q, hv, hP1, hD1, hK1, hz, hkp⟩, st⟩ := hrun T hT X
    have hv' : v = some (.ref q) := by injection hv
    subst hv'
    have hfree : ∀ q, va_A (wl F G ad σ) H.size q → A q := by
      intro q hq
      rcases hq with ⟨i, en, hi⟩ | hq
      · exact hD.2 i (q, en) hi
      · exact ok.2.2.2.2.2.2.2.2 q (Nat.le_trans hS.1 hq)
    rw [e0] at hz hkp
    have hh : T'.heap = t.heap := e1
    have hS1 : va_S A s.heap T'.heap (locs ++ L) := by
      rw [hh]
      refine ⟨Nat.le_trans hS.1 hz, fun q g1 g2 => ?_, fun q hq => ?_⟩
      · rw [hkp q (Nat.lt_of_lt_of_le g1 hS.1) (fun z => g2 (hfree q z))]
        exact hS.2.1 q g1 g2
      · rcases List.mem_append.mp hq with h | h
        · exact hS.2.2 q h
        · exact hfree _ (hL q h)
    rw [cp_fun] at hP1 hD1
    have ww := ng_grow (p := p) (l := l) (e := e) (R := R) (below := below) (meth := meth) (c := c) (rv := rv) (pc := pc + 3) (loc := loc) (stk := stk) hF h10 hlen k j hid hcl hob hj hk hin ty0 hty hnm hC hkd hti hfin hq2 hno hno2 d2 hn wf (kk _) ok ho h1 h2 h3 h4 hw q ha (H := T'.heap) (locs := locs ++ L) (ls := ls) (by rw [hh]; exact hP1) (hD1.weaken (fun _ _ _ h => hfree _ h)) hS1 hl
    obtain ⟨t2, b1, b2⟩ := ww T' rfl X'
    exact ⟨t2, st t2 b1, b2⟩
  · intro a U g mk q
    obtain ⟨q0, q1, qP, qK, qD⟩ := q
    exact ⟨q0, q1, qP, va_K.moved (u := U) (U := U.calling g mk a) (Vm.Alike.refl U.vm) qK, qD⟩
  · intro U hU hW
    exact ⟨rfl, by rw [hU], by rw [hU]; exact hP, va_K.moved hW.alike hK, hD.weaken (fun _ _ _ _ => trivial)⟩
  · show (Value.int (Int32.ofInt n) :: _) = _
    rw [e32]
    rfl
  · refine lv_room ?_
    rw [List.map_cons, List.map_map]
    have : ((fun v : Value => v.category) ∘ toV ad) = avC := funext fun a => toV_cat ad a
    rw [this]
    show List.sum (1 :: _) ≤ 8
    rw [List.sum_cons]
    omega
theorem ng_cpy {K : Sg → Option (α × Sg)} {n : Int} {id : Nat} (hF : FOK F) (h10 : FO10 F) (hlen : F.1.length ≤ 2) (k j : Nat) (hid : b + k = id) (hcl : cl0[ci]? = some (C, T, N)) (hob : F.1[ob]? = some (ci, b, N)) (hj : F.2.2[j]? = some id) (hk : k < N) (hin : ∀ w ∈ u_ws C T N, w ∈ lw_all) (ty0 : Nat → FieldType) (hty : ∀ k, k < N → parseFieldDescriptor (T k).2.2.1 = some (ty0 k)) (hnm : ∀ a, a < N → ∀ b, b < N → a ≠ b → (T a).2.1 ≠ (T b).2.1) (hC : (T k).1 = C) (hkd : F.2.1 id = 1) (hti : ty0 k = .array .int) (hfin : (T k).2.2.2 = false) (hDk : D.testBit id = true) (hq1 : Cond.methodLink J.2.1 i1 yJ0_copyOf ∈ lw_all) (hq2 : Cond.fieldLink J.2.1 i2 C (T k).2.1 (T k).2.2.1 ∈ lw_all) (hRf : d + 1 ≤ R.frames) (hRl : 40 * (d + 1) ≤ R.locals) (hd2 : 1 ≤ d) (hst : (stk.map avC).sum ≤ 7) (hno : stk.all avO = true) (hno2 : loc.all (fun q => avO q.2) = true) (d1 : decode J.1 pc = .ok (.invokestatic i1, 3)) (d2 : decode J.1 (pc + 3) = .ok (.putfield i2, 3)) (kk : ∀ σ2, WGn p l e R s m args below meth c J D G cl0 A F ad0 σ0 rv (K σ2) σ2 (pc + 3 + 3) loc stk) : WGn p l e R s m args below meth c J D G cl0 A F ad0 σ0 rv (cpy σ id n K) σ pc loc (vI n :: vR (10 + id) :: vR ob :: stk) := by
  refine ⟨fun hw r σ' ho => ?_, fun ok r σ' ho h1 h2 h3 h4 hw ad H locs ls ha hP hD hS hl => ?_⟩
  · unfold cpy at ho
    split at ho
    · rename_i hc
      exact PsN.back (GrN_sN hDk (by omega)) (fun hw => hw.sN hkd (by omega) (cp_rng hw hkd)) (kk _).1 hw r σ' ho
    · cases ho
  · unfold cpy at ho
    split at ho
    · rename_i hc
      have hx := fun (ad : Nat → Nat) => wl_ar (G := G) (ad := ad) (σ := σ) hj
      simp only [arE_i hkd] at hx
      exact ng_newArr (y := yJ0_copyOf) (cy := cJ0_copyOf) (nLy := 3) (fr := 2) hF h10 (by omega) k j hid hcl hob hj hk hin ty0 hty hnm hC hkd hti hfin hq2 ⟨by omega, by omega⟩ (by omega) hst hno hno2 (lw_S hq1 q201 q165 q202) (by decide +kernel) d1 d2 (by omega) (by omega) (by omega) ⟨Nat.le_refl _, Nat.le_refl _⟩ (fun ad sz => ct_copyOf l (hx ad) (by omega) (by omega)) kk ok ho h1 h2 h3 h4 hw ha hP hD hS hl
    · cases ho
end G8

section G9
variable {p : Program} {l : Launch} {e : Env} {R : Room} {s : State} {m : MethodId} {args : Array Value} {below : List Frame} {meth : Method} {c : Code} {H : Heap} {locs : List Loc} {cells slots : Nat} {Q : State → Prop}
variable {y : MethodName} {bytes cc : ByteArray} {maxL nL mc ms n index pc : Nat} {ls : Array Slot} {ret : Option FieldType} {ws : List Cond} {rm : Room} {Pc : Array Value → State → Prop} {Qc : Array Value → State → Outcome → State → Prop} {free : Addr → Prop} {Ts : List Cond} {own C : String} {b : Addr} {As rest : List Value} {g : JFrame}
end G9
section G10
variable {p : Program} {l : Launch} {e : Env} {R : Room} {s : State} {m : MethodId} {args : Array Value} {below : List Frame} {meth : Method} {c : Code}
variable {J : Jm} {D : Nat} {G : Gm} {cl0 : List vw_C} {A : Nat → Prop} {F : Fm} {ad0 : Nat → Nat} {σ0 σ : Sg} {α : Type} {rv : α → Rs} {o : Option (α × Sg)} {pc : Nat} {loc : Lc} {stk : List AV}
variable {C : String} {T : u_T} {N ci b ob index n d : Nat} {Dc : Nat} {β : Type} {rvc : β → Rs} {oc : Option (β × Sg)} {K : β → Sg → Option (α × Sg)} {y : MethodName} {cy : ByteArray} {nLy : Nat} {rety : Option FieldType} {As : List AV}
end G10
section G11
variable {p : Program} {l : Launch} {e : Env} {R : Room} {s : State} {m : MethodId} {args : Array Value} {below : List Frame} {meth : Method} {c : Code}
variable {J : Jm} {D : Nat} {G : Gm} {cl0 : List vw_C} {A : Nat → Prop} {F : Fm} {ad0 : Nat → Nat} {σ0 σ : Sg} {α : Type} {rv : α → Rs} {o : Option (α × Sg)} {pc : Nat} {loc : Lc} {stk : List AV}
variable {C : String} {T : u_T} {N ci b ob index n d : Nat} {Dc : Nat} {oc : Option (Int × Sg)} {K : Int → Sg → Option (α × Sg)} {y : MethodName} {cy : ByteArray} {nLy : Nat} {As : List AV}
end G11

theorem nCt_of {l : Launch} {d : Nat} {F : Fm} {cl0 : List vw_C} {y : MethodName} {cy : ByteArray} {nL : Nat} {ret : Option FieldType} {D : Nat} {α : Type} {rv : α → Rs} {As : List AV} {σ : Sg} {oc : Option (α × Sg)} (hy : plainName y.cls = true) (hlen : (As.map avC).sum ≤ nL)
    (body : ∀ (p : Program) (e : Env) (R : Room) (s : State) (m : MethodId) (args : Array Value) (below : List Frame) (meth : Method) (c : Code) (G : Gm) (A : Nat → Prop) (ad : Nat → Nat), (∀ a ∈ As, avR a) → d ≤ R.frames → 40 * d ≤ R.locals → WGn p l e R s m args below meth c (cy, y.cls, nL, ret) D G cl0 A F ad σ rv oc σ 0 (lcA 0 As) []) (p0 : Program) (e0 : Env) (s0 : State) (m0 : MethodId) (meth0 : Method) (c0 : Code) (G0 : Gm) : CtN l d F cl0 y cy nL ret D rv As σ oc := by
  refine ⟨fun hA => (body p0 e0 ({ frames := d, locals := 40 * d } : Room) s0 m0 #[] [] meth0 c0 G0 (fun _ => True) (fun _ => 0) hA (Nat.le_refl _) (Nat.le_refl _)).1, fun r1 σ1 hoc hA G ad sz => ?_⟩
  refine Met.ofW (cc := cy) (maxL := nL) (ret := ret) hy rfl ?_
  intro p e s m args below meth c s₁ B hml hv
  obtain ⟨rfl, hsz, hw, hP, hK, hD0⟩ := hv
  have hts := atoms_spec (ws := ws_ y cy nL ret) B.pre
  have hts : ∀ w ∈ lw_all, w.before _ s = true := fun w h => hts w (List.mem_cons_of_mem _ h)
  have hown : s.vm.findClass y.cls = some m.cls := findClass_of_methodNamed B.named
  subst hsz
  have hl := lv_entry (As.map (toV ad)) (n := nL) (by rw [sl_len]; exact hlen)
  rw [lg_entry_eq]
  rw [lcA_eq] at hl
  have hb := body p e ({ frames := d, cells := gC σ1 - gC σ, slots := gS σ1 - gS σ, locals := 40 * d } : Room) s m (As.map (toV ad)).toArray below meth c G (va_A (wl F G ad σ) s.heap.size) ad hA (Nat.le_refl _) (Nat.le_refl _)
  have hx := hb.2 ⟨B.exec, B.bytes, hml, hown, hts, B.notSynchronized, B.returns, hK, fun q h => Or.inr h⟩ r1 σ1 hoc (Nat.le_refl _) (Nat.le_refl _) rfl rfl hw ad s.heap [] _ adM.rf hP (hD0.self (sz := s.heap.size)) va_S.rf hl
  rw [Nat.sub_self, Nat.sub_self] at hx
  exact hx

