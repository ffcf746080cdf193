/-! contracts of the law's wrappers -/
def PcXY (F : Fm) (G : Gm) (cl0 : List vw_C) (ad : Nat → Nat) (σ : Sg) (sz : Nat) (As : List AV) : Array Value → State → Prop := fun a U => PcXX F G cl0 ad σ sz As a U ∧ XN U
def CtY (l : Launch) (d : Nat) (F : Fm) (cl0 : List vw_C) (y : MethodName) (cy : ByteArray) (nL : Nat) (ret : Option FieldType) (hh : List (Nat × Nat × Nat × Nat)) (D : Nat) {α : Type} (rv : α → Rs) (As : List AV) (σ : Sg) (oc : Option (α × Sg)) : Prop :=
  ((∀ a ∈ As, avR a) → PsX F D ret rv σ oc) ∧ ∀ r1 σ1, oc = some (r1, σ1) → (∀ a ∈ As, avR a) → ∀ (G : Gm) (ad : Nat → Nat) (sz : Nat), MetG l y (wsW_ y cy nL ret hh) ({ frames := d, cells := gC σ1 - gC σ, slots := gS σ1 - gS σ, locals := 40 * d } : Room) (PcXY F G cl0 ad σ sz As) (Qx F G cl0 (va_A (wl F G ad σ) sz) σ ad ret (rv r1) σ1) (gC σ1 - gC σ) (gS σ1 - gS σ) (va_A (wl F G ad σ) sz)
theorem MetG.ofWW {l : Launch} {y : MethodName} {ws ws' : List Cond} {rm : Room} {Pc : Array Value → State → Prop} {Qc : Array Value → State → Outcome → State → Prop} {mc ms : Nat} {free : Addr → Prop} {cc : ByteArray} {maxL : Nat} {ret : Option FieldType} {hh : List (Nat × Nat × Nat × Nat)}
    (hy : plainName y.cls = true) (hw : ws = Cond.codeWith y cc maxL ret hh :: ws')
    (body : ∀ p e s m args below meth c s₁, BodyLoose p l y (headSpec ws rm) cc maxL ret e s m args below meth c s₁ → c.maxLocals = maxL → c.exceptionTable.toList = tableOf hh → Pc args s →
      W p l e (headSpec ws rm).room s m args below meth c s.heap [] 0 0 (MQg below Qc args s mc ms free) (entryFrame m args maxL)) : MetG l y ws rm Pc Qc mc ms free := by
  have cs : ∀ {args : Array Value} {s : State} {m : MethodId}, (headSpec ws rm).pre.before args s = true → s.methodNamed? y = some m → ∃ meth c, s.vm.method? m = some meth ∧ meth.code = some c ∧ c.code = cc ∧ c.maxLocals = maxL ∧ meth.sig.returnType = ret ∧ meth.locks = false ∧ c.exceptionTable.toList = tableOf hh := by
    intro args s m h hn
    obtain ⟨m9, meth, c, hn9, h1, h2, h3, h4, h7, h5, h6, -⟩ := Cond.codeWith_spec (atoms_spec (ws := ws) h _ (by rw [hw]; exact List.mem_cons_self))
    cases hn.symm.trans hn9
    exact ⟨meth, c, h1, h2, h3, h4, h5, h6, by rw [← h7, table_eq]⟩
  refine MetFree.of_bodyS (code := cc) (maxLocals := maxL) (ret := ret) hy ?_ ?_
  · intro args s m h hn
    obtain ⟨meth, c, h1, h2, h3, h4, h5, h6, -⟩ := cs h hn
    exact ⟨meth, c, h1, h2, h3, h4, h5, h6⟩
  · intro p e s m args below meth c s₁ B hml hP _
    have X := Stand.of_body B
    obtain ⟨meth', c', h1, h2, -, -, -, -, h7⟩ := cs B.pre B.named
    cases Option.some.inj (B.method.symm.trans h1)
    cases Option.some.inj (X.code.symm.trans h2)
    have hh0 : s₁.heap = s.heap := by rw [B.state]; rfl
    obtain ⟨t, a1, o, b1, b2, b3, b4⟩ := body p e s m args below meth c s₁ B hml h7 hP s₁ hh0 X
    exact ⟨t, o, a1, b1, b2, b3, b4⟩
theorem CtY_of {l : Launch} {d : Nat} {F : Fm} {cl0 : List vw_C} {y : MethodName} {cy : ByteArray} {nL : Nat} {ret : Option FieldType} {hh : List (Nat × Nat × Nat × Nat)} {D : Nat} {α : Type} {rv : α → Rs} {As : List AV} {σ : Sg} {oc : Option (α × Sg)} (hy : plainName y.cls = true) (hlen : (As.map avC).sum ≤ nL)
    (body : ∀ (p : Program) (e : Env) (R : Room) (s : State) (m : MethodId) (args : Array Value) (below : List Frame) (meth : Method) (c : Code) (G : Gm) (A : Nat → Prop) (ad : Nat → Nat), (∀ a ∈ As, avR a) → d ≤ R.frames → 40 * d ≤ R.locals → WGy p l e R s m args below meth c hh (cy, y.cls, nL, ret) D G cl0 A F ad σ rv oc σ 0 (lcA 0 As) []) : CtY l d F cl0 y cy nL ret hh D rv As σ oc := by
  refine ⟨fun hA => (body p00 e00 ({ frames := d, locals := 40 * d } : Room) default default #[] [] default c00 ((fun _ => 0, fun _ _ => 0), 0, 0, 0) (fun _ => True) (fun _ => 0) hA (Nat.le_refl _) (Nat.le_refl _)).1, fun r1 σ1 hoc hA G ad sz => ?_⟩
  refine MetG.ofWW (cc := cy) (maxL := nL) (ret := ret) (hh := hh) hy rfl ?_
  intro p e s m args below meth c s₁ B hml hex hv
  obtain ⟨⟨⟨rfl, hsz, hw, hP, hK, hD0⟩, hxs⟩, hxn⟩ := hv
  have hts := atoms_spec (ws := wsW_ y cy nL ret hh) B.pre
  have hts : ∀ w ∈ lw_all, w.before _ s = true := fun w h => hts w (List.mem_cons_of_mem _ h)
  have hown : s.vm.findClass y.cls = some m.cls := findClass_of_methodNamed B.named
  subst hsz
  have hl := lv_entry (As.map (toV ad)) (n := nL) (by rw [sl_len]; exact hlen)
  rw [lg_entry_eq]
  rw [lcA_eq] at hl
  have hb := body p e ({ frames := d, cells := gC σ1 - gC σ, slots := gS σ1 - gS σ, locals := 40 * d } : Room) s m (As.map (toV ad)).toArray below meth c G (va_A (wl F G ad σ) s.heap.size) ad hA (Nat.le_refl _) (Nat.le_refl _)
  have hx := hb.2 ⟨⟨B.exec, B.bytes, hml, hown, hts, B.notSynchronized, B.returns, hK, fun q h => Or.inr h⟩, hxs, hxn, hex, world_plain hP⟩ r1 σ1 hoc (Nat.le_refl _) (Nat.le_refl _) rfl rfl hw ad s.heap [] _ adM.rf hP (hD0.self (sz := s.heap.size)) va_S.rf hl
  rw [Nat.sub_self, Nat.sub_self] at hx
  exact hx
/-- which code a wrapper gives back for an exception -/
def hk2 (k : Nat) : Option Int := if k = 1 then some 1 else if k = 2 then some 2 else none
def hkA (k : Nat) : Option Int := if k = 1 then some 1 else none
def hkS (k : Nat) : Option Int := if k = 2 then some 1 else none
theorem hk2_in {P : Nat → Int → Prop} (h1 : P 1 1) (h2 : P 2 2) : ∀ k c0, hk2 k = some c0 → P k c0 := fun k c0 h => by
  unfold hk2 at h
  split at h
  · rename_i e; injection h with h; subst h; subst e; exact h1
  · split at h
    · rename_i e; injection h with h; subst h; subst e; exact h2
    · cases h
theorem hkA_in {P : Nat → Int → Prop} (h1 : P 1 1) : ∀ k c0, hkA k = some c0 → P k c0 := fun k c0 h => by
  unfold hkA at h
  split at h
  · rename_i e; injection h with h; subst h; subst e; exact h1
  · cases h
theorem hkS_in {P : Nat → Int → Prop} (h1 : P 2 1) : ∀ k c0, hkS k = some c0 → P k c0 := fun k c0 h => by
  unfold hkS at h
  split at h
  · rename_i e; injection h with h; subst h; subst e; exact h1
  · cases h
theorem keep90 {loc : Lc} {stk : List AV} {σ σ1 : Sg} (hno : stk.all (avK [90]) = true) (hno2 : loc.all (fun q => avK [90] q.2) = true) (h90 : gL σ1 90 = gL σ 90) (ad ad1 : Nat → Nat) (h : adM σ ad σ1 ad1) : lcV ad1 loc = lcV ad loc ∧ stk.map (toV ad1) = stk.map (toV ad) := by
  have hk : keeps [90] σ σ1 = true := by simp [keeps, h90]
  exact ⟨List.map_congr_left fun a hm => by rw [avK_eq hk h (List.all_eq_true.mp hno2 a hm)], List.map_congr_left fun a hm => avK_eq hk h (List.all_eq_true.mp hno a hm)⟩
def callL (d K : Nat) (as : List Int) (u : Sg) : Option (Int × Sg) := liC u (runC d K as (dnC u))
theorem callL_90 {d K : Nat} {as : List Int} {u : Sg} {r : Int} {u' : Sg} (h : callL d K as u = some (r, u')) : gL u' 90 = gL u 90 := by
  obtain ⟨τ, -, rfl⟩ := liC_some h
  exact gL_of (umC_A' (by omega))
theorem inL_i {v : Int} (h : inR v) : inL v := by omega
