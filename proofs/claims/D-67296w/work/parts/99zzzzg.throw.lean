/-! an exception is made and thrown -/
theorem stA_moved {u U : State} {C n d : String} (hvm : u.vm.Alike U.vm) (hh : ∀ (q : Nat) (cell : Cell), u.heap[q]? = some cell → cell.vm.isStatics = true → U.heap[q]? = some cell) {a a' : Array Value} (h : (Cond.isRef (.static C n d)).before a u = true) : (Cond.isRef (.static C n d)).before a' U = true := by
  obtain ⟨v, hv, hr⟩ := Cond.isRef_spec h
  cases hi : u.fieldFound? C n d with
  | none => simp [Term.eval, State.fieldNamed?, hi] at hv
  | some w =>
    obtain ⟨c, k, i, f⟩ := w
    obtain ⟨hst, q, cell, ha, hcell, -, hslot⟩ := Term.static_spec hi hv
    have hs : cell.vm.isStatics = true := by
      simp only [Term.eval, State.fieldNamed?, hi, Option.bind_eq_bind, Option.bind_some, hst, beq_self_eq_true, if_true, Option.pure_def, ha, hcell] at hv
      by_cases h' : cell.vm.isStatics = true
      · exact h'
      · simp [h'] at hv
    obtain ⟨k', hi', hek⟩ := State.fieldFound?_setVm hvm hi
    have hi2 : U.fieldFound? C n d = some (c, k', i, f) := hi'
    have hev := Term.static_eval (s := U) (args := a') (first := U) (o := none) (idx := []) hi2 hst (by rw [hek]; exact ha) (hh q cell hcell hs) hs hslot
    simp only [Cond.before, Cond.holds, Cond.value, hev, Option.bind_eq_bind, Option.bind_some]
    cases v <;> first | rfl | (simp [Value.isRef] at hr)
theorem lsA_moved {u U : State} {C n d : String} (hvm : u.vm.Alike U.vm) (hh : ∀ (q : Nat) (cell : Cell), u.heap[q]? = some cell → cell.vm.isStatics = true → U.heap[q]? = some cell) {a a' : Array Value} (h : (Cond.laysStatic C n d).before a u = true) : (Cond.laysStatic C n d).before a' U = true := by
  obtain ⟨c, k, i, f, q, cell, hc, hi, hst, ha, hcell, hs, hcls, hlt, hty⟩ := Cond.laysStatic_spec h
  obtain ⟨k', hi', hek⟩ := State.fieldFound?_setVm hvm hi
  exact Cond.laysStatic_of (s := U) (by rw [hvm.findClass]; exact hc) hi' hst (by rw [hek]; exact ha) (hh q cell hcell hs) hs hcls hlt (by rw [hek]; exact hty)
theorem XS.moved {u U : State} (hvm : u.vm.Alike U.vm) (hh : ∀ (q : Nat) (cell : Cell), u.heap[q]? = some cell → cell.vm.isStatics = true → U.heap[q]? = some cell) (h : XS u) : XS U := by
  intro w hw
  have tr : ∀ {c : Cond}, c.onTables = true → c.before #[] (u.setVm U.vm) = true → c.before #[] U = true := by
    intro c hc h
    have e := Cond.onTables_vm (A := #[]) (A' := #[]) (U := u) (U' := U) U.vm c hc
    have hU : U.setVm U.vm = U := rfl
    rw [hU] at e
    rw [← e]
    exact h
  have h0 := h w hw
  simp only [xsW, List.mem_cons, List.not_mem_nil, or_false] at hw
  rcases hw with rfl | rfl | rfl | rfl | rfl | rfl | rfl | rfl | rfl
  · exact lsA_moved hvm hh h0
  · exact lsA_moved hvm hh h0
  · exact tr rfl (by rw [Cond.castable_setVm hvm]; exact h0)
  · exact tr rfl (by rw [Cond.castable_setVm hvm]; exact h0)
  · exact stA_moved hvm hh h0
  · exact stA_moved hvm hh h0
  · exact tr rfl (by rw [Cond.declares_setVm hvm]; exact h0)
  · exact tr rfl (by rw [Cond.declares_setVm hvm]; exact h0)
  · exact tr rfl (by rw [Cond.declares_setVm hvm]; exact h0)
section G12
variable {p : Program} {l : Launch} {e : Env} {R : Room} {s : State} {m₀ : MethodId} {args : Array Value} {below : List Frame} {meth : Method} {c : Code} {W₀ : State} {locs : List Loc} {cells slots : Nat}
set_option maxHeartbeats 1000000 in
/-- a new exception is set up and thrown: of the heap nothing changes but its cell -/
theorem thr_H (X : Stand p l e R s m₀ args below meth c W₀ locs cells slots) (hexec : p.tables.exec = Jvm.exec) (htr : e.platform.stackTraces = false) {own cls : String} {names : List String} {ic : Nat}
    (hown : s.vm.findClass own = some m₀.cls) (hcls : Bundle.fit cls = true) (hnames : ∀ n ∈ names, Bundle.fit n = true) (h : ∀ a ∈ Bundle.ownAtoms0 own ic cls names, a.before args s = true)
    (hlocs : ∀ x ∈ locs, ∀ cell, s.heap[x.base]? = some cell → cell.vm.isStatics = false)
    {a : Addr} {cX : ClassId} {kX : Class} (hfoundX : s.vm.findClass cls = some cX) (hkX : s.vm.classes[cX]? = some kX) (hcell : W₀.heap[a]? = some (freshCell cX kX)) (hnew : s.heap.size ≤ a)
    {g : JFrame} (hg : g.method = m₀) (hsize : g.locals.size = c.maxLocals) (hlocked : g.locked = none) (hentered : g.entered = []) {rest : List Value} (hstack : g.stack = .ref a :: .ref a :: rest)
    (hd6 : decode c.code g.pc = .ok (.invokespecial ic, 3)) (hd9 : decode c.code (g.pc + 3) = .ok (.athrow, 1)) (hout : ∀ x ∈ c.exceptionTable.toList, covers x (g.pc + 3) = false)
    (hRframes : names.length + 3 < R.frames) (hRlocals : 2 * g.monitorRoom + ((Value.ref a :: rest).map fun v => v.category).sum + (13 * (names.length + 1) + 41) ≤ R.locals) (hlocks : meth.locks = false) :
    ∃ U : State, Steps p.tables e below (W₀.setTop g) U ∧ U.status = .running ∧ Ended U below (.threw a) ∧ s.WarmedH U.vm ∧ s.sameButNew ({ U with vm := s.vm } : State) locs cells slots ∧
      (∃ ce, U.heap[a]? = some ce ∧ ce.cls = cX ∧ ce.vm = .none) ∧ (∀ q, q ≠ a → U.heap[q]? = W₀.heap[q]?) ∧ U.heap.size = W₀.heap.size := by
  have howns : e.platform.frameOwnsMonitors = true := by rw [X.admits.platform]
  have hfin : e.platform.finalization = false := by rw [X.admits.platform]
  have hpl : e.platform.magicAccessors = ({} : Platform).magicAccessors := by rw [X.admits.platform]
  have a' : ∀ x, x ∈ Bundle.ownAtoms0 own ic cls names → x.holds args s none s [] = true := fun x hx => h x hx
  obtain ⟨T, Z, L, LZ, Y⟩ := ThrowableC.of_atoms (args := args) howns hfin hpl (fun x hx => h x (by simp [Bundle.ownAtoms0, hx]))
  obtain ⟨P1, Ps, hlen, L1, hL, hP1m, hlink1, hlink⟩ := Bundle.chain0 (args := args) hpl Y.init0 names cls hcls hnames (fun x hx => h x (by simp [Bundle.ownAtoms0, hx]))
  have hfound : s.vm.findClass cls = some P1.m.cls := findClass_of_methodNamed hP1m
  cases Option.some.inj (hfoundX.symm.trans hfound)
  obtain ⟨c1, kX', hc1, hk, hord, -, -, hn6⟩ := Cond.instantiable_spec (a' (.instantiable cls 6) (by simp [Bundle.ownAtoms0]))
  cases Option.some.inj (hc1.symm.trans hfound)
  cases Option.some.inj (hkX.symm.trans hk)
  have hselx : ∀ {y : MethodName} {my : MethodId}, s.methodNamed? y = some my → (y.cls ≠ "java/lang/invoke/MethodHandle" ∧ y.cls ≠ "java/lang/invoke/VarHandle") → (Cond.selects cls y y).holds args s none s [] = true → selectMethod e.platform s.vm P1.m.cls my = .method my := by
    intro y my hy hm hs
    obtain ⟨c2, r2, m2, q1, q2, q3, q4, -⟩ := Cond.selects_spec hs
    cases Option.some.inj (q1.symm.trans hfound)
    cases Option.some.inj (q2.symm.trans (State.methodFound?_of_named hy hm))
    cases Option.some.inj (q3.symm.trans hy)
    rw [Launch.admits_selectMethod X.admits]; exact q4
  have hsel0 := hselx Y.fill0 (by decide) (a' (.selects cls Bundle.tFill0 Bundle.tFill0) (by simp [Bundle.ownAtoms0]))
  have hselF := hselx Y.fill (by decide) (a' (.selects cls Bundle.tFill Bundle.tFill) (by simp [Bundle.ownAtoms0]))
  obtain ⟨cellS0, hcS0, hiss⟩ := Y.statics
  obtain ⟨u0, hu0⟩ := Cond.staticRefV Y.unassigned L.unassignedStatic L.statics hcS0 hiss (a' (.isRef (.static Bundle.tN "UNASSIGNED_STACK" Bundle.steD)) (by simp [Bundle.ownAtoms0]))
  obtain ⟨sen, hsen⟩ := Cond.staticRefV Y.sentinel L.sentinelStatic L.statics hcS0 hiss (a' (.isRef (.static Bundle.tN "SUPPRESSED_SENTINEL" Bundle.listD)) (by simp [Bundle.ownAtoms0]))
  obtain ⟨ci198, i198, fB, hk198, hg198, ha198, hsB, -, hnB, htB, hffB⟩ := Cond.ownField (t := .object "java/lang/Object") Y.found L.cls (by decide +kernel) (a' (.fieldLink Bundle.tN 198 Bundle.tN "backtrace" "Ljava/lang/Object;") (by simp [Bundle.ownAtoms0])) (a' (.lays Bundle.tN Bundle.tN "backtrace" "Ljava/lang/Object;") (by simp [Bundle.ownAtoms0])) e.platform hpl
  obtain ⟨cellS, hcS', heS, -, hkeep⟩ := X.same.2.2.2.2.2 T.aS cellS0 hcS0
  have hcellS : W₀.heap[T.aS]? = some cellS := hcS'
  have hout' : ∀ i, (⟨T.aS, i⟩ : Loc) ∉ locs := fun i hmem => by
    have := hlocs _ hmem cellS0 hcS0
    rw [hiss] at this; cases this
  have hknownS : cellS.vm ≠ .unknown := by
    rw [heS]; intro hu
    rw [show cellS0.vm = .unknown from hu] at hiss
    cases hiss
  have hneS : T.aS ≠ a := Nat.ne_of_lt (Nat.lt_of_lt_of_le (Array.getElem?_eq_some_iff.mp hcS0).1 hnew)
  obtain ⟨tyC, dC, hdC, hdnC⟩ := Cond.laysAt hfound hk Y.cause (a' (.lays cls Bundle.tN "cause" "Ljava/lang/Throwable;") (by simp [Bundle.ownAtoms0]))
  obtain ⟨tyS, dS, hdS, hdnS⟩ := Cond.laysAt hfound hk Y.stack (a' (.lays cls Bundle.tN "stackTrace" Bundle.steD) (by simp [Bundle.ownAtoms0]))
  obtain ⟨tyP, dP, hdP, hdnP⟩ := Cond.laysAt hfound hk Y.supp (a' (.lays cls Bundle.tN "suppressedExceptions" Bundle.listD) (by simp [Bundle.ownAtoms0]))
  obtain ⟨tyB, dB, hdB, hdnB⟩ := Cond.laysAt hfound hk hffB (a' (.lays cls Bundle.tN "backtrace" "Ljava/lang/Object;") (by simp [Bundle.ownAtoms0]))
  have bC := Cond.laysApart hdB hdC hdnB hdnC (by rw [hnB, Y.causeName]; decide)
  have bS := Cond.laysApart hdB hdS hdnB hdnS (by rw [hnB, Y.stackName]; decide)
  have bP := Cond.laysApart hdB hdP hdnB hdnP (by rw [hnB, Y.suppName]; decide)
  have hskip : SkipFacts T e.platform s (fun u => u) u0 ((preparedCellV T.toThrowableT (freshCell P1.m.cls kX) a u0 sen).withEntry W₀.cur) :=
    ⟨{ ci198 := ci198, i198 := i198, fBack := fB }, ⟨hk198, hg198, ha198, hsB⟩, by
      have := fresh_default (c := P1.m.cls) tyB
      rw [htB] at this
      simpa [preparedCellV, Cell.setSlot, Cell.withEntry, Array.getElem?_setIfInBounds, bC, bS, bP, bC.symm, bS.symm, bP.symm, defaultValue] using this, fun _ _ => rfl⟩
  obtain ⟨tm, methC, cdC, kC, vm₁, hnC, -, -, -, -, -, -, -, hW₁, st1⟩ := Steps.initCold (tb := p.tables) (e := e) (below := below) (s := s) (U := W₀) X.here hexec X.warmed hpl hown (t := Bundle.init0 cls) rfl rfl (Bundle.fit_spec hcls).2
    (a' (.methodLink own ic (Bundle.init0 cls)) (by simp [Bundle.ownAtoms0])) (h (.instanceMethod (Bundle.init0 cls)) (by cases names <;> simp [Bundle.ownAtoms0, Bundle.chain0Atoms, Bundle.passAtoms])) (bytes := Bundle.five) (maxL := 1) (h (.code (Bundle.init0 cls) Bundle.five 1 none) (by cases names <;> simp [Bundle.ownAtoms0, Bundle.chain0Atoms, Bundle.passAtoms]))
    (f := g) hg (a := a) (rest := .ref a :: rest) hstack hd6
  cases Option.some.inj (hnC.symm.trans hP1m)
  have X₁ := X.noted hW₁
  obtain ⟨vm₂, X₂, st2⟩ := X₁.ctorPlainOffV hexec (g := { g with stack := .ref a :: rest }) hg hsize T L Z LZ (P1 :: Ps)
    (fun P hP => by rcases List.mem_cons.mp hP with rfl | hP; exact L1; exact hL P hP) ⟨hlink1, hlink⟩ (u0 := u0) (sen := sen) (self := a) (cell := freshCell P1.m.cls kX) (cellS := cellS)
    hcell (fun _ => by simp) (by simp) rfl rfl hsel0 hselF hcellS hneS hknownS (by rw [hkeep _ (hout' _)]; exact hu0) (by rw [hkeep _ (hout' _)]; exact hsen)
    (Takes.of_laid hk hord tyC (by rw [Y.causeType]; rfl)) (Takes.of_laid hk hord tyS (by rw [Y.stackType]; exact fits_refV_array _ u0)) (Takes.of_laid hk hord tyP (by rw [Y.suppType]; exact fits_refV_object _ sen)) Y.objLocals hskip htr [] hd6
    (by simp only [List.length_cons, hlen]; omega) (by simp only [List.length_cons, hlen]; exact hRlocals)
  obtain ⟨hwalk, hrun, hended, hWU, hsame⟩ := X₂.athrowLeaves hexec (g := { g with stack := .ref a :: rest, pc := g.pc + 3 }) hg hlocked hentered hout (a := a) (rest := rest) rfl hd9
  have hlt : a < ((W₀.setVm vm₁).setVm vm₂).heap.size := (Array.getElem?_eq_some_iff.mp hcell).1
  have hU := heapAt_setCell_self (s := (W₀.setVm vm₁).setVm vm₂) ((preparedCellV T.toThrowableT (freshCell P1.m.cls kX) a u0 sen).setSlot T.fStack.slot u0.v) hlt
  refine ⟨_, st1 _ (fun acts => ?_), hrun, hended, hWU, hsame.weaken (fun y hy hlt' => ?_) (Nat.le_refl _) (Nat.le_refl _), ⟨_, hU, rfl, rfl⟩, fun q hq => ?_, ?_⟩
  · rw [doInvoke_state]
    exact st2 _ hwalk
  · rcases List.mem_append.mp hy with h1 | h1
    · exact h1
    · exfalso
      have hb : y.base = a := by
        simp only [List.mem_cons, List.not_mem_nil, or_false] at h1
        rcases h1 with rfl | rfl | rfl | rfl <;> rfl
      rw [hb] at hlt'
      exact Nat.not_lt.mpr hnew hlt'
  · exact heapAt_setCell_ne (s := (W₀.setVm vm₁).setVm vm₂) _ (Ne.symm hq)
  · exact size_setCell ((W₀.setVm vm₁).setVm vm₂) a _
end G12
