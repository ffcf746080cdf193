/-! an exception is caught, by a class that may be resolved only then -/
theorem go_cold {E : CtlPost} {e : Env} {d : Bool} {acts : List Action} {s : State} {f : JFrame} {a : Addr} {Q : Handler → Pre} {x : ExceptionTableEntry} {t : List ExceptionTableEntry} {c : ClassId} {cell : Cell} {vm' : Vm} (hx : covers x f.pc = true) (h0 : x.catchType ≠ 0)
    (hg : (Jvm.resolveClass f.method.cls x.catchType).Gives e.toSetting s.vm (.ok c) vm') (hsz : vm'.classes.size ≤ s.vm.classes.size) (hcell : s.heap[a]? = some cell) (hobj : ∀ k, cell.vm ≠ .statics k)
    (hk : ∃ k, vm'.classes[cell.cls]? = some k) (hc : ∃ k, vm'.classes[c]? = some k) :
    Jvm.Sem.wp (findHandler.go f a (x :: t)) Q E e d acts s ↔ if vm'.assignable cell.cls c = true then Q (.found x.handlerPc) d acts (s.setVm vm') else Jvm.Sem.wp (findHandler.go f a t) Q E e d acts (s.setVm vm') := by
  simp only [covers] at hx
  obtain ⟨ha, ht⟩ := hg.op (op := VmOp.resolveClass f.method.cls x.catchType) rfl
  have hcell' : (s.setVm vm').heap[a]? = some cell := hcell
  cases hfit : vm'.assignable cell.cls c <;>
    simp [findHandler.go, hx, h0, ha, ht, hsz, hcell, hobj, hk, hc, hfit, VmOp.dirties, VmOp.acts]
def FindsG (e : Env) (s : State) (f : JFrame) (a : Addr) (h : Handler) (s' : State) : Prop :=
  ∀ (Q : Handler → Pre) (E : CtlPost) (d : Bool) (acts : List Action), Jvm.Sem.wp (findHandler f a) Q E e d acts s ↔ Q h d acts s'
theorem catch_step {e : Env} {s s' : State} {a : Addr} {f : JFrame} {r : List Frame} {pc : Nat} (hfind : FindsG e s f a (.found pc) s') :
    (stepThrowing e s a (.java f :: r)).Is (s'.setFrames (.java { f with pc := pc, stack := [.ref a] } :: r)) [] := by
  simp only [stepThrowing, searchFrame, vmDo]
  generalize hr : Sem.go _ e false [] s = res
  obtain ⟨as, rfl, ha⟩ := Sem.eq_ok_of hr (a := Handler.found pc) (s' := s') (acts' := []) (by simp [hfind _ _ _ _])
  exact ⟨rfl, ha⟩
theorem caughtG {tb : Tables} {e : Env} {s target : State} {g : JFrame} {c : Code} {below : List Frame} {a : Addr} {vm' : Vm} (h : At s g.method c below) {pc : Nat} (hfind : FindsG e ((s.setTop g).pushFrame (.throwing a)) g a (.found pc) (((s.setTop g).pushFrame (.throwing a)).setVm vm'))
    (hrest : Steps tb e below ((s.setVm vm').setTop { g with pc := pc, stack := [.ref a] }) target) :
    Steps tb e below ((s.setTop g).pushFrame (.throwing a)) target := by
  obtain ⟨hgo, hw⟩ := h.throwing a
  refine Steps.head hgo hw ?_
  rw [stepThread_throwing (frames_entered h.top _), (catch_step (s := (s.setTop g).pushFrame (.throwing a)) hfind).1]
  obtain ⟨g₀, hg⟩ := Option.isSome_iff_exists.mp h.top
  obtain ⟨r, hr⟩ := State.topJava?_eq_some.mp hg
  have hr' : (s.setVm vm').frames = .java g₀ :: r := hr
  have e1 : (((s.setTop g).pushFrame (.throwing a)).setVm vm').setFrames (.java { g with pc := pc, stack := [.ref a] } :: s.frames.tail) = (s.setVm vm').setTop { g with pc := pc, stack := [.ref a] } := by
    rw [State.setTop_of_frames _ hr', State.pushFrame, State.setTop_of_frames _ hr, State.setFrames_setFrames, hr]
    show (((s.setFrames _).setVm vm').setFrames _) = _
    have e2 : ∀ (z : List Frame) (u : State), (u.setFrames z).setVm vm' = (u.setVm vm').setFrames z := fun z u => rfl
    rw [e2, State.setFrames_setFrames]
    rfl
  rw [e1]
  exact hrest
section CT
variable {p : Program} {l : Launch} {e : Env} {R : Room} {s : State} {m : MethodId} {args : Array Value} {below : List Frame} {meth : Method} {c : Code} {T : State} {locs : List Loc} {cells slots : Nat}
/-- one row of the table, whose class is looked up cold or warm -/
theorem look_class (X : Stand p l e R s m args below meth c T locs cells slots) {own name : String} {index : Nat} (hown : s.vm.findClass own = some m.cls) (hlink : (Cond.classLink own index name).before args s = true) :
    ∃ (cT : ClassId) (vm' : Vm), s.vm.findClass name = some cT ∧ (Jvm.resolveClass m.cls index).Gives e.toSetting T.vm (.ok cT) vm' ∧ s.WarmedH vm' ∧ vm'.classes.size ≤ T.vm.classes.size ∧ (∃ k, vm'.classes[cT]? = some k) := by
  have hpl : e.platform.magicAccessors = ({} : Platform).magicAccessors := by rw [X.admits.platform]
  obtain ⟨cT, hcT, hcl⟩ := Cond.classLink_spec hown hlink e.platform hpl
  obtain ⟨dk, _, _, kt, hd, _, _, _, _, hkt, _, hopen⟩ := hcl.here
  have hcl₀ := X.warmed.classLinks hcl
  have hW' : s.WarmedH (T.vm.noted m.cls index (.cls cT)) := X.warmed.noted hd hopen (State.rightAt_cls hcl)
  obtain ⟨kt', hkt', -⟩ := hW'.alike.2.2 _ _ hkt
  exact ⟨cT, _, hcT, resolveClass_links e.toSetting hcl₀, hW', by no_record, kt', hkt'⟩
/-- the first row takes it -/
theorem catch_first (X : Stand p l e R s m args below meth c T locs cells slots) {own name : String} {x : ExceptionTableEntry} {rest : List ExceptionTableEntry} {a : Addr} {g : JFrame} {cell : Cell} (htab : c.exceptionTable.toList = x :: rest) (hg : g.method = m) (hx : covers x g.pc = true) (h0 : x.catchType ≠ 0)
    (hown : s.vm.findClass own = some m.cls) (hlink : (Cond.classLink own x.catchType name).before args s = true) (hcell : T.heap[a]? = some cell) (hvm : cell.vm = .none) (hcls : s.vm.findClass name = some cell.cls) (hfit : ∀ cT, s.vm.findClass name = some cT → s.vm.assignable cT cT = true) :
    ∃ vm', Stand p l e R s m args below meth c (T.setVm vm') locs cells slots ∧ ∀ target, Steps p.tables e below ((T.setVm vm').setTop { g with pc := x.handlerPc, stack := [.ref a] }) target → Steps p.tables e below ((T.setTop g).pushFrame (.throwing a)) target := by
  obtain ⟨cT, vm', e1, e2, e3, e4, e5⟩ := look_class X hown hlink
  have e6 : cell.cls = cT := Option.some.inj (hcls.symm.trans e1)
  refine ⟨vm', X.noted e3, fun target ht => ?_⟩
  subst hg
  refine caughtG X.here (fun Q E d acts => ?_) ht
  rw [W.findHandler_eq (meth := meth) (code := c) (by rw [Stand.throwing_vm]; exact X.method') X.code, htab, go_cold (c := cT) (cell := cell) (vm' := vm') hx h0 (by rw [Stand.throwing_vm]; exact e2) (by rw [Stand.throwing_vm]; exact e4) (by rw [Stand.throwing_heap]; exact hcell) (fun k h => by rw [hvm] at h; cases h) (by rw [e6]; exact e5) e5, if_pos (by rw [e6, e3.alike.assignable]; exact hfit cT e1)]
/-- the first row does not take it, the second does -/
theorem catch_second (X : Stand p l e R s m args below meth c T locs cells slots) {own name name2 : String} {x x2 : ExceptionTableEntry} {rest : List ExceptionTableEntry} {a : Addr} {g : JFrame} {cell : Cell} (htab : c.exceptionTable.toList = x :: x2 :: rest) (hg : g.method = m) (hx : covers x g.pc = true) (h0 : x.catchType ≠ 0) (hx2 : covers x2 g.pc = true) (h02 : x2.catchType ≠ 0)
    (hown : s.vm.findClass own = some m.cls) (hlink : (Cond.classLink own x.catchType name).before args s = true) (hlink2 : (Cond.classLink own x2.catchType name2).before args s = true) (hcell : T.heap[a]? = some cell) (hvm : cell.vm = .none) (hcls : s.vm.findClass name2 = some cell.cls) (hno : ∀ cT cS, s.vm.findClass name = some cT → s.vm.findClass name2 = some cS → s.vm.assignable cS cT = false) (hfit : ∀ cT, s.vm.findClass name2 = some cT → s.vm.assignable cT cT = true) :
    ∃ vm', Stand p l e R s m args below meth c (T.setVm vm') locs cells slots ∧ ∀ target, Steps p.tables e below ((T.setVm vm').setTop { g with pc := x2.handlerPc, stack := [.ref a] }) target → Steps p.tables e below ((T.setTop g).pushFrame (.throwing a)) target := by
  obtain ⟨cT, vm1, e1, e2, e3, e4, e5⟩ := look_class X hown hlink
  obtain ⟨cS, vm2, f1, f2, f3, f4, f5⟩ := look_class (X.noted e3) hown hlink2
  have e6 : cell.cls = cS := Option.some.inj (hcls.symm.trans f1)
  have f6 : ∃ k, vm1.classes[cS]? = some k := by
    obtain ⟨k, hk⟩ := f5
    obtain ⟨k', hk', -⟩ := (f3.alike.symm.trans e3.alike).2.2 _ _ hk
    exact ⟨k', hk'⟩
  refine ⟨vm2, X.noted f3, fun target ht => ?_⟩
  subst hg
  refine caughtG X.here (fun Q E d acts => ?_) ht
  rw [W.findHandler_eq (meth := meth) (code := c) (by rw [Stand.throwing_vm]; exact X.method') X.code, htab, go_cold (c := cT) (cell := cell) (vm' := vm1) hx h0 (by rw [Stand.throwing_vm]; exact e2) (by rw [Stand.throwing_vm]; exact e4) (by rw [Stand.throwing_heap]; exact hcell) (fun k h => by rw [hvm] at h; cases h) (by rw [e6]; exact f6) e5, if_neg (by rw [e6, e3.alike.assignable, hno cT cS e1 f1]; decide), go_cold (c := cS) (cell := cell) (vm' := vm2) hx2 h02 (by exact f2) (by exact f4) (by show ((T.setTop g).pushFrame (.throwing a)).heap[a]? = some cell; rw [Stand.throwing_heap]; exact hcell) (fun k h => by rw [hvm] at h; cases h) (by rw [e6]; exact f5) f5, if_pos (by rw [e6, f3.alike.assignable]; exact hfit cS f1)]
  exact Iff.rfl
end CT
