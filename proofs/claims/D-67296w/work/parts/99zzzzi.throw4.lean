/-! methods that may throw: contracts, and calls of them -/
def rvX (b : Bool) (v : Int) : Rs := if exB < v then .inr (v - exB).toNat else if b = true then .inl (some (vI v)) else .inl none
theorem rvX_thr {b : Bool} {v : Int} (h : exB < v) : rvX b v = .inr (v - exB).toNat := if_pos h
theorem rvX_i {v : Int} (h : ¬ exB < v) : rvX true v = .inl (some (vI v)) := by
  unfold rvX; rw [if_neg h]; rfl
theorem rvX_v {v : Int} (h : ¬ exB < v) : rvX false v = .inl none := by
  unfold rvX; rw [if_neg h]; rfl
def MetG (l : Launch) (y : MethodName) (ws : List Cond) (rm : Room) (Pc : Array Value → State → Prop) (Qc : Array Value → State → Outcome → State → Prop) (mc ms : Nat) (free : Addr → Prop) : Prop :=
  MetFree l y (headSpec ws rm) Pc (fun _ _ _ _ _ => True) (fun a st o t => Qc a st o t ∧ ∃ L, FrameEndG st o t L mc ms ∧ ∀ q ∈ L, free q.base)
theorem MetG.ofW {l : Launch} {y : MethodName} {ws ws' : List Cond} {rm : Room} {Pc : Array Value → State → Prop} {Qc : Array Value → State → Outcome → State → Prop} {mc ms : Nat} {free : Addr → Prop} {cc : ByteArray} {maxL : Nat} {ret : Option FieldType}
    (hy : plainName y.cls = true) (hw : ws = Cond.code y cc maxL ret :: ws')
    (body : ∀ p e s m args below meth c s₁, BodyLoose p l y (headSpec ws rm) cc maxL ret e s m args below meth c s₁ → c.maxLocals = maxL → c.exceptionTable = #[] → Pc args s →
      W p l e (headSpec ws rm).room s m args below meth c s.heap [] 0 0 (MQg below Qc args s mc ms free) (entryFrame m args maxL)) : MetG l y ws rm Pc Qc mc ms free := by
  have cs : ∀ {args : Array Value} {s : State} {m : MethodId}, (headSpec ws rm).pre.before args s = true → s.methodNamed? y = some m → ∃ meth c, s.vm.method? m = some meth ∧ meth.code = some c ∧ c.code = cc ∧ c.maxLocals = maxL ∧ meth.sig.returnType = ret ∧ meth.locks = false ∧ c.exceptionTable.isEmpty = true := by
    intro args s m h hn
    obtain ⟨meth, c, h1, h2, h3, h4, h5, h6, h7, -⟩ := Cond.code_spec hn (atoms_spec (ws := ws) h _ (by rw [hw]; exact List.mem_cons_self))
    exact ⟨meth, c, h1, h2, h3, h4, h5, h6, h7⟩
  refine MetFree.of_bodyS (code := cc) (maxLocals := maxL) (ret := ret) hy ?_ ?_
  · intro args s m h hn
    obtain ⟨meth, c, h1, h2, h3, h4, h5, h6, -⟩ := cs h hn
    exact ⟨meth, c, h1, h2, h3, h4, h5, h6⟩
  · intro p e s m args below meth c s₁ B hml hP _
    have X := Stand.of_body B
    obtain ⟨meth', c', h1, h2, -, -, -, -, h7⟩ := cs B.pre B.named
    cases Option.some.inj (B.method.symm.trans h1)
    cases Option.some.inj (X.code.symm.trans h2)
    have hh0 : s₁.heap = s.heap := by rw [B.state]; rfl
    obtain ⟨t, a1, o, b1, b2, b3, b4⟩ := body p e s m args below meth c s₁ B hml (Array.isEmpty_iff.mp h7) hP s₁ hh0 X
    exact ⟨t, o, a1, b1, b2, b3, b4⟩
/-- one that returns meets what the calls ask for -/
theorem MetG.met {l : Launch} {y : MethodName} {ws : List Cond} {rm : Room} {Pc : Array Value → State → Prop} {Qc : Array Value → State → Outcome → State → Prop} {mc ms : Nat} {free : Addr → Prop} (h : MetG l y ws rm Pc Qc mc ms free) (hq : ∀ a st o t, Qc a st o t → ∃ v, o = .returned v) : Met l y ws rm Pc Qc mc ms free :=
  MetFree.mono h (fun _ _ h => h) (fun _ _ _ _ _ h => h) (fun a st o t _ hh => by
    obtain ⟨q1, L, ⟨-, f1, f2⟩, q2⟩ := hh
    exact ⟨q1, L, ⟨hq a st o t q1, f1, f2⟩, q2⟩)
section TC
variable {p : Program} {l : Launch} {e : Env} {R : Room} {s : State} {m : MethodId} {args : Array Value} {below : List Frame} {meth : Method} {c : Code} {T : State} {locs : List Loc} {cells slots : Nat}
variable {y : MethodName} {ws : List Cond} {rm : Room} {Pc : Array Value → State → Prop} {Qc : Array Value → State → Outcome → State → Prop} {mc ms n index : Nat} {free : Addr → Prop} {own : String} {bytes : ByteArray} {maxL : Nat} {ret : Option FieldType}
/-- a callee that throws: from its entry to the caller's frame beneath the exception -/
theorem thr_call (X : Stand p l e R s m args below meth c T locs cells slots) (hM : MetG l y ws rm Pc Qc mc ms free) (cb : CallB R s args own index y bytes maxL ret ws rm mc ms n) (hbl : FrameBlind Pc) {g : JFrame} {ig : Instr} {mk : MethodId} {a : Array Value} (hg : g.method = m) (hsize : g.locals.size = c.maxLocals) (hdg : decode c.code g.pc = .ok (ig, 3)) (hW : 2 * g.monitorRoom + (g.stack.map fun v => v.category).sum ≤ 8) (hn : T.methodNamed? y = some mk) (hc : cells + mc ≤ R.cells) (hs : slots + ms ≤ R.slots) (hp : Pc a T) (hthr : ∀ st o t, Qc a st o t → ∃ x, o = .threw x) :
    ∃ (x : Addr) (t T' : State) (L : List Loc), T'.heap = t.heap ∧ T'.vm = t.vm ∧ Stand p l e R s m args below meth c T' (locs ++ L) (cells + mc) (slots + ms) ∧ (∀ q ∈ L, free q.base) ∧ Qc a (T.calling g mk a) (.threw x) t ∧ Steps p.tables e below (doInvoke e (T.setTop g) [] mk a).1 ((T'.setTop g).pushFrame (.throwing x)) := by
  obtain ⟨hrc, hrs, hfr, hlo, hws, hcw, -, hini, -⟩ := cb
  have hmore : ∀ w ∈ ws, w.before a T = true := fun w hw => hws w hw a T X.warmed
  obtain ⟨methY, cY, hmY, hcY, -, hlY, -⟩ := Cond.code_spec hn (hmore _ hcw)
  obtain ⟨kY, hkY, -⟩ := className_of_methodNamed hn
  have hini' : (Cond.initialized y.cls).before a T = true := word_at X.warmed (Or.inl (by first | rfl | simp [Cond.onTables, Cond.keeps, Cond.steady])) hini
  have hiY : kY.init = .initialized := Cond.initialized_spec (findClass_of_methodNamed hn) hkY hini'
  subst hg
  have hat := X.here
  have hroom : (T.calling g mk a).hasRoom e.platform (headSpec ws rm).room = true := X.room_calling (g := g) (R' := (headSpec ws rm).room) hsize hmY hcY hfr (by rw [hlY]; show _ + _ + _ + rm.locals ≤ _; omega) (by show cells + rm.cells ≤ _; omega) (by show slots + rm.slots ≤ _; omega)
  have hap : (headSpec ws rm).appliesLoose y e.platform (T.calling g mk a) = true := Spec.appliesLoose_calling (g := g) hat hdg hn hkY hiY hroom (atoms_intro hmore)
  obtain ⟨fs, hfs⟩ := hat.above
  obtain ⟨g0, hg0⟩ := Option.isSome_iff_exists.mp hat.top
  obtain ⟨tl, htl⟩ := State.topJava?_eq_some.mp hg0
  have hset : (T.setTop g).frames = .java g :: T.frames.tail := State.frames_setTop' g hat.top
  obtain ⟨o, t, hst, -, hen, hq, L, ⟨-, hwm, hsb⟩, hL⟩ := Steps.callFree hM p X.admits X.cas X.clock (acts := []) (s := T.setTop g) (m := mk) (args := a) (mid := .java g :: fs) (below := below) (by rw [hset, hfs]; rfl) hap (hbl _ _ _ _ hp) trivial
  have hq : Qc a (T.calling g mk a) o t := hq
  obtain ⟨x, rfl⟩ := hthr _ _ _ hq
  rw [hset] at hen
  have hft : t.frames = .throwing x :: .java g :: T.frames.tail := hen
  have hwm : T.WarmedH t.vm := hwm
  obtain ⟨s1, s2, s3, s4, s5, s6⟩ := hsb
  have hte : t = ({ (T.calling g mk a).setFrames t.frames with heap := t.heap, slotsUsed := t.slotsUsed } : State).setVm t.vm := by
    have e0 : t = ({ t with vm := (T.calling g mk a).vm } : State).setVm t.vm := rfl
    have s1' : ({ t with vm := (T.calling g mk a).vm } : State) = ({ (T.calling g mk a).setFrames t.frames with heap := t.heap, slotsUsed := t.slotsUsed } : State) := s1
    exact e0.trans (congrArg (fun z : State => z.setVm t.vm) s1')
  have hte2 : t = ((({ T with heap := t.heap, slotsUsed := t.slotsUsed } : State).setVm t.vm).setTop g).pushFrame (.throwing x) := by
    have hf2 : (({ T with heap := t.heap, slotsUsed := t.slotsUsed } : State).setVm t.vm).frames = .java g0 :: tl := htl
    refine hte.trans ?_
    rw [hft, State.calling_eq hat.top, State.setFrames_setFrames, State.pushFrame, State.frames_setTop _ hf2, State.setTop_of_frames _ hf2, State.setFrames_setFrames, htl]
    rfl
  have hsame : T.sameButNew ({ T with heap := t.heap, slotsUsed := t.slotsUsed } : State) L mc ms := by
    refine ⟨?_, s2, s3, s4, s5, s6⟩
    obtain ⟨th, hth, -⟩ := State.frames_cons htl
    show ({ T with heap := t.heap, slotsUsed := t.slotsUsed } : State) = { T.setFrames T.frames with heap := t.heap, slotsUsed := t.slotsUsed }
    rw [State.setFrames_self hth]
  refine ⟨x, t, ({ T with heap := t.heap, slotsUsed := t.slotsUsed } : State).setVm t.vm, L, rfl, rfl, ?_, hL, hq, by rw [← hte2]; exact hst⟩
  exact ⟨X.admits, X.cas, X.clock, X.frames, X.room, X.hears, X.method, X.code, (hat.setHeapUsed t.heap t.slotsUsed).setVm hwm.alike, X.tail, State.WarmedH.trans X.warmed hwm, X.limits, X.bytes, X.same.trans (hsame.setVm s.vm)⟩
/-- a callee of an object throws, and with it the caller -/
theorem thr_V (X : Stand p l e R s m args below meth c T locs cells slots) (hexec : p.tables.exec = Jvm.exec) (hM : MetG l y ws rm Pc Qc mc ms free) {C : String} (cw : CallW R s args own C index y bytes maxL ret ws rm mc ms n) (hown : s.vm.findClass own = some m.cls) {b : Addr} {As rest : List Value} (hp : PreV s T.heap C b Pc As) {g : JFrame} (hg : g.method = m) (hn : As.length = n) (hsize : g.locals.size = c.maxLocals) (hstack : g.stack = As.reverse ++ .ref b :: rest) (hW : 2 * g.monitorRoom + (rest.map fun v => v.category).sum ≤ 8) (hdg : decode c.code g.pc = .ok (.invokevirtual index, 3)) (hf : cells + mc ≤ R.cells ∧ slots + ms ≤ R.slots)
    (hlk : g.locked = none) (hen : g.entered = []) (hex : c.exceptionTable = #[]) (hlocks : meth.locks = false) (hthr : ∀ st o t, Qc (Value.ref b :: As).toArray st o t → ∃ x, o = .threw x) :
    ∃ (x : Addr) (st₀ t T' : State) (L : List Loc), st₀.heap = T.heap ∧ s.WarmedH st₀.vm ∧ T'.heap = t.heap ∧ T'.vm = t.vm ∧ (∀ q ∈ L, free q.base) ∧ Qc (Value.ref b :: As).toArray st₀ (.threw x) t ∧ Steps p.tables e below (T.setTop g) T' ∧ T'.status = .running ∧ Ended T' below (.threw x) ∧ s.WarmedH T'.vm ∧ s.sameButNew ({ T' with vm := s.vm } : State) (locs ++ L) (cells + mc) (slots + ms) := by
  obtain ⟨hbl, ⟨cellB, hcB, hoB, hclB⟩, hPc⟩ := hp
  obtain ⟨cb, hin, hse⟩ := cw
  obtain ⟨-, -, -, -, -, -, hcode, -, hy, hlen, hl⟩ := id cb
  obtain ⟨mk, methM, hnm, hmm, hstM, habM⟩ := Cond.instanceMethod_spec hin
  obtain ⟨methM', cM, hmm', -, -, -, -, -, -, hsig⟩ := Cond.code_spec hnm hcode
  cases hmm.symm.trans hmm'
  obtain ⟨c2, r2, m2, q1, q2, q3, q4, kP, hkP, hkPi⟩ := Cond.selects_spec hse
  cases hclB.symm.trans q1
  cases (State.methodFound?_of_named hnm hy).symm.trans q2
  cases hnm.symm.trans q3
  have hsel : selectMethod e.platform s.vm cellB.cls mk = .method mk := by rw [Launch.admits_selectMethod X.admits]; exact q4
  obtain ⟨vm₁, X₁, st1⟩ := X.invokevirtual hexec hown hl hnm hmm hstM hkP hkPi hy (a := b) (cell := cellB) hcB (fun z h => by rw [h] at hoB; cases hoB) hsel hmm habM hkP hkPi (g := g) hg (argsL := As) (rest := rest) (hn.trans (hlen _ hsig)) hstack hdg
  obtain ⟨x, t, T', L, e1, e2, X', hL, hq, st2⟩ := thr_call X₁ hM cb hbl (g := { g with stack := rest }) (ig := .invokevirtual index) (mk := mk) (a := (Value.ref b :: As).toArray) hg hsize hdg hW (X₁.named hnm) hf.1 hf.2 (hPc (T.setVm vm₁) rfl X₁.warmed) hthr
  obtain ⟨l1, l2, l3, l4, l5⟩ := X'.leaveThrown x (g := { g with stack := rest }) hg hlk hen (by rw [hex]; intro z hz; cases hz) hlocks
  exact ⟨x, (T.setVm vm₁).calling { g with stack := rest } mk (Value.ref b :: As).toArray, t, T'.setFrames (.throwing x :: below), L, rfl, X₁.warmed, e1, e2, hL, hq, st1 _ (fun acts => by rw [doInvoke_state]; exact st2.trans l1), l2, l3, l4, l5⟩
theorem thr_S (X : Stand p l e R s m args below meth c T locs cells slots) (hexec : p.tables.exec = Jvm.exec) (hM : MetG l y ws rm Pc Qc mc ms free) (cb : CallB R s args own index y bytes maxL ret ws rm mc ms n) (hstt : (Cond.static y).before args s = true) (hown : s.vm.findClass own = some m.cls) {As rest : List Value} (hp : PreS s T.heap Pc As) {g : JFrame} (hg : g.method = m) (hn : As.length = n) (hsize : g.locals.size = c.maxLocals) (hstack : g.stack = As.reverse ++ rest) (hW : 2 * g.monitorRoom + (rest.map fun v => v.category).sum ≤ 8) (hdg : decode c.code g.pc = .ok (.invokestatic index, 3)) (hf : cells + mc ≤ R.cells ∧ slots + ms ≤ R.slots)
    (hlk : g.locked = none) (hen : g.entered = []) (hex : c.exceptionTable = #[]) (hlocks : meth.locks = false) (hthr : ∀ st o t, Qc As.toArray st o t → ∃ x, o = .threw x) :
    ∃ (x : Addr) (st₀ t T' : State) (L : List Loc), st₀.heap = T.heap ∧ s.WarmedH st₀.vm ∧ T'.heap = t.heap ∧ T'.vm = t.vm ∧ (∀ q ∈ L, free q.base) ∧ Qc As.toArray st₀ (.threw x) t ∧ Steps p.tables e below (T.setTop g) T' ∧ T'.status = .running ∧ Ended T' below (.threw x) ∧ s.WarmedH T'.vm ∧ s.sameButNew ({ T' with vm := s.vm } : State) (locs ++ L) (cells + mc) (slots + ms) := by
  obtain ⟨hbl, hPc⟩ := hp
  obtain ⟨-, -, -, -, -, -, hcode, hini, hy, hlen, hl⟩ := id cb
  obtain ⟨mk, hnm⟩ := Cond.code_named hcode
  obtain ⟨methM, cM, hmm, -, -, -, -, -, -, hsig⟩ := Cond.code_spec hnm hcode
  have hstatic : methM.isStatic = true := Cond.static_spec hnm hmm hstt
  obtain ⟨kP, hkP, -⟩ := className_of_methodNamed hnm
  have hinitP : kP.init = .initialized := Cond.initialized_spec (findClass_of_methodNamed hnm) hkP hini
  obtain ⟨vm₁, X₁, st1⟩ := X.invokestatic hexec hown hl hnm hmm hstatic hkP hinitP hy (g := g) hg (argsL := As) (rest := rest) (hn.trans (hlen _ hsig)) hstack hdg
  obtain ⟨x, t, T', L, e1, e2, X', hL, hq, st2⟩ := thr_call X₁ hM cb hbl (g := { g with stack := rest }) (ig := .invokestatic index) (mk := mk) (a := As.toArray) hg hsize hdg hW (X₁.named hnm) hf.1 hf.2 (hPc (T.setVm vm₁) rfl X₁.warmed) hthr
  obtain ⟨l1, l2, l3, l4, l5⟩ := X'.leaveThrown x (g := { g with stack := rest }) hg hlk hen (by rw [hex]; intro z hz; cases hz) hlocks
  exact ⟨x, (T.setVm vm₁).calling { g with stack := rest } mk (As).toArray, t, T'.setFrames (.throwing x :: below), L, rfl, X₁.warmed, e1, e2, hL, hq, st1 _ (fun acts => by rw [doInvoke_state]; exact st2.trans l1), l2, l3, l4, l5⟩
end TC
