/-! THE CLAIM OUT OF ONE WALK OF THE LAW'S BODY. Your part is whole_start (and what it stands on); all else here is the same for every law, but numbers. -/
def R_law : String := "RoundCheckLaw"
def lw_P (b : Addr) (xs : List Int32) (args : Array Value) (s : State) : Prop := args = #[.ref b] ∧ s.IntsAt b xs ∧ xs.length ≤ 320 ∧ (Jvm.Cond.and given_1 narrow_1).before args s = true
def lw_Q (_ : Array Value) (s : State) (o : Outcome) (t : State) : Prop := o = .returned (some (.int 1)) ∧ Framed s o t [] 600128 7301098
def lw_Z (below : List Frame) (a : Array Value) (s : State) : State → Prop := fun t => ∃ o, t.status = .running ∧ Ended t below o ∧ lw_Q a s o t
/-- the law's own end, with 1 on the stack, nothing written that was there before, its room as the claim has it -/
theorem lw_ret {p : Program} {l : Launch} {e : Env} {s : State} {m : MethodId} {below : List Frame} {meth : Method} {c : Code} {b : Nat} (hx : p.tables.exec = Jvm.exec) (hb : c.code = code) (hr : meth.sig.returnType = ret) (hlocks : meth.locks = false) {pc : Nat} {H : Heap} {ls : Array Slot} (hdg : decode code pc = .ok (.ireturn, 1)) : W p l e room_1 s m #[Value.ref b] below meth c H [] 600128 7301098 (lw_Z below #[Value.ref b] s) (F0 m pc ls [.int 1]) := by
  intro T hT X
  obtain ⟨fs, hret, hrun, hended, hW, hframe⟩ := X.leave (v := some (.int 1)) (hlocks := hlocks) (fun h => by rw [hr] at h; cases h)
  have hmeth' : T.vm.method? m = some meth := X.method'
  refine ⟨T.setFrames fs, ?_, .returned (some (.int 1)), hrun, hended, rfl, ⟨_, rfl⟩, hW, hframe⟩
  jvm_step X.here [X.here.top, hx, hb, hdg, hmeth', hr, ret, narrow_b1]
  (try refine ⟨rfl, ?_⟩); (try refine ⟨rfl, ?_⟩)
  first | (intro acts; rw [hret _ acts rfl rfl rfl]) | rw [hret _ _ rfl rfl rfl]
  exact Steps.refl _
/-- what holds at the law's entry: the machine, the code, the tables' words (any of lw_tbl by 'hts w (by decide +kernel)'), the script of L ints xs at the cell b, what the Statement gives of the start (any of its parts by flat_of_before) -/
def lw_At (p : Program) (s : State) (m : MethodId) (meth : Method) (c : Code) (b L : Nat) (xs : Nat → Int32) : Prop :=
  p.tables.exec = Jvm.exec ∧ c.code = code ∧ meth.sig.returnType = ret ∧ c.maxLocals = 7 ∧ s.vm.findClass R_law = some m.cls ∧ (∀ w ∈ lw_tbl, w.before #[Value.ref b] s = true) ∧ va_X b L xs s s.heap ∧ b < s.heap.size ∧ meth.locks = false ∧ (Jvm.Cond.and given_1 narrow_1).before #[Value.ref b] s = true
set_option maxRecDepth 8000 in
theorem fs1_def : ∀ j, j < 57 → defaultValue (tyX1 j) = vp_V (bfs kdC (fun _ => 0) zS [] 30 57) j
  | 0, _ => rfl | 1, _ => rfl | 2, _ => rfl | 3, _ => rfl | 4, _ => rfl | 5, _ => rfl | 6, _ => rfl | 7, _ => rfl | 8, _ => rfl | 9, _ => rfl | 10, _ => rfl | 11, _ => rfl | 12, _ => rfl | 13, _ => rfl | 14, _ => rfl | 15, _ => rfl | 16, _ => rfl | 17, _ => rfl | 18, _ => rfl | 19, _ => rfl
  | 20, _ => rfl | 21, _ => rfl | 22, _ => rfl | 23, _ => rfl | 24, _ => rfl | 25, _ => rfl | 26, _ => rfl | 27, _ => rfl | 28, _ => rfl | 29, _ => rfl | 30, _ => rfl | 31, _ => rfl | 32, _ => rfl | 33, _ => rfl | 34, _ => rfl | 35, _ => rfl | 36, _ => rfl | 37, _ => rfl | 38, _ => rfl | 39, _ => rfl
  | 40, _ => rfl | 41, _ => rfl | 42, _ => rfl | 43, _ => rfl | 44, _ => rfl | 45, _ => rfl | 46, _ => rfl | 47, _ => rfl | 48, _ => rfl | 49, _ => rfl | 50, _ => rfl | 51, _ => rfl | 52, _ => rfl | 53, _ => rfl | 54, _ => rfl | 55, _ => rfl | 56, _ => rfl
  | j + 57, h => absurd h (by omega)
set_option maxRecDepth 8000 in
theorem fs3_def : ∀ j, j < 83 → defaultValue (tyX3 j) = vp_V (bfs kdT (fun _ => 0) zS [] 0 83) j
  | 0, _ => rfl | 1, _ => rfl | 2, _ => rfl | 3, _ => rfl | 4, _ => rfl | 5, _ => rfl | 6, _ => rfl | 7, _ => rfl | 8, _ => rfl | 9, _ => rfl | 10, _ => rfl | 11, _ => rfl | 12, _ => rfl | 13, _ => rfl | 14, _ => rfl | 15, _ => rfl | 16, _ => rfl | 17, _ => rfl | 18, _ => rfl | 19, _ => rfl
  | 20, _ => rfl | 21, _ => rfl | 22, _ => rfl | 23, _ => rfl | 24, _ => rfl | 25, _ => rfl | 26, _ => rfl | 27, _ => rfl | 28, _ => rfl | 29, _ => rfl | 30, _ => rfl | 31, _ => rfl | 32, _ => rfl | 33, _ => rfl | 34, _ => rfl | 35, _ => rfl | 36, _ => rfl | 37, _ => rfl | 38, _ => rfl | 39, _ => rfl
  | 40, _ => rfl | 41, _ => rfl | 42, _ => rfl | 43, _ => rfl | 44, _ => rfl | 45, _ => rfl | 46, _ => rfl | 47, _ => rfl | 48, _ => rfl | 49, _ => rfl | 50, _ => rfl | 51, _ => rfl | 52, _ => rfl | 53, _ => rfl | 54, _ => rfl | 55, _ => rfl | 56, _ => rfl | 57, _ => rfl | 58, _ => rfl | 59, _ => rfl
  | 60, _ => rfl | 61, _ => rfl | 62, _ => rfl | 63, _ => rfl | 64, _ => rfl | 65, _ => rfl | 66, _ => rfl | 67, _ => rfl | 68, _ => rfl | 69, _ => rfl | 70, _ => rfl | 71, _ => rfl | 72, _ => rfl | 73, _ => rfl | 74, _ => rfl | 75, _ => rfl | 76, _ => rfl | 77, _ => rfl | 78, _ => rfl | 79, _ => rfl
  | 80, _ => rfl | 81, _ => rfl | 82, _ => rfl
  | j + 83, h => absurd h (by omega)
theorem LT_of {l : Launch} (h : l.flags = flags0) : LT l := fun e ha => by
  rw [ha.platform]
  show l.stackTraces = false
  unfold Launch.stackTraces
  rw [h]
  decide +kernel
/-- the words that exceptions ask for hold at the law's entry -/
theorem XS_in {s : State} {b : Nat} (hts : ∀ w ∈ lw_tbl, w.before #[Value.ref b] s = true) (hgv : (Jvm.Cond.and given_1 narrow_1).before #[Value.ref b] s = true) : XS s := by
  have hfl := flat_of_before _ hgv
  have tr : ∀ {c : Cond}, c.onTables = true → c.before #[Value.ref b] s = true → c.before #[] s = true := by
    intro c hc h
    have e := Cond.onTables_vm (A := #[Value.ref b]) (A' := #[]) (U := s) (U' := s) s.vm c hc
    have hU : s.setVm s.vm = s := rfl
    rw [hU] at e
    rw [← e]
    exact h
  intro w hw
  simp only [xsW, List.mem_cons, List.not_mem_nil, or_false] at hw
  rcases hw with rfl | rfl | rfl | rfl | rfl | rfl | rfl | rfl | rfl
  · exact lsA_moved (Vm.Alike.refl _) (fun _ _ h _ => h) (hts _ (by decide +kernel))
  · exact lsA_moved (Vm.Alike.refl _) (fun _ _ h _ => h) (hts _ (by decide +kernel))
  · exact tr rfl (hts _ (by decide +kernel))
  · exact tr rfl (hts _ (by decide +kernel))
  · exact stA_moved (Vm.Alike.refl _) (fun _ _ h _ => h) (hfl _ (by decide +kernel))
  · exact stA_moved (Vm.Alike.refl _) (fun _ _ h _ => h) (hfl _ (by decide +kernel))
  · exact tr rfl (hts _ (by decide +kernel))
  · exact tr rfl (hts _ (by decide +kernel))
  · exact tr rfl (hts _ (by decide +kernel))
theorem XN_in {s : State} {b : Nat} (hgv : (Jvm.Cond.and given_1 narrow_1).before #[Value.ref b] s = true) : XN s := fun cT cS h1 h2 => by
  have h := flat_of_before _ hgv (Cond.not (Cond.castable "java/lang/IllegalStateException" "java/lang/IllegalArgumentException")) (by decide +kernel)
  have h1 : s.vm.findClass "java/lang/IllegalArgumentException" = some cT := h1
  have h2 : s.vm.findClass "java/lang/IllegalStateException" = some cS := h2
  simpa [Cond.before, Cond.holds, Cond.value, h1, h2] using h
