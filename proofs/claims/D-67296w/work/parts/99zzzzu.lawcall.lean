/-! the law's calls -/
section LC
variable {p : Program} {l : Launch} {e : Env} {s : State} {m : MethodId} {below : List Frame} {meth : Method} {c : Code} {G : Gm} {b L : Nat} {xs : Nat → Int32} {Q : State → Prop} {σ σ1 : Sg} {pc : Nat} {loc : Lc} {stk : List AV}
variable {C : String} {Tt : u_T} {N ci b0 ob index n d : Nat} {Dc : Nat} {y : MethodName} {cy : ByteArray} {nLy : Nat} {rety : Option FieldType} {As : List AV} {r1 : Int} {oc : Option (Int × Sg)}
theorem wl_back {stk0 Aw : List AV} (C0 : LwC p s m meth c G b L xs) (hr : WF FL σ → ∀ (ad : Nat → Nat) (H : Heap) (locs : List Loc) (ls : Array Slot), va_P G.1 clA (wl FL G ad σ) H → va_D (fun q => s.heap.size ≤ q) (wl FL G ad σ) → va_S (fun q => s.heap.size ≤ q) s.heap H locs → lv_has ls 7 (lcV ad loc) → va_Run p l e room_1 s m #[.ref b] below meth c H locs (gC σ) (gS σ) (gC σ1 - gC σ) (gS σ1 - gS σ) (F0 m pc ls (stk0.map (toV ad))) (stk.map (toV ad)) (Qx FL G clA (va_A (wl FL G ad σ) H.size) σ ad rety (.inl (some (vI r1))) σ1 (Aw.map (toV ad)).toArray) (va_A (wl FL G ad σ) H.size))
    (hg : WF FL σ → gC σ ≤ gC σ1 ∧ gS σ ≤ gS σ1) (hkeep : ∀ ad ad1 : Nat → Nat, adM σ ad σ1 ad1 → lcV ad1 loc = lcV ad loc ∧ stk.map (toV ad1) = stk.map (toV ad)) (k : WL p l e s m below meth c G b Q σ1 (pc + 3) loc (vI r1 :: stk)) : WL p l e s m below meth c G b Q σ pc loc stk0 := by
  intro ad H locs ls h9 hw hP hD hS hl
  obtain ⟨g1, g2⟩ := hg hw
  have hfree : ∀ q, va_A (wl FL G ad σ) H.size q → s.heap.size ≤ q := by
    intro q hq
    rcases hq with ⟨i, en, hi⟩ | hq
    · exact hD.2 i (q, en) hi
    · exact Nat.le_trans hS.1 hq
  intro T hT X
  obtain ⟨v, st₀, t, T', Lc, e0, X', hL, e1, e2, ⟨ad1, had, hv, -, hw1, hP1, hD1, hK1, hz, hkp⟩, st⟩ := hr hw ad H locs ls hP hD hS hl T hT X
  have hv' : v = some (toV ad1 (vI r1)) := by
    have hv2 : (Outcome.returned v) = .returned (some (toV ad1 (vI r1))) := hv
    injection hv2
  subst hv'
  obtain ⟨kl, ks⟩ := hkeep ad ad1 had
  rw [e0] at hz hkp
  have hh' : T'.heap = t.heap := e1
  have hS1 : va_S (fun q => s.heap.size ≤ q) s.heap T'.heap (locs ++ Lc) := by
    rw [hh']
    refine ⟨Nat.le_trans hS.1 hz, fun q g1 g2 => ?_, fun q hq => ?_⟩
    · rw [hkp q (Nat.lt_of_lt_of_le g1 hS.1) (fun z => g2 (hfree q z))]
      exact hS.2.1 q g1 g2
    · rcases List.mem_append.mp hq with h | h
      · exact hS.2.2 q h
      · exact hfree _ (hL q h)
  have ww := k ad1 T'.heap (locs ++ Lc) ls (by rw [had.1 9 (by omega)]; exact h9) hw1 (by rw [hh']; exact hP1) (hD1.weaken (fun _ _ _ h => hfree _ h)) hS1 (by rw [kl]; exact hl)
  rw [show gC σ + (gC σ1 - gC σ) = gC σ1 by omega, show gS σ + (gS σ1 - gS σ) = gS σ1 by omega] at X'
  obtain ⟨t2, b1, b2⟩ := ww T' rfl X'
  refine ⟨t2, st t2 ?_, b2⟩
  have ef : (F0 m (pc + 3) ls ((vI r1 :: stk).map (toV ad1))) = ({ (F0 m pc ls (stk0.map (toV ad))) with pc := (F0 m pc ls (stk0.map (toV ad))).pc + 3, stack := (some (toV ad1 (vI r1))).toList ++ stk.map (toV ad) } : JFrame) := by
    rw [List.map_cons, ks]
    rfl
  rw [ef] at b1
  exact b1
/-- a method of one of the law's objects -/
theorem wl_callV (C0 : LwC p s m meth c G b L xs) (hM : Ct l d FL clA y cy nLy rety Dc rvI (vR ob :: As) σ oc) (hoc : oc = some (r1, σ1)) (hcl : clA[ci]? = some (C, Tt, N)) (hob : FL.1[ob]? = some (ci, b0, N)) (hV : GoodIn lw_all (wsV RX0 index C y (ws_ y cy nLy rety))) (hd : y.cls = C ∧ y.cls ≠ "java/lang/invoke/MethodHandle" ∧ y.cls ≠ "java/lang/invoke/VarHandle" ∧ (parseMethodDescriptor y.desc).map (fun d => d.parameters.length) = some n) (hn : As.length = n) (hnL : nLy ≤ 21) (hRf : d + 1 ≤ 2048) (hA : ∀ a ∈ As, avR a) (hst : (stk.map avC).sum ≤ 8) (hno : stk.all (avK [90]) = true) (hno2 : loc.all (fun q => avK [90] q.2) = true) (h90 : gL σ1 90 = gL σ 90) (hC : gC σ1 ≤ 600128) (hS1 : gS σ1 ≤ 7301098) (dd : decode cL_law pc = .ok (.invokevirtual index, 3))
    (k : WL p l e s m below meth c G b Q σ1 (pc + 3) loc (vI r1 :: stk)) : WL p l e s m below meth c G b Q σ pc loc (As.reverse ++ vR ob :: stk) := by
  have hA' : ∀ a ∈ vR ob :: As, avR a := fun a ha => by rcases List.mem_cons.mp ha with q | q; rw [q]; trivial; exact hA a q
  refine wl_back (rety := rety) (Aw := vR ob :: As) C0 (fun hw ad H locs ls hP hD hS hl => ?_) (fun hw => (hM.1 hA' hw r1 σ1 hoc).1.1) (fun ad ad1 h => keep90 hno hno2 h90 ad ad1 h) k
  have hg := (hM.1 hA' hw r1 σ1 hoc).1.1
  have hm := hM.2 r1 σ1 hoc hA' G ad H.size
  have hK := C0.1.2.2.2.2.2.2.2.1
  refine va_runV (As := As.map (toV ad)) (rest := stk.map (toV ad)) ⟨C0.1.1, C0.1.2.1, C0.1.2.2.1, C0.1.2.2.2.1, C0.1.2.2.2.2.1⟩ hm (cwV n C0.1.2.2.2.2.1 hV rfl rfl rfl hd ⟨hRf, by show 8 + (nLy + 11) + 40 * d ≤ 84000; omega⟩) ⟨?_, va_recv hK hP hcl (wl_ob hob), ?_⟩ rfl (by rw [List.length_map]; exact hn) hl.1 ?_ (stk_room rfl hst) dd ⟨by show gC σ + (gC σ1 - gC σ) ≤ 600128; omega, by show gS σ + (gS σ1 - gS σ) ≤ 7301098; omega⟩
  · intro a U g mk q
    obtain ⟨q0, q1, qw, qP, qK, qD⟩ := q
    exact ⟨q0, q1, qw, qP, va_K.moved (u := U) (U := U.calling g mk a) (Vm.Alike.refl U.vm) qK, qD⟩
  · intro U hU hW
    exact ⟨rfl, by rw [hU], hw, by rw [hU]; exact hP, va_K.moved hW.alike hK, hD.weaken (fun _ _ _ _ => trivial)⟩
  · show List.map (toV ad) (As.reverse ++ vR ob :: stk) = _
    rw [List.map_append, List.map_reverse]
    rfl
end LC
section LS
variable {p : Program} {l : Launch} {e : Env} {R : Room} {s : State} {m : MethodId} {args : Array Value} {below : List Frame} {meth : Method} {c : Code} {T : State} {locs : List Loc} {cells slots : Nat}
/-- a static call of a method with handlers, which returns -/
theorem callSW (X : Stand p l e R s m args below meth c T locs cells slots) (hexec : p.tables.exec = Jvm.exec) {own : String} {index : Nat} {y : MethodName} {bytes : ByteArray} {maxL : Nat} {ret : Option FieldType} {hh : List (Nat × Nat × Nat × Nat)}
    (hown : s.vm.findClass own = some m.cls) (hlink : (Cond.methodLink own index y).before args s = true) (hstat : (Cond.static y).before args s = true) (hinit : (Cond.initialized y.cls).before args s = true)
    (hcode : (Cond.codeWith y bytes maxL ret hh).before args s = true) (hy : y.cls ≠ "java/lang/invoke/MethodHandle" ∧ y.cls ≠ "java/lang/invoke/VarHandle")
    {Wd : Nat} {Pre : Pt → Array Value → Prop} {Post : Pt → Array Value → Option Value → Pt → Prop} (hK : Back l R p e below s args y 3 Wd Pre Post)
    {g : JFrame} (hg : g.method = m) (hsize : g.locals.size = c.maxLocals) {argsL rest : List Value} (hlen : ∀ sig, parseMethodDescriptor y.desc = some sig → argsL.length = sig.parameters.length)
    (hstack : g.stack = argsL.reverse ++ rest) (hW : 2 * g.monitorRoom + (rest.map fun v => v.category).sum ≤ Wd) (hdg : decode c.code g.pc = .ok (.invokestatic index, 3))
    (hpre : ∀ vm₁, s.WarmedH vm₁ → Pre ⟨T.setVm vm₁, locs, cells, slots⟩ argsL.toArray) :
    ∃ (v : Option Value) (vm₁ : Vm) (B : Pt), s.WarmedH vm₁ ∧ Stand p l e R s m args below meth c B.U B.locs B.cells B.slots ∧ Post ⟨T.setVm vm₁, locs, cells, slots⟩ argsL.toArray v B ∧
      ∀ target, Steps p.tables e below (B.U.setTop { g with pc := g.pc + 3, stack := v.toList ++ rest }) target → Steps p.tables e below (T.setTop g) target := by
  obtain ⟨mk, methM, cM, hnamed, hmethM, -, -, -, -, -, -, hsigM⟩ := Cond.codeWith_spec hcode
  have hstatic : methM.isStatic = true := Cond.static_spec hnamed hmethM hstat
  obtain ⟨kP, hkP, -⟩ := className_of_methodNamed hnamed
  have hinitP : kP.init = .initialized := Cond.initialized_spec (findClass_of_methodNamed hnamed) hkP hinit
  obtain ⟨vm₁, X₁, hstep₁⟩ := X.invokestatic hexec hown hlink hnamed hmethM hstatic hkP hinitP hy (g := g) hg (argsL := argsL) (rest := rest) (hlen _ hsigM) hstack hdg
  obtain ⟨v, B, X', hpost, hsteps⟩ := hK m meth c ⟨T.setVm vm₁, locs, cells, slots⟩ { g with stack := rest } (.invokestatic index) mk argsL.toArray X₁ hg hsize hdg hW (X₁.named hnamed) (hpre vm₁ X₁.warmed)
  exact ⟨v, vm₁, B, X₁.warmed, X', hpost, fun target h => hstep₁ _ fun acts => by rw [doInvoke_state]; exact hsteps.trans h⟩
end LS
section LC2
variable {p : Program} {l : Launch} {e : Env} {s : State} {m : MethodId} {below : List Frame} {meth : Method} {c : Code} {G : Gm} {b L : Nat} {xs : Nat → Int32} {Q : State → Prop} {σ σ1 : Sg} {pc : Nat} {loc : Lc} {stk : List AV}
variable {index n d : Nat} {Dc : Nat} {y : MethodName} {cy : ByteArray} {nLy : Nat} {rety : Option FieldType} {As : List AV} {r1 : Int} {oc : Option (Int × Sg)} {hh : List (Nat × Nat × Nat × Nat)}
/-- one of the wrappers -/
theorem wl_callS (C0 : LwC p s m meth c G b L xs) (hM : CtY l d FL clA y cy nLy rety hh Dc rvI As σ oc) (hoc : oc = some (r1, σ1)) (hV : GoodIn lw_all (va_wsS RX0 index y (wsW_ y cy nLy rety hh))) (hd : y.cls ≠ "java/lang/invoke/MethodHandle" ∧ y.cls ≠ "java/lang/invoke/VarHandle" ∧ (parseMethodDescriptor y.desc).map (fun d => d.parameters.length) = some n) (hn : As.length = n) (hnL : nLy ≤ 21) (hRf : d + 1 ≤ 2048) (hA : ∀ a ∈ As, avR a) (hst : (stk.map avC).sum ≤ 8) (hno : stk.all (avK [90]) = true) (hno2 : loc.all (fun q => avK [90] q.2) = true) (h90 : gL σ1 90 = gL σ 90) (hC : gC σ1 ≤ 600128) (hS1 : gS σ1 ≤ 7301098) (dd : decode cL_law pc = .ok (.invokestatic index, 3))
    (k : WL p l e s m below meth c G b Q σ1 (pc + 3) loc (vI r1 :: stk)) : WL p l e s m below meth c G b Q σ pc loc (As.reverse ++ stk) := by
  refine wl_back (rety := rety) (Aw := As) C0 (fun hw ad H locs ls hP hD hS hl => ?_) (fun hw => (hM.1 hA hw r1 σ1 hoc).1.1) (fun ad ad1 h => keep90 hno hno2 h90 ad ad1 h) k
  have hg := (hM.1 hA hw r1 σ1 hoc).1.1
  have hK := C0.1.2.2.2.2.2.2.2.1
  have hts := C0.1.2.2.2.2.1
  have hm := (hM.2 r1 σ1 hoc hA G ad H.size).met (fun a st o t q => by
    obtain ⟨ad1, -, hv, -⟩ := q
    exact ⟨_, hv⟩)
  have ok : ∀ w ∈ va_wsS RX0 index y (wsW_ y cy nLy rety hh), w.before #[Value.ref b] s = true := fun w h => hts w (hV w h).1
  have hG : GoodIn lw_all (wsW_ y cy nLy rety hh) := fun w h => hV w (by unfold va_wsS; exact List.mem_append_right _ h)
  have hini : (Cond.initialized y.cls).before #[Value.ref b] s = true := ok _ (by simp [va_wsS])
  have hpc : FrameBlind (PcXY FL G clA ad σ H.size As) := fun a U g mk q => ⟨PcXX_blind a U g mk q.1, q.2⟩
  have hB : Back l room_1 p e below s #[Value.ref b] y 3 8 (PreOf room_1 (gC σ1 - gC σ) (gS σ1 - gS σ) (PcXY FL G clA ad σ H.size As)) (PostOf (Qx FL G clA (va_A (wl FL G ad σ) H.size) σ ad rety (.inl (some (vI r1))) σ1) (gC σ1 - gC σ) (gS σ1 - gS σ) (va_A (wl FL G ad σ) H.size)) :=
    va_backW (hh := hh) (bytes := cy) (maxL := nLy) (ret := rety) hm hpc rfl rfl (show d + 1 ≤ 2048 from hRf) (by show 8 + (nLy + 11) + 40 * d ≤ 84000; omega) (pay_in hts hG) List.mem_cons_self (fun a' U hW => word_at hW (Or.inl (by first | rfl | simp [Cond.onTables, Cond.keeps, Cond.steady])) hini)
  intro T hT X
  obtain ⟨v, vm₁, ⟨U', l2, c2, s2⟩, hW₁, X', ⟨g', mk, t, Lc, e1, e2, hq, h1, hL, h2, h3⟩, st⟩ := callSW X C0.1.1 (own := RX0) (index := index) (hh := hh) (bytes := cy) (maxL := nLy) (ret := rety) C0.1.2.2.2.1 (ok _ (by simp [va_wsS])) (ok _ (by simp [va_wsS])) hini (hts _ (hG _ List.mem_cons_self).1) ⟨hd.1, hd.2.1⟩ hB (g := F0 m pc ls ((As.reverse ++ stk).map (toV ad))) rfl (hl.1.trans C0.1.2.2.1.symm) (argsL := As.map (toV ad)) (rest := stk.map (toV ad)) (fun sig h => by
      have h2 := hd.2.2
      rw [h] at h2
      rw [List.length_map, hn]
      exact (Option.some.inj h2).symm) (by show List.map (toV ad) (As.reverse ++ stk) = _; rw [List.map_append, List.map_reverse]) (stk_room rfl hst) (by rw [C0.1.2.1]; exact dd)
    (fun vm₁ hW₁ => ⟨by show gC σ + (gC σ1 - gC σ) ≤ 600128; omega, by show gS σ + (gS σ1 - gS σ) ≤ 7301098; omega, ⟨⟨⟨rfl, by show T.heap.size = H.size; rw [hT], hw, by show va_P G.1 clA (wl FL G ad σ) T.heap; rw [hT]; exact hP, va_K.moved hW₁.alike hK, hD.weaken (fun _ _ _ _ => trivial)⟩, XS.at (A := fun q => s.heap.size ≤ q) C0.2.1 (fun q cell hq hc => by
      have := (Array.getElem?_eq_some_iff.mp hc).1
      exact absurd this (Nat.not_lt.mpr hq)) hS hT hW₁⟩, XN.moved hW₁.alike C0.2.2.1⟩⟩)
  dsimp only [Pt.U, Pt.locs, Pt.cells, Pt.slots] at X' e1 e2 h1 h2 h3 st
  subst h1; subst h2; subst h3
  exact ⟨v, (T.setVm vm₁).calling g' mk (As.map (toV ad)).toArray, t, U', Lc, hT, X', hL, e1, e2, hq, st⟩
end LC2
