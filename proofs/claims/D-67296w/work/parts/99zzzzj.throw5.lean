/-! contracts of methods that may throw, and rows of calls of them -/
def PcXX (F : Fm) (G : Gm) (cl0 : List vw_C) (ad : Nat → Nat) (σ : Sg) (sz : Nat) (As : List AV) : Array Value → State → Prop := fun a U => PcX F G cl0 ad σ sz As a U ∧ XS U
def CtX (l : Launch) (d : Nat) (F : Fm) (cl0 : List vw_C) (y : MethodName) (cy : ByteArray) (nL : Nat) (ret : Option FieldType) (D : Nat) {α : Type} (rv : α → Rs) (As : List AV) (σ : Sg) (oc : Option (α × Sg)) : Prop :=
  ((∀ a ∈ As, avR a) → PsX F D ret rv σ oc) ∧ ∀ r1 σ1, oc = some (r1, σ1) → (∀ a ∈ As, avR a) → ∀ (G : Gm) (ad : Nat → Nat) (sz : Nat), MetG l y (ws_ y cy nL ret) ({ frames := d, cells := gC σ1 - gC σ, slots := gS σ1 - gS σ, locals := 40 * d } : Room) (PcXX F G cl0 ad σ sz As) (Qx F G cl0 (va_A (wl F G ad σ) sz) σ ad ret (rv r1) σ1) (gC σ1 - gC σ) (gS σ1 - gS σ) (va_A (wl F G ad σ) sz)
theorem CtX_none {l : Launch} {d : Nat} {F : Fm} {cl0 : List vw_C} {y : MethodName} {cy : ByteArray} {nL : Nat} {ret : Option FieldType} {D : Nat} {α : Type} {rv : α → Rs} {As : List AV} {σ : Sg} : CtX l d F cl0 y cy nL ret D rv As σ none := ⟨(fun _ _ r σ' h => by cases h), (fun r σ' h => by cases h)⟩
theorem PcXX_blind {F : Fm} {G : Gm} {cl0 : List vw_C} {ad : Nat → Nat} {σ : Sg} {sz : Nat} {As : List AV} : FrameBlind (PcXX F G cl0 ad σ sz As) := by
  intro a U g mk q
  obtain ⟨⟨q0, q1, qw, qP, qK, qD⟩, qx⟩ := q
  exact ⟨⟨q0, q1, qw, qP, va_K.moved (u := U) (U := U.calling g mk a) (Vm.Alike.refl U.vm) qK, qD⟩, XS.moved (u := U) (U := U.calling g mk a) (Vm.Alike.refl U.vm) (fun q cell h _ => h) qx⟩
theorem world_plain {F : Fm} {G : Gm} {cl0 : List vw_C} {ad : Nat → Nat} {σ : Sg} {H : Heap} (hP : va_P G.1 cl0 (wl F G ad σ) H) : ∀ (q : Nat) (cell : Cell), va_A (wl F G ad σ) H.size q → H[q]? = some cell → cell.vm.isStatics = false := by
  intro q cell hq hc
  rcases hq with ⟨k, en, hk⟩ | hq
  · have h := hP k _ hk
    rcases en with a | o
    · have h : H[q]? = some (vp_cell a.1 a.2) := h
      rw [hc] at h
      rw [Option.some.inj h]
      rcases a with ⟨_, _, f | f | f | f | f⟩ <;> rfl
    · obtain ⟨r, -, cell', g1, -, g3, -⟩ := h
      have g1 : H[q]? = some cell' := g1
      rw [hc] at g1
      rw [Option.some.inj g1, g3]
      rfl
  · rw [Array.getElem?_eq_none hq] at hc
    cases hc
theorem XS.at {s U : State} {A : Nat → Prop} {H : Heap} {locs : List Loc} (hx : XS s) (hAs : ∀ (q : Nat) (cell : Cell), A q → s.heap[q]? = some cell → cell.vm.isStatics = false) (hS : va_S A s.heap H locs) (hU : U.heap = H) (hW : s.WarmedH U.vm) : XS U := by
  refine XS.moved hW.alike (fun q cell h1 h2 => ?_) hx
  have hq : q < s.heap.size := (Array.getElem?_eq_some_iff.mp h1).1
  rw [hU, hS.2.1 q hq (fun hA => by rw [hAs q cell hA h1] at h2; cases h2)]
  exact h1
/-- a method's contract out of the judgement at its entry -/
theorem CtX_of {l : Launch} {d : Nat} {F : Fm} {cl0 : List vw_C} {y : MethodName} {cy : ByteArray} {nL : Nat} {ret : Option FieldType} {D : Nat} {α : Type} {rv : α → Rs} {As : List AV} {σ : Sg} {oc : Option (α × Sg)} (hy : plainName y.cls = true) (hlen : (As.map avC).sum ≤ nL)
    (body : ∀ (p : Program) (e : Env) (R : Room) (s : State) (m : MethodId) (args : Array Value) (below : List Frame) (meth : Method) (c : Code) (G : Gm) (A : Nat → Prop) (ad : Nat → Nat), (∀ a ∈ As, avR a) → d ≤ R.frames → 40 * d ≤ R.locals → WGx p l e R s m args below meth c (cy, y.cls, nL, ret) D G cl0 A F ad σ rv oc σ 0 (lcA 0 As) []) (p0 : Program) (e0 : Env) (s0 : State) (m0 : MethodId) (meth0 : Method) (c0 : Code) (G0 : Gm) : CtX l d F cl0 y cy nL ret D rv As σ oc := by
  refine ⟨fun hA => (body p0 e0 ({ frames := d, locals := 40 * d } : Room) s0 m0 #[] [] meth0 c0 G0 (fun _ => True) (fun _ => 0) hA (Nat.le_refl _) (Nat.le_refl _)).1, fun r1 σ1 hoc hA G ad sz => ?_⟩
  refine MetG.ofW (cc := cy) (maxL := nL) (ret := ret) hy rfl ?_
  intro p e s m args below meth c s₁ B hml hex hv
  obtain ⟨⟨rfl, hsz, hw, hP, hK, hD0⟩, hxs⟩ := hv
  have hts := atoms_spec (ws := ws_ y cy nL ret) B.pre
  have hts : ∀ w ∈ lw_all, w.before _ s = true := fun w h => hts w (List.mem_cons_of_mem _ h)
  have hown : s.vm.findClass y.cls = some m.cls := findClass_of_methodNamed B.named
  subst hsz
  have hl := lv_entry (As.map (toV ad)) (n := nL) (by rw [sl_len]; exact hlen)
  rw [lg_entry_eq]
  rw [lcA_eq] at hl
  have hb := body p e ({ frames := d, cells := gC σ1 - gC σ, slots := gS σ1 - gS σ, locals := 40 * d } : Room) s m (As.map (toV ad)).toArray below meth c G (va_A (wl F G ad σ) s.heap.size) ad hA (Nat.le_refl _) (Nat.le_refl _)
  have hx := hb.2 ⟨⟨B.exec, B.bytes, hml, hown, hts, B.notSynchronized, B.returns, hK, fun q h => Or.inr h⟩, hxs, hex, world_plain hP⟩ r1 σ1 hoc (Nat.le_refl _) (Nat.le_refl _) rfl rfl hw ad s.heap [] _ adM.rf hP (hD0.self (sz := s.heap.size)) va_S.rf hl
  rw [Nat.sub_self, Nat.sub_self] at hx
  exact hx
section G15
variable {p : Program} {l : Launch} {e : Env} {R : Room} {s : State} {m : MethodId} {args : Array Value} {below : List Frame} {meth : Method} {c : Code}
variable {J : Jm} {D : Nat} {G : Gm} {cl0 : List vw_C} {A : Nat → Prop} {F : Fm} {ad0 : Nat → Nat} {σ0 σ : Sg} {rv : Int → Rs} {pc : Nat} {loc : Lc} {stk : List AV}
variable {C : String} {T : u_T} {N ci b ob index n d : Nat} {Dc : Nat} {bb : Bool} {oc : Option (Int × Sg)} {K : Int → Sg → Option (Int × Sg)} {y : MethodName} {cy : ByteArray} {nLy : Nat} {rety : Option FieldType} {As : List AV}
theorem rvX_ret {v : Int} (h : ¬ exB < v) : ∃ w, rvX bb v = .inl w := by
  unfold rvX
  rw [if_neg h]
  split
  · exact ⟨_, rfl⟩
  · exact ⟨_, rfl⟩
/-- behind a call of a method that may throw -/
theorem gx_xback {stk0 : List AV} {Aw : List AV} (hM : CtX l d F cl0 y cy nLy rety Dc (rvX bb) Aw σ oc) (hDc : Dc &&& D = Dc) (hrt : ∀ v, exB < v → rv v = .inr (v - exB).toNat) (hA : WF F σ → ∀ a ∈ Aw, avR a)
    (hrun : OKxX p s m args meth c J G cl0 A → WF F σ → ∀ r1 σ1, oc = some (r1, σ1) → ¬ exB < r1 → ∀ (ad : Nat → Nat) (H : Heap) (locs : List Loc) (ls : Array Slot) (cells slots : Nat), va_P G.1 cl0 (wl F G ad σ) H → va_D A (wl F G ad σ) → va_S A s.heap H locs → lv_has ls J.2.2.1 (lcV ad loc) → cells + (gC σ1 - gC σ) ≤ R.cells → slots + (gS σ1 - gS σ) ≤ R.slots →
      va_Run p l e R s m args below meth c H locs cells slots (gC σ1 - gC σ) (gS σ1 - gS σ) (F0 m pc ls (stk0.map (toV ad))) (stk.map (toV ad)) (Qx F G cl0 (va_A (wl F G ad σ) H.size) σ ad rety (rvX bb r1) σ1 (Aw.map (toV ad)).toArray) (va_A (wl F G ad σ) H.size))
    (hthr : OKxX p s m args meth c J G cl0 A → WF F σ → ∀ r1 σ1, oc = some (r1, σ1) → exB < r1 → ∀ (ad : Nat → Nat) (H : Heap) (locs : List Loc) (ls : Array Slot) (cells slots : Nat), va_P G.1 cl0 (wl F G ad σ) H → va_D A (wl F G ad σ) → va_S A s.heap H locs → lv_has ls J.2.2.1 (lcV ad loc) → cells + (gC σ1 - gC σ) ≤ R.cells → slots + (gS σ1 - gS σ) ≤ R.slots →
      ∀ T : State, T.heap = H → Stand p l e R s m args below meth c T locs cells slots → ∃ (x : Addr) (st₀ t T' : State) (L : List Loc), st₀.heap = T.heap ∧ s.WarmedH st₀.vm ∧ T'.heap = t.heap ∧ T'.vm = t.vm ∧ (∀ q ∈ L, va_A (wl F G ad σ) H.size q.base) ∧ Qx F G cl0 (va_A (wl F G ad σ) H.size) σ ad rety (rvX bb r1) σ1 (Aw.map (toV ad)).toArray st₀ (.threw x) t ∧ Steps p.tables e below (T.setTop (F0 m pc ls (stk0.map (toV ad)))) T' ∧ T'.status = .running ∧ Ended T' below (.threw x) ∧ s.WarmedH T'.vm ∧ s.sameButNew ({ T' with vm := s.vm } : State) (locs ++ L) (cells + (gC σ1 - gC σ)) (slots + (gS σ1 - gS σ)))
    (hkeep : ∀ r1 σ1, oc = some (r1, σ1) → ∀ ad ad1 : Nat → Nat, adM σ ad σ1 ad1 → lcV ad1 loc = lcV ad loc ∧ stk.map (toV ad1) = stk.map (toV ad))
    (k : ∀ r1 σ1 w, ¬ exB < r1 → rvX bb r1 = .inl w → (∀ v, w = some v → retOK rety v) → WGx p l e R s m args below meth c J D G cl0 A F ad0 σ0 rv (K r1 σ1) σ1 (pc + 3) loc (w.toList ++ stk)) : WGx p l e R s m args below meth c J D G cl0 A F ad0 σ0 rv (cl oc (fun v σ1 => pr v σ1 (K v σ1))) σ pc loc stk0 := by
  refine ⟨fun hw r σ' ho => ?_, fun ok r σ' ho h1 h2 h3 h4 hw ad H locs ls ha hP hD hS hl => ?_⟩
  · obtain ⟨r1, σ1, hoc, ho⟩ := cl_some ho
    have hps := hM.1 (hA hw) hw r1 σ1 hoc
    by_cases ht : exB < r1
    · have ho : pr r1 σ1 (K r1 σ1) = some (r, σ') := ho
      unfold pr at ho
      rw [if_pos ht] at ho
      injection ho with ho
      injection ho with e1 e2
      subst e1; subst e2
      exact ⟨hps.1.sub hDc, hps.2.1, fun v hv => by rw [hrt _ ht] at hv; cases hv⟩
    · have ho : pr r1 σ1 (K r1 σ1) = some (r, σ') := ho
      unfold pr at ho
      rw [if_neg ht] at ho
      obtain ⟨w, hw'⟩ := rvX_ret (bb := bb) ht
      have hk := (k r1 σ1 w ht hw' (fun v h => hps.2.2 v (by rw [hw', h]))).1 hps.2.1 r σ' ho
      exact ⟨(hps.1.sub hDc).tr hk.1, hk.2⟩
  · obtain ⟨r1, σ1, hoc, ho⟩ := cl_some ho
    have hps := hM.1 (hA hw) hw r1 σ1 hoc
    have ho : pr r1 σ1 (K r1 σ1) = some (r, σ') := ho
    have hfree : ∀ q, va_A (wl F G ad σ) H.size q → A q := by
      intro q hq
      rcases hq with ⟨i, en, hi⟩ | hq
      · exact hD.2 i (q, en) hi
      · exact ok.1.2.2.2.2.2.2.2.2 q (Nat.le_trans hS.1 hq)
    have a1 := hps.1.1.1
    have a2 := hps.1.1.2
    by_cases ht : exB < r1
    · unfold pr at ho
      rw [if_pos ht] at ho
      injection ho with ho
      injection ho with e1 e2
      subst e1; subst e2
      intro T hT X
      obtain ⟨x, st₀, t, T', L, g1, g2, g3, g4, g5, ⟨ad1, had, hv, -, hw1, hP1, hD1, -, hz, hkp⟩, g7, g8, g9, g10, g11⟩ := hthr ok hw r1 σ1 hoc ht ad H locs ls (gC σ - gC σ0) (gS σ - gS σ0) hP hD hS hl (by omega) (by omega) T hT X
      rw [rvX_thr ht] at hv
      obtain ⟨a, e1, h5, cell, h6, h7, h8⟩ := hv
      injection e1 with e1
      subst e1
      rw [g1, hT] at hz hkp h5
      rw [show gC σ - gC σ0 + (gC σ1 - gC σ) = gC σ1 - gC σ0 by omega, show gS σ - gS σ0 + (gS σ1 - gS σ) = gS σ1 - gS σ0 by omega] at g11
      refine ⟨T', g7, .threw x, g8, g9, ⟨ad1, ha.tr had, ?_, (fun v hv => by rw [hrt _ ht] at hv; cases hv), hw1, by rw [g3]; exact hP1, hD1.weaken (fun _ _ _ h => hfree _ h), va_K.moved g10.alike ok.1.2.2.2.2.2.2.2.1, ?_⟩, locs ++ L, ⟨Or.inr ⟨_, rfl⟩, g10, g11⟩, ?_⟩
      · rw [hrt _ ht]
        exact ⟨x, rfl, Nat.le_trans hS.1 h5, cell, by rw [g3]; exact h6, by rw [← h7, g2.alike.findClass], h8⟩
      · rw [va_F, g3]
        refine ⟨Nat.le_trans hS.1 hz, fun q b1 b2 => ?_⟩
        rw [hkp q (Nat.lt_of_lt_of_le b1 hS.1) (fun z => b2 (hfree q z))]
        exact hS.2.1 q b1 b2
      · intro q hq
        rcases List.mem_append.mp hq with h | h
        · exact hS.2.2 q h
        · exact hfree _ (g5 q h)
    · unfold pr at ho
      rw [if_neg ht] at ho
      obtain ⟨w, hw'⟩ := rvX_ret (bb := bb) ht
      have hk := k r1 σ1 w ht hw' (fun v h => hps.2.2 v (by rw [hw', h]))
      have hm := hk.1 hps.2.1 r σ' ho
      have a3 := hm.1.1.1
      have a4 := hm.1.1.2
      have hr := hrun ok hw r1 σ1 hoc ht ad H locs ls (gC σ - gC σ0) (gS σ - gS σ0) hP hD hS hl (by omega) (by omega)
      intro T hT X
      obtain ⟨v, st₀, t, T', L, e0, X', hL, e1, e2, ⟨ad1, had, hv, -, hw1, hP1, hD1, hK1, hz, hkp⟩, st⟩ := hr T hT X
      rw [hw'] at hv
      have hv' : v = w.map (toV ad1) := by
        have hv2 : (Outcome.returned v) = .returned (w.map (toV ad1)) := hv
        injection hv2
      subst hv'
      obtain ⟨kl, ks⟩ := hkeep r1 σ1 hoc ad ad1 had
      rw [e0] at hz hkp
      have hh : T'.heap = t.heap := e1
      have hS1 : va_S A s.heap T'.heap (locs ++ L) := by
        rw [hh]
        refine ⟨Nat.le_trans hS.1 hz, fun q g1 g2 => ?_, fun q hq => ?_⟩
        · rw [hkp q (Nat.lt_of_lt_of_le g1 hS.1) (fun z => g2 (hfree q z))]
          exact hS.2.1 q g1 g2
        · rcases List.mem_append.mp hq with h | h
          · exact hS.2.2 q h
          · exact hfree _ (hL q h)
      have ww := hk.2 ok r σ' ho (by omega) (by omega) h3 h4 hw1 ad1 T'.heap (locs ++ L) ls (ha.tr had) (by rw [hh]; exact hP1) (hD1.weaken (fun _ _ _ h => hfree _ h)) hS1 (by rw [kl]; exact hl)
      rw [show gC σ1 - gC σ0 = gC σ - gC σ0 + (gC σ1 - gC σ) by omega, show gS σ1 - gS σ0 = gS σ - gS σ0 + (gS σ1 - gS σ) by omega] at ww
      obtain ⟨t2, b1, b2⟩ := ww T' rfl X'
      refine ⟨t2, st t2 ?_, b2⟩
      have ef : (F0 m (pc + 3) ls ((w.toList ++ stk).map (toV ad1))) = ({ (F0 m pc ls (stk0.map (toV ad))) with pc := (F0 m pc ls (stk0.map (toV ad))).pc + 3, stack := (w.map (toV ad1)).toList ++ stk.map (toV ad) } : JFrame) := by
        rw [List.map_append, ks]
        cases w <;> rfl
      rw [ef] at b1
      exact b1
theorem stk_room {ad : Nat → Nat} {g : JFrame} (hg : g.monitorRoom = 0) (hst : (stk.map avC).sum ≤ 8) : 2 * g.monitorRoom + ((stk.map (toV ad)).map fun v => v.category).sum ≤ 8 := by
  rw [hg, List.map_map]
  have : ((fun v : Value => v.category) ∘ toV ad) = avC := funext fun a => toV_cat ad a
  rw [this]
  omega
/-- a call of a method of one of the world's objects that may throw -/
theorem gx_xV (hM : CtX l d F cl0 y cy nLy rety Dc (rvX bb) (vR ob :: As) σ oc) (hDc : Dc &&& D = Dc) (hrt : ∀ v, exB < v → rv v = .inr (v - exB).toNat) (hcl : cl0[ci]? = some (C, T, N)) (hob : F.1[ob]? = some (ci, b, N)) (hV : GoodIn lw_all (wsV J.2.1 index C y (ws_ y cy nLy rety))) (hd : y.cls = C ∧ y.cls ≠ "java/lang/invoke/MethodHandle" ∧ y.cls ≠ "java/lang/invoke/VarHandle" ∧ (parseMethodDescriptor y.desc).map (fun d => d.parameters.length) = some n) (hn : As.length = n) (hnL : nLy ≤ 21) (hRf : d + 1 ≤ R.frames) (hRl : 40 * (d + 1) ≤ R.locals) (hA : WF F σ → ∀ a ∈ As, avR a) (hst : (stk.map avC).sum ≤ 8) (hno : stk.all avO = true) (hno2 : loc.all (fun q => avO q.2) = true) (dd : decode J.1 pc = .ok (.invokevirtual index, 3))
    (k : ∀ r1 σ1 w, ¬ exB < r1 → rvX bb r1 = .inl w → (∀ v, w = some v → retOK rety v) → WGx p l e R s m args below meth c J D G cl0 A F ad0 σ0 rv (K r1 σ1) σ1 (pc + 3) loc (w.toList ++ stk)) : WGx p l e R s m args below meth c J D G cl0 A F ad0 σ0 rv (cl oc (fun v σ1 => pr v σ1 (K v σ1))) σ pc loc (As.reverse ++ vR ob :: stk) := by
  have hA' : WF F σ → ∀ a ∈ vR ob :: As, avR a := fun hw a ha => by rcases List.mem_cons.mp ha with q | q; rw [q]; trivial; exact hA hw a q
  have hPV : OKxX p s m args meth c J G cl0 A → WF F σ → ∀ (ad : Nat → Nat) (H : Heap) (locs : List Loc), va_P G.1 cl0 (wl F G ad σ) H → va_D A (wl F G ad σ) → va_S A s.heap H locs → PreV s H C (ad ob) (PcXX F G cl0 ad σ H.size (vR ob :: As)) (As.map (toV ad)) := by
    intro ok hw ad H locs hP hD hS
    refine ⟨PcXX_blind, va_recv ok.1.2.2.2.2.2.2.2.1 hP hcl (wl_ob hob), fun U hU hW => ⟨⟨rfl, by rw [hU], hw, by rw [hU]; exact hP, va_K.moved hW.alike ok.1.2.2.2.2.2.2.2.1, hD.weaken (fun _ _ _ _ => trivial)⟩, XS.at ok.2.1 ok.2.2.2 hS hU hW⟩⟩
  have hstk : ∀ ad : Nat → Nat, List.map (toV ad) (As.reverse ++ vR ob :: stk) = (As.map (toV ad)).reverse ++ .ref (ad ob) :: stk.map (toV ad) := fun ad => by
    rw [List.map_append, List.map_reverse]
    rfl
  refine gx_xback hM hDc hrt hA' ?_ ?_ (fun r1 σ1 _ ad ad1 h => ⟨avO_loc h.1 hno2, avO_stk h.1 hno⟩) k
  · intro ok hw r1 σ1 hoc ht ad H locs ls cells slots hP hD hS hl hc hs
    have hm := (hM.2 r1 σ1 hoc (hA' hw) G ad H.size).met (fun a st o t q => by
      obtain ⟨ad1, -, hv, -⟩ := q
      obtain ⟨w, hw'⟩ := rvX_ret (bb := bb) ht
      rw [hw'] at hv
      exact ⟨_, hv⟩)
    exact va_runV (As := As.map (toV ad)) (rest := stk.map (toV ad)) ⟨ok.1.1, ok.1.2.1, ok.1.2.2.1, ok.1.2.2.2.1, ok.1.2.2.2.2.1⟩ hm (cwV n ok.1.2.2.2.2.1 hV rfl rfl rfl hd ⟨hRf, by show 8 + (nLy + 11) + 40 * d ≤ R.locals; omega⟩) (hPV ok hw ad H locs hP hD hS) rfl (by rw [List.length_map]; exact hn) hl.1 (hstk ad) (stk_room rfl hst) dd ⟨hc, hs⟩
  · intro ok hw r1 σ1 hoc ht ad H locs ls cells slots hP hD hS hl hc hs T hT X
    subst hT
    exact thr_V (As := As.map (toV ad)) (rest := stk.map (toV ad)) (b := ad ob) X ok.1.1 (hM.2 r1 σ1 hoc (hA' hw) G ad T.heap.size) (cwV n ok.1.2.2.2.2.1 hV rfl rfl rfl hd ⟨hRf, by show 8 + (nLy + 11) + 40 * d ≤ R.locals; omega⟩) ok.1.2.2.2.1 (hPV ok hw ad T.heap locs hP hD hS) rfl (by rw [List.length_map]; exact hn) (hl.1.trans ok.1.2.2.1.symm) (hstk ad) (stk_room rfl hst) (by rw [ok.1.2.1]; exact dd) ⟨hc, hs⟩ rfl rfl ok.2.2.1 ok.1.2.2.2.2.2.1 (fun st o t q => by
      obtain ⟨ad1, -, hv, -⟩ := q
      rw [rvX_thr ht] at hv
      obtain ⟨a, e1, -⟩ := hv
      exact ⟨a, e1⟩)
/-- a static call of one that may throw -/
theorem gx_xS (hM : CtX l d F cl0 y cy nLy rety Dc (rvX bb) As σ oc) (hDc : Dc &&& D = Dc) (hrt : ∀ v, exB < v → rv v = .inr (v - exB).toNat) (hV : GoodIn lw_all (va_wsS J.2.1 index y (ws_ y cy nLy rety))) (hd : y.cls ≠ "java/lang/invoke/MethodHandle" ∧ y.cls ≠ "java/lang/invoke/VarHandle" ∧ (parseMethodDescriptor y.desc).map (fun d => d.parameters.length) = some n) (hn : As.length = n) (hnL : nLy ≤ 21) (hRf : d + 1 ≤ R.frames) (hRl : 40 * (d + 1) ≤ R.locals) (hA : WF F σ → ∀ a ∈ As, avR a) (hst : (stk.map avC).sum ≤ 8) (hno : stk.all avO = true) (hno2 : loc.all (fun q => avO q.2) = true) (dd : decode J.1 pc = .ok (.invokestatic index, 3))
    (k : ∀ r1 σ1 w, ¬ exB < r1 → rvX bb r1 = .inl w → (∀ v, w = some v → retOK rety v) → WGx p l e R s m args below meth c J D G cl0 A F ad0 σ0 rv (K r1 σ1) σ1 (pc + 3) loc (w.toList ++ stk)) : WGx p l e R s m args below meth c J D G cl0 A F ad0 σ0 rv (cl oc (fun v σ1 => pr v σ1 (K v σ1))) σ pc loc (As.reverse ++ stk) := by
  have hPS : OKxX p s m args meth c J G cl0 A → WF F σ → ∀ (ad : Nat → Nat) (H : Heap) (locs : List Loc), va_P G.1 cl0 (wl F G ad σ) H → va_D A (wl F G ad σ) → va_S A s.heap H locs → PreS s H (PcXX F G cl0 ad σ H.size As) (As.map (toV ad)) := by
    intro ok hw ad H locs hP hD hS
    refine ⟨PcXX_blind, fun U hU hW => ⟨⟨rfl, by rw [hU], hw, by rw [hU]; exact hP, va_K.moved hW.alike ok.1.2.2.2.2.2.2.2.1, hD.weaken (fun _ _ _ _ => trivial)⟩, XS.at ok.2.1 ok.2.2.2 hS hU hW⟩⟩
  have hstk : ∀ ad : Nat → Nat, List.map (toV ad) (As.reverse ++ stk) = (As.map (toV ad)).reverse ++ stk.map (toV ad) := fun ad => by
    rw [List.map_append, List.map_reverse]
  refine gx_xback hM hDc hrt hA ?_ ?_ (fun r1 σ1 _ ad ad1 h => ⟨avO_loc h.1 hno2, avO_stk h.1 hno⟩) k
  · intro ok hw r1 σ1 hoc ht ad H locs ls cells slots hP hD hS hl hc hs
    have hm := (hM.2 r1 σ1 hoc (hA hw) G ad H.size).met (fun a st o t q => by
      obtain ⟨ad1, -, hv, -⟩ := q
      obtain ⟨w, hw'⟩ := rvX_ret (bb := bb) ht
      rw [hw'] at hv
      exact ⟨_, hv⟩)
    exact va_runS (As := As.map (toV ad)) (rest := stk.map (toV ad)) ⟨ok.1.1, ok.1.2.1, ok.1.2.2.1, ok.1.2.2.2.1, ok.1.2.2.2.2.1⟩ hm (va_cwS n ok.1.2.2.2.2.1 hV rfl rfl rfl hd ⟨hRf, by show 8 + (nLy + 11) + 40 * d ≤ R.locals; omega⟩) (hPS ok hw ad H locs hP hD hS) rfl (by rw [List.length_map]; exact hn) hl.1 (hstk ad) (stk_room rfl hst) dd ⟨hc, hs⟩
  · intro ok hw r1 σ1 hoc ht ad H locs ls cells slots hP hD hS hl hc hs T hT X
    subst hT
    have cw := va_cwS (rm := ({ frames := d, cells := gC σ1 - gC σ, slots := gS σ1 - gS σ, locals := 40 * d } : Room)) (R := R) (mc := gC σ1 - gC σ) (ms := gS σ1 - gS σ) n ok.1.2.2.2.2.1 hV rfl rfl rfl hd ⟨hRf, by show 8 + (nLy + 11) + 40 * d ≤ R.locals; omega⟩
    exact thr_S (As := As.map (toV ad)) (rest := stk.map (toV ad)) X ok.1.1 (hM.2 r1 σ1 hoc (hA hw) G ad T.heap.size) cw.1 cw.2 ok.1.2.2.2.1 (hPS ok hw ad T.heap locs hP hD hS) rfl (by rw [List.length_map]; exact hn) (hl.1.trans ok.1.2.2.1.symm) (hstk ad) (stk_room rfl hst) (by rw [ok.1.2.1]; exact dd) ⟨hc, hs⟩ rfl rfl ok.2.2.1 ok.1.2.2.2.2.2.1 (fun st o t q => by
      obtain ⟨ad1, -, hv, -⟩ := q
      rw [rvX_thr ht] at hv
      obtain ⟨a, e1, -⟩ := hv
      exact ⟨a, e1⟩)
end G15
section G16
variable {p : Program} {l : Launch} {e : Env} {R : Room} {s : State} {m : MethodId} {args : Array Value} {below : List Frame} {meth : Method} {c : Code}
variable {J : Jm} {D : Nat} {G : Gm} {cl0 : List vw_C} {A : Nat → Prop} {F : Fm} {ad0 : Nat → Nat} {σ0 σ : Sg} {bc : Bool} {pc : Nat} {loc : Lc} {stk : List AV}
variable {C : String} {T : u_T} {N ci b ob index n d : Nat} {Dc : Nat} {oc : Option (Int × Sg)} {K : Int → Sg → Option (Int × Sg)} {y : MethodName} {cy : ByteArray} {nLy : Nat} {As : List AV}
theorem exB_i {v : Int} (h : inR v) : ¬ exB < v := by
  have : exB = 1099511627776 := rfl
  omega
theorem exB_z {v : Int} (h : v = 0 ∨ v = 1) : ¬ exB < v := by
  have : exB = 1099511627776 := rfl
  omega
theorem gx_iretX {v : Int} (hJ : J.2.2.2 = some .int) (hv : WF F σ → inR v) (d : decode J.1 pc = .ok (.ireturn, 1)) : WGx p l e R s m args below meth c J D G cl0 A F ad0 σ0 (rvX true) (some (v, σ)) σ pc loc [vI v] :=
  WGx.wf (fun hw => gx_iret hJ (rvX_i (exB_i (hv hw))) hv d)
theorem gx_zretX {v : Int} (hJ : J.2.2.2 = some .boolean) (hv : WF F σ → v = 0 ∨ v = 1) (d : decode J.1 pc = .ok (.ireturn, 1)) : WGx p l e R s m args below meth c J D G cl0 A F ad0 σ0 (rvX true) (some (v, σ)) σ pc loc [vI v] :=
  WGx.wf (fun hw => gx_zret hJ (rvX_i (exB_z (hv hw))) hv d)
theorem gx_vretX (hJ : J.2.2.2 = none) (d : decode J.1 pc = .ok (.return_, 1)) : WGx p l e R s m args below meth c J D G cl0 A F ad0 σ0 (rvX false) (some (0, σ)) σ pc loc [] :=
  gx_vret hJ (rvX_v (exB_z (Or.inl rfl))) d
theorem xOf {w : Option AV} {v : Int} (hn : ¬ exB < v) (e : rvX true v = .inl w) : w = some (vI v) := by
  rw [rvX_i hn] at e
  injection e with e
  exact e.symm
theorem gx_xVI (hM : CtX l d F cl0 y cy nLy (some .int) Dc (rvX true) (vR ob :: As) σ oc) (hDc : Dc &&& D = Dc) (hcl : cl0[ci]? = some (C, T, N)) (hob : F.1[ob]? = some (ci, b, N)) (hV : GoodIn lw_all (wsV J.2.1 index C y (ws_ y cy nLy (some .int)))) (hd : y.cls = C ∧ y.cls ≠ "java/lang/invoke/MethodHandle" ∧ y.cls ≠ "java/lang/invoke/VarHandle" ∧ (parseMethodDescriptor y.desc).map (fun d => d.parameters.length) = some n) (hn : As.length = n) (hnL : nLy ≤ 21) (hRf : d + 1 ≤ R.frames) (hRl : 40 * (d + 1) ≤ R.locals) (hA : WF F σ → ∀ a ∈ As, avR a) (hst : (stk.map avC).sum ≤ 8) (hno : stk.all avO = true) (hno2 : loc.all (fun q => avO q.2) = true) (dd : decode J.1 pc = .ok (.invokevirtual index, 3))
    (k : ∀ v σ1, inR v → WGx p l e R s m args below meth c J D G cl0 A F ad0 σ0 (rvX bc) (K v σ1) σ1 (pc + 3) loc (vI v :: stk)) : WGx p l e R s m args below meth c J D G cl0 A F ad0 σ0 (rvX bc) (cl oc (fun v σ1 => pr v σ1 (K v σ1))) σ pc loc (As.reverse ++ vR ob :: stk) :=
  gx_xV hM hDc (fun _ h => rvX_thr h) hcl hob hV hd hn hnL hRf hRl hA hst hno hno2 dd (fun v σ1 w ht e hr => by
    have e' := xOf ht e
    subst e'
    exact k v σ1 (hr _ rfl))
theorem gx_xVZ (hM : CtX l d F cl0 y cy nLy (some .boolean) Dc (rvX true) (vR ob :: As) σ oc) (hDc : Dc &&& D = Dc) (hcl : cl0[ci]? = some (C, T, N)) (hob : F.1[ob]? = some (ci, b, N)) (hV : GoodIn lw_all (wsV J.2.1 index C y (ws_ y cy nLy (some .boolean)))) (hd : y.cls = C ∧ y.cls ≠ "java/lang/invoke/MethodHandle" ∧ y.cls ≠ "java/lang/invoke/VarHandle" ∧ (parseMethodDescriptor y.desc).map (fun d => d.parameters.length) = some n) (hn : As.length = n) (hnL : nLy ≤ 21) (hRf : d + 1 ≤ R.frames) (hRl : 40 * (d + 1) ≤ R.locals) (hA : WF F σ → ∀ a ∈ As, avR a) (hst : (stk.map avC).sum ≤ 8) (hno : stk.all avO = true) (hno2 : loc.all (fun q => avO q.2) = true) (dd : decode J.1 pc = .ok (.invokevirtual index, 3))
    (k : ∀ v σ1, (v = 0 ∨ v = 1) → WGx p l e R s m args below meth c J D G cl0 A F ad0 σ0 (rvX bc) (K v σ1) σ1 (pc + 3) loc (vI v :: stk)) : WGx p l e R s m args below meth c J D G cl0 A F ad0 σ0 (rvX bc) (cl oc (fun v σ1 => pr v σ1 (K v σ1))) σ pc loc (As.reverse ++ vR ob :: stk) :=
  gx_xV hM hDc (fun _ h => rvX_thr h) hcl hob hV hd hn hnL hRf hRl hA hst hno hno2 dd (fun v σ1 w ht e hr => by
    have e' := xOf ht e
    subst e'
    have h0 : vI v = vI 0 ∨ vI v = vI 1 := hr _ rfl
    exact k v σ1 (by rcases h0 with h | h; left; injection h; right; injection h))
theorem gx_xVV (hM : CtX l d F cl0 y cy nLy none Dc (rvX false) (vR ob :: As) σ oc) (hDc : Dc &&& D = Dc) (hcl : cl0[ci]? = some (C, T, N)) (hob : F.1[ob]? = some (ci, b, N)) (hV : GoodIn lw_all (wsV J.2.1 index C y (ws_ y cy nLy none))) (hd : y.cls = C ∧ y.cls ≠ "java/lang/invoke/MethodHandle" ∧ y.cls ≠ "java/lang/invoke/VarHandle" ∧ (parseMethodDescriptor y.desc).map (fun d => d.parameters.length) = some n) (hn : As.length = n) (hnL : nLy ≤ 21) (hRf : d + 1 ≤ R.frames) (hRl : 40 * (d + 1) ≤ R.locals) (hA : WF F σ → ∀ a ∈ As, avR a) (hst : (stk.map avC).sum ≤ 8) (hno : stk.all avO = true) (hno2 : loc.all (fun q => avO q.2) = true) (dd : decode J.1 pc = .ok (.invokevirtual index, 3))
    (k : ∀ v σ1, WGx p l e R s m args below meth c J D G cl0 A F ad0 σ0 (rvX bc) (K v σ1) σ1 (pc + 3) loc stk) : WGx p l e R s m args below meth c J D G cl0 A F ad0 σ0 (rvX bc) (cl oc (fun v σ1 => pr v σ1 (K v σ1))) σ pc loc (As.reverse ++ vR ob :: stk) :=
  gx_xV hM hDc (fun _ h => rvX_thr h) hcl hob hV hd hn hnL hRf hRl hA hst hno hno2 dd (fun v σ1 w ht e hr => by
    rw [rvX_v ht] at e
    injection e with e
    subst e
    exact k v σ1)
theorem gx_xSI (hM : CtX l d F cl0 y cy nLy (some .int) Dc (rvX true) As σ oc) (hDc : Dc &&& D = Dc) (hV : GoodIn lw_all (va_wsS J.2.1 index y (ws_ y cy nLy (some .int)))) (hd : y.cls ≠ "java/lang/invoke/MethodHandle" ∧ y.cls ≠ "java/lang/invoke/VarHandle" ∧ (parseMethodDescriptor y.desc).map (fun d => d.parameters.length) = some n) (hn : As.length = n) (hnL : nLy ≤ 21) (hRf : d + 1 ≤ R.frames) (hRl : 40 * (d + 1) ≤ R.locals) (hA : WF F σ → ∀ a ∈ As, avR a) (hst : (stk.map avC).sum ≤ 8) (hno : stk.all avO = true) (hno2 : loc.all (fun q => avO q.2) = true) (dd : decode J.1 pc = .ok (.invokestatic index, 3))
    (k : ∀ v σ1, inR v → WGx p l e R s m args below meth c J D G cl0 A F ad0 σ0 (rvX bc) (K v σ1) σ1 (pc + 3) loc (vI v :: stk)) : WGx p l e R s m args below meth c J D G cl0 A F ad0 σ0 (rvX bc) (cl oc (fun v σ1 => pr v σ1 (K v σ1))) σ pc loc (As.reverse ++ stk) :=
  gx_xS hM hDc (fun _ h => rvX_thr h) hV hd hn hnL hRf hRl hA hst hno hno2 dd (fun v σ1 w ht e hr => by
    have e' := xOf ht e
    subst e'
    exact k v σ1 (hr _ rfl))
theorem gx_xSV (hM : CtX l d F cl0 y cy nLy none Dc (rvX false) As σ oc) (hDc : Dc &&& D = Dc) (hV : GoodIn lw_all (va_wsS J.2.1 index y (ws_ y cy nLy none))) (hd : y.cls ≠ "java/lang/invoke/MethodHandle" ∧ y.cls ≠ "java/lang/invoke/VarHandle" ∧ (parseMethodDescriptor y.desc).map (fun d => d.parameters.length) = some n) (hn : As.length = n) (hnL : nLy ≤ 21) (hRf : d + 1 ≤ R.frames) (hRl : 40 * (d + 1) ≤ R.locals) (hA : WF F σ → ∀ a ∈ As, avR a) (hst : (stk.map avC).sum ≤ 8) (hno : stk.all avO = true) (hno2 : loc.all (fun q => avO q.2) = true) (dd : decode J.1 pc = .ok (.invokestatic index, 3))
    (k : ∀ v σ1, WGx p l e R s m args below meth c J D G cl0 A F ad0 σ0 (rvX bc) (K v σ1) σ1 (pc + 3) loc stk) : WGx p l e R s m args below meth c J D G cl0 A F ad0 σ0 (rvX bc) (cl oc (fun v σ1 => pr v σ1 (K v σ1))) σ pc loc (As.reverse ++ stk) :=
  gx_xS hM hDc (fun _ h => rvX_thr h) hV hd hn hnL hRf hRl hA hst hno hno2 dd (fun v σ1 w ht e hr => by
    rw [rvX_v ht] at e
    injection e with e
    subst e
    exact k v σ1)
end G16
