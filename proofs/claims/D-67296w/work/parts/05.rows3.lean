/-! calls and entries -/
def lcA : Nat → List AV → Lc
  | _, [] => []
  | i, a :: l => (i, a) :: lcA (if avC a = 2 then i + 2 else i + 1) l
theorem lcA_eq (ad : Nat → Nat) : ∀ (l : List AV) (i : Nat), lv_args i (l.map (toV ad)) = lcV ad (lcA i l)
  | [], i => rfl
  | a :: l, i => by
    simp only [List.map_cons, lv_args, lcA, lcV, toV_cat]
    rw [lcA_eq ad l]
    rfl
theorem sl_len (ad : Nat → Nat) : ∀ (l : List AV), (lg_sl (l.map (toV ad))).length = (l.map avC).sum
  | [] => rfl
  | a :: l => by
    have h := sl_len ad l
    simp only [lg_sl, List.map_cons, List.flatMap_cons, List.length_append, List.sum_cons, toV_cat] at *
    rw [h]
    rcases a with v | v | n <;> rfl
theorem avO_eq {ad ad1 : Nat → Nat} (h : ∀ k, k < 10 → ad1 k = ad k) {a : AV} (ha : avO a = true) : toV ad1 a = toV ad a := by
  rcases a with v | v | n
  · rfl
  · rfl
  · show Value.ref _ = Value.ref _
    rw [h n (by simpa [avO] using ha)]
theorem avO_stk {ad ad1 : Nat → Nat} (h : ∀ k, k < 10 → ad1 k = ad k) {stk : List AV} (ha : stk.all avO = true) : stk.map (toV ad1) = stk.map (toV ad) :=
  List.map_congr_left fun a hm => avO_eq h (List.all_eq_true.mp ha a hm)
theorem avO_loc {ad ad1 : Nat → Nat} (h : ∀ k, k < 10 → ad1 k = ad k) {loc : Lc} (ha : loc.all (fun q => avO q.2) = true) : lcV ad1 loc = lcV ad loc :=
  List.map_congr_left fun a hm => by rw [avO_eq h (List.all_eq_true.mp ha a hm)]
/-- an array in a place that keeps its length stays where it is -/
def avK (ids : List Nat) (a : AV) : Bool := match a with
  | .inr (.inr n) => n < 10 || ids.contains (n - 10)
  | _ => true
def keeps (ids : List Nat) (σ σ1 : Sg) : Bool := ids.all fun id => gL σ1 id == gL σ id
theorem avK_eq {ids : List Nat} {σ σ1 : Sg} {ad ad1 : Nat → Nat} (hk : keeps ids σ σ1 = true) (h : adM σ ad σ1 ad1) {a : AV} (ha : avK ids a = true) : toV ad1 a = toV ad a := by
  rcases a with v | v | n
  · rfl
  · rfl
  · show Value.ref _ = Value.ref _
    rcases Nat.lt_or_ge n 10 with q | q
    · rw [h.1 n q]
    · have h2 : ids.contains (n - 10) = true := by
        simp only [avK, Bool.or_eq_true, decide_eq_true_eq] at ha
        rcases ha with h0 | h0
        · omega
        · exact h0
      have h3 := List.all_eq_true.mp hk (n - 10) (List.contains_iff_mem.mp h2)
      have h4 := (h.2 (n - 10)).2 (by simpa using h3)
      rw [show 10 + (n - 10) = n by omega] at h4
      rw [h4]
theorem cl_some {α β : Type} {o : Option (α × Sg)} {K : α → Sg → Option β} {x : β} (h : cl o K = some x) : ∃ r σ, o = some (r, σ) ∧ K r σ = some x := by
  cases o with
  | none => cases h
  | some q => exact ⟨q.1, q.2, rfl, h⟩
section G5
variable {p : Program} {l : Launch} {e : Env} {R : Room} {s : State} {m : MethodId} {args : Array Value} {below : List Frame} {meth : Method} {c : Code}
variable {J : Jm} {D : Nat} {G : Gm} {cl0 : List vw_C} {A : Nat → Prop} {F : Fm} {ad0 : Nat → Nat} {σ0 σ : Sg} {α : Type} {rv : α → Rs} {o : Option (α × Sg)} {pc : Nat} {loc : Lc} {stk : List AV}
variable {C : String} {T : u_T} {N ci b ob index n d : Nat} {Dc : Nat} {β : Type} {rvc : β → Rs} {oc : Option (β × Sg)} {K : β → Sg → Option (α × Sg)} {y : MethodName} {cy : ByteArray} {nLy : Nat} {rety : Option FieldType} {As : List AV}
/-- behind a call -/
theorem g_back {stk0 : List AV} {Aw : List AV} (hM : Ct l d F cl0 y cy nLy rety Dc rvc Aw σ oc) (hDc : Dc &&& D = Dc) (hrv : ∀ r, ∃ v, rvc r = .inl v) (hA : WF F σ → ∀ a ∈ Aw, avR a)
    (hrun : OKx p s m args meth c J G cl0 A → WF F σ → ∀ r1 σ1, oc = some (r1, σ1) → ∀ (ad : Nat → Nat) (H : Heap) (locs : List Loc) (ls : Array Slot) (cells slots : Nat), va_P G.1 cl0 (wl F G ad σ) H → va_D A (wl F G ad σ) → lv_has ls J.2.2.1 (lcV ad loc) → cells + (gC σ1 - gC σ) ≤ R.cells → slots + (gS σ1 - gS σ) ≤ R.slots →
      va_Run p l e R s m args below meth c H locs cells slots (gC σ1 - gC σ) (gS σ1 - gS σ) (F0 m pc ls (stk0.map (toV ad))) (stk.map (toV ad)) (Qx F G cl0 (va_A (wl F G ad σ) H.size) σ ad rety (rvc r1) σ1 (Aw.map (toV ad)).toArray) (va_A (wl F G ad σ) H.size))
    (hkeep : ∀ r1 σ1, oc = some (r1, σ1) → K r1 σ1 ≠ none → ∀ ad ad1 : Nat → Nat, adM σ ad σ1 ad1 → lcV ad1 loc = lcV ad loc ∧ stk.map (toV ad1) = stk.map (toV ad))
    (k : ∀ r1 σ1 w, rvc r1 = .inl w → (∀ v, w = some v → retOK rety v) → WG p l e R s m args below meth c J D G cl0 A F ad0 σ0 rv (K r1 σ1) σ1 (pc + 3) loc (w.toList ++ stk)) : WG p l e R s m args below meth c J D G cl0 A F ad0 σ0 rv (cl oc K) σ pc loc stk0 := by
  refine ⟨fun hw r σ' ho => ?_, fun ok r σ' ho h1 h2 h3 h4 hw ad H locs ls ha hP hD hS hl => ?_⟩
  · obtain ⟨r1, σ1, hoc, ho⟩ := cl_some ho
    have hps := hM.1 (hA hw) hw r1 σ1 hoc
    obtain ⟨w, hw'⟩ := hrv r1
    have hk := (k r1 σ1 w hw' (fun v h => hps.2.2 v (by rw [hw', h]))).1 hps.2.1 r σ' ho
    exact ⟨(hps.1.sub hDc).tr hk.1, hk.2⟩
  · obtain ⟨r1, σ1, hoc, ho⟩ := cl_some ho
    have hps := hM.1 (hA hw) hw r1 σ1 hoc
    obtain ⟨w, hw'⟩ := hrv r1
    have hk := k r1 σ1 w hw' (fun v h => hps.2.2 v (by rw [hw', h]))
    have hm := hk.1 hps.2.1 r σ' ho
    have a1 := hps.1.1.1
    have a2 := hps.1.1.2
    have a3 := hm.1.1.1
    have a4 := hm.1.1.2
    have hr := hrun ok hw r1 σ1 hoc ad H locs ls (gC σ - gC σ0) (gS σ - gS σ0) hP hD hl (by omega) (by omega)
    intro T hT X
    obtain ⟨v, st₀, t, T', L, e0, X', hL, e1, e2, ⟨ad1, had, hv, -, hw1, hP1, hD1, hK1, hz, hkp⟩, st⟩ := hr T hT X
    rw [hw'] at hv
    have hv' : v = w.map (toV ad1) := by
      have hv2 : (Outcome.returned v) = .returned (w.map (toV ad1)) := hv
      injection hv2
    subst hv'
    obtain ⟨kl, ks⟩ := hkeep r1 σ1 hoc (by rw [ho]; exact fun h => by cases h) ad ad1 had
    have hfree : ∀ q, va_A (wl F G ad σ) H.size q → A q := by
      intro q hq
      rcases hq with ⟨i, en, hi⟩ | hq
      · exact hD.2 i (q, en) hi
      · exact ok.2.2.2.2.2.2.2.2 q (Nat.le_trans hS.1 hq)
    rw [e0] at hz hkp
    have hh : T'.heap = t.heap := e1
    have hS1 : va_S A s.heap T'.heap (locs ++ L) := by
      rw [hh]
      refine ⟨Nat.le_trans hS.1 hz, fun q g1 g2 => ?_, fun q hq => ?_⟩
      · rw [hkp q (Nat.lt_of_lt_of_le g1 hS.1) (fun z => g2 (hfree q z))]
        exact hS.2.1 q g1 g2
      · rcases List.mem_append.mp hq with h | h
        · exact hS.2.2 q h
        · exact hfree _ (hL q h)
    have ww := hk.2 ok r σ' ho (by omega) (by omega) h3 h4 hw1 ad1 T'.heap (locs ++ L) ls (ha.tr had) (by rw [hh]; exact hP1) (hD1.weaken (fun _ _ _ h => hfree _ h)) hS1 (by rw [kl]; exact hl)
    rw [show gC σ1 - gC σ0 = gC σ - gC σ0 + (gC σ1 - gC σ) by omega, show gS σ1 - gS σ0 = gS σ - gS σ0 + (gS σ1 - gS σ) by omega] at ww
    obtain ⟨t2, b1, b2⟩ := ww T' rfl X'
    refine ⟨t2, st t2 ?_, b2⟩
    have ef : (F0 m (pc + 3) ls ((w.toList ++ stk).map (toV ad1))) = ({ (F0 m pc ls (stk0.map (toV ad))) with pc := (F0 m pc ls (stk0.map (toV ad))).pc + 3, stack := (w.map (toV ad1)).toList ++ stk.map (toV ad) } : JFrame) := by
      rw [List.map_append, ks]
      cases w <;> rfl
    rw [ef] at b1
    exact b1
theorem g_runV (hM : Ct l d F cl0 y cy nLy rety Dc rvc (vR ob :: As) σ oc) (hcl : cl0[ci]? = some (C, T, N)) (hob : F.1[ob]? = some (ci, b, N)) (hV : GoodIn lw_all (wsV J.2.1 index C y (ws_ y cy nLy rety))) (hd : y.cls = C ∧ y.cls ≠ "java/lang/invoke/MethodHandle" ∧ y.cls ≠ "java/lang/invoke/VarHandle" ∧ (parseMethodDescriptor y.desc).map (fun d => d.parameters.length) = some n) (hn : As.length = n) (hnL : nLy ≤ 21) (hRf : d + 1 ≤ R.frames) (hRl : 40 * (d + 1) ≤ R.locals) (hA : WF F σ → ∀ a ∈ As, avR a) (hst : (stk.map avC).sum ≤ 8) (dd : decode J.1 pc = .ok (.invokevirtual index, 3)) :
    OKx p s m args meth c J G cl0 A → WF F σ → ∀ r1 σ1, oc = some (r1, σ1) → ∀ (ad : Nat → Nat) (H : Heap) (locs : List Loc) (ls : Array Slot) (cells slots : Nat), va_P G.1 cl0 (wl F G ad σ) H → va_D A (wl F G ad σ) → lv_has ls J.2.2.1 (lcV ad loc) → cells + (gC σ1 - gC σ) ≤ R.cells → slots + (gS σ1 - gS σ) ≤ R.slots →
      va_Run p l e R s m args below meth c H locs cells slots (gC σ1 - gC σ) (gS σ1 - gS σ) (F0 m pc ls ((As.reverse ++ vR ob :: stk).map (toV ad))) (stk.map (toV ad)) (Qx F G cl0 (va_A (wl F G ad σ) H.size) σ ad rety (rvc r1) σ1 ((vR ob :: As).map (toV ad)).toArray) (va_A (wl F G ad σ) H.size) := by
  intro ok hw r1 σ1 hoc ad H locs ls cells slots hP hD hl hc hs
  have hm := hM.2 r1 σ1 hoc (fun a ha => by rcases List.mem_cons.mp ha with q | q; rw [q]; trivial; exact hA hw a q) G ad H.size
  have hK := ok.2.2.2.2.2.2.2.1
  refine va_runV (As := As.map (toV ad)) (rest := stk.map (toV ad)) ⟨ok.1, ok.2.1, ok.2.2.1, ok.2.2.2.1, ok.2.2.2.2.1⟩ hm (cwV n ok.2.2.2.2.1 hV rfl rfl rfl hd ⟨hRf, by show 8 + (nLy + 11) + 40 * d ≤ R.locals; omega⟩) ⟨?_, va_recv hK hP hcl (wl_ob hob), ?_⟩ rfl (by rw [List.length_map]; exact hn) hl.1 ?_ ?_ dd ⟨hc, hs⟩
  · intro a U g mk q
    obtain ⟨q0, q1, qw, qP, qK, qD⟩ := q
    exact ⟨q0, q1, qw, qP, va_K.moved (u := U) (U := U.calling g mk a) (Vm.Alike.refl U.vm) qK, qD⟩
  · intro U hU hW
    exact ⟨rfl, by rw [hU], hw, by rw [hU]; exact hP, va_K.moved hW.alike hK, hD.weaken (fun _ _ _ _ => trivial)⟩
  · show List.map (toV ad) (As.reverse ++ vR ob :: stk) = _
    rw [List.map_append, List.map_reverse]
    rfl
  · refine lv_room ?_
    rw [List.map_map]
    have : ((fun v : Value => v.category) ∘ toV ad) = avC := funext fun a => toV_cat ad a
    rw [this]
    exact hst
/-- a call of a method of one of the world's objects -/
theorem g_callV (hM : Ct l d F cl0 y cy nLy rety Dc rvc (vR ob :: As) σ oc) (hDc : Dc &&& D = Dc) (hrv : ∀ r, ∃ v, rvc r = .inl v) (hcl : cl0[ci]? = some (C, T, N)) (hob : F.1[ob]? = some (ci, b, N)) (hV : GoodIn lw_all (wsV J.2.1 index C y (ws_ y cy nLy rety))) (hd : y.cls = C ∧ y.cls ≠ "java/lang/invoke/MethodHandle" ∧ y.cls ≠ "java/lang/invoke/VarHandle" ∧ (parseMethodDescriptor y.desc).map (fun d => d.parameters.length) = some n) (hn : As.length = n) (hnL : nLy ≤ 21) (hRf : d + 1 ≤ R.frames) (hRl : 40 * (d + 1) ≤ R.locals) (hA : WF F σ → ∀ a ∈ As, avR a) (hst : (stk.map avC).sum ≤ 8) (hno : stk.all avO = true) (hno2 : loc.all (fun q => avO q.2) = true) (dd : decode J.1 pc = .ok (.invokevirtual index, 3))
    (k : ∀ r1 σ1 w, rvc r1 = .inl w → (∀ v, w = some v → retOK rety v) → WG p l e R s m args below meth c J D G cl0 A F ad0 σ0 rv (K r1 σ1) σ1 (pc + 3) loc (w.toList ++ stk)) : WG p l e R s m args below meth c J D G cl0 A F ad0 σ0 rv (cl oc K) σ pc loc (As.reverse ++ vR ob :: stk) :=
  g_back hM hDc hrv (fun hw a ha => by rcases List.mem_cons.mp ha with q | q; rw [q]; trivial; exact hA hw a q) (g_runV hM hcl hob hV hd hn hnL hRf hRl hA hst dd) (fun r1 σ1 _ _ ad ad1 h => ⟨avO_loc h.1 hno2, avO_stk h.1 hno⟩) k
/-- the same, with arrays on the stack that keep their lengths -/
theorem g_callVk (ids : List Nat) (hM : Ct l d F cl0 y cy nLy rety Dc rvc (vR ob :: As) σ oc) (hDc : Dc &&& D = Dc) (hrv : ∀ r, ∃ v, rvc r = .inl v) (hcl : cl0[ci]? = some (C, T, N)) (hob : F.1[ob]? = some (ci, b, N)) (hV : GoodIn lw_all (wsV J.2.1 index C y (ws_ y cy nLy rety))) (hd : y.cls = C ∧ y.cls ≠ "java/lang/invoke/MethodHandle" ∧ y.cls ≠ "java/lang/invoke/VarHandle" ∧ (parseMethodDescriptor y.desc).map (fun d => d.parameters.length) = some n) (hn : As.length = n) (hnL : nLy ≤ 21) (hRf : d + 1 ≤ R.frames) (hRl : 40 * (d + 1) ≤ R.locals) (hA : WF F σ → ∀ a ∈ As, avR a) (hst : (stk.map avC).sum ≤ 8) (hno : stk.all (avK ids) = true) (hno2 : loc.all (fun q => avK ids q.2) = true) (dd : decode J.1 pc = .ok (.invokevirtual index, 3))
    (k : ∀ r1 σ1 w, rvc r1 = .inl w → (∀ v, w = some v → retOK rety v) → WG p l e R s m args below meth c J D G cl0 A F ad0 σ0 rv (K r1 σ1) σ1 (pc + 3) loc (w.toList ++ stk)) : WG p l e R s m args below meth c J D G cl0 A F ad0 σ0 rv (cl oc (fun r1 σ1 => gd (keeps ids σ σ1 = true) (K r1 σ1))) σ pc loc (As.reverse ++ vR ob :: stk) := by
  refine g_back hM hDc hrv (fun hw a ha => by rcases List.mem_cons.mp ha with q | q; rw [q]; trivial; exact hA hw a q) (g_runV hM hcl hob hV hd hn hnL hRf hRl hA hst dd) (fun r1 σ1 _ hg ad ad1 h => ?_) (fun r1 σ1 w hw1 hr => ?_)
  · have hk : keeps ids σ σ1 = true := by
      by_cases q : keeps ids σ σ1 = true
      · exact q
      · exact absurd (by unfold gd; rw [if_neg q]) hg
    exact ⟨List.map_congr_left fun a hm => by rw [avK_eq hk h (List.all_eq_true.mp hno2 a hm)], List.map_congr_left fun a hm => avK_eq hk h (List.all_eq_true.mp hno a hm)⟩
  · refine ⟨fun hw r σ' ho => ?_, fun ok r σ' ho => ?_⟩
    · unfold gd at ho
      split at ho
      · exact (k r1 σ1 w hw1 hr).1 hw r σ' ho
      · cases ho
    · unfold gd at ho
      split at ho
      · exact (k r1 σ1 w hw1 hr).2 ok r σ' ho
      · cases ho
/-- a static call -/
theorem g_callS (hM : Ct l d F cl0 y cy nLy rety Dc rvc As σ oc) (hDc : Dc &&& D = Dc) (hrv : ∀ r, ∃ v, rvc r = .inl v) (hV : GoodIn lw_all (va_wsS J.2.1 index y (ws_ y cy nLy rety))) (hd : y.cls ≠ "java/lang/invoke/MethodHandle" ∧ y.cls ≠ "java/lang/invoke/VarHandle" ∧ (parseMethodDescriptor y.desc).map (fun d => d.parameters.length) = some n) (hn : As.length = n) (hnL : nLy ≤ 21) (hRf : d + 1 ≤ R.frames) (hRl : 40 * (d + 1) ≤ R.locals) (hA : WF F σ → ∀ a ∈ As, avR a) (hst : (stk.map avC).sum ≤ 8) (hno : stk.all avO = true) (hno2 : loc.all (fun q => avO q.2) = true) (dd : decode J.1 pc = .ok (.invokestatic index, 3))
    (k : ∀ r1 σ1 w, rvc r1 = .inl w → (∀ v, w = some v → retOK rety v) → WG p l e R s m args below meth c J D G cl0 A F ad0 σ0 rv (K r1 σ1) σ1 (pc + 3) loc (w.toList ++ stk)) : WG p l e R s m args below meth c J D G cl0 A F ad0 σ0 rv (cl oc K) σ pc loc (As.reverse ++ stk) := by
  refine g_back hM hDc hrv hA ?_ (fun r1 σ1 _ _ ad ad1 h => ⟨avO_loc h.1 hno2, avO_stk h.1 hno⟩) k
  intro ok hw r1 σ1 hoc ad H locs ls cells slots hP hD hl hc hs
  have hm := hM.2 r1 σ1 hoc (hA hw) G ad H.size
  have hK := ok.2.2.2.2.2.2.2.1
  refine va_runS (As := As.map (toV ad)) (rest := stk.map (toV ad)) ⟨ok.1, ok.2.1, ok.2.2.1, ok.2.2.2.1, ok.2.2.2.2.1⟩ hm (va_cwS n ok.2.2.2.2.1 hV rfl rfl rfl hd ⟨hRf, by show 8 + (nLy + 11) + 40 * d ≤ R.locals; omega⟩) ⟨?_, ?_⟩ rfl (by rw [List.length_map]; exact hn) hl.1 ?_ ?_ dd ⟨hc, hs⟩
  · intro a U g mk q
    obtain ⟨q0, q1, qw, qP, qK, qD⟩ := q
    exact ⟨q0, q1, qw, qP, va_K.moved (u := U) (U := U.calling g mk a) (Vm.Alike.refl U.vm) qK, qD⟩
  · intro U hU hW
    exact ⟨rfl, by rw [hU], hw, by rw [hU]; exact hP, va_K.moved hW.alike hK, hD.weaken (fun _ _ _ _ => trivial)⟩
  · show List.map (toV ad) (As.reverse ++ stk) = _
    rw [List.map_append, List.map_reverse]
  · refine lv_room ?_
    rw [List.map_map]
    have : ((fun v : Value => v.category) ∘ toV ad) = avC := funext fun a => toV_cat ad a
    rw [this]
    exact hst
end G5
/-- a method's contract out of the judgement at its entry -/
theorem Ct_of {l : Launch} {d : Nat} {F : Fm} {cl0 : List vw_C} {y : MethodName} {cy : ByteArray} {nL : Nat} {ret : Option FieldType} {D : Nat} {α : Type} {rv : α → Rs} {As : List AV} {σ : Sg} {oc : Option (α × Sg)} (hy : plainName y.cls = true) (hlen : (As.map avC).sum ≤ nL)
    (body : ∀ (p : Program) (e : Env) (R : Room) (s : State) (m : MethodId) (args : Array Value) (below : List Frame) (meth : Method) (c : Code) (G : Gm) (A : Nat → Prop) (ad : Nat → Nat), (∀ a ∈ As, avR a) → d ≤ R.frames → 40 * d ≤ R.locals → WG p l e R s m args below meth c (cy, y.cls, nL, ret) D G cl0 A F ad σ rv oc σ 0 (lcA 0 As) []) (p0 : Program) (e0 : Env) (s0 : State) (m0 : MethodId) (meth0 : Method) (c0 : Code) (G0 : Gm) : Ct l d F cl0 y cy nL ret D rv As σ oc := by
  refine ⟨fun hA => (body p0 e0 ({ frames := d, locals := 40 * d } : Room) s0 m0 #[] [] meth0 c0 G0 (fun _ => True) (fun _ => 0) hA (Nat.le_refl _) (Nat.le_refl _)).1, fun r1 σ1 hoc hA G ad sz => ?_⟩
  refine Met.ofW (cc := cy) (maxL := nL) (ret := ret) hy rfl ?_
  intro p e s m args below meth c s₁ B hml hv
  obtain ⟨rfl, hsz, hw, hP, hK, hD0⟩ := hv
  have hts := atoms_spec (ws := ws_ y cy nL ret) B.pre
  have hts : ∀ w ∈ lw_all, w.before _ s = true := fun w h => hts w (List.mem_cons_of_mem _ h)
  have hown : s.vm.findClass y.cls = some m.cls := findClass_of_methodNamed B.named
  subst hsz
  have hl := lv_entry (As.map (toV ad)) (n := nL) (by rw [sl_len]; exact hlen)
  rw [lg_entry_eq]
  rw [lcA_eq] at hl
  have hb := body p e ({ frames := d, cells := gC σ1 - gC σ, slots := gS σ1 - gS σ, locals := 40 * d } : Room) s m (As.map (toV ad)).toArray below meth c G (va_A (wl F G ad σ) s.heap.size) ad hA (Nat.le_refl _) (Nat.le_refl _)
  have hx := hb.2 ⟨B.exec, B.bytes, hml, hown, hts, B.notSynchronized, B.returns, hK, fun q h => Or.inr h⟩ r1 σ1 hoc (Nat.le_refl _) (Nat.le_refl _) rfl rfl hw ad s.heap [] _ adM.rf hP (hD0.self (sz := s.heap.size)) va_S.rf hl
  rw [Nat.sub_self, Nat.sub_self] at hx
  exact hx
