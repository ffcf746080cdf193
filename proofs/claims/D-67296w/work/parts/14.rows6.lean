section G9
variable {p : Program} {l : Launch} {e : Env} {R : Room} {s : State} {m : MethodId} {args : Array Value} {below : List Frame} {meth : Method} {c : Code} {H : Heap} {locs : List Loc} {cells slots : Nat} {Q : State → Prop}
variable {y : MethodName} {bytes cc : ByteArray} {maxL nL mc ms n index pc : Nat} {ls : Array Slot} {ret : Option FieldType} {ws : List Cond} {rm : Room} {Pc : Array Value → State → Prop} {Qc : Array Value → State → Outcome → State → Prop} {free : Addr → Prop} {Ts : List Cond} {own C : String} {b : Addr} {As rest : List Value} {g : JFrame}
theorem lv_room12 {st : List Value} (h : (st.map fun v => v.category).sum ≤ 12) : 2 * (F0 m pc ls rest).monitorRoom + (st.map fun v => v.category).sum ≤ 12 := by
  show 2 * 0 + _ ≤ 12
  omega
/-- a call from under more than eight words of the stack -/
theorem va_runV12 (S : CallFix p m c cc nL s args Ts own) (hM : Met l y ws rm Pc Qc mc ms free) (cw : CallW R s args own C index y bytes maxL ret ws rm mc ms n) (hlo : 12 + (maxL + 11) + rm.locals ≤ R.locals) (hp : PreV s H C b Pc As)
    (hg : g.method = m) (hn : As.length = n) (hsize : g.locals.size = nL) (hstack : g.stack = As.reverse ++ .ref b :: rest) (hW : 2 * g.monitorRoom + (rest.map fun v => v.category).sum ≤ 12) (hdg : decode cc g.pc = .ok (.invokevirtual index, 3)) (hf : cells + mc ≤ R.cells ∧ slots + ms ≤ R.slots) :
    va_Run p l e R s m args below meth c H locs cells slots mc ms g rest (Qc (Value.ref b :: As).toArray) (free) := by
  have hK : Back l R p e below s args y 3 12 (PreOf R mc ms Pc) (PostOf Qc mc ms free) := by
    obtain ⟨hrc, hrs, hfr, -, hws, hcw, -, hini, -⟩ := cw.1
    exact back_of (bytes := bytes) (maxL := maxL) (ret := ret) hM hp.1 hrc hrs hfr hlo hws hcw (fun a' U hW => word_at hW (Or.inl (by first | rfl | simp [Cond.onTables, Cond.keeps, Cond.steady])) hini)
  obtain ⟨⟨-, -, -, -, -, -, hcode, -, hy, hlen, hl⟩, hin, hse⟩ := cw
  obtain ⟨hx, hb, hml, ho, -⟩ := S
  obtain ⟨-, ⟨cellB, hcB, hoB, hclB⟩, hPc⟩ := hp
  intro T hT X
  obtain ⟨v, vm₁, ⟨U', l2, c2, s2⟩, hW₁, X', ⟨g', mk, t, L, e1, e2, hq, h1, hL, h2, h3⟩, st⟩ := callV X hx (C := C) (bytes := bytes) (maxL := maxL) (ret := ret) ho hl hin hse hcode hy hK (by rw [hT]; exact hcB) hoB hclB hg (hsize.trans hml.symm) (argsL := As) (rest := rest) (fun sig h => hn.trans (hlen sig h)) hstack hW (by rw [hb]; exact hdg)
    (fun vm₁ hW₁ => ⟨hf.1, hf.2, hPc (T.setVm vm₁) hT hW₁⟩)
  dsimp only [Pt.U, Pt.locs, Pt.cells, Pt.slots] at X' e1 e2 h1 h2 h3 st
  subst h1; subst h2; subst h3
  exact ⟨v, (T.setVm vm₁).calling g' mk (Value.ref b :: As).toArray, t, U', L, hT, X', hL, e1, e2, hq, st⟩
end G9
section G10
variable {p : Program} {l : Launch} {e : Env} {R : Room} {s : State} {m : MethodId} {args : Array Value} {below : List Frame} {meth : Method} {c : Code}
variable {J : Jm} {D : Nat} {G : Gm} {cl0 : List vw_C} {A : Nat → Prop} {F : Fm} {ad0 : Nat → Nat} {σ0 σ : Sg} {α : Type} {rv : α → Rs} {o : Option (α × Sg)} {pc : Nat} {loc : Lc} {stk : List AV}
variable {C : String} {T : u_T} {N ci b ob index n d : Nat} {Dc : Nat} {β : Type} {rvc : β → Rs} {oc : Option (β × Sg)} {K : β → Sg → Option (α × Sg)} {y : MethodName} {cy : ByteArray} {nLy : Nat} {rety : Option FieldType} {As : List AV}
theorem g_runV12 (hM : Ct l d F cl0 y cy nLy rety Dc rvc (vR ob :: As) σ oc) (hcl : cl0[ci]? = some (C, T, N)) (hob : F.1[ob]? = some (ci, b, N)) (hV : GoodIn lw_all (wsV J.2.1 index C y (ws_ y cy nLy rety))) (hd : y.cls = C ∧ y.cls ≠ "java/lang/invoke/MethodHandle" ∧ y.cls ≠ "java/lang/invoke/VarHandle" ∧ (parseMethodDescriptor y.desc).map (fun d => d.parameters.length) = some n) (hn : As.length = n) (hnL : nLy ≤ 17) (hRf : d + 1 ≤ R.frames) (hRl : 40 * (d + 1) ≤ R.locals) (hA : WF F σ → ∀ a ∈ As, avR a) (hst : (stk.map avC).sum ≤ 12) (dd : decode J.1 pc = .ok (.invokevirtual index, 3)) :
    OKx p s m args meth c J G cl0 A → WF F σ → ∀ r1 σ1, oc = some (r1, σ1) → ∀ (ad : Nat → Nat) (H : Heap) (locs : List Loc) (ls : Array Slot) (cells slots : Nat), va_P G.1 cl0 (wl F G ad σ) H → va_D A (wl F G ad σ) → lv_has ls J.2.2.1 (lcV ad loc) → cells + (gC σ1 - gC σ) ≤ R.cells → slots + (gS σ1 - gS σ) ≤ R.slots →
      va_Run p l e R s m args below meth c H locs cells slots (gC σ1 - gC σ) (gS σ1 - gS σ) (F0 m pc ls ((As.reverse ++ vR ob :: stk).map (toV ad))) (stk.map (toV ad)) (Qx F G cl0 (va_A (wl F G ad σ) H.size) σ ad rety (rvc r1) σ1 ((vR ob :: As).map (toV ad)).toArray) (va_A (wl F G ad σ) H.size) := by
  intro ok hw r1 σ1 hoc ad H locs ls cells slots hP hD hl hc hs
  have hm := hM.2 r1 σ1 hoc (fun a ha => by rcases List.mem_cons.mp ha with q | q; rw [q]; trivial; exact hA hw a q) G ad H.size
  have hK := ok.2.2.2.2.2.2.2.1
  refine va_runV12 (As := As.map (toV ad)) (rest := stk.map (toV ad)) ⟨ok.1, ok.2.1, ok.2.2.1, ok.2.2.2.1, ok.2.2.2.2.1⟩ hm (cwV n ok.2.2.2.2.1 hV rfl rfl rfl hd ⟨hRf, by show 8 + (nLy + 11) + 40 * d ≤ R.locals; omega⟩) (by show 12 + (nLy + 11) + 40 * d ≤ R.locals; omega) ⟨?_, va_recv hK hP hcl (wl_ob hob), ?_⟩ rfl (by rw [List.length_map]; exact hn) hl.1 ?_ ?_ dd ⟨hc, hs⟩
  · intro a U g mk q
    obtain ⟨q0, q1, qw, qP, qK, qD⟩ := q
    exact ⟨q0, q1, qw, qP, va_K.moved (u := U) (U := U.calling g mk a) (Vm.Alike.refl U.vm) qK, qD⟩
  · intro U hU hW
    exact ⟨rfl, by rw [hU], hw, by rw [hU]; exact hP, va_K.moved hW.alike hK, hD.weaken (fun _ _ _ _ => trivial)⟩
  · show List.map (toV ad) (As.reverse ++ vR ob :: stk) = _
    rw [List.map_append, List.map_reverse]
    rfl
  · refine lv_room12 ?_
    rw [List.map_map]
    have : ((fun v : Value => v.category) ∘ toV ad) = avC := funext fun a => toV_cat ad a
    rw [this]
    exact hst
end G10
section G11
variable {p : Program} {l : Launch} {e : Env} {R : Room} {s : State} {m : MethodId} {args : Array Value} {below : List Frame} {meth : Method} {c : Code}
variable {J : Jm} {D : Nat} {G : Gm} {cl0 : List vw_C} {A : Nat → Prop} {F : Fm} {ad0 : Nat → Nat} {σ0 σ : Sg} {α : Type} {rv : α → Rs} {o : Option (α × Sg)} {pc : Nat} {loc : Lc} {stk : List AV}
variable {C : String} {T : u_T} {N ci b ob index n d : Nat} {Dc : Nat} {oc : Option (Int × Sg)} {K : Int → Sg → Option (α × Sg)} {y : MethodName} {cy : ByteArray} {nLy : Nat} {As : List AV}
theorem g_cVI12 (hM : Ct l d F cl0 y cy nLy (some .int) Dc rvI (vR ob :: As) σ oc) (hDc : Dc &&& D = Dc) (hcl : cl0[ci]? = some (C, T, N)) (hob : F.1[ob]? = some (ci, b, N)) (hV : GoodIn lw_all (wsV J.2.1 index C y (ws_ y cy nLy (some .int)))) (hd : y.cls = C ∧ y.cls ≠ "java/lang/invoke/MethodHandle" ∧ y.cls ≠ "java/lang/invoke/VarHandle" ∧ (parseMethodDescriptor y.desc).map (fun d => d.parameters.length) = some n) (hn : As.length = n) (hnL : nLy ≤ 17) (hRf : d + 1 ≤ R.frames) (hRl : 40 * (d + 1) ≤ R.locals) (hA : WF F σ → ∀ a ∈ As, avR a) (hst : (stk.map avC).sum ≤ 12) (hno : stk.all avO = true) (hno2 : loc.all (fun q => avO q.2) = true) (dd : decode J.1 pc = .ok (.invokevirtual index, 3)) (k : ∀ v σ1, inR v → WG p l e R s m args below meth c J D G cl0 A F ad0 σ0 rv (K v σ1) σ1 (pc + 3) loc (vI v :: stk)) : WG p l e R s m args below meth c J D G cl0 A F ad0 σ0 rv (cl oc K) σ pc loc (As.reverse ++ vR ob :: stk) :=
  g_back hM hDc (fun r => ⟨_, rfl⟩) (fun hw a ha => by rcases List.mem_cons.mp ha with q | q; rw [q]; trivial; exact hA hw a q) (g_runV12 hM hcl hob hV hd hn hnL hRf hRl hA hst dd) (fun r1 σ1 _ _ ad ad1 h => ⟨avO_loc h.1 hno2, avO_stk h.1 hno⟩) (fun v σ1 w e hr => by have hv := rOf e hr; cases e; exact k v σ1 hv)
end G11
