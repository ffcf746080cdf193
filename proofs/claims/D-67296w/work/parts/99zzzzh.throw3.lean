theorem fan {P : Cond → Prop} : ∀ a ∈ ([] : List Cond), P a := fun a h => by cases h
theorem fac {P : Cond → Prop} {x : Cond} {l : List Cond} (h : P x) (t : ∀ a ∈ l, P a) : ∀ a ∈ x :: l, P a := fun a ha => by
  rcases List.mem_cons.mp ha with q | q
  · rw [q]; exact h
  · exact t a q
def exP : List String := ["java/lang/RuntimeException", "java/lang/Exception"]
theorem thrA1 : ∀ a ∈ Bundle.ownAtoms0 "RoundCheck" 433 "java/lang/IllegalArgumentException" exP, a ∈ lw_all ∨ a ∈ xsW := (fac (Or.inl q169) (fac (Or.inl q527) (fac (Or.inl q536) (fac (Or.inl q539) (fac (Or.inl q542) (fac (Or.inl q544) (fac (Or.inl q528) (fac (Or.inl q529) (fac (Or.inl q180) (fac (Or.inl q181) (fac (Or.inl q530) (fac (Or.inl q535) (fac (Or.inl q540) (fac (Or.inl q556) (fac (Or.inl q517) (fac (Or.inl q557) (fac (Or.inl q519) (fac (Or.inl q558) (fac (Or.inl q521) (fac (Or.inl q531) (fac (Or.inr List.mem_cons_self) (fac (Or.inl q533) (fac (Or.inr (List.mem_cons_of_mem _ List.mem_cons_self)) (fac (Or.inl q523) (fac (Or.inl q546) (fac (Or.inl q547) (fac (Or.inl q548) (fac (Or.inl q549) (fac (Or.inr (List.mem_cons_of_mem _ (List.mem_cons_of_mem _ (List.mem_cons_of_mem _ (List.mem_cons_of_mem _ (List.mem_cons_of_mem _ (List.mem_cons_of_mem _ List.mem_cons_self))))))) (fac (Or.inl q549) (fac (Or.inl q550) (fac (Or.inl q551) (fac (Or.inl q552) (fac (Or.inr (List.mem_cons_of_mem _ (List.mem_cons_of_mem _ (List.mem_cons_of_mem _ (List.mem_cons_of_mem _ (List.mem_cons_of_mem _ (List.mem_cons_of_mem _ (List.mem_cons_of_mem _ List.mem_cons_self)))))))) (fac (Or.inl q552) (fac (Or.inl q553) (fac (Or.inl q554) (fac (Or.inl q528) (fac (Or.inr (List.mem_cons_of_mem _ (List.mem_cons_of_mem _ (List.mem_cons_of_mem _ (List.mem_cons_of_mem _ (List.mem_cons_of_mem _ (List.mem_cons_of_mem _ (List.mem_cons_of_mem _ (List.mem_cons_of_mem _ List.mem_cons_self))))))))) (fac (Or.inl q545) (fac (Or.inl q506) (fac (Or.inr (List.mem_cons_of_mem _ (List.mem_cons_of_mem _ List.mem_cons_self))) (fac (Or.inl q514) (fac (Or.inl q515) (fac (Or.inl q516) (fac (Or.inl q518) (fac (Or.inl q520) (fac (Or.inl q522) (fac (Or.inr (List.mem_cons_of_mem _ (List.mem_cons_of_mem _ (List.mem_cons_of_mem _ (List.mem_cons_of_mem _ List.mem_cons_self))))) (fac (Or.inr (List.mem_cons_of_mem _ (List.mem_cons_of_mem _ (List.mem_cons_of_mem _ (List.mem_cons_of_mem _ (List.mem_cons_of_mem _ List.mem_cons_self)))))) (fac (Or.inl q526) (fac (Or.inl q525) (fac (Or.inl q524) fan)))))))))))))))))))))))))))))))))))))))))))))))))))))
theorem thrA2 : ∀ a ∈ Bundle.ownAtoms0 "RoundCheck" 436 "java/lang/IllegalStateException" exP, a ∈ lw_all ∨ a ∈ xsW := (fac (Or.inl q169) (fac (Or.inl q527) (fac (Or.inl q536) (fac (Or.inl q539) (fac (Or.inl q542) (fac (Or.inl q544) (fac (Or.inl q528) (fac (Or.inl q529) (fac (Or.inl q180) (fac (Or.inl q181) (fac (Or.inl q530) (fac (Or.inl q535) (fac (Or.inl q540) (fac (Or.inl q556) (fac (Or.inl q517) (fac (Or.inl q557) (fac (Or.inl q519) (fac (Or.inl q558) (fac (Or.inl q521) (fac (Or.inl q531) (fac (Or.inr List.mem_cons_self) (fac (Or.inl q533) (fac (Or.inr (List.mem_cons_of_mem _ List.mem_cons_self)) (fac (Or.inl q523) (fac (Or.inl q589) (fac (Or.inl q590) (fac (Or.inl q591) (fac (Or.inl q549) (fac (Or.inr (List.mem_cons_of_mem _ (List.mem_cons_of_mem _ (List.mem_cons_of_mem _ (List.mem_cons_of_mem _ (List.mem_cons_of_mem _ (List.mem_cons_of_mem _ List.mem_cons_self))))))) (fac (Or.inl q549) (fac (Or.inl q550) (fac (Or.inl q551) (fac (Or.inl q552) (fac (Or.inr (List.mem_cons_of_mem _ (List.mem_cons_of_mem _ (List.mem_cons_of_mem _ (List.mem_cons_of_mem _ (List.mem_cons_of_mem _ (List.mem_cons_of_mem _ (List.mem_cons_of_mem _ List.mem_cons_self)))))))) (fac (Or.inl q552) (fac (Or.inl q553) (fac (Or.inl q554) (fac (Or.inl q528) (fac (Or.inr (List.mem_cons_of_mem _ (List.mem_cons_of_mem _ (List.mem_cons_of_mem _ (List.mem_cons_of_mem _ (List.mem_cons_of_mem _ (List.mem_cons_of_mem _ (List.mem_cons_of_mem _ (List.mem_cons_of_mem _ List.mem_cons_self))))))))) (fac (Or.inl q588) (fac (Or.inl q580) (fac (Or.inr (List.mem_cons_of_mem _ (List.mem_cons_of_mem _ (List.mem_cons_of_mem _ List.mem_cons_self)))) (fac (Or.inl q582) (fac (Or.inl q538) (fac (Or.inl q583) (fac (Or.inl q584) (fac (Or.inl q585) (fac (Or.inl q586) (fac (Or.inr (List.mem_cons_of_mem _ (List.mem_cons_of_mem _ (List.mem_cons_of_mem _ (List.mem_cons_of_mem _ List.mem_cons_self))))) (fac (Or.inr (List.mem_cons_of_mem _ (List.mem_cons_of_mem _ (List.mem_cons_of_mem _ (List.mem_cons_of_mem _ (List.mem_cons_of_mem _ List.mem_cons_self)))))) (fac (Or.inl q526) (fac (Or.inl q525) (fac (Or.inl q587) fan)))))))))))))))))))))))))))))))))))))))))))))))))))))
/-- launches whose exceptions hold no stack traces -/
def LT (l : Launch) : Prop := ∀ e, l.admits e → e.platform.stackTraces = false
theorem xs_args {s : State} (h : XS s) {a : Array Value} : ∀ w ∈ xsW, w.before a s = true := by
  intro w hw
  have h0 := h w hw
  have al := Vm.Alike.refl s.vm
  have hh : ∀ (q : Nat) (cell : Cell), s.heap[q]? = some cell → cell.vm.isStatics = true → s.heap[q]? = some cell := fun _ _ h _ => h
  simp only [xsW, List.mem_cons, List.not_mem_nil, or_false] at hw
  rcases hw with rfl | rfl | rfl | rfl | rfl | rfl | rfl | rfl | rfl
  · exact lsA_moved al hh h0
  · exact lsA_moved al hh h0
  · exact va_any rfl h0
  · exact va_any rfl h0
  · exact stA_moved al hh h0
  · exact stA_moved al hh h0
  · exact va_any rfl h0
  · exact va_any rfl h0
  · exact va_any rfl h0
/-- the world when an exception is made -/
def tS (σ : Sg) : Sg := sI (σ.1, σ.2.1, gC σ + 1, gS σ + 6) 99 (gI σ 99 + 1)
theorem fv_tS {σ : Sg} {id : Nat} (h : id ≠ 99) (kd : Nat → Nat) : fv kd (tS σ) id = fv kd σ id := by
  have e : gI (tS σ) id = gI σ id := by unfold tS; rw [gI_sI, if_neg h]; rfl
  unfold fv
  rw [e]
theorem wl_tS {G : Gm} {ad : Nat → Nat} {σ : Sg} : wl FC G ad (tS σ) = wl FC G ad σ := by
  have f : ∀ b n, b + n ≤ 99 → fvs FC.2.1 ad (tS σ) b n = fvs FC.2.1 ad σ b n := fun b n h => by
    unfold fvs
    refine List.map_congr_left (fun k hk => ?_)
    have := List.mem_range.mp hk
    rw [fv_tS (by omega)]
  unfold wl
  have e1 : obW FC.2.1 ad (tS σ) 0 FC.1 = obW FC.2.1 ad σ 0 FC.1 := by
    show (ad 0, Sum.inr (0, fvs FC.2.1 ad (tS σ) 0 21)) :: (ad (0 + 1), Sum.inr (1, fvs FC.2.1 ad (tS σ) 30 57)) :: [] = (ad 0, Sum.inr (0, fvs FC.2.1 ad σ 0 21)) :: (ad (0 + 1), Sum.inr (1, fvs FC.2.1 ad σ 30 57)) :: []
    rw [f 0 21 (by omega), f 30 57 (by omega)]
  rw [e1]
  rfl
section G13
variable {p : Program} {l : Launch} {e : Env} {R : Room} {s : State} {m : MethodId} {args : Array Value} {below : List Frame} {meth : Method} {c : Code}
variable {J : Jm} {D : Nat} {G : Gm} {A : Nat → Prop} {ad0 : Nat → Nat} {σ0 σ : Sg} {rv : Int → Rs} {pc : Nat} {loc : Lc} {stk : List AV} {d : Nat}
theorem gx_thrK {k i1 i2 : Nat} {cls : String} (hJ : J.2.1 = "RoundCheck") (hcls : exN k = cls) (hfit : Bundle.fit cls = true) (hat : ∀ a ∈ Bundle.ownAtoms0 "RoundCheck" i2 cls exP, a ∈ lw_all ∨ a ∈ xsW) (hq1 : Cond.classLink "RoundCheck" i1 cls ∈ lw_all) (hin : Cond.instantiable cls 6 ∈ lw_all) (hini : Cond.initialized cls ∈ lw_all) (hrv : rv (exB + k) = .inr k) (hD : D.testBit 99 = true) (hlt : LT l) (hRf : d + 1 ≤ R.frames) (hRl : 40 * (d + 1) ≤ R.locals) (hd : 7 ≤ d) (hst : (stk.map avC).sum ≤ 8) (d1 : decode J.1 pc = .ok (.new i1, 3)) (d2 : decode J.1 (pc + 3) = .ok (.dup, 1)) (d3 : decode J.1 (pc + 3 + 1) = .ok (.invokespecial i2, 3)) (d4 : decode J.1 (pc + 3 + 1 + 3) = .ok (.athrow, 1)) :
    WGx p l e R s m args below meth c J D G clA A FC ad0 σ0 rv (thr σ k) σ pc loc stk := by
  have gI99 : ∀ {σ : Sg} {j : Nat}, gI (tS σ) j = if j = 99 then gI σ 99 + 1 else gI σ j := rfl
  have hGr : 0 ≤ gI σ 99 → GrX FC D σ (tS σ) := fun h0 => by
    have ht : tw (tS σ) = tw σ + 1 := by
      unfold tw
      rw [gI99, if_pos rfl]
      omega
    have eS : SL FC (tS σ) = SL FC σ := rfl
    have eC : gC (tS σ) = gC σ + 1 := rfl
    have eSl : gS (tS σ) = gS σ + 6 := rfl
    refine ⟨⟨by omega, by omega⟩, fun j hj => ⟨?_, rfl⟩, fun _ => Nat.le_refl _, ?_, ?_⟩
    · rw [gI99, if_neg (fun q => by rw [q, hD] at hj; cases hj)]
    · rw [eSl, eS, ht]; omega
    · rw [eC, eS, ht]; omega
  have hWF : WF FC σ → 0 ≤ gI σ 99 ∧ gI σ 99 < 1000000 → WF FC (tS σ) := fun hw h => by
    refine ⟨fun j => ?_, hw.2.1, hw.2.2.1, hw.2.2.2.1, hw.2.2.2.2.1, fun j hj => ?_⟩
    · rw [gI99]
      split
      · exact ⟨by omega, by omega⟩
      · exact hw.1 j
    · rw [gI99, if_neg (fun q => by rw [q] at hj; cases hj)]
      exact hw.2.2.2.2.2 j hj
  refine ⟨fun hw r σ' ho => ?_, fun ok r σ' ho h1 h2 h3 h4 hw ad H locs ls ha hP hDw hS hl => ?_⟩
  · unfold thr at ho
    split at ho
    · rename_i h
      injection ho with ho
      injection ho with e1 e2
      subst e1; subst e2
      exact ⟨hGr h.1, hWF hw h, fun v hv => by rw [hrv] at hv; cases hv⟩
    · cases ho
  · unfold thr at ho
    split at ho
    · rename_i h
      injection ho with ho
      injection ho with e1 e2
      subst e1; subst e2
      obtain ⟨ok, hxs, hex, hAs⟩ := ok
      have hx := ok.1
      have hb := ok.2.1
      have hml := ok.2.2.1
      have hown : s.vm.findClass "RoundCheck" = some m.cls := by rw [← hJ]; exact ok.2.2.2.1
      have hts := ok.2.2.2.2.1
      have hK := ok.2.2.2.2.2.2.2.1
      have hA := ok.2.2.2.2.2.2.2.2
      have eC : gC (tS σ) = gC σ + 1 := rfl
      have eSl : gS (tS σ) = gS σ + 6 := rfl
      have h3 : R.cells = gC σ + 1 - gC σ0 := h3
      have h4 : R.slots = gS σ + 6 - gS σ0 := h4
      obtain ⟨cX, kX, hfX, hkX, -, -, -, -⟩ := Cond.instantiable_spec (hts _ hin)
      refine W.newcK hx hb hown (hts _ hq1) (hts _ hin) (hts _ hini) (g := F0 m pc ls (stk.map (toV ad))) rfl d1 (by omega) (by omega) hfX rfl (fun H1 kC hkC c1 z1 o1 => ?_)
      have ek : kC = kX := Option.some.inj (hkC.symm.trans hkX)
      refine lv_dup hx hb d2 rfl ?_
      intro T hT X
      have hst' : ((Value.ref H.size :: stk.map (toV ad)).map fun v => v.category).sum ≤ 9 := by
        rw [List.map_cons, List.map_map]
        have : ((fun v : Value => v.category) ∘ toV ad) = avC := funext fun a => toV_cat ad a
        rw [this, List.sum_cons]
        show 1 + _ ≤ 9
        omega
      obtain ⟨U, u1, u2, u3, u4, u5, ⟨ce, u6, u7, u8⟩, u9, u10⟩ := thr_H (a := H.size) (cX := cX) (kX := kX) (names := exP) (rest := stk.map (toV ad)) (g := F0 m (pc + 3 + 1) ls (Value.ref H.size :: Value.ref H.size :: stk.map (toV ad))) X hx (hlt e X.admits) hown hfit (by decide) (fun a ha => (hat a ha).elim (hts a) (fun q => xs_args hxs a q)) (fun x hx' cell hc => hAs x.base cell (hS.2.2 x hx') hc) hfX hkX (by rw [hT, c1, ek]; rfl) hS.1 rfl (hl.1.trans hml.symm) rfl rfl rfl (by rw [hb]; exact d3) (by rw [hb]; exact d4) (by rw [hex]; intro x hx'; cases hx') (by show 2 + 3 < R.frames; omega) (by show 2 * 0 + _ + (13 * (2 + 1) + 41) ≤ R.locals; omega) ok.2.2.2.2.2.1
      have hU : ∀ q, q < H.size → U.heap[q]? = H[q]? := fun q hq => by rw [u9 q (Nat.ne_of_lt hq), hT, o1 q hq]
      refine ⟨U, u1, .threw H.size, u2, u3, ⟨ad, ?_, ?_, (fun v hv => by rw [hrv] at hv; cases hv), hWF hw h, ?_, ?_, va_K.moved u4.alike hK, ?_⟩, locs, ⟨Or.inr ⟨_, rfl⟩, u4, ?_⟩, hS.2.2⟩
      · exact ⟨ha.1, fun id => ha.2 id⟩
      · rw [hrv]
        exact ⟨H.size, rfl, hS.1, ce, u6, by rw [hcls, u7]; exact hfX, u8⟩
      · show va_P G.1 clA (wl FC G ad (tS σ)) U.heap
        rw [wl_tS]
        exact hP.kept (fun j x hx' => hU x.1 ((hP j x hx').lt))
      · show va_D A (wl FC G ad (tS σ))
        rw [wl_tS]
        exact hDw
      · refine ⟨by rw [u10, hT, z1]; have := hS.1; omega, fun q hq hnA => ?_⟩
        rw [hU q (Nat.lt_of_lt_of_le hq hS.1)]
        exact hS.2.1 q hq hnA
      · show s.sameButNew _ locs (gC σ + 1 - gC σ0) (gS σ + 6 - gS σ0)
        rw [show gC σ + 1 - gC σ0 = gC σ - gC σ0 + 1 by omega, show gS σ + 6 - gS σ0 = gS σ - gS σ0 + 6 by omega]
        exact u5
    · cases ho
end G13
