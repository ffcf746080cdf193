/-! the wrapper of mode -/
abbrev hX0_mode : List (Nat × Nat × Nat × Nat) := [(0, 10, 13, 13), (0, 10, 17, 15)]
abbrev JX0_mode : Jm := (cX0_mode, RX0, 5, some .int)
def bX0_mode (call : Nat → List Int → Sg → Option (Int × Sg)) (a1 a2 : Int) (u : Sg) : Option (Int × Sg) := cl (call 1 [a1, a2] u) fun v1 s2 => trK hk2 v1 s2 (stA s2 90 0 v1 fun s3 => some (0, s3))
theorem wX0_mode {p : Program} {l : Launch} {e : Env} {R : Room} {s : State} {m : MethodId} {args : Array Value} {below : List Frame} {meth : Method} {c : Code} {G : Gm} {A : Nat → Prop} {ad0 : Nat → Nat} {σ0 : Sg} {d : Nat} {call : Nat → List Int → Sg → Option (Int × Sg)} (hRf : d + 1 ≤ R.frames) (hRl : 40 * (d + 1) ≤ R.locals) (h : ∀ (a1 a2 : Int) (u : Sg), CtX l d FL clA yX1_mode cX1_mode 4 (some .int) DX1_mode (rvX true) [vR 1, vI a1, vI a2] u (call 1 [a1, a2] u)) (h90 : ∀ (a1 a2 : Int) (u : Sg) (r : Int) (u2 : Sg), call 1 [a1, a2] u = some (r, u2) → gL u2 90 = gL u 90) (a1 a2 : Int) (u : Sg) (ra1 : inR a1) (ra2 : inR a2) : WGy p l e R s m args below meth c hX0_mode JX0_mode (DX1_mode ||| (1 <<< 90)) G clA A FL ad0 σ0 rvI (bX0_mode call a1 a2 u) u 0 [(0, vR 1), (1, vI a1), (2, vI a2), (3, vR 100)] [] := by
  unfold bX0_mode
  refine gy_aload_n 3 dX0_mode_0 rfl ?_
  refine gy_iconst dX0_mode_1 ?_
  refine gy_aload_n 0 dX0_mode_2 rfl ?_
  refine gy_iload_n 1 dX0_mode_3 rfl ?_
  refine gy_iload_n 2 dX0_mode_4 rfl ?_
  refine gy_try (As := [vI a1, vI a2]) (n := 2) (stk := [vI 0, vR 100]) (ci := 1) (b := 30) (N := 57) (h a1 a2 u) (by decide +kernel) ⟨rfl, rfl⟩ (fun _ => rfl) (hk2_in ⟨by decide, 13, Or.inl ⟨rfl, 10, _, rfl, by decide⟩, (Or.inl ⟨4, dX0_mode_13, by decide, dX0_mode_15, dX0_mode_16⟩)⟩ ⟨by decide, 17, Or.inr (Or.inr ⟨rfl, 10, 10, 13, _, rfl, by decide, by decide⟩), (Or.inl ⟨4, dX0_mode_17, by decide, dX0_mode_19, dX0_mode_20⟩)⟩) rfl rfl (lw_V q490 q491 q492 q163 q493) (by decide +kernel) rfl (by decide) hRf hRl (fun _ => (avc ra1 (avc ra2 avn))) (Nat.le_of_ble_eq_true rfl) (fun r1 s1 hoc _ ad ad1 ha => keep90 rfl rfl (h90 a1 a2 u r1 s1 hoc) ad ad1 ha) dX0_mode_5 (fun v1 s2 ht hr => ?_)
  refine gy_i2l hr dX0_mode_8 ?_
  refine gy_last (i := 0) (v := v1) FL_ok 42 rfl rfl (by decide +kernel) (fun _ => inL_i hr) dX0_mode_9 ?_
  refine gy_goto 21 dX0_mode_10 (by decide) ?_
  refine gy_iconst dX0_mode_21 ?_
  exact gy_iret rfl rfl (fun _ => by decide) dX0_mode_22
theorem xwX0_mode {l : Launch} (hlt : LT l) {d : Nat} (hd : 11 ≤ d) : ∀ (a1 a2 : Int) (u : Sg), CtY l (d + 1) FL clA yX0_mode cX0_mode 5 (some .int) hX0_mode (DX1_mode ||| (1 <<< 90)) rvI [vR 1, vI a1, vI a2, vR 100] u (bX0_mode (callL d) a1 a2 u) := fun a1 a2 u =>
  CtY_of (by decide) (Nat.le_of_ble_eq_true rfl) (fun p e R s1 m args below meth c G A ad hA hRf hRl => wX0_mode hRf hRl (fun a1 a2 u => (xcX1_mode hlt hd a1 a2 (dnC u)).upC (NoRef_X true)) (fun a1 a2 u r u2 hq => callL_90 hq) a1 a2 u (hA _ (List.mem_cons_of_mem _ List.mem_cons_self)) (hA _ (List.mem_cons_of_mem _ (List.mem_cons_of_mem _ List.mem_cons_self))))
/-! the wrapper of attribute -/
abbrev hX0_attribute : List (Nat × Nat × Nat × Nat) := [(0, 8, 11, 15)]
abbrev JX0_attribute : Jm := (cX0_attribute, RX0, 3, some .int)
def bX0_attribute (call : Nat → List Int → Sg → Option (Int × Sg)) (u : Sg) : Option (Int × Sg) := cl (call 7 [] u) fun v1 s2 => trK hkS v1 s2 (stA s2 90 0 v1 fun s3 => some (0, s3))
theorem wX0_attribute {p : Program} {l : Launch} {e : Env} {R : Room} {s : State} {m : MethodId} {args : Array Value} {below : List Frame} {meth : Method} {c : Code} {G : Gm} {A : Nat → Prop} {ad0 : Nat → Nat} {σ0 : Sg} {d : Nat} {call : Nat → List Int → Sg → Option (Int × Sg)} (hRf : d + 1 ≤ R.frames) (hRl : 40 * (d + 1) ≤ R.locals) (h : ∀ (u : Sg), CtX l d FL clA yX1_attribute cX1_attribute 1 (some .int) DX1_attribute (rvX true) [vR 1] u (call 7 [] u)) (h90 : ∀ (u : Sg) (r : Int) (u2 : Sg), call 7 [] u = some (r, u2) → gL u2 90 = gL u 90) (u : Sg) : WGy p l e R s m args below meth c hX0_attribute JX0_attribute (DX1_attribute ||| (1 <<< 90)) G clA A FL ad0 σ0 rvI (bX0_attribute call u) u 0 [(0, vR 1), (1, vR 100)] [] := by
  unfold bX0_attribute
  refine gy_aload_n 1 dX0_attribute_0 rfl ?_
  refine gy_iconst dX0_attribute_1 ?_
  refine gy_aload_n 0 dX0_attribute_2 rfl ?_
  refine gy_try (As := []) (n := 0) (stk := [vI 0, vR 100]) (ci := 1) (b := 30) (N := 57) (h u) (by decide +kernel) ⟨rfl, rfl⟩ (fun _ => rfl) (hkS_in ⟨by decide, 11, Or.inr (Or.inl ⟨rfl, 8, _, rfl, by decide⟩), (Or.inr ⟨2, dX0_attribute_11, by decide, dX0_attribute_12, dX0_attribute_13⟩)⟩) rfl rfl (lw_V q597 q598 q599 q163 q600) (by decide +kernel) rfl (by decide) hRf hRl (fun _ => avn) (Nat.le_of_ble_eq_true rfl) (fun r1 s1 hoc _ ad ad1 ha => keep90 rfl rfl (h90 u r1 s1 hoc) ad ad1 ha) dX0_attribute_3 (fun v1 s2 ht hr => ?_)
  refine gy_i2l hr dX0_attribute_6 ?_
  refine gy_last (i := 0) (v := v1) FL_ok 42 rfl rfl (by decide +kernel) (fun _ => inL_i hr) dX0_attribute_7 ?_
  refine gy_goto 14 dX0_attribute_8 (by decide) ?_
  refine gy_iconst dX0_attribute_14 ?_
  exact gy_iret rfl rfl (fun _ => by decide) dX0_attribute_15
theorem xwX0_attribute {l : Launch} (hlt : LT l) {d : Nat} (hd : 9 ≤ d) : ∀ (u : Sg), CtY l (d + 1) FL clA yX0_attribute cX0_attribute 3 (some .int) hX0_attribute (DX1_attribute ||| (1 <<< 90)) rvI [vR 1, vR 100] u (bX0_attribute (callL d) u) := fun u =>
  CtY_of (by decide) (Nat.le_of_ble_eq_true rfl) (fun p e R s1 m args below meth c G A ad hA hRf hRl => wX0_attribute hRf hRl (fun u => (xcX1_attribute hlt hd (dnC u)).upC (NoRef_X true)) (fun u r u2 hq => callL_90 hq) u)
/-! the wrapper of functor -/
abbrev hX0_functor : List (Nat × Nat × Nat × Nat) := [(0, 10, 13, 13), (0, 10, 17, 15)]
abbrev JX0_functor : Jm := (cX0_functor, RX0, 5, some .int)
def bX0_functor (call : Nat → List Int → Sg → Option (Int × Sg)) (a1 a2 : Int) (u : Sg) : Option (Int × Sg) := cl (call 8 [a1, a2] u) fun v1 s2 => trK hk2 v1 s2 (stA s2 90 0 v1 fun s3 => some (0, s3))
theorem wX0_functor {p : Program} {l : Launch} {e : Env} {R : Room} {s : State} {m : MethodId} {args : Array Value} {below : List Frame} {meth : Method} {c : Code} {G : Gm} {A : Nat → Prop} {ad0 : Nat → Nat} {σ0 : Sg} {d : Nat} {call : Nat → List Int → Sg → Option (Int × Sg)} (hRf : d + 1 ≤ R.frames) (hRl : 40 * (d + 1) ≤ R.locals) (h : ∀ (a1 a2 : Int) (u : Sg), CtX l d FL clA yX1_functor cX1_functor 4 (some .int) DX1_functor (rvX true) [vR 1, vI a1, vI a2] u (call 8 [a1, a2] u)) (h90 : ∀ (a1 a2 : Int) (u : Sg) (r : Int) (u2 : Sg), call 8 [a1, a2] u = some (r, u2) → gL u2 90 = gL u 90) (a1 a2 : Int) (u : Sg) (ra1 : inR a1) (ra2 : inR a2) : WGy p l e R s m args below meth c hX0_functor JX0_functor (DX1_functor ||| (1 <<< 90)) G clA A FL ad0 σ0 rvI (bX0_functor call a1 a2 u) u 0 [(0, vR 1), (1, vI a1), (2, vI a2), (3, vR 100)] [] := by
  unfold bX0_functor
  refine gy_aload_n 3 dX0_functor_0 rfl ?_
  refine gy_iconst dX0_functor_1 ?_
  refine gy_aload_n 0 dX0_functor_2 rfl ?_
  refine gy_iload_n 1 dX0_functor_3 rfl ?_
  refine gy_iload_n 2 dX0_functor_4 rfl ?_
  refine gy_try (As := [vI a1, vI a2]) (n := 2) (stk := [vI 0, vR 100]) (ci := 1) (b := 30) (N := 57) (h a1 a2 u) (by decide +kernel) ⟨rfl, rfl⟩ (fun _ => rfl) (hk2_in ⟨by decide, 13, Or.inl ⟨rfl, 10, _, rfl, by decide⟩, (Or.inl ⟨4, dX0_functor_13, by decide, dX0_functor_15, dX0_functor_16⟩)⟩ ⟨by decide, 17, Or.inr (Or.inr ⟨rfl, 10, 10, 13, _, rfl, by decide, by decide⟩), (Or.inl ⟨4, dX0_functor_17, by decide, dX0_functor_19, dX0_functor_20⟩)⟩) rfl rfl (lw_V q604 q605 q606 q163 q607) (by decide +kernel) rfl (by decide) hRf hRl (fun _ => (avc ra1 (avc ra2 avn))) (Nat.le_of_ble_eq_true rfl) (fun r1 s1 hoc _ ad ad1 ha => keep90 rfl rfl (h90 a1 a2 u r1 s1 hoc) ad ad1 ha) dX0_functor_5 (fun v1 s2 ht hr => ?_)
  refine gy_i2l hr dX0_functor_8 ?_
  refine gy_last (i := 0) (v := v1) FL_ok 42 rfl rfl (by decide +kernel) (fun _ => inL_i hr) dX0_functor_9 ?_
  refine gy_goto 21 dX0_functor_10 (by decide) ?_
  refine gy_iconst dX0_functor_21 ?_
  exact gy_iret rfl rfl (fun _ => by decide) dX0_functor_22
theorem xwX0_functor {l : Launch} (hlt : LT l) {d : Nat} (hd : 11 ≤ d) : ∀ (a1 a2 : Int) (u : Sg), CtY l (d + 1) FL clA yX0_functor cX0_functor 5 (some .int) hX0_functor (DX1_functor ||| (1 <<< 90)) rvI [vR 1, vI a1, vI a2, vR 100] u (bX0_functor (callL d) a1 a2 u) := fun a1 a2 u =>
  CtY_of (by decide) (Nat.le_of_ble_eq_true rfl) (fun p e R s1 m args below meth c G A ad hA hRf hRl => wX0_functor hRf hRl (fun a1 a2 u => (xcX1_functor hlt hd a1 a2 (dnC u)).upC (NoRef_X true)) (fun a1 a2 u r u2 hq => callL_90 hq) a1 a2 u (hA _ (List.mem_cons_of_mem _ List.mem_cons_self)) (hA _ (List.mem_cons_of_mem _ (List.mem_cons_of_mem _ List.mem_cons_self))))
/-! the wrapper of predicate -/
abbrev hX0_predicate : List (Nat × Nat × Nat × Nat) := [(0, 9, 12, 13), (0, 9, 15, 15)]
abbrev JX0_predicate : Jm := (cX0_predicate, RX0, 4, some .int)
def bX0_predicate (call : Nat → List Int → Sg → Option (Int × Sg)) (a1 : Int) (u : Sg) : Option (Int × Sg) := cl (call 9 [a1] u) fun v1 s2 => trK hk2 v1 s2 (stA s2 90 0 v1 fun s3 => some (0, s3))
theorem wX0_predicate {p : Program} {l : Launch} {e : Env} {R : Room} {s : State} {m : MethodId} {args : Array Value} {below : List Frame} {meth : Method} {c : Code} {G : Gm} {A : Nat → Prop} {ad0 : Nat → Nat} {σ0 : Sg} {d : Nat} {call : Nat → List Int → Sg → Option (Int × Sg)} (hRf : d + 1 ≤ R.frames) (hRl : 40 * (d + 1) ≤ R.locals) (h : ∀ (a1 : Int) (u : Sg), CtX l d FL clA yX1_predicate cX1_predicate 2 (some .int) DX1_predicate (rvX true) [vR 1, vI a1] u (call 9 [a1] u)) (h90 : ∀ (a1 : Int) (u : Sg) (r : Int) (u2 : Sg), call 9 [a1] u = some (r, u2) → gL u2 90 = gL u 90) (a1 : Int) (u : Sg) (ra1 : inR a1) : WGy p l e R s m args below meth c hX0_predicate JX0_predicate (DX1_predicate ||| (1 <<< 90)) G clA A FL ad0 σ0 rvI (bX0_predicate call a1 u) u 0 [(0, vR 1), (1, vI a1), (2, vR 100)] [] := by
  unfold bX0_predicate
  refine gy_aload_n 2 dX0_predicate_0 rfl ?_
  refine gy_iconst dX0_predicate_1 ?_
  refine gy_aload_n 0 dX0_predicate_2 rfl ?_
  refine gy_iload_n 1 dX0_predicate_3 rfl ?_
  refine gy_try (As := [vI a1]) (n := 1) (stk := [vI 0, vR 100]) (ci := 1) (b := 30) (N := 57) (h a1 u) (by decide +kernel) ⟨rfl, rfl⟩ (fun _ => rfl) (hk2_in ⟨by decide, 12, Or.inl ⟨rfl, 9, _, rfl, by decide⟩, (Or.inr ⟨3, dX0_predicate_12, by decide, dX0_predicate_13, dX0_predicate_14⟩)⟩ ⟨by decide, 15, Or.inr (Or.inr ⟨rfl, 9, 9, 12, _, rfl, by decide, by decide⟩), (Or.inr ⟨3, dX0_predicate_15, by decide, dX0_predicate_16, dX0_predicate_17⟩)⟩) rfl rfl (lw_V q611 q612 q613 q163 q614) (by decide +kernel) rfl (by decide) hRf hRl (fun _ => (avc ra1 avn)) (Nat.le_of_ble_eq_true rfl) (fun r1 s1 hoc _ ad ad1 ha => keep90 rfl rfl (h90 a1 u r1 s1 hoc) ad ad1 ha) dX0_predicate_4 (fun v1 s2 ht hr => ?_)
  refine gy_i2l hr dX0_predicate_7 ?_
  refine gy_last (i := 0) (v := v1) FL_ok 42 rfl rfl (by decide +kernel) (fun _ => inL_i hr) dX0_predicate_8 ?_
  refine gy_goto 18 dX0_predicate_9 (by decide) ?_
  refine gy_iconst dX0_predicate_18 ?_
  exact gy_iret rfl rfl (fun _ => by decide) dX0_predicate_19
theorem xwX0_predicate {l : Launch} (hlt : LT l) {d : Nat} (hd : 9 ≤ d) : ∀ (a1 : Int) (u : Sg), CtY l (d + 1) FL clA yX0_predicate cX0_predicate 4 (some .int) hX0_predicate (DX1_predicate ||| (1 <<< 90)) rvI [vR 1, vI a1, vR 100] u (bX0_predicate (callL d) a1 u) := fun a1 u =>
  CtY_of (by decide) (Nat.le_of_ble_eq_true rfl) (fun p e R s1 m args below meth c G A ad hA hRf hRl => wX0_predicate hRf hRl (fun a1 u => (xcX1_predicate hlt hd a1 (dnC u)).upC (NoRef_X true)) (fun a1 u r u2 hq => callL_90 hq) a1 u (hA _ (List.mem_cons_of_mem _ List.mem_cons_self)))
/-! the wrapper of type -/
abbrev hX0_type : List (Nat × Nat × Nat × Nat) := [(0, 12, 15, 13), (0, 12, 19, 15)]
abbrev JX0_type : Jm := (cX0_type, RX0, 6, some .int)
def bX0_type (call : Nat → List Int → Sg → Option (Int × Sg)) (a1 a2 a3 : Int) (u : Sg) : Option (Int × Sg) := cl (call 10 [a1, a2, a3] u) fun v1 s2 => trK hk2 v1 s2 (stA s2 90 0 v1 fun s3 => some (0, s3))
theorem wX0_type {p : Program} {l : Launch} {e : Env} {R : Room} {s : State} {m : MethodId} {args : Array Value} {below : List Frame} {meth : Method} {c : Code} {G : Gm} {A : Nat → Prop} {ad0 : Nat → Nat} {σ0 : Sg} {d : Nat} {call : Nat → List Int → Sg → Option (Int × Sg)} (hRf : d + 1 ≤ R.frames) (hRl : 40 * (d + 1) ≤ R.locals) (h : ∀ (a1 a2 a3 : Int) (u : Sg), CtX l d FL clA yX1_type cX1_type 7 (some .int) DX1_type (rvX true) [vR 1, vI a1, vI a2, vI a3] u (call 10 [a1, a2, a3] u)) (h90 : ∀ (a1 a2 a3 : Int) (u : Sg) (r : Int) (u2 : Sg), call 10 [a1, a2, a3] u = some (r, u2) → gL u2 90 = gL u 90) (a1 a2 a3 : Int) (u : Sg) (ra1 : inR a1) (ra2 : inR a2) (ra3 : inR a3) : WGy p l e R s m args below meth c hX0_type JX0_type (DX1_type ||| (1 <<< 90)) G clA A FL ad0 σ0 rvI (bX0_type call a1 a2 a3 u) u 0 [(0, vR 1), (1, vI a1), (2, vI a2), (3, vI a3), (4, vR 100)] [] := by
  unfold bX0_type
  refine gy_aload 4 dX0_type_0 rfl ?_
  refine gy_iconst dX0_type_2 ?_
  refine gy_aload_n 0 dX0_type_3 rfl ?_
  refine gy_iload_n 1 dX0_type_4 rfl ?_
  refine gy_iload_n 2 dX0_type_5 rfl ?_
  refine gy_iload_n 3 dX0_type_6 rfl ?_
  refine gy_try (As := [vI a1, vI a2, vI a3]) (n := 3) (stk := [vI 0, vR 100]) (ci := 1) (b := 30) (N := 57) (h a1 a2 a3 u) (by decide +kernel) ⟨rfl, rfl⟩ (fun _ => rfl) (hk2_in ⟨by decide, 15, Or.inl ⟨rfl, 12, _, rfl, by decide⟩, (Or.inl ⟨5, dX0_type_15, by decide, dX0_type_17, dX0_type_18⟩)⟩ ⟨by decide, 19, Or.inr (Or.inr ⟨rfl, 12, 12, 15, _, rfl, by decide, by decide⟩), (Or.inl ⟨5, dX0_type_19, by decide, dX0_type_21, dX0_type_22⟩)⟩) rfl rfl (lw_V q618 q619 q620 q163 q621) (by decide +kernel) rfl (by decide) hRf hRl (fun _ => (avc ra1 (avc ra2 (avc ra3 avn)))) (Nat.le_of_ble_eq_true rfl) (fun r1 s1 hoc _ ad ad1 ha => keep90 rfl rfl (h90 a1 a2 a3 u r1 s1 hoc) ad ad1 ha) dX0_type_7 (fun v1 s2 ht hr => ?_)
  refine gy_i2l hr dX0_type_10 ?_
  refine gy_last (i := 0) (v := v1) FL_ok 42 rfl rfl (by decide +kernel) (fun _ => inL_i hr) dX0_type_11 ?_
  refine gy_goto 23 dX0_type_12 (by decide) ?_
  refine gy_iconst dX0_type_23 ?_
  exact gy_iret rfl rfl (fun _ => by decide) dX0_type_24
theorem xwX0_type {l : Launch} (hlt : LT l) {d : Nat} (hd : 11 ≤ d) : ∀ (a1 a2 a3 : Int) (u : Sg), CtY l (d + 1) FL clA yX0_type cX0_type 6 (some .int) hX0_type (DX1_type ||| (1 <<< 90)) rvI [vR 1, vI a1, vI a2, vI a3, vR 100] u (bX0_type (callL d) a1 a2 a3 u) := fun a1 a2 a3 u =>
  CtY_of (by decide) (Nat.le_of_ble_eq_true rfl) (fun p e R s1 m args below meth c G A ad hA hRf hRl => wX0_type hRf hRl (fun a1 a2 a3 u => (xcX1_type hlt hd a1 a2 a3 (dnC u)).upC (NoRef_X true)) (fun a1 a2 a3 u r u2 hq => callL_90 hq) a1 a2 a3 u (hA _ (List.mem_cons_of_mem _ List.mem_cons_self)) (hA _ (List.mem_cons_of_mem _ (List.mem_cons_of_mem _ List.mem_cons_self))) (hA _ (List.mem_cons_of_mem _ (List.mem_cons_of_mem _ (List.mem_cons_of_mem _ List.mem_cons_self)))))
/-! the wrapper of constant -/
abbrev hX0_constant : List (Nat × Nat × Nat × Nat) := [(0, 9, 12, 13), (0, 9, 15, 15)]
abbrev JX0_constant : Jm := (cX0_constant, RX0, 4, some .int)
def bX0_constant (call : Nat → List Int → Sg → Option (Int × Sg)) (a1 : Int) (u : Sg) : Option (Int × Sg) := cl (call 17 [a1] u) fun v1 s2 => trK hk2 v1 s2 (stA s2 90 0 v1 fun s3 => some (0, s3))
theorem wX0_constant {p : Program} {l : Launch} {e : Env} {R : Room} {s : State} {m : MethodId} {args : Array Value} {below : List Frame} {meth : Method} {c : Code} {G : Gm} {A : Nat → Prop} {ad0 : Nat → Nat} {σ0 : Sg} {d : Nat} {call : Nat → List Int → Sg → Option (Int × Sg)} (hRf : d + 1 ≤ R.frames) (hRl : 40 * (d + 1) ≤ R.locals) (h : ∀ (a1 : Int) (u : Sg), CtX l d FL clA yX1_constant cX1_constant 5 (some .int) DX1_constant (rvX true) [vR 1, vI a1] u (call 17 [a1] u)) (h90 : ∀ (a1 : Int) (u : Sg) (r : Int) (u2 : Sg), call 17 [a1] u = some (r, u2) → gL u2 90 = gL u 90) (a1 : Int) (u : Sg) (ra1 : inR a1) : WGy p l e R s m args below meth c hX0_constant JX0_constant (DX1_constant ||| (1 <<< 90)) G clA A FL ad0 σ0 rvI (bX0_constant call a1 u) u 0 [(0, vR 1), (1, vI a1), (2, vR 100)] [] := by
  unfold bX0_constant
  refine gy_aload_n 2 dX0_constant_0 rfl ?_
  refine gy_iconst dX0_constant_1 ?_
  refine gy_aload_n 0 dX0_constant_2 rfl ?_
  refine gy_iload_n 1 dX0_constant_3 rfl ?_
  refine gy_try (As := [vI a1]) (n := 1) (stk := [vI 0, vR 100]) (ci := 1) (b := 30) (N := 57) (h a1 u) (by decide +kernel) ⟨rfl, rfl⟩ (fun _ => rfl) (hk2_in ⟨by decide, 12, Or.inl ⟨rfl, 9, _, rfl, by decide⟩, (Or.inr ⟨3, dX0_constant_12, by decide, dX0_constant_13, dX0_constant_14⟩)⟩ ⟨by decide, 15, Or.inr (Or.inr ⟨rfl, 9, 9, 12, _, rfl, by decide, by decide⟩), (Or.inr ⟨3, dX0_constant_15, by decide, dX0_constant_16, dX0_constant_17⟩)⟩) rfl rfl (lw_V q654 q655 q656 q163 q657) (by decide +kernel) rfl (by decide) hRf hRl (fun _ => (avc ra1 avn)) (Nat.le_of_ble_eq_true rfl) (fun r1 s1 hoc _ ad ad1 ha => keep90 rfl rfl (h90 a1 u r1 s1 hoc) ad ad1 ha) dX0_constant_4 (fun v1 s2 ht hr => ?_)
  refine gy_i2l hr dX0_constant_7 ?_
  refine gy_last (i := 0) (v := v1) FL_ok 42 rfl rfl (by decide +kernel) (fun _ => inL_i hr) dX0_constant_8 ?_
  refine gy_goto 18 dX0_constant_9 (by decide) ?_
  refine gy_iconst dX0_constant_18 ?_
  exact gy_iret rfl rfl (fun _ => by decide) dX0_constant_19
theorem xwX0_constant {l : Launch} (hlt : LT l) {d : Nat} (hd : 11 ≤ d) : ∀ (a1 : Int) (u : Sg), CtY l (d + 1) FL clA yX0_constant cX0_constant 4 (some .int) hX0_constant (DX1_constant ||| (1 <<< 90)) rvI [vR 1, vI a1, vR 100] u (bX0_constant (callL d) a1 u) := fun a1 u =>
  CtY_of (by decide) (Nat.le_of_ble_eq_true rfl) (fun p e R s1 m args below meth c G A ad hA hRf hRl => wX0_constant hRf hRl (fun a1 u => (xcX1_constant hlt hd a1 (dnC u)).upC (NoRef_X true)) (fun a1 u r u2 hq => callL_90 hq) a1 u (hA _ (List.mem_cons_of_mem _ List.mem_cons_self)))
/-! the wrapper of locus -/
abbrev hX0_locus : List (Nat × Nat × Nat × Nat) := [(0, 9, 12, 13), (0, 9, 15, 15)]
abbrev JX0_locus : Jm := (cX0_locus, RX0, 4, some .int)
def bX0_locus (call : Nat → List Int → Sg → Option (Int × Sg)) (a1 : Int) (u : Sg) : Option (Int × Sg) := cl (call 20 [a1] u) fun v1 s2 => trK hk2 v1 s2 (stA s2 90 0 v1 fun s3 => some (0, s3))
theorem wX0_locus {p : Program} {l : Launch} {e : Env} {R : Room} {s : State} {m : MethodId} {args : Array Value} {below : List Frame} {meth : Method} {c : Code} {G : Gm} {A : Nat → Prop} {ad0 : Nat → Nat} {σ0 : Sg} {d : Nat} {call : Nat → List Int → Sg → Option (Int × Sg)} (hRf : d + 1 ≤ R.frames) (hRl : 40 * (d + 1) ≤ R.locals) (h : ∀ (a1 : Int) (u : Sg), CtX l d FL clA yX1_locus cX1_locus 4 (some .int) DX1_locus (rvX true) [vR 1, vI a1] u (call 20 [a1] u)) (h90 : ∀ (a1 : Int) (u : Sg) (r : Int) (u2 : Sg), call 20 [a1] u = some (r, u2) → gL u2 90 = gL u 90) (a1 : Int) (u : Sg) (ra1 : inR a1) : WGy p l e R s m args below meth c hX0_locus JX0_locus (DX1_locus ||| (1 <<< 90)) G clA A FL ad0 σ0 rvI (bX0_locus call a1 u) u 0 [(0, vR 1), (1, vI a1), (2, vR 100)] [] := by
  unfold bX0_locus
  refine gy_aload_n 2 dX0_locus_0 rfl ?_
  refine gy_iconst dX0_locus_1 ?_
  refine gy_aload_n 0 dX0_locus_2 rfl ?_
  refine gy_iload_n 1 dX0_locus_3 rfl ?_
  refine gy_try (As := [vI a1]) (n := 1) (stk := [vI 0, vR 100]) (ci := 1) (b := 30) (N := 57) (h a1 u) (by decide +kernel) ⟨rfl, rfl⟩ (fun _ => rfl) (hk2_in ⟨by decide, 12, Or.inl ⟨rfl, 9, _, rfl, by decide⟩, (Or.inr ⟨3, dX0_locus_12, by decide, dX0_locus_13, dX0_locus_14⟩)⟩ ⟨by decide, 15, Or.inr (Or.inr ⟨rfl, 9, 9, 12, _, rfl, by decide, by decide⟩), (Or.inr ⟨3, dX0_locus_15, by decide, dX0_locus_16, dX0_locus_17⟩)⟩) rfl rfl (lw_V q670 q671 q672 q163 q673) (by decide +kernel) rfl (by decide) hRf hRl (fun _ => (avc ra1 avn)) (Nat.le_of_ble_eq_true rfl) (fun r1 s1 hoc _ ad ad1 ha => keep90 rfl rfl (h90 a1 u r1 s1 hoc) ad ad1 ha) dX0_locus_4 (fun v1 s2 ht hr => ?_)
  refine gy_i2l hr dX0_locus_7 ?_
  refine gy_last (i := 0) (v := v1) FL_ok 42 rfl rfl (by decide +kernel) (fun _ => inL_i hr) dX0_locus_8 ?_
  refine gy_goto 18 dX0_locus_9 (by decide) ?_
  refine gy_iconst dX0_locus_18 ?_
  exact gy_iret rfl rfl (fun _ => by decide) dX0_locus_19
theorem xwX0_locus {l : Launch} (hlt : LT l) {d : Nat} (hd : 9 ≤ d) : ∀ (a1 : Int) (u : Sg), CtY l (d + 1) FL clA yX0_locus cX0_locus 4 (some .int) hX0_locus (DX1_locus ||| (1 <<< 90)) rvI [vR 1, vI a1, vR 100] u (bX0_locus (callL d) a1 u) := fun a1 u =>
  CtY_of (by decide) (Nat.le_of_ble_eq_true rfl) (fun p e R s1 m args below meth c G A ad hA hRf hRl => wX0_locus hRf hRl (fun a1 u => (xcX1_locus hlt hd a1 (dnC u)).upC (NoRef_X true)) (fun a1 u r u2 hq => callL_90 hq) a1 u (hA _ (List.mem_cons_of_mem _ List.mem_cons_self)))
/-! the wrapper of apply -/
abbrev hX0_apply : List (Nat × Nat × Nat × Nat) := [(0, 12, 15, 13), (0, 12, 19, 15)]
abbrev JX0_apply : Jm := (cX0_apply, RX0, 6, some .int)
def bX0_apply (call : Nat → List Int → Sg → Option (Int × Sg)) (a1 a2 a3 : Int) (u : Sg) : Option (Int × Sg) := cl (call 21 [a1, a2, a3] u) fun v1 s2 => trK hk2 v1 s2 (stA s2 90 0 v1 fun s3 => some (0, s3))
theorem wX0_apply {p : Program} {l : Launch} {e : Env} {R : Room} {s : State} {m : MethodId} {args : Array Value} {below : List Frame} {meth : Method} {c : Code} {G : Gm} {A : Nat → Prop} {ad0 : Nat → Nat} {σ0 : Sg} {d : Nat} {call : Nat → List Int → Sg → Option (Int × Sg)} (hRf : d + 1 ≤ R.frames) (hRl : 40 * (d + 1) ≤ R.locals) (h : ∀ (a1 a2 a3 : Int) (u : Sg), CtX l d FL clA yX1_apply cX1_apply 4 (some .int) DX1_apply (rvX true) [vR 1, vI a1, vI a2, vI a3] u (call 21 [a1, a2, a3] u)) (h90 : ∀ (a1 a2 a3 : Int) (u : Sg) (r : Int) (u2 : Sg), call 21 [a1, a2, a3] u = some (r, u2) → gL u2 90 = gL u 90) (a1 a2 a3 : Int) (u : Sg) (ra1 : inR a1) (ra2 : inR a2) (ra3 : inR a3) : WGy p l e R s m args below meth c hX0_apply JX0_apply (DX1_apply ||| (1 <<< 90)) G clA A FL ad0 σ0 rvI (bX0_apply call a1 a2 a3 u) u 0 [(0, vR 1), (1, vI a1), (2, vI a2), (3, vI a3), (4, vR 100)] [] := by
  unfold bX0_apply
  refine gy_aload 4 dX0_apply_0 rfl ?_
  refine gy_iconst dX0_apply_2 ?_
  refine gy_aload_n 0 dX0_apply_3 rfl ?_
  refine gy_iload_n 1 dX0_apply_4 rfl ?_
  refine gy_iload_n 2 dX0_apply_5 rfl ?_
  refine gy_iload_n 3 dX0_apply_6 rfl ?_
  refine gy_try (As := [vI a1, vI a2, vI a3]) (n := 3) (stk := [vI 0, vR 100]) (ci := 1) (b := 30) (N := 57) (h a1 a2 a3 u) (by decide +kernel) ⟨rfl, rfl⟩ (fun _ => rfl) (hk2_in ⟨by decide, 15, Or.inl ⟨rfl, 12, _, rfl, by decide⟩, (Or.inl ⟨5, dX0_apply_15, by decide, dX0_apply_17, dX0_apply_18⟩)⟩ ⟨by decide, 19, Or.inr (Or.inr ⟨rfl, 12, 12, 15, _, rfl, by decide, by decide⟩), (Or.inl ⟨5, dX0_apply_19, by decide, dX0_apply_21, dX0_apply_22⟩)⟩) rfl rfl (lw_V q677 q678 q679 q163 q680) (by decide +kernel) rfl (by decide) hRf hRl (fun _ => (avc ra1 (avc ra2 (avc ra3 avn)))) (Nat.le_of_ble_eq_true rfl) (fun r1 s1 hoc _ ad ad1 ha => keep90 rfl rfl (h90 a1 a2 a3 u r1 s1 hoc) ad ad1 ha) dX0_apply_7 (fun v1 s2 ht hr => ?_)
  refine gy_i2l hr dX0_apply_10 ?_
  refine gy_last (i := 0) (v := v1) FL_ok 42 rfl rfl (by decide +kernel) (fun _ => inL_i hr) dX0_apply_11 ?_
  refine gy_goto 23 dX0_apply_12 (by decide) ?_
  refine gy_iconst dX0_apply_23 ?_
  exact gy_iret rfl rfl (fun _ => by decide) dX0_apply_24
theorem xwX0_apply {l : Launch} (hlt : LT l) {d : Nat} (hd : 12 ≤ d) : ∀ (a1 a2 a3 : Int) (u : Sg), CtY l (d + 1) FL clA yX0_apply cX0_apply 6 (some .int) hX0_apply (DX1_apply ||| (1 <<< 90)) rvI [vR 1, vI a1, vI a2, vI a3, vR 100] u (bX0_apply (callL d) a1 a2 a3 u) := fun a1 a2 a3 u =>
  CtY_of (by decide) (Nat.le_of_ble_eq_true rfl) (fun p e R s1 m args below meth c G A ad hA hRf hRl => wX0_apply hRf hRl (fun a1 a2 a3 u => (xcX1_apply hlt hd a1 a2 a3 (dnC u)).upC (NoRef_X true)) (fun a1 a2 a3 u r u2 hq => callL_90 hq) a1 a2 a3 u (hA _ (List.mem_cons_of_mem _ List.mem_cons_self)) (hA _ (List.mem_cons_of_mem _ (List.mem_cons_of_mem _ List.mem_cons_self))) (hA _ (List.mem_cons_of_mem _ (List.mem_cons_of_mem _ (List.mem_cons_of_mem _ List.mem_cons_self)))))
/-! the wrapper of the -/
abbrev hX0_the : List (Nat × Nat × Nat × Nat) := [(0, 9, 12, 13), (0, 9, 15, 15)]
abbrev JX0_the : Jm := (cX0_the, RX0, 4, some .int)
def bX0_the (call : Nat → List Int → Sg → Option (Int × Sg)) (a1 : Int) (u : Sg) : Option (Int × Sg) := cl (call 23 [a1] u) fun v1 s2 => trK hk2 v1 s2 (stA s2 90 0 v1 fun s3 => some (0, s3))
theorem wX0_the {p : Program} {l : Launch} {e : Env} {R : Room} {s : State} {m : MethodId} {args : Array Value} {below : List Frame} {meth : Method} {c : Code} {G : Gm} {A : Nat → Prop} {ad0 : Nat → Nat} {σ0 : Sg} {d : Nat} {call : Nat → List Int → Sg → Option (Int × Sg)} (hRf : d + 1 ≤ R.frames) (hRl : 40 * (d + 1) ≤ R.locals) (h : ∀ (a1 : Int) (u : Sg), CtX l d FL clA yX1_the cX1_the 5 (some .int) DX1_the (rvX true) [vR 1, vI a1] u (call 23 [a1] u)) (h90 : ∀ (a1 : Int) (u : Sg) (r : Int) (u2 : Sg), call 23 [a1] u = some (r, u2) → gL u2 90 = gL u 90) (a1 : Int) (u : Sg) (ra1 : inR a1) : WGy p l e R s m args below meth c hX0_the JX0_the (DX1_the ||| (1 <<< 90)) G clA A FL ad0 σ0 rvI (bX0_the call a1 u) u 0 [(0, vR 1), (1, vI a1), (2, vR 100)] [] := by
  unfold bX0_the
  refine gy_aload_n 2 dX0_the_0 rfl ?_
  refine gy_iconst dX0_the_1 ?_
  refine gy_aload_n 0 dX0_the_2 rfl ?_
  refine gy_iload_n 1 dX0_the_3 rfl ?_
  refine gy_try (As := [vI a1]) (n := 1) (stk := [vI 0, vR 100]) (ci := 1) (b := 30) (N := 57) (h a1 u) (by decide +kernel) ⟨rfl, rfl⟩ (fun _ => rfl) (hk2_in ⟨by decide, 12, Or.inl ⟨rfl, 9, _, rfl, by decide⟩, (Or.inr ⟨3, dX0_the_12, by decide, dX0_the_13, dX0_the_14⟩)⟩ ⟨by decide, 15, Or.inr (Or.inr ⟨rfl, 9, 9, 12, _, rfl, by decide, by decide⟩), (Or.inr ⟨3, dX0_the_15, by decide, dX0_the_16, dX0_the_17⟩)⟩) rfl rfl (lw_V q688 q689 q690 q163 q691) (by decide +kernel) rfl (by decide) hRf hRl (fun _ => (avc ra1 avn)) (Nat.le_of_ble_eq_true rfl) (fun r1 s1 hoc _ ad ad1 ha => keep90 rfl rfl (h90 a1 u r1 s1 hoc) ad ad1 ha) dX0_the_4 (fun v1 s2 ht hr => ?_)
  refine gy_i2l hr dX0_the_7 ?_
  refine gy_last (i := 0) (v := v1) FL_ok 42 rfl rfl (by decide +kernel) (fun _ => inL_i hr) dX0_the_8 ?_
  refine gy_goto 18 dX0_the_9 (by decide) ?_
  refine gy_iconst dX0_the_18 ?_
  exact gy_iret rfl rfl (fun _ => by decide) dX0_the_19
theorem xwX0_the {l : Launch} (hlt : LT l) {d : Nat} (hd : 11 ≤ d) : ∀ (a1 : Int) (u : Sg), CtY l (d + 1) FL clA yX0_the cX0_the 4 (some .int) hX0_the (DX1_the ||| (1 <<< 90)) rvI [vR 1, vI a1, vR 100] u (bX0_the (callL d) a1 u) := fun a1 u =>
  CtY_of (by decide) (Nat.le_of_ble_eq_true rfl) (fun p e R s1 m args below meth c G A ad hA hRf hRl => wX0_the hRf hRl (fun a1 u => (xcX1_the hlt hd a1 (dnC u)).upC (NoRef_X true)) (fun a1 u r u2 hq => callL_90 hq) a1 u (hA _ (List.mem_cons_of_mem _ List.mem_cons_self)))
/-! the wrapper of atom -/
abbrev hX0_atom : List (Nat × Nat × Nat × Nat) := [(0, 14, 17, 13), (0, 14, 21, 15)]
abbrev JX0_atom : Jm := (cX0_atom, RX0, 7, some .int)
def bX0_atom (call : Nat → List Int → Sg → Option (Int × Sg)) (a1 a2 a3 a4 : Int) (u : Sg) : Option (Int × Sg) := cl (call 24 [a1, a2, a3, a4] u) fun v1 s2 => trK hk2 v1 s2 (stA s2 90 0 v1 fun s3 => some (0, s3))
theorem wX0_atom {p : Program} {l : Launch} {e : Env} {R : Room} {s : State} {m : MethodId} {args : Array Value} {below : List Frame} {meth : Method} {c : Code} {G : Gm} {A : Nat → Prop} {ad0 : Nat → Nat} {σ0 : Sg} {d : Nat} {call : Nat → List Int → Sg → Option (Int × Sg)} (hRf : d + 1 ≤ R.frames) (hRl : 40 * (d + 1) ≤ R.locals) (h : ∀ (a1 a2 a3 a4 : Int) (u : Sg), CtX l d FL clA yX1_atom cX1_atom 9 (some .int) DX1_atom (rvX true) [vR 1, vI a1, vI a2, vI a3, vI a4] u (call 24 [a1, a2, a3, a4] u)) (h90 : ∀ (a1 a2 a3 a4 : Int) (u : Sg) (r : Int) (u2 : Sg), call 24 [a1, a2, a3, a4] u = some (r, u2) → gL u2 90 = gL u 90) (a1 a2 a3 a4 : Int) (u : Sg) (ra1 : inR a1) (ra2 : inR a2) (ra3 : inR a3) (ra4 : inR a4) : WGy p l e R s m args below meth c hX0_atom JX0_atom (DX1_atom ||| (1 <<< 90)) G clA A FL ad0 σ0 rvI (bX0_atom call a1 a2 a3 a4 u) u 0 [(0, vR 1), (1, vI a1), (2, vI a2), (3, vI a3), (4, vI a4), (5, vR 100)] [] := by
  unfold bX0_atom
  refine gy_aload 5 dX0_atom_0 rfl ?_
  refine gy_iconst dX0_atom_2 ?_
  refine gy_aload_n 0 dX0_atom_3 rfl ?_
  refine gy_iload_n 1 dX0_atom_4 rfl ?_
  refine gy_iload_n 2 dX0_atom_5 rfl ?_
  refine gy_iload_n 3 dX0_atom_6 rfl ?_
  refine gy_iload 4 dX0_atom_7 rfl ?_
  refine gy_try (As := [vI a1, vI a2, vI a3, vI a4]) (n := 4) (stk := [vI 0, vR 100]) (ci := 1) (b := 30) (N := 57) (h a1 a2 a3 a4 u) (by decide +kernel) ⟨rfl, rfl⟩ (fun _ => rfl) (hk2_in ⟨by decide, 17, Or.inl ⟨rfl, 14, _, rfl, by decide⟩, (Or.inl ⟨6, dX0_atom_17, by decide, dX0_atom_19, dX0_atom_20⟩)⟩ ⟨by decide, 21, Or.inr (Or.inr ⟨rfl, 14, 14, 17, _, rfl, by decide, by decide⟩), (Or.inl ⟨6, dX0_atom_21, by decide, dX0_atom_23, dX0_atom_24⟩)⟩) rfl rfl (lw_V q696 q697 q698 q163 q699) (by decide +kernel) rfl (by decide) hRf hRl (fun _ => (avc ra1 (avc ra2 (avc ra3 (avc ra4 avn))))) (Nat.le_of_ble_eq_true rfl) (fun r1 s1 hoc _ ad ad1 ha => keep90 rfl rfl (h90 a1 a2 a3 a4 u r1 s1 hoc) ad ad1 ha) dX0_atom_9 (fun v1 s2 ht hr => ?_)
  refine gy_i2l hr dX0_atom_12 ?_
  refine gy_last (i := 0) (v := v1) FL_ok 42 rfl rfl (by decide +kernel) (fun _ => inL_i hr) dX0_atom_13 ?_
  refine gy_goto 25 dX0_atom_14 (by decide) ?_
  refine gy_iconst dX0_atom_25 ?_
  exact gy_iret rfl rfl (fun _ => by decide) dX0_atom_26
theorem xwX0_atom {l : Launch} (hlt : LT l) {d : Nat} (hd : 12 ≤ d) : ∀ (a1 a2 a3 a4 : Int) (u : Sg), CtY l (d + 1) FL clA yX0_atom cX0_atom 7 (some .int) hX0_atom (DX1_atom ||| (1 <<< 90)) rvI [vR 1, vI a1, vI a2, vI a3, vI a4, vR 100] u (bX0_atom (callL d) a1 a2 a3 a4 u) := fun a1 a2 a3 a4 u =>
  CtY_of (by decide) (Nat.le_of_ble_eq_true rfl) (fun p e R s1 m args below meth c G A ad hA hRf hRl => wX0_atom hRf hRl (fun a1 a2 a3 a4 u => (xcX1_atom hlt hd a1 a2 a3 a4 (dnC u)).upC (NoRef_X true)) (fun a1 a2 a3 a4 u r u2 hq => callL_90 hq) a1 a2 a3 a4 u (hA _ (List.mem_cons_of_mem _ List.mem_cons_self)) (hA _ (List.mem_cons_of_mem _ (List.mem_cons_of_mem _ List.mem_cons_self))) (hA _ (List.mem_cons_of_mem _ (List.mem_cons_of_mem _ (List.mem_cons_of_mem _ List.mem_cons_self)))) (hA _ (List.mem_cons_of_mem _ (List.mem_cons_of_mem _ (List.mem_cons_of_mem _ (List.mem_cons_of_mem _ List.mem_cons_self))))))
/-! the wrapper of join -/
abbrev hX0_join : List (Nat × Nat × Nat × Nat) := [(0, 12, 15, 13), (0, 12, 19, 15)]
abbrev JX0_join : Jm := (cX0_join, RX0, 6, some .int)
def bX0_join (call : Nat → List Int → Sg → Option (Int × Sg)) (a1 a2 a3 : Int) (u : Sg) : Option (Int × Sg) := cl (call 25 [a1, a2, a3] u) fun v1 s2 => trK hk2 v1 s2 (stA s2 90 0 v1 fun s3 => some (0, s3))
theorem wX0_join {p : Program} {l : Launch} {e : Env} {R : Room} {s : State} {m : MethodId} {args : Array Value} {below : List Frame} {meth : Method} {c : Code} {G : Gm} {A : Nat → Prop} {ad0 : Nat → Nat} {σ0 : Sg} {d : Nat} {call : Nat → List Int → Sg → Option (Int × Sg)} (hRf : d + 1 ≤ R.frames) (hRl : 40 * (d + 1) ≤ R.locals) (h : ∀ (a1 a2 a3 : Int) (u : Sg), CtX l d FL clA yX1_join cX1_join 9 (some .int) DX1_join (rvX true) [vR 1, vI a1, vI a2, vI a3] u (call 25 [a1, a2, a3] u)) (h90 : ∀ (a1 a2 a3 : Int) (u : Sg) (r : Int) (u2 : Sg), call 25 [a1, a2, a3] u = some (r, u2) → gL u2 90 = gL u 90) (a1 a2 a3 : Int) (u : Sg) (ra1 : inR a1) (ra2 : inR a2) (ra3 : inR a3) : WGy p l e R s m args below meth c hX0_join JX0_join (DX1_join ||| (1 <<< 90)) G clA A FL ad0 σ0 rvI (bX0_join call a1 a2 a3 u) u 0 [(0, vR 1), (1, vI a1), (2, vI a2), (3, vI a3), (4, vR 100)] [] := by
  unfold bX0_join
  refine gy_aload 4 dX0_join_0 rfl ?_
  refine gy_iconst dX0_join_2 ?_
  refine gy_aload_n 0 dX0_join_3 rfl ?_
  refine gy_iload_n 1 dX0_join_4 rfl ?_
  refine gy_iload_n 2 dX0_join_5 rfl ?_
  refine gy_iload_n 3 dX0_join_6 rfl ?_
  refine gy_try (As := [vI a1, vI a2, vI a3]) (n := 3) (stk := [vI 0, vR 100]) (ci := 1) (b := 30) (N := 57) (h a1 a2 a3 u) (by decide +kernel) ⟨rfl, rfl⟩ (fun _ => rfl) (hk2_in ⟨by decide, 15, Or.inl ⟨rfl, 12, _, rfl, by decide⟩, (Or.inl ⟨5, dX0_join_15, by decide, dX0_join_17, dX0_join_18⟩)⟩ ⟨by decide, 19, Or.inr (Or.inr ⟨rfl, 12, 12, 15, _, rfl, by decide, by decide⟩), (Or.inl ⟨5, dX0_join_19, by decide, dX0_join_21, dX0_join_22⟩)⟩) rfl rfl (lw_V q711 q712 q713 q163 q714) (by decide +kernel) rfl (by decide) hRf hRl (fun _ => (avc ra1 (avc ra2 (avc ra3 avn)))) (Nat.le_of_ble_eq_true rfl) (fun r1 s1 hoc _ ad ad1 ha => keep90 rfl rfl (h90 a1 a2 a3 u r1 s1 hoc) ad ad1 ha) dX0_join_7 (fun v1 s2 ht hr => ?_)
  refine gy_i2l hr dX0_join_10 ?_
  refine gy_last (i := 0) (v := v1) FL_ok 42 rfl rfl (by decide +kernel) (fun _ => inL_i hr) dX0_join_11 ?_
  refine gy_goto 23 dX0_join_12 (by decide) ?_
  refine gy_iconst dX0_join_23 ?_
  exact gy_iret rfl rfl (fun _ => by decide) dX0_join_24
theorem xwX0_join {l : Launch} (hlt : LT l) {d : Nat} (hd : 11 ≤ d) : ∀ (a1 a2 a3 : Int) (u : Sg), CtY l (d + 1) FL clA yX0_join cX0_join 6 (some .int) hX0_join (DX1_join ||| (1 <<< 90)) rvI [vR 1, vI a1, vI a2, vI a3, vR 100] u (bX0_join (callL d) a1 a2 a3 u) := fun a1 a2 a3 u =>
  CtY_of (by decide) (Nat.le_of_ble_eq_true rfl) (fun p e R s1 m args below meth c G A ad hA hRf hRl => wX0_join hRf hRl (fun a1 a2 a3 u => (xcX1_join hlt hd a1 a2 a3 (dnC u)).upC (NoRef_X true)) (fun a1 a2 a3 u r u2 hq => callL_90 hq) a1 a2 a3 u (hA _ (List.mem_cons_of_mem _ List.mem_cons_self)) (hA _ (List.mem_cons_of_mem _ (List.mem_cons_of_mem _ List.mem_cons_self))) (hA _ (List.mem_cons_of_mem _ (List.mem_cons_of_mem _ (List.mem_cons_of_mem _ List.mem_cons_self)))))
/-! the wrapper of bind -/
abbrev hX0_bind : List (Nat × Nat × Nat × Nat) := [(0, 12, 15, 13), (0, 12, 19, 15)]
abbrev JX0_bind : Jm := (cX0_bind, RX0, 6, some .int)
def bX0_bind (call : Nat → List Int → Sg → Option (Int × Sg)) (a1 a2 a3 : Int) (u : Sg) : Option (Int × Sg) := cl (call 28 [a1, a2, a3] u) fun v1 s2 => trK hk2 v1 s2 (stA s2 90 0 v1 fun s3 => some (0, s3))
theorem wX0_bind {p : Program} {l : Launch} {e : Env} {R : Room} {s : State} {m : MethodId} {args : Array Value} {below : List Frame} {meth : Method} {c : Code} {G : Gm} {A : Nat → Prop} {ad0 : Nat → Nat} {σ0 : Sg} {d : Nat} {call : Nat → List Int → Sg → Option (Int × Sg)} (hRf : d + 1 ≤ R.frames) (hRl : 40 * (d + 1) ≤ R.locals) (h : ∀ (a1 a2 a3 : Int) (u : Sg), CtX l d FL clA yX1_bind cX1_bind 10 (some .int) DX1_bind (rvX true) [vR 1, vI a1, vI a2, vI a3] u (call 28 [a1, a2, a3] u)) (h90 : ∀ (a1 a2 a3 : Int) (u : Sg) (r : Int) (u2 : Sg), call 28 [a1, a2, a3] u = some (r, u2) → gL u2 90 = gL u 90) (a1 a2 a3 : Int) (u : Sg) (ra1 : inR a1) (ra2 : inR a2) (ra3 : inR a3) : WGy p l e R s m args below meth c hX0_bind JX0_bind (DX1_bind ||| (1 <<< 90)) G clA A FL ad0 σ0 rvI (bX0_bind call a1 a2 a3 u) u 0 [(0, vR 1), (1, vI a1), (2, vI a2), (3, vI a3), (4, vR 100)] [] := by
  unfold bX0_bind
  refine gy_aload 4 dX0_bind_0 rfl ?_
  refine gy_iconst dX0_bind_2 ?_
  refine gy_aload_n 0 dX0_bind_3 rfl ?_
  refine gy_iload_n 1 dX0_bind_4 rfl ?_
  refine gy_iload_n 2 dX0_bind_5 rfl ?_
  refine gy_iload_n 3 dX0_bind_6 rfl ?_
  refine gy_try (As := [vI a1, vI a2, vI a3]) (n := 3) (stk := [vI 0, vR 100]) (ci := 1) (b := 30) (N := 57) (h a1 a2 a3 u) (by decide +kernel) ⟨rfl, rfl⟩ (fun _ => rfl) (hk2_in ⟨by decide, 15, Or.inl ⟨rfl, 12, _, rfl, by decide⟩, (Or.inl ⟨5, dX0_bind_15, by decide, dX0_bind_17, dX0_bind_18⟩)⟩ ⟨by decide, 19, Or.inr (Or.inr ⟨rfl, 12, 12, 15, _, rfl, by decide, by decide⟩), (Or.inl ⟨5, dX0_bind_19, by decide, dX0_bind_21, dX0_bind_22⟩)⟩) rfl rfl (lw_V q750 q751 q752 q163 q753) (by decide +kernel) rfl (by decide) hRf hRl (fun _ => (avc ra1 (avc ra2 (avc ra3 avn)))) (Nat.le_of_ble_eq_true rfl) (fun r1 s1 hoc _ ad ad1 ha => keep90 rfl rfl (h90 a1 a2 a3 u r1 s1 hoc) ad ad1 ha) dX0_bind_7 (fun v1 s2 ht hr => ?_)
  refine gy_i2l hr dX0_bind_10 ?_
  refine gy_last (i := 0) (v := v1) FL_ok 42 rfl rfl (by decide +kernel) (fun _ => inL_i hr) dX0_bind_11 ?_
  refine gy_goto 23 dX0_bind_12 (by decide) ?_
  refine gy_iconst dX0_bind_23 ?_
  exact gy_iret rfl rfl (fun _ => by decide) dX0_bind_24
theorem xwX0_bind {l : Launch} (hlt : LT l) {d : Nat} (hd : 11 ≤ d) : ∀ (a1 a2 a3 : Int) (u : Sg), CtY l (d + 1) FL clA yX0_bind cX0_bind 6 (some .int) hX0_bind (DX1_bind ||| (1 <<< 90)) rvI [vR 1, vI a1, vI a2, vI a3, vR 100] u (bX0_bind (callL d) a1 a2 a3 u) := fun a1 a2 a3 u =>
  CtY_of (by decide) (Nat.le_of_ble_eq_true rfl) (fun p e R s1 m args below meth c G A ad hA hRf hRl => wX0_bind hRf hRl (fun a1 a2 a3 u => (xcX1_bind hlt hd a1 a2 a3 (dnC u)).upC (NoRef_X true)) (fun a1 a2 a3 u r u2 hq => callL_90 hq) a1 a2 a3 u (hA _ (List.mem_cons_of_mem _ List.mem_cons_self)) (hA _ (List.mem_cons_of_mem _ (List.mem_cons_of_mem _ List.mem_cons_self))) (hA _ (List.mem_cons_of_mem _ (List.mem_cons_of_mem _ (List.mem_cons_of_mem _ List.mem_cons_self)))))
/-! the wrapper of cluster -/
abbrev hX0_cluster : List (Nat × Nat × Nat × Nat) := [(0, 12, 15, 13), (0, 12, 19, 15)]
abbrev JX0_cluster : Jm := (cX0_cluster, RX0, 6, some .int)
def bX0_cluster (call : Nat → List Int → Sg → Option (Int × Sg)) (a1 a2 a3 : Int) (u : Sg) : Option (Int × Sg) := cl (call 29 [a1, a2, a3] u) fun v1 s2 => trK hk2 v1 s2 (stA s2 90 0 v1 fun s3 => some (0, s3))
theorem wX0_cluster {p : Program} {l : Launch} {e : Env} {R : Room} {s : State} {m : MethodId} {args : Array Value} {below : List Frame} {meth : Method} {c : Code} {G : Gm} {A : Nat → Prop} {ad0 : Nat → Nat} {σ0 : Sg} {d : Nat} {call : Nat → List Int → Sg → Option (Int × Sg)} (hRf : d + 1 ≤ R.frames) (hRl : 40 * (d + 1) ≤ R.locals) (h : ∀ (a1 a2 a3 : Int) (u : Sg), CtX l d FL clA yX1_cluster cX1_cluster 7 (some .int) DX1_cluster (rvX true) [vR 1, vI a1, vI a2, vI a3] u (call 29 [a1, a2, a3] u)) (h90 : ∀ (a1 a2 a3 : Int) (u : Sg) (r : Int) (u2 : Sg), call 29 [a1, a2, a3] u = some (r, u2) → gL u2 90 = gL u 90) (a1 a2 a3 : Int) (u : Sg) (ra1 : inR a1) (ra2 : inR a2) (ra3 : inR a3) : WGy p l e R s m args below meth c hX0_cluster JX0_cluster (DX1_cluster ||| (1 <<< 90)) G clA A FL ad0 σ0 rvI (bX0_cluster call a1 a2 a3 u) u 0 [(0, vR 1), (1, vI a1), (2, vI a2), (3, vI a3), (4, vR 100)] [] := by
  unfold bX0_cluster
  refine gy_aload 4 dX0_cluster_0 rfl ?_
  refine gy_iconst dX0_cluster_2 ?_
  refine gy_aload_n 0 dX0_cluster_3 rfl ?_
  refine gy_iload_n 1 dX0_cluster_4 rfl ?_
  refine gy_iload_n 2 dX0_cluster_5 rfl ?_
  refine gy_iload_n 3 dX0_cluster_6 rfl ?_
  refine gy_try (As := [vI a1, vI a2, vI a3]) (n := 3) (stk := [vI 0, vR 100]) (ci := 1) (b := 30) (N := 57) (h a1 a2 a3 u) (by decide +kernel) ⟨rfl, rfl⟩ (fun _ => rfl) (hk2_in ⟨by decide, 15, Or.inl ⟨rfl, 12, _, rfl, by decide⟩, (Or.inl ⟨5, dX0_cluster_15, by decide, dX0_cluster_17, dX0_cluster_18⟩)⟩ ⟨by decide, 19, Or.inr (Or.inr ⟨rfl, 12, 12, 15, _, rfl, by decide, by decide⟩), (Or.inl ⟨5, dX0_cluster_19, by decide, dX0_cluster_21, dX0_cluster_22⟩)⟩) rfl rfl (lw_V q769 q770 q771 q163 q772) (by decide +kernel) rfl (by decide) hRf hRl (fun _ => (avc ra1 (avc ra2 (avc ra3 avn)))) (Nat.le_of_ble_eq_true rfl) (fun r1 s1 hoc _ ad ad1 ha => keep90 rfl rfl (h90 a1 a2 a3 u r1 s1 hoc) ad ad1 ha) dX0_cluster_7 (fun v1 s2 ht hr => ?_)
  refine gy_i2l hr dX0_cluster_10 ?_
  refine gy_last (i := 0) (v := v1) FL_ok 42 rfl rfl (by decide +kernel) (fun _ => inL_i hr) dX0_cluster_11 ?_
  refine gy_goto 23 dX0_cluster_12 (by decide) ?_
  refine gy_iconst dX0_cluster_23 ?_
  exact gy_iret rfl rfl (fun _ => by decide) dX0_cluster_24
theorem xwX0_cluster {l : Launch} (hlt : LT l) {d : Nat} (hd : 11 ≤ d) : ∀ (a1 a2 a3 : Int) (u : Sg), CtY l (d + 1) FL clA yX0_cluster cX0_cluster 6 (some .int) hX0_cluster (DX1_cluster ||| (1 <<< 90)) rvI [vR 1, vI a1, vI a2, vI a3, vR 100] u (bX0_cluster (callL d) a1 a2 a3 u) := fun a1 a2 a3 u =>
  CtY_of (by decide) (Nat.le_of_ble_eq_true rfl) (fun p e R s1 m args below meth c G A ad hA hRf hRl => wX0_cluster hRf hRl (fun a1 a2 a3 u => (xcX1_cluster hlt hd a1 a2 a3 (dnC u)).upC (NoRef_X true)) (fun a1 a2 a3 u r u2 hq => callL_90 hq) a1 a2 a3 u (hA _ (List.mem_cons_of_mem _ List.mem_cons_self)) (hA _ (List.mem_cons_of_mem _ (List.mem_cons_of_mem _ List.mem_cons_self))) (hA _ (List.mem_cons_of_mem _ (List.mem_cons_of_mem _ (List.mem_cons_of_mem _ List.mem_cons_self)))))
/-! the wrapper of gives -/
abbrev hX0_gives : List (Nat × Nat × Nat × Nat) := [(0, 14, 17, 13), (0, 14, 21, 15)]
abbrev JX0_gives : Jm := (cX0_gives, RX0, 7, some .int)
def bX0_gives (call : Nat → List Int → Sg → Option (Int × Sg)) (a1 a2 a3 a4 : Int) (u : Sg) : Option (Int × Sg) := cl (call 32 [a1, a2, a3, a4] u) fun v1 s2 => trK hk2 v1 s2 (stA s2 90 0 v1 fun s3 => some (0, s3))
theorem wX0_gives {p : Program} {l : Launch} {e : Env} {R : Room} {s : State} {m : MethodId} {args : Array Value} {below : List Frame} {meth : Method} {c : Code} {G : Gm} {A : Nat → Prop} {ad0 : Nat → Nat} {σ0 : Sg} {d : Nat} {call : Nat → List Int → Sg → Option (Int × Sg)} (hRf : d + 1 ≤ R.frames) (hRl : 40 * (d + 1) ≤ R.locals) (h : ∀ (a1 a2 a3 a4 : Int) (u : Sg), CtX l d FL clA yX1_gives cX1_gives 7 (some .int) DX1_gives (rvX true) [vR 1, vI a1, vI a2, vI a3, vI a4] u (call 32 [a1, a2, a3, a4] u)) (h90 : ∀ (a1 a2 a3 a4 : Int) (u : Sg) (r : Int) (u2 : Sg), call 32 [a1, a2, a3, a4] u = some (r, u2) → gL u2 90 = gL u 90) (a1 a2 a3 a4 : Int) (u : Sg) (ra1 : inR a1) (ra2 : inR a2) (ra3 : inR a3) (ra4 : inR a4) : WGy p l e R s m args below meth c hX0_gives JX0_gives (DX1_gives ||| (1 <<< 90)) G clA A FL ad0 σ0 rvI (bX0_gives call a1 a2 a3 a4 u) u 0 [(0, vR 1), (1, vI a1), (2, vI a2), (3, vI a3), (4, vI a4), (5, vR 100)] [] := by
  unfold bX0_gives
  refine gy_aload 5 dX0_gives_0 rfl ?_
  refine gy_iconst dX0_gives_2 ?_
  refine gy_aload_n 0 dX0_gives_3 rfl ?_
  refine gy_iload_n 1 dX0_gives_4 rfl ?_
  refine gy_iload_n 2 dX0_gives_5 rfl ?_
  refine gy_iload_n 3 dX0_gives_6 rfl ?_
  refine gy_iload 4 dX0_gives_7 rfl ?_
  refine gy_try (As := [vI a1, vI a2, vI a3, vI a4]) (n := 4) (stk := [vI 0, vR 100]) (ci := 1) (b := 30) (N := 57) (h a1 a2 a3 a4 u) (by decide +kernel) ⟨rfl, rfl⟩ (fun _ => rfl) (hk2_in ⟨by decide, 17, Or.inl ⟨rfl, 14, _, rfl, by decide⟩, (Or.inl ⟨6, dX0_gives_17, by decide, dX0_gives_19, dX0_gives_20⟩)⟩ ⟨by decide, 21, Or.inr (Or.inr ⟨rfl, 14, 14, 17, _, rfl, by decide, by decide⟩), (Or.inl ⟨6, dX0_gives_21, by decide, dX0_gives_23, dX0_gives_24⟩)⟩) rfl rfl (lw_V q784 q785 q786 q163 q787) (by decide +kernel) rfl (by decide) hRf hRl (fun _ => (avc ra1 (avc ra2 (avc ra3 (avc ra4 avn))))) (Nat.le_of_ble_eq_true rfl) (fun r1 s1 hoc _ ad ad1 ha => keep90 rfl rfl (h90 a1 a2 a3 a4 u r1 s1 hoc) ad ad1 ha) dX0_gives_9 (fun v1 s2 ht hr => ?_)
  refine gy_i2l hr dX0_gives_12 ?_
  refine gy_last (i := 0) (v := v1) FL_ok 42 rfl rfl (by decide +kernel) (fun _ => inL_i hr) dX0_gives_13 ?_
  refine gy_goto 25 dX0_gives_14 (by decide) ?_
  refine gy_iconst dX0_gives_25 ?_
  exact gy_iret rfl rfl (fun _ => by decide) dX0_gives_26
theorem xwX0_gives {l : Launch} (hlt : LT l) {d : Nat} (hd : 12 ≤ d) : ∀ (a1 a2 a3 a4 : Int) (u : Sg), CtY l (d + 1) FL clA yX0_gives cX0_gives 7 (some .int) hX0_gives (DX1_gives ||| (1 <<< 90)) rvI [vR 1, vI a1, vI a2, vI a3, vI a4, vR 100] u (bX0_gives (callL d) a1 a2 a3 a4 u) := fun a1 a2 a3 a4 u =>
  CtY_of (by decide) (Nat.le_of_ble_eq_true rfl) (fun p e R s1 m args below meth c G A ad hA hRf hRl => wX0_gives hRf hRl (fun a1 a2 a3 a4 u => (xcX1_gives hlt hd a1 a2 a3 a4 (dnC u)).upC (NoRef_X true)) (fun a1 a2 a3 a4 u r u2 hq => callL_90 hq) a1 a2 a3 a4 u (hA _ (List.mem_cons_of_mem _ List.mem_cons_self)) (hA _ (List.mem_cons_of_mem _ (List.mem_cons_of_mem _ List.mem_cons_self))) (hA _ (List.mem_cons_of_mem _ (List.mem_cons_of_mem _ (List.mem_cons_of_mem _ List.mem_cons_self)))) (hA _ (List.mem_cons_of_mem _ (List.mem_cons_of_mem _ (List.mem_cons_of_mem _ (List.mem_cons_of_mem _ List.mem_cons_self))))))
/-! the wrapper of reduce -/
abbrev hX0_reduce : List (Nat × Nat × Nat × Nat) := [(0, 14, 17, 13), (0, 14, 21, 15)]
abbrev JX0_reduce : Jm := (cX0_reduce, RX0, 7, some .int)
def bX0_reduce (call : Nat → List Int → Sg → Option (Int × Sg)) (a1 a2 a3 a4 : Int) (u : Sg) : Option (Int × Sg) := cl (call 34 [a1, a2, a3, a4] u) fun v1 s2 => trK hk2 v1 s2 (stA s2 90 0 v1 fun s3 => some (0, s3))
theorem wX0_reduce {p : Program} {l : Launch} {e : Env} {R : Room} {s : State} {m : MethodId} {args : Array Value} {below : List Frame} {meth : Method} {c : Code} {G : Gm} {A : Nat → Prop} {ad0 : Nat → Nat} {σ0 : Sg} {d : Nat} {call : Nat → List Int → Sg → Option (Int × Sg)} (hRf : d + 1 ≤ R.frames) (hRl : 40 * (d + 1) ≤ R.locals) (h : ∀ (a1 a2 a3 a4 : Int) (u : Sg), CtX l d FL clA yX1_reduce cX1_reduce 8 (some .int) DX1_reduce (rvX true) [vR 1, vI a1, vI a2, vI a3, vI a4] u (call 34 [a1, a2, a3, a4] u)) (h90 : ∀ (a1 a2 a3 a4 : Int) (u : Sg) (r : Int) (u2 : Sg), call 34 [a1, a2, a3, a4] u = some (r, u2) → gL u2 90 = gL u 90) (a1 a2 a3 a4 : Int) (u : Sg) (ra1 : inR a1) (ra2 : inR a2) (ra3 : inR a3) (ra4 : inR a4) : WGy p l e R s m args below meth c hX0_reduce JX0_reduce (DX1_reduce ||| (1 <<< 90)) G clA A FL ad0 σ0 rvI (bX0_reduce call a1 a2 a3 a4 u) u 0 [(0, vR 1), (1, vI a1), (2, vI a2), (3, vI a3), (4, vI a4), (5, vR 100)] [] := by
  unfold bX0_reduce
  refine gy_aload 5 dX0_reduce_0 rfl ?_
  refine gy_iconst dX0_reduce_2 ?_
  refine gy_aload_n 0 dX0_reduce_3 rfl ?_
  refine gy_iload_n 1 dX0_reduce_4 rfl ?_
  refine gy_iload_n 2 dX0_reduce_5 rfl ?_
  refine gy_iload_n 3 dX0_reduce_6 rfl ?_
  refine gy_iload 4 dX0_reduce_7 rfl ?_
  refine gy_try (As := [vI a1, vI a2, vI a3, vI a4]) (n := 4) (stk := [vI 0, vR 100]) (ci := 1) (b := 30) (N := 57) (h a1 a2 a3 a4 u) (by decide +kernel) ⟨rfl, rfl⟩ (fun _ => rfl) (hk2_in ⟨by decide, 17, Or.inl ⟨rfl, 14, _, rfl, by decide⟩, (Or.inl ⟨6, dX0_reduce_17, by decide, dX0_reduce_19, dX0_reduce_20⟩)⟩ ⟨by decide, 21, Or.inr (Or.inr ⟨rfl, 14, 14, 17, _, rfl, by decide, by decide⟩), (Or.inl ⟨6, dX0_reduce_21, by decide, dX0_reduce_23, dX0_reduce_24⟩)⟩) rfl rfl (lw_V q795 q796 q797 q163 q798) (by decide +kernel) rfl (by decide) hRf hRl (fun _ => (avc ra1 (avc ra2 (avc ra3 (avc ra4 avn))))) (Nat.le_of_ble_eq_true rfl) (fun r1 s1 hoc _ ad ad1 ha => keep90 rfl rfl (h90 a1 a2 a3 a4 u r1 s1 hoc) ad ad1 ha) dX0_reduce_9 (fun v1 s2 ht hr => ?_)
  refine gy_i2l hr dX0_reduce_12 ?_
  refine gy_last (i := 0) (v := v1) FL_ok 42 rfl rfl (by decide +kernel) (fun _ => inL_i hr) dX0_reduce_13 ?_
  refine gy_goto 25 dX0_reduce_14 (by decide) ?_
  refine gy_iconst dX0_reduce_25 ?_
  exact gy_iret rfl rfl (fun _ => by decide) dX0_reduce_26
theorem xwX0_reduce {l : Launch} (hlt : LT l) {d : Nat} (hd : 12 ≤ d) : ∀ (a1 a2 a3 a4 : Int) (u : Sg), CtY l (d + 1) FL clA yX0_reduce cX0_reduce 7 (some .int) hX0_reduce (DX1_reduce ||| (1 <<< 90)) rvI [vR 1, vI a1, vI a2, vI a3, vI a4, vR 100] u (bX0_reduce (callL d) a1 a2 a3 a4 u) := fun a1 a2 a3 a4 u =>
  CtY_of (by decide) (Nat.le_of_ble_eq_true rfl) (fun p e R s1 m args below meth c G A ad hA hRf hRl => wX0_reduce hRf hRl (fun a1 a2 a3 a4 u => (xcX1_reduce hlt hd a1 a2 a3 a4 (dnC u)).upC (NoRef_X true)) (fun a1 a2 a3 a4 u r u2 hq => callL_90 hq) a1 a2 a3 a4 u (hA _ (List.mem_cons_of_mem _ List.mem_cons_self)) (hA _ (List.mem_cons_of_mem _ (List.mem_cons_of_mem _ List.mem_cons_self))) (hA _ (List.mem_cons_of_mem _ (List.mem_cons_of_mem _ (List.mem_cons_of_mem _ List.mem_cons_self)))) (hA _ (List.mem_cons_of_mem _ (List.mem_cons_of_mem _ (List.mem_cons_of_mem _ (List.mem_cons_of_mem _ List.mem_cons_self))))))
/-! the wrapper of premise -/
abbrev hX0_premise : List (Nat × Nat × Nat × Nat) := [(0, 9, 12, 13), (0, 9, 15, 15)]
abbrev JX0_premise : Jm := (cX0_premise, RX0, 4, some .int)
def bX0_premise (call : Nat → List Int → Sg → Option (Int × Sg)) (a1 : Int) (u : Sg) : Option (Int × Sg) := cl (call 35 [a1] u) fun v1 s2 => trK hk2 v1 s2 (stA s2 90 0 v1 fun s3 => some (0, s3))
theorem wX0_premise {p : Program} {l : Launch} {e : Env} {R : Room} {s : State} {m : MethodId} {args : Array Value} {below : List Frame} {meth : Method} {c : Code} {G : Gm} {A : Nat → Prop} {ad0 : Nat → Nat} {σ0 : Sg} {d : Nat} {call : Nat → List Int → Sg → Option (Int × Sg)} (hRf : d + 1 ≤ R.frames) (hRl : 40 * (d + 1) ≤ R.locals) (h : ∀ (a1 : Int) (u : Sg), CtX l d FL clA yX1_premise cX1_premise 3 (some .int) DX1_premise (rvX true) [vR 1, vI a1] u (call 35 [a1] u)) (h90 : ∀ (a1 : Int) (u : Sg) (r : Int) (u2 : Sg), call 35 [a1] u = some (r, u2) → gL u2 90 = gL u 90) (a1 : Int) (u : Sg) (ra1 : inR a1) : WGy p l e R s m args below meth c hX0_premise JX0_premise (DX1_premise ||| (1 <<< 90)) G clA A FL ad0 σ0 rvI (bX0_premise call a1 u) u 0 [(0, vR 1), (1, vI a1), (2, vR 100)] [] := by
  unfold bX0_premise
  refine gy_aload_n 2 dX0_premise_0 rfl ?_
  refine gy_iconst dX0_premise_1 ?_
  refine gy_aload_n 0 dX0_premise_2 rfl ?_
  refine gy_iload_n 1 dX0_premise_3 rfl ?_
  refine gy_try (As := [vI a1]) (n := 1) (stk := [vI 0, vR 100]) (ci := 1) (b := 30) (N := 57) (h a1 u) (by decide +kernel) ⟨rfl, rfl⟩ (fun _ => rfl) (hk2_in ⟨by decide, 12, Or.inl ⟨rfl, 9, _, rfl, by decide⟩, (Or.inr ⟨3, dX0_premise_12, by decide, dX0_premise_13, dX0_premise_14⟩)⟩ ⟨by decide, 15, Or.inr (Or.inr ⟨rfl, 9, 9, 12, _, rfl, by decide, by decide⟩), (Or.inr ⟨3, dX0_premise_15, by decide, dX0_premise_16, dX0_premise_17⟩)⟩) rfl rfl (lw_V q802 q803 q804 q163 q805) (by decide +kernel) rfl (by decide) hRf hRl (fun _ => (avc ra1 avn)) (Nat.le_of_ble_eq_true rfl) (fun r1 s1 hoc _ ad ad1 ha => keep90 rfl rfl (h90 a1 u r1 s1 hoc) ad ad1 ha) dX0_premise_4 (fun v1 s2 ht hr => ?_)
  refine gy_i2l hr dX0_premise_7 ?_
  refine gy_last (i := 0) (v := v1) FL_ok 42 rfl rfl (by decide +kernel) (fun _ => inL_i hr) dX0_premise_8 ?_
  refine gy_goto 18 dX0_premise_9 (by decide) ?_
  refine gy_iconst dX0_premise_18 ?_
  exact gy_iret rfl rfl (fun _ => by decide) dX0_premise_19
theorem xwX0_premise {l : Launch} (hlt : LT l) {d : Nat} (hd : 11 ≤ d) : ∀ (a1 : Int) (u : Sg), CtY l (d + 1) FL clA yX0_premise cX0_premise 4 (some .int) hX0_premise (DX1_premise ||| (1 <<< 90)) rvI [vR 1, vI a1, vR 100] u (bX0_premise (callL d) a1 u) := fun a1 u =>
  CtY_of (by decide) (Nat.le_of_ble_eq_true rfl) (fun p e R s1 m args below meth c G A ad hA hRf hRl => wX0_premise hRf hRl (fun a1 u => (xcX1_premise hlt hd a1 (dnC u)).upC (NoRef_X true)) (fun a1 u r u2 hq => callL_90 hq) a1 u (hA _ (List.mem_cons_of_mem _ List.mem_cons_self)))
/-! the wrapper of check -/
abbrev hX0_check : List (Nat × Nat × Nat × Nat) := [(0, 9, 12, 13)]
abbrev JX0_check : Jm := (cX0_check, RX0, 4, some .int)
def bX0_check (call : Nat → List Int → Sg → Option (Int × Sg)) (a1 : Int) (u : Sg) : Option (Int × Sg) := cl (call 36 [a1] u) fun v1 s2 => trK hkA v1 s2 (stA s2 90 0 v1 fun s3 => some (0, s3))
theorem wX0_check {p : Program} {l : Launch} {e : Env} {R : Room} {s : State} {m : MethodId} {args : Array Value} {below : List Frame} {meth : Method} {c : Code} {G : Gm} {A : Nat → Prop} {ad0 : Nat → Nat} {σ0 : Sg} {d : Nat} {call : Nat → List Int → Sg → Option (Int × Sg)} (hRf : d + 1 ≤ R.frames) (hRl : 40 * (d + 1) ≤ R.locals) (h : ∀ (a1 : Int) (u : Sg), CtX l d FL clA yX1_check cX1_check 11 (some .int) DX1_check (rvX true) [vR 1, vI a1] u (call 36 [a1] u)) (h90 : ∀ (a1 : Int) (u : Sg) (r : Int) (u2 : Sg), call 36 [a1] u = some (r, u2) → gL u2 90 = gL u 90) (a1 : Int) (u : Sg) (ra1 : inR a1) : WGy p l e R s m args below meth c hX0_check JX0_check (DX1_check ||| (1 <<< 90)) G clA A FL ad0 σ0 rvI (bX0_check call a1 u) u 0 [(0, vR 1), (1, vI a1), (2, vR 100)] [] := by
  unfold bX0_check
  refine gy_aload_n 2 dX0_check_0 rfl ?_
  refine gy_iconst dX0_check_1 ?_
  refine gy_aload_n 0 dX0_check_2 rfl ?_
  refine gy_iload_n 1 dX0_check_3 rfl ?_
  refine gy_try (As := [vI a1]) (n := 1) (stk := [vI 0, vR 100]) (ci := 1) (b := 30) (N := 57) (h a1 u) (by decide +kernel) ⟨rfl, rfl⟩ (fun _ => rfl) (hkA_in ⟨by decide, 12, Or.inl ⟨rfl, 9, _, rfl, by decide⟩, (Or.inr ⟨3, dX0_check_12, by decide, dX0_check_13, dX0_check_14⟩)⟩) rfl rfl (lw_V q809 q810 q811 q163 q812) (by decide +kernel) rfl (by decide) hRf hRl (fun _ => (avc ra1 avn)) (Nat.le_of_ble_eq_true rfl) (fun r1 s1 hoc _ ad ad1 ha => keep90 rfl rfl (h90 a1 u r1 s1 hoc) ad ad1 ha) dX0_check_4 (fun v1 s2 ht hr => ?_)
  refine gy_i2l hr dX0_check_7 ?_
  refine gy_last (i := 0) (v := v1) FL_ok 42 rfl rfl (by decide +kernel) (fun _ => inL_i hr) dX0_check_8 ?_
  refine gy_goto 15 dX0_check_9 (by decide) ?_
  refine gy_iconst dX0_check_15 ?_
  exact gy_iret rfl rfl (fun _ => by decide) dX0_check_16
theorem xwX0_check {l : Launch} (hlt : LT l) {d : Nat} (hd : 11 ≤ d) : ∀ (a1 : Int) (u : Sg), CtY l (d + 1) FL clA yX0_check cX0_check 4 (some .int) hX0_check (DX1_check ||| (1 <<< 90)) rvI [vR 1, vI a1, vR 100] u (bX0_check (callL d) a1 u) := fun a1 u =>
  CtY_of (by decide) (Nat.le_of_ble_eq_true rfl) (fun p e R s1 m args below meth c G A ad hA hRf hRl => wX0_check hRf hRl (fun a1 u => (xcX1_check hlt hd a1 (dnC u)).upC (NoRef_X true)) (fun a1 u r u2 hq => callL_90 hq) a1 u (hA _ (List.mem_cons_of_mem _ List.mem_cons_self)))
/-! the wrapper of fits -/
abbrev hX0_fits : List (Nat × Nat × Nat × Nat) := [(0, 17, 20, 13)]
abbrev JX0_fits : Jm := (cX0_fits, RX0, 5, some .int)
def bX0_fits (call : Nat → List Int → Sg → Option (Int × Sg)) (a1 a2 : Int) (u : Sg) : Option (Int × Sg) := cl (call 80 [a1, a2] u) fun v1 s2 => trK hkA v1 s2 (if v1 = 0 then (stA s2 90 0 0 fun s3 => some (0, s3)) else (stA s2 90 0 1 fun s3 => some (0, s3)))
theorem wX0_fits {p : Program} {l : Launch} {e : Env} {R : Room} {s : State} {m : MethodId} {args : Array Value} {below : List Frame} {meth : Method} {c : Code} {G : Gm} {A : Nat → Prop} {ad0 : Nat → Nat} {σ0 : Sg} {d : Nat} {call : Nat → List Int → Sg → Option (Int × Sg)} (hRf : d + 1 ≤ R.frames) (hRl : 40 * (d + 1) ≤ R.locals) (h : ∀ (a1 a2 : Int) (u : Sg), CtX l d FL clA yX1_fits cX1_fits 8 (some .boolean) DX1_fits (rvX true) [vR 1, vI a1, vI a2] u (call 80 [a1, a2] u)) (h90 : ∀ (a1 a2 : Int) (u : Sg) (r : Int) (u2 : Sg), call 80 [a1, a2] u = some (r, u2) → gL u2 90 = gL u 90) (a1 a2 : Int) (u : Sg) (ra1 : inR a1) (ra2 : inR a2) : WGy p l e R s m args below meth c hX0_fits JX0_fits (DX1_fits ||| (1 <<< 90)) G clA A FL ad0 σ0 rvI (bX0_fits call a1 a2 u) u 0 [(0, vR 1), (1, vI a1), (2, vI a2), (3, vR 100)] [] := by
  unfold bX0_fits
  refine gy_aload_n 3 dX0_fits_0 rfl ?_
  refine gy_iconst dX0_fits_1 ?_
  refine gy_aload_n 0 dX0_fits_2 rfl ?_
  refine gy_iload_n 1 dX0_fits_3 rfl ?_
  refine gy_iload_n 2 dX0_fits_4 rfl ?_
  refine gy_try (As := [vI a1, vI a2]) (n := 2) (stk := [vI 0, vR 100]) (ci := 1) (b := 30) (N := 57) (h a1 a2 u) (by decide +kernel) ⟨rfl, rfl⟩ (fun _ => rfl) (hkA_in ⟨by decide, 20, Or.inl ⟨rfl, 17, _, rfl, by decide⟩, (Or.inl ⟨4, dX0_fits_20, by decide, dX0_fits_22, dX0_fits_23⟩)⟩) rfl rfl (lw_V q1009 q1010 q1011 q163 q1012) (by decide +kernel) rfl (by decide) hRf hRl (fun _ => (avc ra1 (avc ra2 avn))) (Nat.le_of_ble_eq_true rfl) (fun r1 s1 hoc _ ad ad1 ha => keep90 rfl rfl (h90 a1 a2 u r1 s1 hoc) ad ad1 ha) dX0_fits_5 (fun v1 s2 ht hr => ?_)
  refine gy_if_eq 15 dX0_fits_8 (by decide) (fun _ => inR_z (zOf rfl (fun x hx => by injection hx with hx; subst hx; exact hr))) (fun _ => ?_) (fun _ => ?_)
  · refine gy_lconst (v := 0) rfl dX0_fits_15 ?_
    refine gy_last (i := 0) (v := 0) FL_ok 42 rfl rfl (by decide +kernel) (fun _ => by decide) dX0_fits_16 ?_
    refine gy_goto 24 dX0_fits_17 (by decide) ?_
    refine gy_iconst dX0_fits_24 ?_
    exact gy_iret rfl rfl (fun _ => by decide) dX0_fits_25
  · refine gy_lconst (v := 1) rfl dX0_fits_11 ?_
    refine gy_goto 16 dX0_fits_12 (by decide) ?_
    refine gy_last (i := 0) (v := 1) FL_ok 42 rfl rfl (by decide +kernel) (fun _ => by decide) dX0_fits_16 ?_
    refine gy_goto 24 dX0_fits_17 (by decide) ?_
    refine gy_iconst dX0_fits_24 ?_
    exact gy_iret rfl rfl (fun _ => by decide) dX0_fits_25
theorem xwX0_fits {l : Launch} (hlt : LT l) {d : Nat} (hd : 11 ≤ d) : ∀ (a1 a2 : Int) (u : Sg), CtY l (d + 1) FL clA yX0_fits cX0_fits 5 (some .int) hX0_fits (DX1_fits ||| (1 <<< 90)) rvI [vR 1, vI a1, vI a2, vR 100] u (bX0_fits (callL d) a1 a2 u) := fun a1 a2 u =>
  CtY_of (by decide) (Nat.le_of_ble_eq_true rfl) (fun p e R s1 m args below meth c G A ad hA hRf hRl => wX0_fits hRf hRl (fun a1 a2 u => (xcX1_fits hlt hd a1 a2 (dnC u)).upC (NoRef_X true)) (fun a1 a2 u r u2 hq => callL_90 hq) a1 a2 u (hA _ (List.mem_cons_of_mem _ List.mem_cons_self)) (hA _ (List.mem_cons_of_mem _ (List.mem_cons_of_mem _ List.mem_cons_self))))
/-! the wrapper of adjectives -/
abbrev hX0_adjectives : List (Nat × Nat × Nat × Nat) := [(0, 9, 12, 13)]
abbrev JX0_adjectives : Jm := (cX0_adjectives, RX0, 4, some .int)
def bX0_adjectives (call : Nat → List Int → Sg → Option (Int × Sg)) (a1 : Int) (u : Sg) : Option (Int × Sg) := cl (call 90 [a1] u) fun v1 s2 => trK hkA v1 s2 (stA s2 90 0 v1 fun s3 => some (0, s3))
theorem wX0_adjectives {p : Program} {l : Launch} {e : Env} {R : Room} {s : State} {m : MethodId} {args : Array Value} {below : List Frame} {meth : Method} {c : Code} {G : Gm} {A : Nat → Prop} {ad0 : Nat → Nat} {σ0 : Sg} {d : Nat} {call : Nat → List Int → Sg → Option (Int × Sg)} (hRf : d + 1 ≤ R.frames) (hRl : 40 * (d + 1) ≤ R.locals) (h : ∀ (a1 : Int) (u : Sg), CtX l d FL clA yX1_adjectives cX1_adjectives 8 (some .int) DX1_adjectives (rvX true) [vR 1, vI a1] u (call 90 [a1] u)) (h90 : ∀ (a1 : Int) (u : Sg) (r : Int) (u2 : Sg), call 90 [a1] u = some (r, u2) → gL u2 90 = gL u 90) (a1 : Int) (u : Sg) (ra1 : inR a1) : WGy p l e R s m args below meth c hX0_adjectives JX0_adjectives (DX1_adjectives ||| (1 <<< 90)) G clA A FL ad0 σ0 rvI (bX0_adjectives call a1 u) u 0 [(0, vR 1), (1, vI a1), (2, vR 100)] [] := by
  unfold bX0_adjectives
  refine gy_aload_n 2 dX0_adjectives_0 rfl ?_
  refine gy_iconst dX0_adjectives_1 ?_
  refine gy_aload_n 0 dX0_adjectives_2 rfl ?_
  refine gy_iload_n 1 dX0_adjectives_3 rfl ?_
  refine gy_try (As := [vI a1]) (n := 1) (stk := [vI 0, vR 100]) (ci := 1) (b := 30) (N := 57) (h a1 u) (by decide +kernel) ⟨rfl, rfl⟩ (fun _ => rfl) (hkA_in ⟨by decide, 12, Or.inl ⟨rfl, 9, _, rfl, by decide⟩, (Or.inr ⟨3, dX0_adjectives_12, by decide, dX0_adjectives_13, dX0_adjectives_14⟩)⟩) rfl rfl (lw_V q1052 q1053 q1054 q163 q1055) (by decide +kernel) rfl (by decide) hRf hRl (fun _ => (avc ra1 avn)) (Nat.le_of_ble_eq_true rfl) (fun r1 s1 hoc _ ad ad1 ha => keep90 rfl rfl (h90 a1 u r1 s1 hoc) ad ad1 ha) dX0_adjectives_4 (fun v1 s2 ht hr => ?_)
  refine gy_i2l hr dX0_adjectives_7 ?_
  refine gy_last (i := 0) (v := v1) FL_ok 42 rfl rfl (by decide +kernel) (fun _ => inL_i hr) dX0_adjectives_8 ?_
  refine gy_goto 15 dX0_adjectives_9 (by decide) ?_
  refine gy_iconst dX0_adjectives_15 ?_
  exact gy_iret rfl rfl (fun _ => by decide) dX0_adjectives_16
theorem xwX0_adjectives {l : Launch} (hlt : LT l) {d : Nat} (hd : 11 ≤ d) : ∀ (a1 : Int) (u : Sg), CtY l (d + 1) FL clA yX0_adjectives cX0_adjectives 4 (some .int) hX0_adjectives (DX1_adjectives ||| (1 <<< 90)) rvI [vR 1, vI a1, vR 100] u (bX0_adjectives (callL d) a1 u) := fun a1 u =>
  CtY_of (by decide) (Nat.le_of_ble_eq_true rfl) (fun p e R s1 m args below meth c G A ad hA hRf hRl => wX0_adjectives hRf hRl (fun a1 u => (xcX1_adjectives hlt hd a1 (dnC u)).upC (NoRef_X true)) (fun a1 u r u2 hq => callL_90 hq) a1 u (hA _ (List.mem_cons_of_mem _ List.mem_cons_self)))
/-! the wrapper of alike -/
abbrev hX0_alike : List (Nat × Nat × Nat × Nat) := [(0, 17, 20, 13)]
abbrev JX0_alike : Jm := (cX0_alike, RX0, 5, some .int)
def bX0_alike (call : Nat → List Int → Sg → Option (Int × Sg)) (a1 a2 : Int) (u : Sg) : Option (Int × Sg) := cl (call 91 [a1, a2] u) fun v1 s2 => trK hkA v1 s2 (if v1 = 0 then (stA s2 90 0 0 fun s3 => some (0, s3)) else (stA s2 90 0 1 fun s3 => some (0, s3)))
theorem wX0_alike {p : Program} {l : Launch} {e : Env} {R : Room} {s : State} {m : MethodId} {args : Array Value} {below : List Frame} {meth : Method} {c : Code} {G : Gm} {A : Nat → Prop} {ad0 : Nat → Nat} {σ0 : Sg} {d : Nat} {call : Nat → List Int → Sg → Option (Int × Sg)} (hRf : d + 1 ≤ R.frames) (hRl : 40 * (d + 1) ≤ R.locals) (h : ∀ (a1 a2 : Int) (u : Sg), CtX l d FL clA yX1_alike cX1_alike 4 (some .boolean) DX1_alike (rvX true) [vR 1, vI a1, vI a2] u (call 91 [a1, a2] u)) (h90 : ∀ (a1 a2 : Int) (u : Sg) (r : Int) (u2 : Sg), call 91 [a1, a2] u = some (r, u2) → gL u2 90 = gL u 90) (a1 a2 : Int) (u : Sg) (ra1 : inR a1) (ra2 : inR a2) : WGy p l e R s m args below meth c hX0_alike JX0_alike (DX1_alike ||| (1 <<< 90)) G clA A FL ad0 σ0 rvI (bX0_alike call a1 a2 u) u 0 [(0, vR 1), (1, vI a1), (2, vI a2), (3, vR 100)] [] := by
  unfold bX0_alike
  refine gy_aload_n 3 dX0_alike_0 rfl ?_
  refine gy_iconst dX0_alike_1 ?_
  refine gy_aload_n 0 dX0_alike_2 rfl ?_
  refine gy_iload_n 1 dX0_alike_3 rfl ?_
  refine gy_iload_n 2 dX0_alike_4 rfl ?_
  refine gy_try (As := [vI a1, vI a2]) (n := 2) (stk := [vI 0, vR 100]) (ci := 1) (b := 30) (N := 57) (h a1 a2 u) (by decide +kernel) ⟨rfl, rfl⟩ (fun _ => rfl) (hkA_in ⟨by decide, 20, Or.inl ⟨rfl, 17, _, rfl, by decide⟩, (Or.inl ⟨4, dX0_alike_20, by decide, dX0_alike_22, dX0_alike_23⟩)⟩) rfl rfl (lw_V q1059 q1060 q1061 q163 q1062) (by decide +kernel) rfl (by decide) hRf hRl (fun _ => (avc ra1 (avc ra2 avn))) (Nat.le_of_ble_eq_true rfl) (fun r1 s1 hoc _ ad ad1 ha => keep90 rfl rfl (h90 a1 a2 u r1 s1 hoc) ad ad1 ha) dX0_alike_5 (fun v1 s2 ht hr => ?_)
  refine gy_if_eq 15 dX0_alike_8 (by decide) (fun _ => inR_z (zOf rfl (fun x hx => by injection hx with hx; subst hx; exact hr))) (fun _ => ?_) (fun _ => ?_)
  · refine gy_lconst (v := 0) rfl dX0_alike_15 ?_
    refine gy_last (i := 0) (v := 0) FL_ok 42 rfl rfl (by decide +kernel) (fun _ => by decide) dX0_alike_16 ?_
    refine gy_goto 24 dX0_alike_17 (by decide) ?_
    refine gy_iconst dX0_alike_24 ?_
    exact gy_iret rfl rfl (fun _ => by decide) dX0_alike_25
  · refine gy_lconst (v := 1) rfl dX0_alike_11 ?_
    refine gy_goto 16 dX0_alike_12 (by decide) ?_
    refine gy_last (i := 0) (v := 1) FL_ok 42 rfl rfl (by decide +kernel) (fun _ => by decide) dX0_alike_16 ?_
    refine gy_goto 24 dX0_alike_17 (by decide) ?_
    refine gy_iconst dX0_alike_24 ?_
    exact gy_iret rfl rfl (fun _ => by decide) dX0_alike_25
theorem xwX0_alike {l : Launch} (hlt : LT l) {d : Nat} (hd : 10 ≤ d) : ∀ (a1 a2 : Int) (u : Sg), CtY l (d + 1) FL clA yX0_alike cX0_alike 5 (some .int) hX0_alike (DX1_alike ||| (1 <<< 90)) rvI [vR 1, vI a1, vI a2, vR 100] u (bX0_alike (callL d) a1 a2 u) := fun a1 a2 u =>
  CtY_of (by decide) (Nat.le_of_ble_eq_true rfl) (fun p e R s1 m args below meth c G A ad hA hRf hRl => wX0_alike hRf hRl (fun a1 a2 u => (xcX1_alike hlt hd a1 a2 (dnC u)).upC (NoRef_X true)) (fun a1 a2 u r u2 hq => callL_90 hq) a1 a2 u (hA _ (List.mem_cons_of_mem _ List.mem_cons_self)) (hA _ (List.mem_cons_of_mem _ (List.mem_cons_of_mem _ List.mem_cons_self))))
/-! the wrapper of about -/
abbrev hX0_about : List (Nat × Nat × Nat × Nat) := [(0, 10, 13, 13)]
abbrev JX0_about : Jm := (cX0_about, RX0, 5, some .int)
def bX0_about (call : Nat → List Int → Sg → Option (Int × Sg)) (a1 a2 : Int) (u : Sg) : Option (Int × Sg) := cl (call 92 [a1, a2] u) fun v1 s2 => trK hkA v1 s2 (stA s2 90 0 v1 fun s3 => some (0, s3))
theorem wX0_about {p : Program} {l : Launch} {e : Env} {R : Room} {s : State} {m : MethodId} {args : Array Value} {below : List Frame} {meth : Method} {c : Code} {G : Gm} {A : Nat → Prop} {ad0 : Nat → Nat} {σ0 : Sg} {d : Nat} {call : Nat → List Int → Sg → Option (Int × Sg)} (hRf : d + 1 ≤ R.frames) (hRl : 40 * (d + 1) ≤ R.locals) (h : ∀ (a1 a2 : Int) (u : Sg), CtX l d FL clA yX1_about cX1_about 5 (some .int) DX1_about (rvX true) [vR 1, vI a1, vI a2] u (call 92 [a1, a2] u)) (h90 : ∀ (a1 a2 : Int) (u : Sg) (r : Int) (u2 : Sg), call 92 [a1, a2] u = some (r, u2) → gL u2 90 = gL u 90) (a1 a2 : Int) (u : Sg) (ra1 : inR a1) (ra2 : inR a2) : WGy p l e R s m args below meth c hX0_about JX0_about (DX1_about ||| (1 <<< 90)) G clA A FL ad0 σ0 rvI (bX0_about call a1 a2 u) u 0 [(0, vR 1), (1, vI a1), (2, vI a2), (3, vR 100)] [] := by
  unfold bX0_about
  refine gy_aload_n 3 dX0_about_0 rfl ?_
  refine gy_iconst dX0_about_1 ?_
  refine gy_aload_n 0 dX0_about_2 rfl ?_
  refine gy_iload_n 1 dX0_about_3 rfl ?_
  refine gy_iload_n 2 dX0_about_4 rfl ?_
  refine gy_try (As := [vI a1, vI a2]) (n := 2) (stk := [vI 0, vR 100]) (ci := 1) (b := 30) (N := 57) (h a1 a2 u) (by decide +kernel) ⟨rfl, rfl⟩ (fun _ => rfl) (hkA_in ⟨by decide, 13, Or.inl ⟨rfl, 10, _, rfl, by decide⟩, (Or.inl ⟨4, dX0_about_13, by decide, dX0_about_15, dX0_about_16⟩)⟩) rfl rfl (lw_V q1066 q1067 q1068 q163 q1069) (by decide +kernel) rfl (by decide) hRf hRl (fun _ => (avc ra1 (avc ra2 avn))) (Nat.le_of_ble_eq_true rfl) (fun r1 s1 hoc _ ad ad1 ha => keep90 rfl rfl (h90 a1 a2 u r1 s1 hoc) ad ad1 ha) dX0_about_5 (fun v1 s2 ht hr => ?_)
  refine gy_i2l hr dX0_about_8 ?_
  refine gy_last (i := 0) (v := v1) FL_ok 42 rfl rfl (by decide +kernel) (fun _ => inL_i hr) dX0_about_9 ?_
  refine gy_goto 17 dX0_about_10 (by decide) ?_
  refine gy_iconst dX0_about_17 ?_
  exact gy_iret rfl rfl (fun _ => by decide) dX0_about_18
theorem xwX0_about {l : Launch} (hlt : LT l) {d : Nat} (hd : 10 ≤ d) : ∀ (a1 a2 : Int) (u : Sg), CtY l (d + 1) FL clA yX0_about cX0_about 5 (some .int) hX0_about (DX1_about ||| (1 <<< 90)) rvI [vR 1, vI a1, vI a2, vR 100] u (bX0_about (callL d) a1 a2 u) := fun a1 a2 u =>
  CtY_of (by decide) (Nat.le_of_ble_eq_true rfl) (fun p e R s1 m args below meth c G A ad hA hRf hRl => wX0_about hRf hRl (fun a1 a2 u => (xcX1_about hlt hd a1 a2 (dnC u)).upC (NoRef_X true)) (fun a1 a2 u r u2 hq => callL_90 hq) a1 a2 u (hA _ (List.mem_cons_of_mem _ List.mem_cons_self)) (hA _ (List.mem_cons_of_mem _ (List.mem_cons_of_mem _ List.mem_cons_self))))
/-! the wrapper of count -/
abbrev hX0_count : List (Nat × Nat × Nat × Nat) := [(0, 9, 12, 13)]
abbrev JX0_count : Jm := (cX0_count, RX0, 4, some .int)
def bX0_count (call : Nat → List Int → Sg → Option (Int × Sg)) (a1 : Int) (u : Sg) : Option (Int × Sg) := cl (call 93 [a1] u) fun v1 s2 => trK hkA v1 s2 (stA s2 90 0 v1 fun s3 => some (0, s3))
theorem wX0_count {p : Program} {l : Launch} {e : Env} {R : Room} {s : State} {m : MethodId} {args : Array Value} {below : List Frame} {meth : Method} {c : Code} {G : Gm} {A : Nat → Prop} {ad0 : Nat → Nat} {σ0 : Sg} {d : Nat} {call : Nat → List Int → Sg → Option (Int × Sg)} (hRf : d + 1 ≤ R.frames) (hRl : 40 * (d + 1) ≤ R.locals) (h : ∀ (a1 : Int) (u : Sg), CtX l d FL clA yX1_count cX1_count 2 (some .int) DX1_count (rvX true) [vR 1, vI a1] u (call 93 [a1] u)) (h90 : ∀ (a1 : Int) (u : Sg) (r : Int) (u2 : Sg), call 93 [a1] u = some (r, u2) → gL u2 90 = gL u 90) (a1 : Int) (u : Sg) (ra1 : inR a1) : WGy p l e R s m args below meth c hX0_count JX0_count (DX1_count ||| (1 <<< 90)) G clA A FL ad0 σ0 rvI (bX0_count call a1 u) u 0 [(0, vR 1), (1, vI a1), (2, vR 100)] [] := by
  unfold bX0_count
  refine gy_aload_n 2 dX0_count_0 rfl ?_
  refine gy_iconst dX0_count_1 ?_
  refine gy_aload_n 0 dX0_count_2 rfl ?_
  refine gy_iload_n 1 dX0_count_3 rfl ?_
  refine gy_try (As := [vI a1]) (n := 1) (stk := [vI 0, vR 100]) (ci := 1) (b := 30) (N := 57) (h a1 u) (by decide +kernel) ⟨rfl, rfl⟩ (fun _ => rfl) (hkA_in ⟨by decide, 12, Or.inl ⟨rfl, 9, _, rfl, by decide⟩, (Or.inr ⟨3, dX0_count_12, by decide, dX0_count_13, dX0_count_14⟩)⟩) rfl rfl (lw_V q1077 q1078 q1079 q163 q1080) (by decide +kernel) rfl (by decide) hRf hRl (fun _ => (avc ra1 avn)) (Nat.le_of_ble_eq_true rfl) (fun r1 s1 hoc _ ad ad1 ha => keep90 rfl rfl (h90 a1 u r1 s1 hoc) ad ad1 ha) dX0_count_4 (fun v1 s2 ht hr => ?_)
  refine gy_i2l hr dX0_count_7 ?_
  refine gy_last (i := 0) (v := v1) FL_ok 42 rfl rfl (by decide +kernel) (fun _ => inL_i hr) dX0_count_8 ?_
  refine gy_goto 15 dX0_count_9 (by decide) ?_
  refine gy_iconst dX0_count_15 ?_
  exact gy_iret rfl rfl (fun _ => by decide) dX0_count_16
theorem xwX0_count {l : Launch} (hlt : LT l) {d : Nat} (hd : 8 ≤ d) : ∀ (a1 : Int) (u : Sg), CtY l (d + 1) FL clA yX0_count cX0_count 4 (some .int) hX0_count (DX1_count ||| (1 <<< 90)) rvI [vR 1, vI a1, vR 100] u (bX0_count (callL d) a1 u) := fun a1 u =>
  CtY_of (by decide) (Nat.le_of_ble_eq_true rfl) (fun p e R s1 m args below meth c G A ad hA hRf hRl => wX0_count hRf hRl (fun a1 u => (xcX1_count hlt hd a1 (dnC u)).upC (NoRef_X true)) (fun a1 u r u2 hq => callL_90 hq) a1 u (hA _ (List.mem_cons_of_mem _ List.mem_cons_self)))
