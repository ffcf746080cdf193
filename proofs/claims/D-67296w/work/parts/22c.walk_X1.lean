/-! RoundCheck.join(II)Z -/
abbrev JX1_join_2 : Jm := (cX1_join_2, RX1, 5, (some .boolean))
def bX1_join_2 (call : Nat → List Int → Sg → Option (Int × Sg)) (a1 a2 : Int) (u : Sg) : Option (Int × Sg) := ld u 39 a1 fun v1 => cl (call 56 [v1] u) fun v2 s3 => ld s3 39 a2 fun v4 => cl (call 56 [v4] s3) fun v5 s6 => if v2 = v5 then (some (0, s6)) else (un (if v2 < v5 then v5 else v2) fun v7 => un (if v5 < v2 then v5 else v2) fun v8 => stA s6 41 v7 v8 fun s9 => some (1, s9))
section
variable {p : Program} {l : Launch} {e : Env} {R : Room} {s : State} {m : MethodId} {args : Array Value} {below : List Frame} {meth : Method} {c : Code} {G : Gm} {A : Nat → Prop} {ad0 : Nat → Nat} {σ0 : Sg} {d : Nat} {call : Nat → List Int → Sg → Option (Int × Sg)}
theorem wX1_join_2 (hd : 2 ≤ d) (hRf : d + 1 ≤ R.frames) (hRl : 40 * (d + 1) ≤ R.locals) (hX1_root : ∀ (a1 : Int) (u : Sg), Ct l d FC clA yX1_root cX1_root 3 (some .int) DX1_root rvI [vR 1, vI a1] u (call 56 [a1] u)) (a1 a2 : Int) (u : Sg) (ra1 : inR a1) (ra2 : inR a2) : WG p l e R s m args below meth c JX1_join_2 DX1_join_2 G clA A FC ad0 σ0 rvI (bX1_join_2 call a1 a2 u) u 0 [(0, vR 1), (1, vI a1), (2, vI a2)] [] := by
  unfold bX1_join_2
  refine g_aload_n 0 dX1_join_2_0 rfl ?_
  refine g_aload_n 0 dX1_join_2_1 rfl ?_
  refine g_get (v := vR 49) (ci := 1) (b := 30) (N := 57) 9 rfl rfl (by decide) in_X1 rfl rfl q317 dX1_join_2_2 ?_
  refine g_iload_n 1 dX1_join_2_5 rfl ?_
  refine g_iald (id := 39) 15 rfl rfl dX1_join_2_6 (fun v1 rv1 => ?_)
  refine g_cVI (As := [vI v1]) (n := 1) (stk := []) (ci := 1) (b := 30) (N := 57) (hX1_root v1 u) (by decide +kernel) rfl rfl (lw_V q905 q907 qs38 q163 q908) (by decide +kernel) rfl (by decide) hRf hRl (fun _ => (avc rv1 avn)) (Nat.le_of_ble_eq_true rfl) rfl rfl dX1_join_2_7 (fun v2 s3 rv2 => ?_)
  refine g_istore_n (loc' := [(3, vI v2), (0, vR 1), (1, vI a1), (2, vI a2)]) dX1_join_2_10 (by decide) rfl ?_
  refine g_aload_n 1 dX1_join_2_11 rfl ?_
  refine g_aload_n 1 dX1_join_2_12 rfl ?_
  refine g_get (v := vR 49) (ci := 1) (b := 30) (N := 57) 9 rfl rfl (by decide) in_X1 rfl rfl q317 dX1_join_2_13 ?_
  refine g_iload_n 3 dX1_join_2_16 rfl ?_
  refine g_iald (id := 39) 15 rfl rfl dX1_join_2_17 (fun v4 rv4 => ?_)
  refine g_cVI (As := [vI v4]) (n := 1) (stk := []) (ci := 1) (b := 30) (N := 57) (hX1_root v4 s3) (by decide +kernel) rfl rfl (lw_V q905 q907 qs38 q163 q908) (by decide +kernel) rfl (by decide) hRf hRl (fun _ => (avc rv4 avn)) (Nat.le_of_ble_eq_true rfl) rfl rfl dX1_join_2_18 (fun v5 s6 rv5 => ?_)
  refine g_istore (loc' := [(4, vI v5), (3, vI v2), (0, vR 1), (1, vI a1), (2, vI a2)]) dX1_join_2_21 (by decide) rfl ?_
  refine g_iload_n 1 dX1_join_2_23 rfl ?_
  refine g_iload 0 dX1_join_2_24 rfl ?_
  refine g_icmp_ne 31 dX1_join_2_26 (by decide) (fun _ => rv2) (fun _ => rv5) (fun _ => ?_) (fun _ => ?_)
  · refine g_iconst dX1_join_2_29 ?_
    exact g_zret rfl rfl (fun _ => (Or.inl rfl)) dX1_join_2_30
  · refine g_aload_n 2 dX1_join_2_31 rfl ?_
    refine g_get (v := vR 51) (ci := 1) (b := 30) (N := 57) 11 rfl rfl (by decide) in_X1 rfl rfl q319 dX1_join_2_32 ?_
    refine g_iload_n 1 dX1_join_2_35 rfl ?_
    refine g_iload 0 dX1_join_2_36 rfl ?_
    refine g_mmax rv2 rv5 (Nat.le_trans (Nat.succ_le_succ (Nat.zero_le _)) hRf) (Nat.le_trans (Nat.mul_le_mul_left 40 (Nat.succ_le_succ (Nat.zero_le d))) hRl) (Nat.le_of_ble_eq_true rfl) q575 q217 q166 q218 dX1_join_2_38 (fun v7 rv7 => ?_)
    refine g_iload_n 1 dX1_join_2_41 rfl ?_
    refine g_iload 0 dX1_join_2_42 rfl ?_
    refine g_mmin rv2 rv5 (Nat.le_trans (Nat.succ_le_succ (Nat.zero_le _)) hRf) (Nat.le_trans (Nat.mul_le_mul_left 40 (Nat.succ_le_succ (Nat.zero_le d))) hRl) (Nat.le_of_ble_eq_true rfl) q909 q211 q166 q212 dX1_join_2_44 (fun v8 rv8 => ?_)
    refine g_iastU (id := 41) FC_ok 17 rfl rfl (by decide +kernel) rv8 dX1_join_2_47 (fun s9 => ?_)
    refine g_iconst dX1_join_2_48 ?_
    exact g_zret rfl rfl (fun _ => (Or.inr rfl)) dX1_join_2_49
end
section
variable {l : Launch} {d : Nat} {call : Nat → List Int → Sg → Option (Int × Sg)}
theorem ctX1_join_2 (p0 : Program) (e0 : Env) (s0 : State) (m0 : MethodId) (meth0 : Method) (c0 : Code) (G0 : Gm) (hd : 2 ≤ d) (hX1_root : ∀ (a1 : Int) (u : Sg), Ct l d FC clA yX1_root cX1_root 3 (some .int) DX1_root rvI [vR 1, vI a1] u (call 56 [a1] u)) (a1 a2 : Int) (u : Sg) : Ct l (d + 1) FC clA yX1_join_2 cX1_join_2 5 (some .boolean) DX1_join_2 rvI [vR 1, vI a1, vI a2] u (bX1_join_2 call a1 a2 u) :=
  Ct_of (by decide) (Nat.le_of_ble_eq_true rfl) (fun p e R s1 m args below meth c G A ad hA hRf hRl => wX1_join_2 hd hRf hRl hX1_root a1 a2 u (hA _ (List.mem_cons_of_mem _ List.mem_cons_self)) (hA _ (List.mem_cons_of_mem _ (List.mem_cons_of_mem _ List.mem_cons_self)))) p0 e0 s0 m0 meth0 c0 G0
end
/-! RoundCheck.root(I)I -/
abbrev JX1_root : Jm := (cX1_root, RX1, 3, (some .int))
def bX1_root_L2 (call : Nat → List Int → Sg → Option (Int × Sg)) : Nat → Int → Sg → (Int → Sg → Option (Int × Sg)) → Option (Int × Sg)
  | 0, _, _, _ => none
  | n + 1, a2, u, x22 => ld u 41 a2 fun v1 => if v1 = a2 then (x22 a2 u) else (ld u 41 a2 fun v2 => bX1_root_L2 call n v2 u x22)
def bX1_root (call : Nat → List Int → Sg → Option (Int × Sg)) (a1 : Int) (u : Sg) : Option (Int × Sg) := bX1_root_L2 call KF a1 u (fun v2 s1 => some (v2, s1))
section
variable {p : Program} {l : Launch} {e : Env} {R : Room} {s : State} {m : MethodId} {args : Array Value} {below : List Frame} {meth : Method} {c : Code} {G : Gm} {A : Nat → Prop} {ad0 : Nat → Nat} {σ0 : Sg} {d : Nat} {call : Nat → List Int → Sg → Option (Int × Sg)}
theorem wX1_root_L2 (hd : 2 ≤ d) (hRf : d + 1 ≤ R.frames) (hRl : 40 * (d + 1) ≤ R.locals) (x22 : Int → Sg → Option (Int × Sg)) (hx22 : ∀ (a2 : Int) (u : Sg), inR a2 → WG p l e R s m args below meth c JX1_root DX1_root G clA A FC ad0 σ0 rvI (x22 a2 u) u 22 [(2, vI a2)] []) : ∀ (n : Nat) (a2 : Int) (u : Sg), inR a2 → WG p l e R s m args below meth c JX1_root DX1_root G clA A FC ad0 σ0 rvI (bX1_root_L2 call n a2 u x22) u 2 [(0, vR 1), (2, vI a2)] [] := by
  intro n
  induction n with
  | zero =>
    intro a2 u ra2
    exact g_none
  | succ n ih =>
    intro a2 u ra2
    rw [bX1_root_L2]
    refine g_aload_n 0 dX1_root_2 rfl ?_
    refine g_get (v := vR 51) (ci := 1) (b := 30) (N := 57) 11 rfl rfl (by decide) in_X1 rfl rfl q319 dX1_root_3 ?_
    refine g_iload_n 1 dX1_root_6 rfl ?_
    refine g_iald (id := 41) 17 rfl rfl dX1_root_7 (fun v1 rv1 => ?_)
    refine g_iload_n 1 dX1_root_8 rfl ?_
    refine g_icmp_eq 22 dX1_root_9 (by decide) (fun _ => rv1) (fun _ => ra2) (fun _ => ?_) (fun _ => ?_)
    · exact g_pick [1] rfl (hx22 a2 u ra2)
    · refine g_aload_n 0 dX1_root_12 rfl ?_
      refine g_get (v := vR 51) (ci := 1) (b := 30) (N := 57) 11 rfl rfl (by decide) in_X1 rfl rfl q319 dX1_root_13 ?_
      refine g_iload_n 1 dX1_root_16 rfl ?_
      refine g_iald (id := 41) 17 rfl rfl dX1_root_17 (fun v2 rv2 => ?_)
      refine g_istore_n (loc' := [(2, vI v2), (0, vR 1)]) dX1_root_18 (by decide) rfl ?_
      refine g_goto 2 dX1_root_19 (by decide) ?_
      exact g_pick [1, 0] rfl (ih v2 u rv2)
theorem wX1_root (hd : 2 ≤ d) (hRf : d + 1 ≤ R.frames) (hRl : 40 * (d + 1) ≤ R.locals) (a1 : Int) (u : Sg) (ra1 : inR a1) : WG p l e R s m args below meth c JX1_root DX1_root G clA A FC ad0 σ0 rvI (bX1_root call a1 u) u 0 [(0, vR 1), (1, vI a1)] [] := by
  unfold bX1_root
  refine g_iload_n 1 dX1_root_0 rfl ?_
  refine g_istore_n (loc' := [(2, vI a1), (0, vR 1), (1, vI a1)]) dX1_root_1 (by decide) rfl ?_
  refine g_pick [1, 0] rfl (wX1_root_L2 hd hRf hRl _ (fun v2 s1 rv2 => ?_) KF a1 u ra1)
  · refine g_iload_n 0 dX1_root_22 rfl ?_
    exact g_iret rfl rfl (fun _ => rv2) dX1_root_23
end
section
variable {l : Launch} {d : Nat} {call : Nat → List Int → Sg → Option (Int × Sg)}
theorem ctX1_root (p0 : Program) (e0 : Env) (s0 : State) (m0 : MethodId) (meth0 : Method) (c0 : Code) (G0 : Gm) (hd : 2 ≤ d) (a1 : Int) (u : Sg) : Ct l (d + 1) FC clA yX1_root cX1_root 3 (some .int) DX1_root rvI [vR 1, vI a1] u (bX1_root call a1 u) :=
  Ct_of (by decide) (Nat.le_of_ble_eq_true rfl) (fun p e R s1 m args below meth c G A ad hA hRf hRl => wX1_root hd hRf hRl a1 u (hA _ (List.mem_cons_of_mem _ List.mem_cons_self))) p0 e0 s0 m0 meth0 c0 G0
end
/-! RoundCheck.plain(II)I -/
abbrev JX1_plain : Jm := (cX1_plain, RX1, 4, (some .int))
def bX1_plain (call : Nat → List Int → Sg → Option (Int × Sg)) (a1 a2 : Int) (u : Sg) : Option (Int × Sg) := un (gI u 12) fun v1 => cl (call 15 [a1, a2, v1] u) fun v2 s3 => some (v2, s3)
section
variable {p : Program} {l : Launch} {e : Env} {R : Room} {s : State} {m : MethodId} {args : Array Value} {below : List Frame} {meth : Method} {c : Code} {G : Gm} {A : Nat → Prop} {ad0 : Nat → Nat} {σ0 : Sg} {d : Nat} {call : Nat → List Int → Sg → Option (Int × Sg)}
theorem wX1_plain (hd : 2 ≤ d) (hRf : d + 1 ≤ R.frames) (hRl : 40 * (d + 1) ≤ R.locals) (hX1_typed : ∀ (a1 a2 a3 : Int) (u : Sg), Ct l d FC clA yX1_typed cX1_typed 8 (some .int) DX1_typed rvI [vR 1, vI a1, vI a2, vI a3] u (call 15 [a1, a2, a3] u)) (a1 a2 : Int) (u : Sg) (ra1 : inR a1) (ra2 : inR a2) : WG p l e R s m args below meth c JX1_plain DX1_plain G clA A FC ad0 σ0 rvI (bX1_plain call a1 a2 u) u 0 [(0, vR 1), (1, vI a1), (2, vI a2)] [] := by
  unfold bX1_plain
  refine g_aload_n 0 dX1_plain_0 rfl ?_
  refine g_get (v := vR 0) (ci := 1) (b := 30) (N := 57) 0 rfl rfl (by decide) in_X1 rfl rfl q308 dX1_plain_1 ?_
  refine g_getI (ci := 0) (b := 0) (N := 21) 12 rfl rfl rfl (by decide) in_X2 rfl rfl q251 dX1_plain_4 (fun v1 rv1 => ?_)
  refine g_istore_n (loc' := [(3, vI v1), (0, vR 1), (1, vI a1), (2, vI a2)]) dX1_plain_7 (by decide) rfl ?_
  refine g_aload_n 1 dX1_plain_8 rfl ?_
  refine g_iload_n 2 dX1_plain_9 rfl ?_
  refine g_iload_n 3 dX1_plain_10 rfl ?_
  refine g_iload_n 0 dX1_plain_11 rfl ?_
  refine g_cVI (As := [vI a1, vI a2, vI v1]) (n := 3) (stk := []) (ci := 1) (b := 30) (N := 57) (hX1_typed a1 a2 v1 u) (by decide +kernel) rfl rfl (lw_V q638 q640 qs8 q163 q641) (by decide +kernel) rfl (by decide) hRf hRl (fun _ => (avc ra1 (avc ra2 (avc rv1 avn)))) (Nat.le_of_ble_eq_true rfl) rfl rfl dX1_plain_12 (fun v2 s3 rv2 => ?_)
  exact g_iret rfl rfl (fun _ => rv2) dX1_plain_15
end
section
variable {l : Launch} {d : Nat} {call : Nat → List Int → Sg → Option (Int × Sg)}
theorem ctX1_plain (p0 : Program) (e0 : Env) (s0 : State) (m0 : MethodId) (meth0 : Method) (c0 : Code) (G0 : Gm) (hd : 2 ≤ d) (hX1_typed : ∀ (a1 a2 a3 : Int) (u : Sg), Ct l d FC clA yX1_typed cX1_typed 8 (some .int) DX1_typed rvI [vR 1, vI a1, vI a2, vI a3] u (call 15 [a1, a2, a3] u)) (a1 a2 : Int) (u : Sg) : Ct l (d + 1) FC clA yX1_plain cX1_plain 4 (some .int) DX1_plain rvI [vR 1, vI a1, vI a2] u (bX1_plain call a1 a2 u) :=
  Ct_of (by decide) (Nat.le_of_ble_eq_true rfl) (fun p e R s1 m args below meth c G A ad hA hRf hRl => wX1_plain hd hRf hRl hX1_typed a1 a2 u (hA _ (List.mem_cons_of_mem _ List.mem_cons_self)) (hA _ (List.mem_cons_of_mem _ (List.mem_cons_of_mem _ List.mem_cons_self)))) p0 e0 s0 m0 meth0 c0 G0
end
/-! RoundCheck.alikeTerms(II)Z -/
abbrev JX1_alikeTerms : Jm := (cX1_alikeTerms, RX1, 7, (some .boolean))
def bX1_alikeTerms_L113 (call : Nat → List Int → Sg → Option (Int × Sg)) : Nat → Int → Int → Int → Sg → (Int → Int → Sg → Option (Int × Sg)) → (Sg → Option (Int × Sg)) → Option (Int × Sg)
  | 0, _, _, _, _, _, _ => none
  | n + 1, a4, a5, a6, u, x161, x153 => ld u 3 a4 fun v1 => if a6 < v1 then (cl (call 98 [a4, a6] u) fun v2 s3 => cl (call 98 [a5, a6] s3) fun v4 s5 => if v2 = v4 then (ar (a6 + 1) fun v6 => bX1_alikeTerms_L113 call n a4 a5 v6 s5 x161 x153) else (x153 s5)) else (x161 a4 a5 u)
def bX1_alikeTerms_L268 (call : Nat → List Int → Sg → Option (Int × Sg)) : Nat → Int → Int → Int → Sg → (Sg → Option (Int × Sg)) → (Sg → Option (Int × Sg)) → Option (Int × Sg)
  | 0, _, _, _, _, _, _ => none
  | n + 1, a1, a2, a4, u, x317, x309 => ld u 3 a1 fun v1 => if a4 < v1 then (cl (call 98 [a1, a4] u) fun v2 s3 => cl (call 98 [a2, a4] s3) fun v4 s5 => cl (call 59 [v2, v4] s5) fun v6 s7 => if v6 = 0 then (x309 s7) else (ar (a4 + 1) fun v8 => bX1_alikeTerms_L268 call n a1 a2 v8 s7 x317 x309)) else (x317 u)
def bX1_alikeTerms (call : Nat → List Int → Sg → Option (Int × Sg)) (a1 a2 : Int) (u : Sg) : Option (Int × Sg) := ld u 0 a1 fun v1 => ld u 0 a2 fun v2 => if v1 = v2 then (jn (fun (a1 a2 a3 : Int) (s4 : Sg) => if a3 = 5 then (cl (call 98 [a1, 0] s4) fun v5 s6 => cl (call 98 [a2, 0] s6) fun v7 s8 => ld s8 1 v5 fun v9 => ld s8 1 v7 fun v10 => if v9 = v10 then (ld s8 3 v5 fun v11 => ld s8 3 v7 fun v12 => if v11 = v12 then (bX1_alikeTerms_L113 call KF v5 v7 1 s8 (fun v14 v15 s13 => cl (call 30 [v14] s13) fun v16 s17 => if v16 = 0 then (cl (call 30 [v15] s17) fun v18 s19 => if v18 = 0 then (some (1, s19)) else (some (0, s19))) else (jn (fun (s21 : Sg) => some (0, s21)) fun j20 => cl (call 30 [v15] s17) fun v22 s23 => if v22 = 0 then (j20 s23) else (cl (call 30 [v14] s23) fun v24 s25 => cl (call 30 [v15] s25) fun v26 s27 => cl (call 59 [v24, v26] s27) fun v28 s29 => if v28 = 0 then (j20 s29) else (some (1, s29))))) (fun s30 => some (0, s30))) else (some (0, s8))) else (some (0, s8))) else (ld s4 1 a1 fun v31 => ld s4 1 a2 fun v32 => if v31 = v32 then (ld s4 3 a1 fun v33 => ld s4 3 a2 fun v34 => if v33 = v34 then (bX1_alikeTerms_L268 call KF a1 a2 0 s4 (fun s35 => some (1, s35)) (fun s36 => some (0, s36))) else (some (0, s4))) else (some (0, s4)))) fun j3 => if v1 = 4 then (j3 a1 a2 v1 u) else (if v1 = 5 then (j3 a1 a2 v1 u) else (some (0, u)))) else (some (0, u))
section
variable {p : Program} {l : Launch} {e : Env} {R : Room} {s : State} {m : MethodId} {args : Array Value} {below : List Frame} {meth : Method} {c : Code} {G : Gm} {A : Nat → Prop} {ad0 : Nat → Nat} {σ0 : Sg} {d : Nat} {call : Nat → List Int → Sg → Option (Int × Sg)}
theorem wX1_alikeTerms_L113 (hd : 2 ≤ d) (hRf : d + 1 ≤ R.frames) (hRl : 40 * (d + 1) ≤ R.locals) (hX2_at : ∀ (a1 a2 : Int) (u : Sg), Ct l d FC clA yX2_at cX2_at 3 (some .int) DX2_at rvI [vR 0, vI a1, vI a2] u (call 98 [a1, a2] u)) (hX1_argOf : ∀ (a1 : Int) (u : Sg), Ct l d FC clA yX1_argOf cX1_argOf 2 (some .int) DX1_argOf rvI [vR 1, vI a1] u (call 30 [a1] u)) (hX1_equal : ∀ (a1 a2 : Int) (u : Sg), Ct l d FC clA yX1_equal cX1_equal 3 (some .boolean) DX1_equal rvI [vR 1, vI a1, vI a2] u (call 59 [a1, a2] u)) (x161 : Int → Int → Sg → Option (Int × Sg)) (x153 : Sg → Option (Int × Sg)) (hx161 : ∀ (a4 a5 : Int) (u : Sg), inR a4 → inR a5 → WG p l e R s m args below meth c JX1_alikeTerms DX1_alikeTerms G clA A FC ad0 σ0 rvI (x161 a4 a5 u) u 161 [(0, vR 1), (4, vI a4), (5, vI a5)] []) (hx153 : ∀ (u : Sg), WG p l e R s m args below meth c JX1_alikeTerms DX1_alikeTerms G clA A FC ad0 σ0 rvI (x153 u) u 153 [] []) : ∀ (n : Nat) (a4 a5 a6 : Int) (u : Sg), inR a4 → inR a5 → inR a6 → WG p l e R s m args below meth c JX1_alikeTerms DX1_alikeTerms G clA A FC ad0 σ0 rvI (bX1_alikeTerms_L113 call n a4 a5 a6 u x161 x153) u 113 [(0, vR 1), (4, vI a4), (5, vI a5), (6, vI a6)] [] := by
  intro n
  induction n with
  | zero =>
    intro a4 a5 a6 u ra4 ra5 ra6
    exact g_none
  | succ n ih =>
    intro a4 a5 a6 u ra4 ra5 ra6
    rw [bX1_alikeTerms_L113]
    refine g_iload 3 dX1_alikeTerms_113 rfl ?_
    refine g_aload_n 0 dX1_alikeTerms_115 rfl ?_
    refine g_get (v := vR 0) (ci := 1) (b := 30) (N := 57) 0 rfl rfl (by decide) in_X1 rfl rfl q308 dX1_alikeTerms_116 ?_
    refine g_get (v := vR 13) (ci := 0) (b := 0) (N := 21) 3 rfl rfl (by decide) in_X2 rfl rfl q237 dX1_alikeTerms_119 ?_
    refine g_iload 1 dX1_alikeTerms_122 rfl ?_
    refine g_iald (id := 3) 3 rfl rfl dX1_alikeTerms_124 (fun v1 rv1 => ?_)
    refine g_icmp_ge 161 dX1_alikeTerms_125 (by decide) (fun _ => ra6) (fun _ => rv1) (fun _ => ?_) (fun _ => ?_)
    · refine g_aload_n 0 dX1_alikeTerms_128 rfl ?_
      refine g_get (v := vR 0) (ci := 1) (b := 30) (N := 57) 0 rfl rfl (by decide) in_X1 rfl rfl q308 dX1_alikeTerms_129 ?_
      refine g_iload 1 dX1_alikeTerms_132 rfl ?_
      refine g_iload 3 dX1_alikeTerms_134 rfl ?_
      refine g_cVI (As := [vI a4, vI a6]) (n := 2) (stk := []) (ci := 0) (b := 0) (N := 21) (hX2_at a4 a6 u) (by decide +kernel) rfl rfl (lw_V q571 q572 q573 q164 q574) (by decide +kernel) rfl (by decide) hRf hRl (fun _ => (avc ra4 (avc ra6 avn))) (Nat.le_of_ble_eq_true rfl) rfl rfl dX1_alikeTerms_136 (fun v2 s3 rv2 => ?_)
      refine g_aload_n 0 dX1_alikeTerms_139 rfl ?_
      refine g_get (v := vR 0) (ci := 1) (b := 30) (N := 57) 0 rfl rfl (by decide) in_X1 rfl rfl q308 dX1_alikeTerms_140 ?_
      refine g_iload 2 dX1_alikeTerms_143 rfl ?_
      refine g_iload 3 dX1_alikeTerms_145 rfl ?_
      refine g_cVI (As := [vI a5, vI a6]) (n := 2) (stk := [vI v2]) (ci := 0) (b := 0) (N := 21) (hX2_at a5 a6 s3) (by decide +kernel) rfl rfl (lw_V q571 q572 q573 q164 q574) (by decide +kernel) rfl (by decide) hRf hRl (fun _ => (avc ra5 (avc ra6 avn))) (Nat.le_of_ble_eq_true rfl) rfl rfl dX1_alikeTerms_147 (fun v4 s5 rv4 => ?_)
      refine g_icmp_eq 155 dX1_alikeTerms_150 (by decide) (fun _ => rv2) (fun _ => rv4) (fun _ => ?_) (fun _ => ?_)
      · refine g_iinc 3 (loc' := fun v6 => [(6, vI v6), (0, vR 1), (4, vI a4), (5, vI a5)]) dX1_alikeTerms_155 rfl (by decide) (fun _ => rfl) (fun v6 rv6 => ?_)
        refine g_goto 113 dX1_alikeTerms_158 (by decide) ?_
        exact g_pick [1, 2, 3, 0] rfl (ih a4 a5 v6 s5 ra4 ra5 rv6)
      · exact g_pick [] rfl (hx153 s5)
    · exact g_pick [0, 1, 2] rfl (hx161 a4 a5 u ra4 ra5)
theorem wX1_alikeTerms_L268 (hd : 2 ≤ d) (hRf : d + 1 ≤ R.frames) (hRl : 40 * (d + 1) ≤ R.locals) (hX2_at : ∀ (a1 a2 : Int) (u : Sg), Ct l d FC clA yX2_at cX2_at 3 (some .int) DX2_at rvI [vR 0, vI a1, vI a2] u (call 98 [a1, a2] u)) (hX1_argOf : ∀ (a1 : Int) (u : Sg), Ct l d FC clA yX1_argOf cX1_argOf 2 (some .int) DX1_argOf rvI [vR 1, vI a1] u (call 30 [a1] u)) (hX1_equal : ∀ (a1 a2 : Int) (u : Sg), Ct l d FC clA yX1_equal cX1_equal 3 (some .boolean) DX1_equal rvI [vR 1, vI a1, vI a2] u (call 59 [a1, a2] u)) (x317 : Sg → Option (Int × Sg)) (x309 : Sg → Option (Int × Sg)) (hx317 : ∀ (u : Sg), WG p l e R s m args below meth c JX1_alikeTerms DX1_alikeTerms G clA A FC ad0 σ0 rvI (x317 u) u 317 [] []) (hx309 : ∀ (u : Sg), WG p l e R s m args below meth c JX1_alikeTerms DX1_alikeTerms G clA A FC ad0 σ0 rvI (x309 u) u 309 [] []) : ∀ (n : Nat) (a1 a2 a4 : Int) (u : Sg), inR a1 → inR a2 → inR a4 → WG p l e R s m args below meth c JX1_alikeTerms DX1_alikeTerms G clA A FC ad0 σ0 rvI (bX1_alikeTerms_L268 call n a1 a2 a4 u x317 x309) u 268 [(0, vR 1), (1, vI a1), (2, vI a2), (4, vI a4)] [] := by
  intro n
  induction n with
  | zero =>
    intro a1 a2 a4 u ra1 ra2 ra4
    exact g_none
  | succ n ih =>
    intro a1 a2 a4 u ra1 ra2 ra4
    rw [bX1_alikeTerms_L268]
    refine g_iload 3 dX1_alikeTerms_268 rfl ?_
    refine g_aload_n 0 dX1_alikeTerms_270 rfl ?_
    refine g_get (v := vR 0) (ci := 1) (b := 30) (N := 57) 0 rfl rfl (by decide) in_X1 rfl rfl q308 dX1_alikeTerms_271 ?_
    refine g_get (v := vR 13) (ci := 0) (b := 0) (N := 21) 3 rfl rfl (by decide) in_X2 rfl rfl q237 dX1_alikeTerms_274 ?_
    refine g_iload_n 1 dX1_alikeTerms_277 rfl ?_
    refine g_iald (id := 3) 3 rfl rfl dX1_alikeTerms_278 (fun v1 rv1 => ?_)
    refine g_icmp_ge 317 dX1_alikeTerms_279 (by decide) (fun _ => ra4) (fun _ => rv1) (fun _ => ?_) (fun _ => ?_)
    · refine g_aload_n 0 dX1_alikeTerms_282 rfl ?_
      refine g_aload_n 0 dX1_alikeTerms_283 rfl ?_
      refine g_get (v := vR 0) (ci := 1) (b := 30) (N := 57) 0 rfl rfl (by decide) in_X1 rfl rfl q308 dX1_alikeTerms_284 ?_
      refine g_iload_n 1 dX1_alikeTerms_287 rfl ?_
      refine g_iload 3 dX1_alikeTerms_288 rfl ?_
      refine g_cVI (As := [vI a1, vI a4]) (n := 2) (stk := [vR 1]) (ci := 0) (b := 0) (N := 21) (hX2_at a1 a4 u) (by decide +kernel) rfl rfl (lw_V q571 q572 q573 q164 q574) (by decide +kernel) rfl (by decide) hRf hRl (fun _ => (avc ra1 (avc ra4 avn))) (Nat.le_of_ble_eq_true rfl) rfl rfl dX1_alikeTerms_290 (fun v2 s3 rv2 => ?_)
      refine g_aload_n 0 dX1_alikeTerms_293 rfl ?_
      refine g_get (v := vR 0) (ci := 1) (b := 30) (N := 57) 0 rfl rfl (by decide) in_X1 rfl rfl q308 dX1_alikeTerms_294 ?_
      refine g_iload_n 2 dX1_alikeTerms_297 rfl ?_
      refine g_iload 3 dX1_alikeTerms_298 rfl ?_
      refine g_cVI (As := [vI a2, vI a4]) (n := 2) (stk := [vI v2, vR 1]) (ci := 0) (b := 0) (N := 21) (hX2_at a2 a4 s3) (by decide +kernel) rfl rfl (lw_V q571 q572 q573 q164 q574) (by decide +kernel) rfl (by decide) hRf hRl (fun _ => (avc ra2 (avc ra4 avn))) (Nat.le_of_ble_eq_true rfl) rfl rfl dX1_alikeTerms_300 (fun v4 s5 rv4 => ?_)
      refine g_cVZ (As := [vI v2, vI v4]) (n := 2) (stk := []) (ci := 1) (b := 30) (N := 57) (hX1_equal v2 v4 s5) (by decide +kernel) rfl rfl (lw_V q918 q920 qs41 q163 q921) (by decide +kernel) rfl (by decide) hRf hRl (fun _ => (avc rv2 (avc rv4 avn))) (Nat.le_of_ble_eq_true rfl) rfl rfl dX1_alikeTerms_303 (fun v6 s7 zv6 => ?_)
      refine g_if_ne 311 dX1_alikeTerms_306 (by decide) (fun _ => (inR_z zv6)) (fun _ => ?_) (fun _ => ?_)
      · exact g_pick [] rfl (hx309 s7)
      · refine g_iinc 3 (loc' := fun v8 => [(4, vI v8), (0, vR 1), (1, vI a1), (2, vI a2)]) dX1_alikeTerms_311 rfl (by decide) (fun _ => rfl) (fun v8 rv8 => ?_)
        refine g_goto 268 dX1_alikeTerms_314 (by decide) ?_
        exact g_pick [1, 2, 3, 0] rfl (ih a1 a2 v8 s7 ra1 ra2 rv8)
    · exact g_pick [] rfl (hx317 u)
theorem wX1_alikeTerms (hd : 2 ≤ d) (hRf : d + 1 ≤ R.frames) (hRl : 40 * (d + 1) ≤ R.locals) (hX2_at : ∀ (a1 a2 : Int) (u : Sg), Ct l d FC clA yX2_at cX2_at 3 (some .int) DX2_at rvI [vR 0, vI a1, vI a2] u (call 98 [a1, a2] u)) (hX1_argOf : ∀ (a1 : Int) (u : Sg), Ct l d FC clA yX1_argOf cX1_argOf 2 (some .int) DX1_argOf rvI [vR 1, vI a1] u (call 30 [a1] u)) (hX1_equal : ∀ (a1 a2 : Int) (u : Sg), Ct l d FC clA yX1_equal cX1_equal 3 (some .boolean) DX1_equal rvI [vR 1, vI a1, vI a2] u (call 59 [a1, a2] u)) (a1 a2 : Int) (u : Sg) (ra1 : inR a1) (ra2 : inR a2) : WG p l e R s m args below meth c JX1_alikeTerms DX1_alikeTerms G clA A FC ad0 σ0 rvI (bX1_alikeTerms call a1 a2 u) u 0 [(0, vR 1), (1, vI a1), (2, vI a2)] [] := by
  unfold bX1_alikeTerms
  refine g_aload_n 0 dX1_alikeTerms_0 rfl ?_
  refine g_get (v := vR 0) (ci := 1) (b := 30) (N := 57) 0 rfl rfl (by decide) in_X1 rfl rfl q308 dX1_alikeTerms_1 ?_
  refine g_get (v := vR 10) (ci := 0) (b := 0) (N := 21) 0 rfl rfl (by decide) in_X2 rfl rfl q232 dX1_alikeTerms_4 ?_
  refine g_iload_n 1 dX1_alikeTerms_7 rfl ?_
  refine g_iald (id := 0) 0 rfl rfl dX1_alikeTerms_8 (fun v1 rv1 => ?_)
  refine g_istore_n (loc' := [(3, vI v1), (0, vR 1), (1, vI a1), (2, vI a2)]) dX1_alikeTerms_9 (by decide) rfl ?_
  refine g_iload_n 0 dX1_alikeTerms_10 rfl ?_
  refine g_aload_n 1 dX1_alikeTerms_11 rfl ?_
  refine g_get (v := vR 0) (ci := 1) (b := 30) (N := 57) 0 rfl rfl (by decide) in_X1 rfl rfl q308 dX1_alikeTerms_12 ?_
  refine g_get (v := vR 10) (ci := 0) (b := 0) (N := 21) 0 rfl rfl (by decide) in_X2 rfl rfl q232 dX1_alikeTerms_15 ?_
  refine g_iload_n 3 dX1_alikeTerms_18 rfl ?_
  refine g_iald (id := 0) 0 rfl rfl dX1_alikeTerms_19 (fun v2 rv2 => ?_)
  refine g_icmp_ne 33 dX1_alikeTerms_20 (by decide) (fun _ => rv1) (fun _ => rv2) (fun _ => ?_) (fun _ => ?_)
  · refine g_jn (fun j3 => ∀ (a1 a2 a3 : Int) (s4 : Sg), inR a1 → inR a2 → inR a3 → WG p l e R s m args below meth c JX1_alikeTerms DX1_alikeTerms G clA A FC ad0 σ0 rvI (j3 a1 a2 a3 s4) s4 35 [(0, vR 1), (1, vI a1), (2, vI a2), (3, vI a3)] []) (fun a1 a2 a3 s4 ra1 ra2 ra3 => ?_) (fun j3 hj3 => ?_)
    · refine g_iload_n 3 dX1_alikeTerms_35 rfl ?_
      refine g_iconst dX1_alikeTerms_36 ?_
      refine g_icmp_ne 221 dX1_alikeTerms_37 (by decide) (fun _ => ra3) (fun _ => (by decide : inR (5))) (fun _ => ?_) (fun _ => ?_)
      · refine g_aload_n 0 dX1_alikeTerms_40 rfl ?_
        refine g_get (v := vR 0) (ci := 1) (b := 30) (N := 57) 0 rfl rfl (by decide) in_X1 rfl rfl q308 dX1_alikeTerms_41 ?_
        refine g_iload_n 1 dX1_alikeTerms_44 rfl ?_
        refine g_iconst dX1_alikeTerms_45 ?_
        refine g_cVI (As := [vI a1, vI 0]) (n := 2) (stk := []) (ci := 0) (b := 0) (N := 21) (hX2_at a1 0 s4) (by decide +kernel) rfl rfl (lw_V q571 q572 q573 q164 q574) (by decide +kernel) rfl (by decide) hRf hRl (fun _ => (avc ra1 (avc (inR_z (Or.inl rfl)) avn))) (Nat.le_of_ble_eq_true rfl) rfl rfl dX1_alikeTerms_46 (fun v5 s6 rv5 => ?_)
        refine g_istore (loc' := [(4, vI v5), (0, vR 1), (1, vI a1), (2, vI a2), (3, vI a3)]) dX1_alikeTerms_49 (by decide) rfl ?_
        refine g_aload_n 1 dX1_alikeTerms_51 rfl ?_
        refine g_get (v := vR 0) (ci := 1) (b := 30) (N := 57) 0 rfl rfl (by decide) in_X1 rfl rfl q308 dX1_alikeTerms_52 ?_
        refine g_iload_n 3 dX1_alikeTerms_55 rfl ?_
        refine g_iconst dX1_alikeTerms_56 ?_
        refine g_cVI (As := [vI a2, vI 0]) (n := 2) (stk := []) (ci := 0) (b := 0) (N := 21) (hX2_at a2 0 s6) (by decide +kernel) rfl rfl (lw_V q571 q572 q573 q164 q574) (by decide +kernel) rfl (by decide) hRf hRl (fun _ => (avc ra2 (avc (inR_z (Or.inl rfl)) avn))) (Nat.le_of_ble_eq_true rfl) rfl rfl dX1_alikeTerms_57 (fun v7 s8 rv7 => ?_)
        refine g_istore (loc' := [(5, vI v7), (4, vI v5), (0, vR 1), (1, vI a1), (2, vI a2), (3, vI a3)]) dX1_alikeTerms_60 (by decide) rfl ?_
        refine g_aload_n 2 dX1_alikeTerms_62 rfl ?_
        refine g_get (v := vR 0) (ci := 1) (b := 30) (N := 57) 0 rfl rfl (by decide) in_X1 rfl rfl q308 dX1_alikeTerms_63 ?_
        refine g_get (v := vR 11) (ci := 0) (b := 0) (N := 21) 1 rfl rfl (by decide) in_X2 rfl rfl q234 dX1_alikeTerms_66 ?_
        refine g_iload 1 dX1_alikeTerms_69 rfl ?_
        refine g_iald (id := 1) 1 rfl rfl dX1_alikeTerms_71 (fun v9 rv9 => ?_)
        refine g_aload_n 2 dX1_alikeTerms_72 rfl ?_
        refine g_get (v := vR 0) (ci := 1) (b := 30) (N := 57) 0 rfl rfl (by decide) in_X1 rfl rfl q308 dX1_alikeTerms_73 ?_
        refine g_get (v := vR 11) (ci := 0) (b := 0) (N := 21) 1 rfl rfl (by decide) in_X2 rfl rfl q234 dX1_alikeTerms_76 ?_
        refine g_iload 0 dX1_alikeTerms_79 rfl ?_
        refine g_iald (id := 1) 1 rfl rfl dX1_alikeTerms_81 (fun v10 rv10 => ?_)
        refine g_icmp_ne 108 dX1_alikeTerms_82 (by decide) (fun _ => rv9) (fun _ => rv10) (fun _ => ?_) (fun _ => ?_)
        · refine g_aload_n 2 dX1_alikeTerms_85 rfl ?_
          refine g_get (v := vR 0) (ci := 1) (b := 30) (N := 57) 0 rfl rfl (by decide) in_X1 rfl rfl q308 dX1_alikeTerms_86 ?_
          refine g_get (v := vR 13) (ci := 0) (b := 0) (N := 21) 3 rfl rfl (by decide) in_X2 rfl rfl q237 dX1_alikeTerms_89 ?_
          refine g_iload 1 dX1_alikeTerms_92 rfl ?_
          refine g_iald (id := 3) 3 rfl rfl dX1_alikeTerms_94 (fun v11 rv11 => ?_)
          refine g_aload_n 2 dX1_alikeTerms_95 rfl ?_
          refine g_get (v := vR 0) (ci := 1) (b := 30) (N := 57) 0 rfl rfl (by decide) in_X1 rfl rfl q308 dX1_alikeTerms_96 ?_
          refine g_get (v := vR 13) (ci := 0) (b := 0) (N := 21) 3 rfl rfl (by decide) in_X2 rfl rfl q237 dX1_alikeTerms_99 ?_
          refine g_iload 0 dX1_alikeTerms_102 rfl ?_
          refine g_iald (id := 3) 3 rfl rfl dX1_alikeTerms_104 (fun v12 rv12 => ?_)
          refine g_icmp_eq 110 dX1_alikeTerms_105 (by decide) (fun _ => rv11) (fun _ => rv12) (fun _ => ?_) (fun _ => ?_)
          · refine g_iconst dX1_alikeTerms_110 ?_
            refine g_istore (loc' := [(6, vI 1), (5, vI v7), (4, vI v5), (0, vR 1), (1, vI a1), (2, vI a2), (3, vI a3)]) dX1_alikeTerms_111 (by decide) rfl ?_
            refine g_pick [3, 2, 1, 0] rfl (wX1_alikeTerms_L113 hd hRf hRl hX2_at hX1_argOf hX1_equal _ _ (fun v14 v15 s13 rv14 rv15 => ?_) (fun s30 => ?_) KF v5 v7 1 s8 rv5 rv7 (inR_z (Or.inr rfl)))
            · refine g_aload_n 0 dX1_alikeTerms_161 rfl ?_
              refine g_iload 1 dX1_alikeTerms_162 rfl ?_
              refine g_cVI (As := [vI v14]) (n := 1) (stk := []) (ci := 1) (b := 30) (N := 57) (hX1_argOf v14 s13) (by decide +kernel) rfl rfl (lw_V q773 q775 qs16 q163 q776) (by decide +kernel) rfl (by decide) hRf hRl (fun _ => (avc rv14 avn)) (Nat.le_of_ble_eq_true rfl) rfl rfl dX1_alikeTerms_164 (fun v16 s17 rv16 => ?_)
              refine g_if_ne 187 dX1_alikeTerms_167 (by decide) (fun _ => rv16) (fun _ => ?_) (fun _ => ?_)
              · refine g_aload_n 0 dX1_alikeTerms_170 rfl ?_
                refine g_iload 2 dX1_alikeTerms_171 rfl ?_
                refine g_cVI (As := [vI v15]) (n := 1) (stk := []) (ci := 1) (b := 30) (N := 57) (hX1_argOf v15 s17) (by decide +kernel) rfl rfl (lw_V q773 q775 qs16 q163 q776) (by decide +kernel) rfl (by decide) hRf hRl (fun _ => (avc rv15 avn)) (Nat.le_of_ble_eq_true rfl) rfl rfl dX1_alikeTerms_173 (fun v18 s19 rv18 => ?_)
                refine g_if_ne 183 dX1_alikeTerms_176 (by decide) (fun _ => rv18) (fun _ => ?_) (fun _ => ?_)
                · refine g_iconst dX1_alikeTerms_179 ?_
                  refine g_goto 220 dX1_alikeTerms_180 (by decide) ?_
                  exact g_zret rfl rfl (fun _ => (Or.inr rfl)) dX1_alikeTerms_220
                · refine g_iconst dX1_alikeTerms_183 ?_
                  refine g_goto 220 dX1_alikeTerms_184 (by decide) ?_
                  exact g_zret rfl rfl (fun _ => (Or.inl rfl)) dX1_alikeTerms_220
              · refine g_jn (fun j20 => ∀ (s21 : Sg), WG p l e R s m args below meth c JX1_alikeTerms DX1_alikeTerms G clA A FC ad0 σ0 rvI (j20 s21) s21 219 [] []) (fun s21 => ?_) (fun j20 hj20 => ?_)
                · refine g_iconst dX1_alikeTerms_219 ?_
                  exact g_zret rfl rfl (fun _ => (Or.inl rfl)) dX1_alikeTerms_220
                · refine g_aload_n 0 dX1_alikeTerms_187 rfl ?_
                  refine g_iload 2 dX1_alikeTerms_188 rfl ?_
                  refine g_cVI (As := [vI v15]) (n := 1) (stk := []) (ci := 1) (b := 30) (N := 57) (hX1_argOf v15 s17) (by decide +kernel) rfl rfl (lw_V q773 q775 qs16 q163 q776) (by decide +kernel) rfl (by decide) hRf hRl (fun _ => (avc rv15 avn)) (Nat.le_of_ble_eq_true rfl) rfl rfl dX1_alikeTerms_190 (fun v22 s23 rv22 => ?_)
                  refine g_if_eq 219 dX1_alikeTerms_193 (by decide) (fun _ => rv22) (fun _ => ?_) (fun _ => ?_)
                  · exact g_pick [] rfl (hj20 s23)
                  · refine g_aload_n 0 dX1_alikeTerms_196 rfl ?_
                    refine g_aload_n 0 dX1_alikeTerms_197 rfl ?_
                    refine g_iload 1 dX1_alikeTerms_198 rfl ?_
                    refine g_cVI (As := [vI v14]) (n := 1) (stk := [vR 1]) (ci := 1) (b := 30) (N := 57) (hX1_argOf v14 s23) (by decide +kernel) rfl rfl (lw_V q773 q775 qs16 q163 q776) (by decide +kernel) rfl (by decide) hRf hRl (fun _ => (avc rv14 avn)) (Nat.le_of_ble_eq_true rfl) rfl rfl dX1_alikeTerms_200 (fun v24 s25 rv24 => ?_)
                    refine g_aload_n 0 dX1_alikeTerms_203 rfl ?_
                    refine g_iload 2 dX1_alikeTerms_204 rfl ?_
                    refine g_cVI (As := [vI v15]) (n := 1) (stk := [vI v24, vR 1]) (ci := 1) (b := 30) (N := 57) (hX1_argOf v15 s25) (by decide +kernel) rfl rfl (lw_V q773 q775 qs16 q163 q776) (by decide +kernel) rfl (by decide) hRf hRl (fun _ => (avc rv15 avn)) (Nat.le_of_ble_eq_true rfl) rfl rfl dX1_alikeTerms_206 (fun v26 s27 rv26 => ?_)
                    refine g_cVZ (As := [vI v24, vI v26]) (n := 2) (stk := []) (ci := 1) (b := 30) (N := 57) (hX1_equal v24 v26 s27) (by decide +kernel) rfl rfl (lw_V q918 q920 qs41 q163 q921) (by decide +kernel) rfl (by decide) hRf hRl (fun _ => (avc rv24 (avc rv26 avn))) (Nat.le_of_ble_eq_true rfl) rfl rfl dX1_alikeTerms_209 (fun v28 s29 zv28 => ?_)
                    refine g_if_eq 219 dX1_alikeTerms_212 (by decide) (fun _ => (inR_z zv28)) (fun _ => ?_) (fun _ => ?_)
                    · exact g_pick [] rfl (hj20 s29)
                    · refine g_iconst dX1_alikeTerms_215 ?_
                      refine g_goto 220 dX1_alikeTerms_216 (by decide) ?_
                      exact g_zret rfl rfl (fun _ => (Or.inr rfl)) dX1_alikeTerms_220
            · refine g_iconst dX1_alikeTerms_153 ?_
              exact g_zret rfl rfl (fun _ => (Or.inl rfl)) dX1_alikeTerms_154
          · refine g_iconst dX1_alikeTerms_108 ?_
            exact g_zret rfl rfl (fun _ => (Or.inl rfl)) dX1_alikeTerms_109
        · refine g_iconst dX1_alikeTerms_108 ?_
          exact g_zret rfl rfl (fun _ => (Or.inl rfl)) dX1_alikeTerms_109
      · refine g_aload_n 0 dX1_alikeTerms_221 rfl ?_
        refine g_get (v := vR 0) (ci := 1) (b := 30) (N := 57) 0 rfl rfl (by decide) in_X1 rfl rfl q308 dX1_alikeTerms_222 ?_
        refine g_get (v := vR 11) (ci := 0) (b := 0) (N := 21) 1 rfl rfl (by decide) in_X2 rfl rfl q234 dX1_alikeTerms_225 ?_
        refine g_iload_n 1 dX1_alikeTerms_228 rfl ?_
        refine g_iald (id := 1) 1 rfl rfl dX1_alikeTerms_229 (fun v31 rv31 => ?_)
        refine g_aload_n 0 dX1_alikeTerms_230 rfl ?_
        refine g_get (v := vR 0) (ci := 1) (b := 30) (N := 57) 0 rfl rfl (by decide) in_X1 rfl rfl q308 dX1_alikeTerms_231 ?_
        refine g_get (v := vR 11) (ci := 0) (b := 0) (N := 21) 1 rfl rfl (by decide) in_X2 rfl rfl q234 dX1_alikeTerms_234 ?_
        refine g_iload_n 2 dX1_alikeTerms_237 rfl ?_
        refine g_iald (id := 1) 1 rfl rfl dX1_alikeTerms_238 (fun v32 rv32 => ?_)
        refine g_icmp_ne 263 dX1_alikeTerms_239 (by decide) (fun _ => rv31) (fun _ => rv32) (fun _ => ?_) (fun _ => ?_)
        · refine g_aload_n 0 dX1_alikeTerms_242 rfl ?_
          refine g_get (v := vR 0) (ci := 1) (b := 30) (N := 57) 0 rfl rfl (by decide) in_X1 rfl rfl q308 dX1_alikeTerms_243 ?_
          refine g_get (v := vR 13) (ci := 0) (b := 0) (N := 21) 3 rfl rfl (by decide) in_X2 rfl rfl q237 dX1_alikeTerms_246 ?_
          refine g_iload_n 1 dX1_alikeTerms_249 rfl ?_
          refine g_iald (id := 3) 3 rfl rfl dX1_alikeTerms_250 (fun v33 rv33 => ?_)
          refine g_aload_n 0 dX1_alikeTerms_251 rfl ?_
          refine g_get (v := vR 0) (ci := 1) (b := 30) (N := 57) 0 rfl rfl (by decide) in_X1 rfl rfl q308 dX1_alikeTerms_252 ?_
          refine g_get (v := vR 13) (ci := 0) (b := 0) (N := 21) 3 rfl rfl (by decide) in_X2 rfl rfl q237 dX1_alikeTerms_255 ?_
          refine g_iload_n 2 dX1_alikeTerms_258 rfl ?_
          refine g_iald (id := 3) 3 rfl rfl dX1_alikeTerms_259 (fun v34 rv34 => ?_)
          refine g_icmp_eq 265 dX1_alikeTerms_260 (by decide) (fun _ => rv33) (fun _ => rv34) (fun _ => ?_) (fun _ => ?_)
          · refine g_iconst dX1_alikeTerms_265 ?_
            refine g_istore (loc' := [(4, vI 0), (0, vR 1), (1, vI a1), (2, vI a2), (3, vI a3)]) dX1_alikeTerms_266 (by decide) rfl ?_
            refine g_pick [1, 2, 3, 0] rfl (wX1_alikeTerms_L268 hd hRf hRl hX2_at hX1_argOf hX1_equal _ _ (fun s35 => ?_) (fun s36 => ?_) KF a1 a2 0 s4 ra1 ra2 (inR_z (Or.inl rfl)))
            · refine g_iconst dX1_alikeTerms_317 ?_
              exact g_zret rfl rfl (fun _ => (Or.inr rfl)) dX1_alikeTerms_318
            · refine g_iconst dX1_alikeTerms_309 ?_
              exact g_zret rfl rfl (fun _ => (Or.inl rfl)) dX1_alikeTerms_310
          · refine g_iconst dX1_alikeTerms_263 ?_
            exact g_zret rfl rfl (fun _ => (Or.inl rfl)) dX1_alikeTerms_264
        · refine g_iconst dX1_alikeTerms_263 ?_
          exact g_zret rfl rfl (fun _ => (Or.inl rfl)) dX1_alikeTerms_264
    · refine g_iload_n 0 dX1_alikeTerms_23 rfl ?_
      refine g_iconst dX1_alikeTerms_24 ?_
      refine g_icmp_eq 35 dX1_alikeTerms_25 (by decide) (fun _ => rv1) (fun _ => (by decide : inR (4))) (fun _ => ?_) (fun _ => ?_)
      · exact g_pick [1, 2, 3, 0] rfl (hj3 a1 a2 v1 u ra1 ra2 rv1)
      · refine g_iload_n 0 dX1_alikeTerms_28 rfl ?_
        refine g_iconst dX1_alikeTerms_29 ?_
        refine g_icmp_eq 35 dX1_alikeTerms_30 (by decide) (fun _ => rv1) (fun _ => (by decide : inR (5))) (fun _ => ?_) (fun _ => ?_)
        · exact g_pick [1, 2, 3, 0] rfl (hj3 a1 a2 v1 u ra1 ra2 rv1)
        · refine g_iconst dX1_alikeTerms_33 ?_
          exact g_zret rfl rfl (fun _ => (Or.inl rfl)) dX1_alikeTerms_34
  · refine g_iconst dX1_alikeTerms_33 ?_
    exact g_zret rfl rfl (fun _ => (Or.inl rfl)) dX1_alikeTerms_34
end
section
variable {l : Launch} {d : Nat} {call : Nat → List Int → Sg → Option (Int × Sg)}
theorem ctX1_alikeTerms (p0 : Program) (e0 : Env) (s0 : State) (m0 : MethodId) (meth0 : Method) (c0 : Code) (G0 : Gm) (hd : 2 ≤ d) (hX2_at : ∀ (a1 a2 : Int) (u : Sg), Ct l d FC clA yX2_at cX2_at 3 (some .int) DX2_at rvI [vR 0, vI a1, vI a2] u (call 98 [a1, a2] u)) (hX1_argOf : ∀ (a1 : Int) (u : Sg), Ct l d FC clA yX1_argOf cX1_argOf 2 (some .int) DX1_argOf rvI [vR 1, vI a1] u (call 30 [a1] u)) (hX1_equal : ∀ (a1 a2 : Int) (u : Sg), Ct l d FC clA yX1_equal cX1_equal 3 (some .boolean) DX1_equal rvI [vR 1, vI a1, vI a2] u (call 59 [a1, a2] u)) (a1 a2 : Int) (u : Sg) : Ct l (d + 1) FC clA yX1_alikeTerms cX1_alikeTerms 7 (some .boolean) DX1_alikeTerms rvI [vR 1, vI a1, vI a2] u (bX1_alikeTerms call a1 a2 u) :=
  Ct_of (by decide) (Nat.le_of_ble_eq_true rfl) (fun p e R s1 m args below meth c G A ad hA hRf hRl => wX1_alikeTerms hd hRf hRl hX2_at hX1_argOf hX1_equal a1 a2 u (hA _ (List.mem_cons_of_mem _ List.mem_cons_self)) (hA _ (List.mem_cons_of_mem _ (List.mem_cons_of_mem _ List.mem_cons_self)))) p0 e0 s0 m0 meth0 c0 G0
end
/-! RoundCheck.equal(II)Z -/
abbrev JX1_equal : Jm := (cX1_equal, RX1, 3, (some .boolean))
def bX1_equal (call : Nat → List Int → Sg → Option (Int × Sg)) (a1 a2 : Int) (u : Sg) : Option (Int × Sg) := jn (fun (s2 : Sg) => some (1, s2)) fun j1 => if a1 = a2 then (j1 u) else (jn (fun (s4 : Sg) => some (0, s4)) fun j3 => cl (call 46 [a1] u) fun v5 s6 => if v5 = 0 then (j3 s6) else (cl (call 46 [a2] s6) fun v7 s8 => if v7 = 0 then (j3 s8) else (ld s8 39 a1 fun v9 => cl (call 56 [v9] s8) fun v10 s11 => ld s11 39 a2 fun v12 => cl (call 56 [v12] s11) fun v13 s14 => if v10 = v13 then (j1 s14) else (j3 s14))))
section
variable {p : Program} {l : Launch} {e : Env} {R : Room} {s : State} {m : MethodId} {args : Array Value} {below : List Frame} {meth : Method} {c : Code} {G : Gm} {A : Nat → Prop} {ad0 : Nat → Nat} {σ0 : Sg} {d : Nat} {call : Nat → List Int → Sg → Option (Int × Sg)}
theorem wX1_equal (hd : 2 ≤ d) (hRf : d + 1 ≤ R.frames) (hRl : 40 * (d + 1) ≤ R.locals) (hX1_isAtHand : ∀ (a1 : Int) (u : Sg), Ct l d FC clA yX1_isAtHand cX1_isAtHand 2 (some .boolean) DX1_isAtHand rvI [vR 1, vI a1] u (call 46 [a1] u)) (hX1_root : ∀ (a1 : Int) (u : Sg), Ct l d FC clA yX1_root cX1_root 3 (some .int) DX1_root rvI [vR 1, vI a1] u (call 56 [a1] u)) (a1 a2 : Int) (u : Sg) (ra1 : inR a1) (ra2 : inR a2) : WG p l e R s m args below meth c JX1_equal DX1_equal G clA A FC ad0 σ0 rvI (bX1_equal call a1 a2 u) u 0 [(0, vR 1), (1, vI a1), (2, vI a2)] [] := by
  unfold bX1_equal
  refine g_jn (fun j1 => ∀ (s2 : Sg), WG p l e R s m args below meth c JX1_equal DX1_equal G clA A FC ad0 σ0 rvI (j1 s2) s2 44 [] []) (fun s2 => ?_) (fun j1 hj1 => ?_)
  · refine g_iconst dX1_equal_44 ?_
    refine g_goto 49 dX1_equal_45 (by decide) ?_
    exact g_zret rfl rfl (fun _ => (Or.inr rfl)) dX1_equal_49
  · refine g_iload_n 1 dX1_equal_0 rfl ?_
    refine g_iload_n 2 dX1_equal_1 rfl ?_
    refine g_icmp_eq 44 dX1_equal_2 (by decide) (fun _ => ra1) (fun _ => ra2) (fun _ => ?_) (fun _ => ?_)
    · exact g_pick [] rfl (hj1 u)
    · refine g_jn (fun j3 => ∀ (s4 : Sg), WG p l e R s m args below meth c JX1_equal DX1_equal G clA A FC ad0 σ0 rvI (j3 s4) s4 48 [] []) (fun s4 => ?_) (fun j3 hj3 => ?_)
      · refine g_iconst dX1_equal_48 ?_
        exact g_zret rfl rfl (fun _ => (Or.inl rfl)) dX1_equal_49
      · refine g_aload_n 0 dX1_equal_5 rfl ?_
        refine g_iload_n 1 dX1_equal_6 rfl ?_
        refine g_cVZ (As := [vI a1]) (n := 1) (stk := []) (ci := 1) (b := 30) (N := 57) (hX1_isAtHand a1 u) (by decide +kernel) rfl rfl (lw_V q856 q858 qs28 q163 q859) (by decide +kernel) rfl (by decide) hRf hRl (fun _ => (avc ra1 avn)) (Nat.le_of_ble_eq_true rfl) rfl rfl dX1_equal_7 (fun v5 s6 zv5 => ?_)
        refine g_if_eq 48 dX1_equal_10 (by decide) (fun _ => (inR_z zv5)) (fun _ => ?_) (fun _ => ?_)
        · exact g_pick [] rfl (hj3 s6)
        · refine g_aload_n 0 dX1_equal_13 rfl ?_
          refine g_iload_n 2 dX1_equal_14 rfl ?_
          refine g_cVZ (As := [vI a2]) (n := 1) (stk := []) (ci := 1) (b := 30) (N := 57) (hX1_isAtHand a2 s6) (by decide +kernel) rfl rfl (lw_V q856 q858 qs28 q163 q859) (by decide +kernel) rfl (by decide) hRf hRl (fun _ => (avc ra2 avn)) (Nat.le_of_ble_eq_true rfl) rfl rfl dX1_equal_15 (fun v7 s8 zv7 => ?_)
          refine g_if_eq 48 dX1_equal_18 (by decide) (fun _ => (inR_z zv7)) (fun _ => ?_) (fun _ => ?_)
          · exact g_pick [] rfl (hj3 s8)
          · refine g_aload_n 0 dX1_equal_21 rfl ?_
            refine g_aload_n 0 dX1_equal_22 rfl ?_
            refine g_get (v := vR 49) (ci := 1) (b := 30) (N := 57) 9 rfl rfl (by decide) in_X1 rfl rfl q317 dX1_equal_23 ?_
            refine g_iload_n 1 dX1_equal_26 rfl ?_
            refine g_iald (id := 39) 15 rfl rfl dX1_equal_27 (fun v9 rv9 => ?_)
            refine g_cVI (As := [vI v9]) (n := 1) (stk := []) (ci := 1) (b := 30) (N := 57) (hX1_root v9 s8) (by decide +kernel) rfl rfl (lw_V q905 q907 qs38 q163 q908) (by decide +kernel) rfl (by decide) hRf hRl (fun _ => (avc rv9 avn)) (Nat.le_of_ble_eq_true rfl) rfl rfl dX1_equal_28 (fun v10 s11 rv10 => ?_)
            refine g_aload_n 0 dX1_equal_31 rfl ?_
            refine g_aload_n 0 dX1_equal_32 rfl ?_
            refine g_get (v := vR 49) (ci := 1) (b := 30) (N := 57) 9 rfl rfl (by decide) in_X1 rfl rfl q317 dX1_equal_33 ?_
            refine g_iload_n 2 dX1_equal_36 rfl ?_
            refine g_iald (id := 39) 15 rfl rfl dX1_equal_37 (fun v12 rv12 => ?_)
            refine g_cVI (As := [vI v12]) (n := 1) (stk := [vI v10]) (ci := 1) (b := 30) (N := 57) (hX1_root v12 s11) (by decide +kernel) rfl rfl (lw_V q905 q907 qs38 q163 q908) (by decide +kernel) rfl (by decide) hRf hRl (fun _ => (avc rv12 avn)) (Nat.le_of_ble_eq_true rfl) rfl rfl dX1_equal_38 (fun v13 s14 rv13 => ?_)
            refine g_icmp_ne 48 dX1_equal_41 (by decide) (fun _ => rv10) (fun _ => rv13) (fun _ => ?_) (fun _ => ?_)
            · exact g_pick [] rfl (hj1 s14)
            · exact g_pick [] rfl (hj3 s14)
end
section
variable {l : Launch} {d : Nat} {call : Nat → List Int → Sg → Option (Int × Sg)}
theorem ctX1_equal (p0 : Program) (e0 : Env) (s0 : State) (m0 : MethodId) (meth0 : Method) (c0 : Code) (G0 : Gm) (hd : 2 ≤ d) (hX1_isAtHand : ∀ (a1 : Int) (u : Sg), Ct l d FC clA yX1_isAtHand cX1_isAtHand 2 (some .boolean) DX1_isAtHand rvI [vR 1, vI a1] u (call 46 [a1] u)) (hX1_root : ∀ (a1 : Int) (u : Sg), Ct l d FC clA yX1_root cX1_root 3 (some .int) DX1_root rvI [vR 1, vI a1] u (call 56 [a1] u)) (a1 a2 : Int) (u : Sg) : Ct l (d + 1) FC clA yX1_equal cX1_equal 3 (some .boolean) DX1_equal rvI [vR 1, vI a1, vI a2] u (bX1_equal call a1 a2 u) :=
  Ct_of (by decide) (Nat.le_of_ble_eq_true rfl) (fun p e R s1 m args below meth c G A ad hA hRf hRl => wX1_equal hd hRf hRl hX1_isAtHand hX1_root a1 a2 u (hA _ (List.mem_cons_of_mem _ List.mem_cons_self)) (hA _ (List.mem_cons_of_mem _ (List.mem_cons_of_mem _ List.mem_cons_self)))) p0 e0 s0 m0 meth0 c0 G0
end
/-! RoundCheck.closeTerm(I)Z -/
abbrev JX1_closeTerm : Jm := (cX1_closeTerm, RX1, 10, (some .boolean))
def bX1_closeTerm_L228 (call : Nat → List Int → Sg → Option (Int × Sg)) : Nat → Int → Int → Int → Int → Int → Int → Sg → (Int → Int → Int → Int → Int → Sg → Option (Int × Sg)) → Option (Int × Sg)
  | 0, _, _, _, _, _, _, _, _ => none
  | n + 1, a1, a2, a3, a4, a5, a9, u, x280 => ld u 80 a5 fun v1 => ld u 3 v1 fun v2 => if a9 < v2 then (ld u 80 a5 fun v3 => cl (call 98 [v3, a9] u) fun v4 s5 => cl (call 50 [a1, v4] s5) fun v6 s7 => if v6 = 0 then (ar (a9 + 1) fun v8 => bX1_closeTerm_L228 call n a1 a2 a3 a4 a5 v8 s7 x280) else (ar (a9 + 1) fun v9 => bX1_closeTerm_L228 call n a1 1 a3 a4 a5 v9 s7 x280)) else (x280 a1 a2 a3 a4 a5 u)
def bX1_closeTerm_L41 (call : Nat → List Int → Sg → Option (Int × Sg)) : Nat → Int → Int → Int → Int → Int → Sg → (Int → Sg → Option (Int × Sg)) → (Sg → Option (Int × Sg)) → Option (Int × Sg)
  | 0, _, _, _, _, _, _, _, _ => none
  | n + 1, a1, a2, a3, a4, a5, u, x335, x317 => un (gI u 81) fun v1 => if a5 < v1 then (un (gI u 45) fun v2 => if v2 = 0 then (ld u 76 a5 fun v3 => if v3 < 1 then (ar (a5 + 1) fun v4 => bX1_closeTerm_L41 call n a1 a2 a3 a4 v4 u x335 x317) else (ld u 77 a5 fun v5 => if v5 = a3 then (jn (fun (a1 a2 a3 a4 a5 t0 : Int) (s7 : Sg) => jn (fun (a1 a2 a3 a4 a5 a6 t0 : Int) (s9 : Sg) => jn (fun (a1 a2 a3 a4 a5 a6 a7 t0 : Int) (s11 : Sg) => if t0 = 0 then (ar (a5 + 1) fun v12 => bX1_closeTerm_L41 call n a1 a2 a3 a4 v12 s11 x335 x317) else (ld s11 76 a5 fun v13 => if v13 = 1 then (bX1_closeTerm_L228 call KF a1 a2 a3 a4 a5 1 s11 (fun v15 v16 v17 v18 v19 s14 => ar (v19 + 1) fun v20 => bX1_closeTerm_L41 call n v15 v16 v17 v18 v20 s14 x335 x317)) else (ld s11 80 a5 fun v21 => cl (call 111 [v21, a6, a7, 0] s11) fun v22 s23 => cl (call 45 [v22] s23) fun v24 s25 => un (gI s25 45) fun v26 => if v26 = 0 then (cl (call 55 [a1, v22] s25) fun v27 s28 => un (o_or a2 v27) fun v29 => ar (a5 + 1) fun v30 => bX1_closeTerm_L41 call n a1 v29 a3 a4 v30 s28 x335 x317) else (x317 s25)))) fun j10 => jn (fun (a1 a2 a3 a4 a5 a6 a7 : Int) (s32 : Sg) => j10 a1 a2 a3 a4 a5 a6 a7 0 s32) fun j31 => jn (fun (a1 a2 a3 a4 a5 a6 a7 : Int) (s34 : Sg) => jn (fun (a1 a2 a3 a4 a5 a6 a7 : Int) (s36 : Sg) => j10 a1 a2 a3 a4 a5 a6 a7 1 s36) fun j35 => ld s34 79 a5 fun v37 => if v37 = 0 then (j35 a1 a2 a3 a4 a5 a6 a7 s34) else (ld s34 79 a5 fun v38 => cl (call 111 [v38, a6, a7, 0] s34) fun v39 s40 => cl (call 61 [a7, v39] s40) fun v41 s42 => if v41 = 0 then (j31 a1 a2 a3 a4 a5 a6 a7 s42) else (j35 a1 a2 a3 a4 a5 a6 a7 s42))) fun j33 => ld s9 78 a5 fun v43 => if v43 = 0 then (j33 a1 a2 a3 a4 a5 a6 t0 s9) else (ld s9 78 a5 fun v44 => cl (call 111 [v44, a6, t0, 0] s9) fun v45 s46 => cl (call 61 [a6, v45] s46) fun v47 s48 => if v47 = 0 then (j31 a1 a2 a3 a4 a5 a6 t0 s48) else (j33 a1 a2 a3 a4 a5 a6 t0 s48))) fun j8 => if a4 ≤ 1 then (j8 a1 a2 a3 a4 a5 t0 0 s7) else (cl (call 98 [a1, 1] s7) fun v49 s50 => j8 a1 a2 a3 a4 a5 t0 v49 s50)) fun j6 => if a4 ≤ 0 then (j6 a1 a2 a3 a4 a5 0 u) else (cl (call 98 [a1, 0] u) fun v51 s52 => j6 a1 a2 a3 a4 a5 v51 s52)) else (ar (a5 + 1) fun v53 => bX1_closeTerm_L41 call n a1 a2 a3 a4 v53 u x335 x317))) else (x335 a2 u)) else (x335 a2 u)
def bX1_closeTerm (call : Nat → List Int → Sg → Option (Int × Sg)) (a1 : Int) (u : Sg) : Option (Int × Sg) := ld u 0 a1 fun v1 => if v1 = 4 then (ld u 1 a1 fun v2 => ld u 3 a1 fun v3 => bX1_closeTerm_L41 call KF a1 0 v2 v3 0 u (fun v5 s4 => some (v5, s4)) (fun s6 => some (0, s6))) else (some (0, u))
section
variable {p : Program} {l : Launch} {e : Env} {R : Room} {s : State} {m : MethodId} {args : Array Value} {below : List Frame} {meth : Method} {c : Code} {G : Gm} {A : Nat → Prop} {ad0 : Nat → Nat} {σ0 : Sg} {d : Nat} {call : Nat → List Int → Sg → Option (Int × Sg)}
theorem wX1_closeTerm_L228 (hd : 2 ≤ d) (hRf : d + 1 ≤ R.frames) (hRl : 40 * (d + 1) ≤ R.locals) (hX2_at : ∀ (a1 a2 : Int) (u : Sg), Ct l d FC clA yX2_at cX2_at 3 (some .int) DX2_at rvI [vR 0, vI a1, vI a2] u (call 98 [a1, a2] u)) (hX1_adjectiveFact : ∀ (a1 a2 : Int) (u : Sg), Ct l d FC clA yX1_adjectiveFact cX1_adjectiveFact 4 (some .boolean) DX1_adjectiveFact rvI [vR 1, vI a1, vI a2] u (call 50 [a1, a2] u)) (hX2_loci : ∀ (a1 a2 a3 a4 : Int) (u : Sg), Ct l d FC clA yX2_loci cX2_loci 5 (some .int) DX2_loci rvI [vR 0, vI a1, vI a2, vI a3, vI a4] u (call 111 [a1, a2, a3, a4] u)) (hX1_atHand : ∀ (a1 : Int) (u : Sg), Ct l d FC clA yX1_atHand cX1_atHand 3 none DX1_atHand rvV [vR 1, vI a1] u (call 45 [a1] u)) (hX1_join_2 : ∀ (a1 a2 : Int) (u : Sg), Ct l d FC clA yX1_join_2 cX1_join_2 5 (some .boolean) DX1_join_2 rvI [vR 1, vI a1, vI a2] u (call 55 [a1, a2] u)) (hX1_classFits : ∀ (a1 a2 : Int) (u : Sg), Ct l d FC clA yX1_classFits cX1_classFits 4 (some .boolean) DX1_classFits rvI [vR 1, vI a1, vI a2] u (call 61 [a1, a2] u)) (x280 : Int → Int → Int → Int → Int → Sg → Option (Int × Sg)) (hx280 : ∀ (a1 a2 a3 a4 a5 : Int) (u : Sg), inR a1 → (a2 = 0 ∨ a2 = 1) → inR a3 → inR a4 → inR a5 → WG p l e R s m args below meth c JX1_closeTerm DX1_closeTerm G clA A FC ad0 σ0 rvI (x280 a1 a2 a3 a4 a5 u) u 280 [(0, vR 1), (1, vI a1), (2, vI a2), (3, vI a3), (4, vI a4), (5, vI a5)] []) : ∀ (n : Nat) (a1 a2 a3 a4 a5 a9 : Int) (u : Sg), inR a1 → (a2 = 0 ∨ a2 = 1) → inR a3 → inR a4 → inR a5 → inR a9 → WG p l e R s m args below meth c JX1_closeTerm DX1_closeTerm G clA A FC ad0 σ0 rvI (bX1_closeTerm_L228 call n a1 a2 a3 a4 a5 a9 u x280) u 228 [(0, vR 1), (1, vI a1), (2, vI a2), (3, vI a3), (4, vI a4), (5, vI a5), (9, vI a9)] [] := by
  intro n
  induction n with
  | zero =>
    intro a1 a2 a3 a4 a5 a9 u ra1 za2 ra3 ra4 ra5 ra9
    exact g_none
  | succ n ih =>
    intro a1 a2 a3 a4 a5 a9 u ra1 za2 ra3 ra4 ra5 ra9
    rw [bX1_closeTerm_L228]
    refine g_iload 6 dX1_closeTerm_228 rfl ?_
    refine g_aload_n 0 dX1_closeTerm_230 rfl ?_
    refine g_get (v := vR 0) (ci := 1) (b := 30) (N := 57) 0 rfl rfl (by decide) in_X1 rfl rfl q308 dX1_closeTerm_231 ?_
    refine g_get (v := vR 13) (ci := 0) (b := 0) (N := 21) 3 rfl rfl (by decide) in_X2 rfl rfl q237 dX1_closeTerm_234 ?_
    refine g_aload_n 0 dX1_closeTerm_237 rfl ?_
    refine g_get (v := vR 90) (ci := 1) (b := 30) (N := 57) 50 rfl rfl (by decide) in_X1 rfl rfl q358 dX1_closeTerm_238 ?_
    refine g_iload 5 dX1_closeTerm_241 rfl ?_
    refine g_iald (id := 80) 39 rfl rfl dX1_closeTerm_243 (fun v1 rv1 => ?_)
    refine g_iald (id := 3) 3 rfl rfl dX1_closeTerm_244 (fun v2 rv2 => ?_)
    refine g_icmp_ge 280 dX1_closeTerm_245 (by decide) (fun _ => ra9) (fun _ => rv2) (fun _ => ?_) (fun _ => ?_)
    · refine g_aload_n 0 dX1_closeTerm_248 rfl ?_
      refine g_iload_n 1 dX1_closeTerm_249 rfl ?_
      refine g_aload_n 0 dX1_closeTerm_250 rfl ?_
      refine g_get (v := vR 0) (ci := 1) (b := 30) (N := 57) 0 rfl rfl (by decide) in_X1 rfl rfl q308 dX1_closeTerm_251 ?_
      refine g_aload_n 0 dX1_closeTerm_254 rfl ?_
      refine g_get (v := vR 90) (ci := 1) (b := 30) (N := 57) 50 rfl rfl (by decide) in_X1 rfl rfl q358 dX1_closeTerm_255 ?_
      refine g_iload 5 dX1_closeTerm_258 rfl ?_
      refine g_iald (id := 80) 39 rfl rfl dX1_closeTerm_260 (fun v3 rv3 => ?_)
      refine g_iload 6 dX1_closeTerm_261 rfl ?_
      refine g_cVI (As := [vI v3, vI a9]) (n := 2) (stk := [vI a1, vR 1]) (ci := 0) (b := 0) (N := 21) (hX2_at v3 a9 u) (by decide +kernel) rfl rfl (lw_V q571 q572 q573 q164 q574) (by decide +kernel) rfl (by decide) hRf hRl (fun _ => (avc rv3 (avc ra9 avn))) (Nat.le_of_ble_eq_true rfl) rfl rfl dX1_closeTerm_263 (fun v4 s5 rv4 => ?_)
      refine g_cVZ (As := [vI a1, vI v4]) (n := 2) (stk := []) (ci := 1) (b := 30) (N := 57) (hX1_adjectiveFact a1 v4 s5) (by decide +kernel) rfl rfl (lw_V q876 q878 qs32 q163 q879) (by decide +kernel) rfl (by decide) hRf hRl (fun _ => (avc ra1 (avc rv4 avn))) (Nat.le_of_ble_eq_true rfl) rfl rfl dX1_closeTerm_266 (fun v6 s7 zv6 => ?_)
      refine g_if_eq 274 dX1_closeTerm_269 (by decide) (fun _ => (inR_z zv6)) (fun _ => ?_) (fun _ => ?_)
      · refine g_iinc 6 (loc' := fun v8 => [(9, vI v8), (0, vR 1), (1, vI a1), (2, vI a2), (3, vI a3), (4, vI a4), (5, vI a5)]) dX1_closeTerm_274 rfl (by decide) (fun _ => rfl) (fun v8 rv8 => ?_)
        refine g_goto 228 dX1_closeTerm_277 (by decide) ?_
        exact g_pick [1, 2, 3, 4, 5, 6, 0] rfl (ih a1 a2 a3 a4 a5 v8 s7 ra1 za2 ra3 ra4 ra5 rv8)
      · refine g_iconst dX1_closeTerm_272 ?_
        refine g_istore_n (loc' := [(2, vI 1), (0, vR 1), (1, vI a1), (3, vI a3), (4, vI a4), (5, vI a5), (9, vI a9)]) dX1_closeTerm_273 (by decide) rfl ?_
        refine g_iinc 6 (loc' := fun v9 => [(9, vI v9), (2, vI 1), (0, vR 1), (1, vI a1), (3, vI a3), (4, vI a4), (5, vI a5)]) dX1_closeTerm_274 rfl (by decide) (fun _ => rfl) (fun v9 rv9 => ?_)
        refine g_goto 228 dX1_closeTerm_277 (by decide) ?_
        exact g_pick [2, 3, 1, 4, 5, 6, 0] rfl (ih a1 1 a3 a4 a5 v9 s7 ra1 (Or.inr rfl) ra3 ra4 ra5 rv9)
    · exact g_pick [0, 1, 2, 3, 4, 5] rfl (hx280 a1 a2 a3 a4 a5 u ra1 za2 ra3 ra4 ra5)
theorem wX1_closeTerm_L41 (hd : 2 ≤ d) (hRf : d + 1 ≤ R.frames) (hRl : 40 * (d + 1) ≤ R.locals) (hX2_at : ∀ (a1 a2 : Int) (u : Sg), Ct l d FC clA yX2_at cX2_at 3 (some .int) DX2_at rvI [vR 0, vI a1, vI a2] u (call 98 [a1, a2] u)) (hX1_adjectiveFact : ∀ (a1 a2 : Int) (u : Sg), Ct l d FC clA yX1_adjectiveFact cX1_adjectiveFact 4 (some .boolean) DX1_adjectiveFact rvI [vR 1, vI a1, vI a2] u (call 50 [a1, a2] u)) (hX2_loci : ∀ (a1 a2 a3 a4 : Int) (u : Sg), Ct l d FC clA yX2_loci cX2_loci 5 (some .int) DX2_loci rvI [vR 0, vI a1, vI a2, vI a3, vI a4] u (call 111 [a1, a2, a3, a4] u)) (hX1_atHand : ∀ (a1 : Int) (u : Sg), Ct l d FC clA yX1_atHand cX1_atHand 3 none DX1_atHand rvV [vR 1, vI a1] u (call 45 [a1] u)) (hX1_join_2 : ∀ (a1 a2 : Int) (u : Sg), Ct l d FC clA yX1_join_2 cX1_join_2 5 (some .boolean) DX1_join_2 rvI [vR 1, vI a1, vI a2] u (call 55 [a1, a2] u)) (hX1_classFits : ∀ (a1 a2 : Int) (u : Sg), Ct l d FC clA yX1_classFits cX1_classFits 4 (some .boolean) DX1_classFits rvI [vR 1, vI a1, vI a2] u (call 61 [a1, a2] u)) (x335 : Int → Sg → Option (Int × Sg)) (x317 : Sg → Option (Int × Sg)) (hx335 : ∀ (a2 : Int) (u : Sg), (a2 = 0 ∨ a2 = 1) → WG p l e R s m args below meth c JX1_closeTerm DX1_closeTerm G clA A FC ad0 σ0 rvI (x335 a2 u) u 335 [(2, vI a2)] []) (hx317 : ∀ (u : Sg), WG p l e R s m args below meth c JX1_closeTerm DX1_closeTerm G clA A FC ad0 σ0 rvI (x317 u) u 317 [] []) : ∀ (n : Nat) (a1 a2 a3 a4 a5 : Int) (u : Sg), inR a1 → (a2 = 0 ∨ a2 = 1) → inR a3 → inR a4 → inR a5 → WG p l e R s m args below meth c JX1_closeTerm DX1_closeTerm G clA A FC ad0 σ0 rvI (bX1_closeTerm_L41 call n a1 a2 a3 a4 a5 u x335 x317) u 41 [(0, vR 1), (1, vI a1), (2, vI a2), (3, vI a3), (4, vI a4), (5, vI a5)] [] := by
  intro n
  induction n with
  | zero =>
    intro a1 a2 a3 a4 a5 u ra1 za2 ra3 ra4 ra5
    exact g_none
  | succ n ih =>
    intro a1 a2 a3 a4 a5 u ra1 za2 ra3 ra4 ra5
    rw [bX1_closeTerm_L41]
    refine g_iload 5 dX1_closeTerm_41 rfl ?_
    refine g_aload_n 0 dX1_closeTerm_43 rfl ?_
    refine g_getI (ci := 1) (b := 30) (N := 57) 51 rfl rfl rfl (by decide) in_X1 rfl rfl q359 dX1_closeTerm_44 (fun v1 rv1 => ?_)
    refine g_icmp_ge 335 dX1_closeTerm_47 (by decide) (fun _ => ra5) (fun _ => rv1) (fun _ => ?_) (fun _ => ?_)
    · refine g_aload_n 0 dX1_closeTerm_50 rfl ?_
      refine g_getZ (ci := 1) (b := 30) (N := 57) 15 rfl rfl rfl (by decide) in_X1 rfl rfl q323 dX1_closeTerm_51 (fun v2 zv2 => ?_)
      refine g_if_ne 335 dX1_closeTerm_54 (by decide) (fun _ => (inR_z zv2)) (fun _ => ?_) (fun _ => ?_)
      · refine g_aload_n 0 dX1_closeTerm_57 rfl ?_
        refine g_get (v := vR 86) (ci := 1) (b := 30) (N := 57) 46 rfl rfl (by decide) in_X1 rfl rfl q354 dX1_closeTerm_58 ?_
        refine g_iload 5 dX1_closeTerm_61 rfl ?_
        refine g_iald (id := 76) 35 rfl rfl dX1_closeTerm_63 (fun v3 rv3 => ?_)
        refine g_iconst dX1_closeTerm_64 ?_
        refine g_icmp_lt 329 dX1_closeTerm_65 (by decide) (fun _ => rv3) (fun _ => (inR_z (Or.inr rfl))) (fun _ => ?_) (fun _ => ?_)
        · refine g_iinc 5 (loc' := fun v4 => [(5, vI v4), (0, vR 1), (1, vI a1), (2, vI a2), (3, vI a3), (4, vI a4)]) dX1_closeTerm_329 rfl (by decide) (fun _ => rfl) (fun v4 rv4 => ?_)
          refine g_goto 41 dX1_closeTerm_332 (by decide) ?_
          exact g_pick [1, 2, 3, 4, 5, 0] rfl (ih a1 a2 a3 a4 v4 u ra1 za2 ra3 ra4 rv4)
        · refine g_aload_n 0 dX1_closeTerm_68 rfl ?_
          refine g_get (v := vR 87) (ci := 1) (b := 30) (N := 57) 47 rfl rfl (by decide) in_X1 rfl rfl q355 dX1_closeTerm_69 ?_
          refine g_iload 5 dX1_closeTerm_72 rfl ?_
          refine g_iald (id := 77) 36 rfl rfl dX1_closeTerm_74 (fun v5 rv5 => ?_)
          refine g_iload_n 3 dX1_closeTerm_75 rfl ?_
          refine g_icmp_eq 82 dX1_closeTerm_76 (by decide) (fun _ => rv5) (fun _ => ra3) (fun _ => ?_) (fun _ => ?_)
          · refine g_jn (fun j6 => ∀ (a1 a2 a3 a4 a5 t0 : Int) (s7 : Sg), inR a1 → (a2 = 0 ∨ a2 = 1) → inR a3 → inR a4 → inR a5 → inR t0 → WG p l e R s m args below meth c JX1_closeTerm DX1_closeTerm G clA A FC ad0 σ0 rvI (j6 a1 a2 a3 a4 a5 t0 s7) s7 100 [(0, vR 1), (1, vI a1), (2, vI a2), (3, vI a3), (4, vI a4), (5, vI a5)] [vI t0]) (fun a1 a2 a3 a4 a5 t0 s7 ra1 za2 ra3 ra4 ra5 rt0 => ?_) (fun j6 hj6 => ?_)
            · refine g_jn (fun j8 => ∀ (a1 a2 a3 a4 a5 a6 t0 : Int) (s9 : Sg), inR a1 → (a2 = 0 ∨ a2 = 1) → inR a3 → inR a4 → inR a5 → inR a6 → inR t0 → WG p l e R s m args below meth c JX1_closeTerm DX1_closeTerm G clA A FC ad0 σ0 rvI (j8 a1 a2 a3 a4 a5 a6 t0 s9) s9 121 [(0, vR 1), (1, vI a1), (2, vI a2), (3, vI a3), (4, vI a4), (5, vI a5), (6, vI a6)] [vI t0]) (fun a1 a2 a3 a4 a5 a6 t0 s9 ra1 za2 ra3 ra4 ra5 ra6 rt0 => ?_) (fun j8 hj8 => ?_)
              · refine g_jn (fun j10 => ∀ (a1 a2 a3 a4 a5 a6 a7 t0 : Int) (s11 : Sg), inR a1 → (a2 = 0 ∨ a2 = 1) → inR a3 → inR a4 → inR a5 → inR a6 → inR a7 → (t0 = 0 ∨ t0 = 1) → WG p l e R s m args below meth c JX1_closeTerm DX1_closeTerm G clA A FC ad0 σ0 rvI (j10 a1 a2 a3 a4 a5 a6 a7 t0 s11) s11 204 [(0, vR 1), (1, vI a1), (2, vI a2), (3, vI a3), (4, vI a4), (5, vI a5), (6, vI a6), (7, vI a7)] [vI t0]) (fun a1 a2 a3 a4 a5 a6 a7 t0 s11 ra1 za2 ra3 ra4 ra5 ra6 ra7 zt0 => ?_) (fun j10 hj10 => ?_)
                · refine g_istore (loc' := [(8, vI t0), (0, vR 1), (1, vI a1), (2, vI a2), (3, vI a3), (4, vI a4), (5, vI a5), (6, vI a6), (7, vI a7)]) dX1_closeTerm_204 (by decide) rfl ?_
                  refine g_iload 0 dX1_closeTerm_206 rfl ?_
                  refine g_if_ne 214 dX1_closeTerm_208 (by decide) (fun _ => (inR_z zt0)) (fun _ => ?_) (fun _ => ?_)
                  · refine g_goto 329 dX1_closeTerm_211 (by decide) ?_
                    refine g_iinc 6 (loc' := fun v12 => [(5, vI v12), (8, vI t0), (0, vR 1), (1, vI a1), (2, vI a2), (3, vI a3), (4, vI a4), (6, vI a6), (7, vI a7)]) dX1_closeTerm_329 rfl (by decide) (fun _ => rfl) (fun v12 rv12 => ?_)
                    refine g_goto 41 dX1_closeTerm_332 (by decide) ?_
                    exact g_pick [2, 3, 4, 5, 6, 0] rfl (ih a1 a2 a3 a4 v12 s11 ra1 za2 ra3 ra4 rv12)
                  · refine g_aload_n 1 dX1_closeTerm_214 rfl ?_
                    refine g_get (v := vR 86) (ci := 1) (b := 30) (N := 57) 46 rfl rfl (by decide) in_X1 rfl rfl q354 dX1_closeTerm_215 ?_
                    refine g_iload 6 dX1_closeTerm_218 rfl ?_
                    refine g_iald (id := 76) 35 rfl rfl dX1_closeTerm_220 (fun v13 rv13 => ?_)
                    refine g_iconst dX1_closeTerm_221 ?_
                    refine g_icmp_ne 283 dX1_closeTerm_222 (by decide) (fun _ => rv13) (fun _ => (inR_z (Or.inr rfl))) (fun _ => ?_) (fun _ => ?_)
                    · refine g_iconst dX1_closeTerm_225 ?_
                      refine g_istore (loc' := [(9, vI 1), (8, vI t0), (0, vR 1), (1, vI a1), (2, vI a2), (3, vI a3), (4, vI a4), (5, vI a5), (6, vI a6), (7, vI a7)]) dX1_closeTerm_226 (by decide) rfl ?_
                      refine g_pick [2, 3, 4, 5, 6, 7, 0] rfl (wX1_closeTerm_L228 hd hRf hRl hX2_at hX1_adjectiveFact hX2_loci hX1_atHand hX1_join_2 hX1_classFits _ (fun v15 v16 v17 v18 v19 s14 rv15 zv16 rv17 rv18 rv19 => ?_) KF a1 a2 a3 a4 a5 1 s11 ra1 za2 ra3 ra4 ra5 (inR_z (Or.inr rfl)))
                      · refine g_goto 329 dX1_closeTerm_280 (by decide) ?_
                        refine g_iinc 5 (loc' := fun v20 => [(5, vI v20), (0, vR 1), (1, vI v15), (2, vI v16), (3, vI v17), (4, vI v18)]) dX1_closeTerm_329 rfl (by decide) (fun _ => rfl) (fun v20 rv20 => ?_)
                        refine g_goto 41 dX1_closeTerm_332 (by decide) ?_
                        exact g_pick [1, 2, 3, 4, 5, 0] rfl (ih v15 v16 v17 v18 v20 s14 rv15 zv16 rv17 rv18 rv20)
                    · refine g_aload_n 1 dX1_closeTerm_283 rfl ?_
                      refine g_get (v := vR 0) (ci := 1) (b := 30) (N := 57) 0 rfl rfl (by decide) in_X1 rfl rfl q308 dX1_closeTerm_284 ?_
                      refine g_aload_n 1 dX1_closeTerm_287 rfl ?_
                      refine g_get (v := vR 90) (ci := 1) (b := 30) (N := 57) 50 rfl rfl (by decide) in_X1 rfl rfl q358 dX1_closeTerm_288 ?_
                      refine g_iload 6 dX1_closeTerm_291 rfl ?_
                      refine g_iald (id := 80) 39 rfl rfl dX1_closeTerm_293 (fun v21 rv21 => ?_)
                      refine g_iload 7 dX1_closeTerm_294 rfl ?_
                      refine g_iload 8 dX1_closeTerm_296 rfl ?_
                      refine g_iconst dX1_closeTerm_298 ?_
                      refine g_cVI (As := [vI v21, vI a6, vI a7, vI 0]) (n := 4) (stk := []) (ci := 0) (b := 0) (N := 21) (hX2_loci v21 a6 a7 0 s11) (by decide +kernel) rfl rfl (lw_V q864 q865 q866 q164 q867) (by decide +kernel) rfl (by decide) hRf hRl (fun _ => (avc rv21 (avc ra6 (avc ra7 (avc (inR_z (Or.inl rfl)) avn))))) (Nat.le_of_ble_eq_true rfl) rfl rfl dX1_closeTerm_299 (fun v22 s23 rv22 => ?_)
                      refine g_istore (loc' := [(9, vI v22), (8, vI t0), (0, vR 1), (1, vI a1), (2, vI a2), (3, vI a3), (4, vI a4), (5, vI a5), (6, vI a6), (7, vI a7)]) dX1_closeTerm_302 (by decide) rfl ?_
                      refine g_aload_n 2 dX1_closeTerm_304 rfl ?_
                      refine g_iload 0 dX1_closeTerm_305 rfl ?_
                      refine g_cVV (As := [vI v22]) (n := 1) (stk := []) (ci := 1) (b := 30) (N := 57) (hX1_atHand v22 s23) (by decide +kernel) rfl rfl (lw_V q852 q854 qs27 q163 q855) (by decide +kernel) rfl (by decide) hRf hRl (fun _ => (avc rv22 avn)) (Nat.le_of_ble_eq_true rfl) rfl rfl dX1_closeTerm_307 (fun v24 s25 => ?_)
                      refine g_aload_n 2 dX1_closeTerm_310 rfl ?_
                      refine g_getZ (ci := 1) (b := 30) (N := 57) 15 rfl rfl rfl (by decide) in_X1 rfl rfl q323 dX1_closeTerm_311 (fun v26 zv26 => ?_)
                      refine g_if_eq 319 dX1_closeTerm_314 (by decide) (fun _ => (inR_z zv26)) (fun _ => ?_) (fun _ => ?_)
                      · refine g_iload_n 4 dX1_closeTerm_319 rfl ?_
                        refine g_aload_n 2 dX1_closeTerm_320 rfl ?_
                        refine g_iload_n 3 dX1_closeTerm_321 rfl ?_
                        refine g_iload 0 dX1_closeTerm_322 rfl ?_
                        refine g_cVZ (As := [vI a1, vI v22]) (n := 2) (stk := [vI a2]) (ci := 1) (b := 30) (N := 57) (hX1_join_2 a1 v22 s25) (by decide +kernel) rfl rfl (lw_V q901 q903 qs37 q163 q904) (by decide +kernel) rfl (by decide) hRf hRl (fun _ => (avc ra1 (avc rv22 avn))) (Nat.le_of_ble_eq_true rfl) rfl rfl dX1_closeTerm_324 (fun v27 s28 zv27 => ?_)
                        refine g_iorZ za2 zv27 dX1_closeTerm_327 (fun v29 zv29 => ?_)
                        refine g_istore_n (loc' := [(2, vI v29), (9, vI v22), (8, vI t0), (0, vR 1), (1, vI a1), (3, vI a3), (4, vI a4), (5, vI a5), (6, vI a6), (7, vI a7)]) dX1_closeTerm_328 (by decide) rfl ?_
                        refine g_iinc 7 (loc' := fun v30 => [(5, vI v30), (2, vI v29), (9, vI v22), (8, vI t0), (0, vR 1), (1, vI a1), (3, vI a3), (4, vI a4), (6, vI a6), (7, vI a7)]) dX1_closeTerm_329 rfl (by decide) (fun _ => rfl) (fun v30 rv30 => ?_)
                        refine g_goto 41 dX1_closeTerm_332 (by decide) ?_
                        exact g_pick [4, 5, 1, 6, 7, 0] rfl (ih a1 v29 a3 a4 v30 s28 ra1 zv29 ra3 ra4 rv30)
                      · exact g_pick [] rfl (hx317 s25)
                · refine g_jn (fun j31 => ∀ (a1 a2 a3 a4 a5 a6 a7 : Int) (s32 : Sg), inR a1 → (a2 = 0 ∨ a2 = 1) → inR a3 → inR a4 → inR a5 → inR a6 → inR a7 → WG p l e R s m args below meth c JX1_closeTerm DX1_closeTerm G clA A FC ad0 σ0 rvI (j31 a1 a2 a3 a4 a5 a6 a7 s32) s32 203 [(0, vR 1), (1, vI a1), (2, vI a2), (3, vI a3), (4, vI a4), (5, vI a5), (6, vI a6), (7, vI a7)] []) (fun a1 a2 a3 a4 a5 a6 a7 s32 ra1 za2 ra3 ra4 ra5 ra6 ra7 => ?_) (fun j31 hj31 => ?_)
                  · refine g_iconst dX1_closeTerm_203 ?_
                    exact g_pick [0, 1, 2, 3, 4, 5, 6, 7] rfl (hj10 a1 a2 a3 a4 a5 a6 a7 0 s32 ra1 za2 ra3 ra4 ra5 ra6 ra7 (Or.inl rfl))
                  · refine g_jn (fun j33 => ∀ (a1 a2 a3 a4 a5 a6 a7 : Int) (s34 : Sg), inR a1 → (a2 = 0 ∨ a2 = 1) → inR a3 → inR a4 → inR a5 → inR a6 → inR a7 → WG p l e R s m args below meth c JX1_closeTerm DX1_closeTerm G clA A FC ad0 σ0 rvI (j33 a1 a2 a3 a4 a5 a6 a7 s34) s34 161 [(0, vR 1), (1, vI a1), (2, vI a2), (3, vI a3), (4, vI a4), (5, vI a5), (6, vI a6), (7, vI a7)] []) (fun a1 a2 a3 a4 a5 a6 a7 s34 ra1 za2 ra3 ra4 ra5 ra6 ra7 => ?_) (fun j33 hj33 => ?_)
                    · refine g_jn (fun j35 => ∀ (a1 a2 a3 a4 a5 a6 a7 : Int) (s36 : Sg), inR a1 → (a2 = 0 ∨ a2 = 1) → inR a3 → inR a4 → inR a5 → inR a6 → inR a7 → WG p l e R s m args below meth c JX1_closeTerm DX1_closeTerm G clA A FC ad0 σ0 rvI (j35 a1 a2 a3 a4 a5 a6 a7 s36) s36 199 [(0, vR 1), (1, vI a1), (2, vI a2), (3, vI a3), (4, vI a4), (5, vI a5), (6, vI a6), (7, vI a7)] []) (fun a1 a2 a3 a4 a5 a6 a7 s36 ra1 za2 ra3 ra4 ra5 ra6 ra7 => ?_) (fun j35 hj35 => ?_)
                      · refine g_iconst dX1_closeTerm_199 ?_
                        refine g_goto 204 dX1_closeTerm_200 (by decide) ?_
                        exact g_pick [0, 1, 2, 3, 4, 5, 6, 7] rfl (hj10 a1 a2 a3 a4 a5 a6 a7 1 s36 ra1 za2 ra3 ra4 ra5 ra6 ra7 (Or.inr rfl))
                      · refine g_aload_n 0 dX1_closeTerm_161 rfl ?_
                        refine g_get (v := vR 89) (ci := 1) (b := 30) (N := 57) 49 rfl rfl (by decide) in_X1 rfl rfl q357 dX1_closeTerm_162 ?_
                        refine g_iload 5 dX1_closeTerm_165 rfl ?_
                        refine g_iald (id := 79) 38 rfl rfl dX1_closeTerm_167 (fun v37 rv37 => ?_)
                        refine g_if_eq 199 dX1_closeTerm_168 (by decide) (fun _ => rv37) (fun _ => ?_) (fun _ => ?_)
                        · exact g_pick [0, 1, 2, 3, 4, 5, 6, 7] rfl (hj35 a1 a2 a3 a4 a5 a6 a7 s34 ra1 za2 ra3 ra4 ra5 ra6 ra7)
                        · refine g_aload_n 0 dX1_closeTerm_171 rfl ?_
                          refine g_iload 7 dX1_closeTerm_172 rfl ?_
                          refine g_aload_n 0 dX1_closeTerm_174 rfl ?_
                          refine g_get (v := vR 0) (ci := 1) (b := 30) (N := 57) 0 rfl rfl (by decide) in_X1 rfl rfl q308 dX1_closeTerm_175 ?_
                          refine g_aload_n 0 dX1_closeTerm_178 rfl ?_
                          refine g_get (v := vR 89) (ci := 1) (b := 30) (N := 57) 49 rfl rfl (by decide) in_X1 rfl rfl q357 dX1_closeTerm_179 ?_
                          refine g_iload 5 dX1_closeTerm_182 rfl ?_
                          refine g_iald (id := 79) 38 rfl rfl dX1_closeTerm_184 (fun v38 rv38 => ?_)
                          refine g_iload 6 dX1_closeTerm_185 rfl ?_
                          refine g_iload 7 dX1_closeTerm_187 rfl ?_
                          refine g_iconst dX1_closeTerm_189 ?_
                          refine g_cVI (As := [vI v38, vI a6, vI a7, vI 0]) (n := 4) (stk := [vI a7, vR 1]) (ci := 0) (b := 0) (N := 21) (hX2_loci v38 a6 a7 0 s34) (by decide +kernel) rfl rfl (lw_V q864 q865 q866 q164 q867) (by decide +kernel) rfl (by decide) hRf hRl (fun _ => (avc rv38 (avc ra6 (avc ra7 (avc (inR_z (Or.inl rfl)) avn))))) (Nat.le_of_ble_eq_true rfl) rfl rfl dX1_closeTerm_190 (fun v39 s40 rv39 => ?_)
                          refine g_cVZ (As := [vI a7, vI v39]) (n := 2) (stk := []) (ci := 1) (b := 30) (N := 57) (hX1_classFits a7 v39 s40) (by decide +kernel) rfl rfl (lw_V q926 q928 qs43 q163 q929) (by decide +kernel) rfl (by decide) hRf hRl (fun _ => (avc ra7 (avc rv39 avn))) (Nat.le_of_ble_eq_true rfl) rfl rfl dX1_closeTerm_193 (fun v41 s42 zv41 => ?_)
                          refine g_if_eq 203 dX1_closeTerm_196 (by decide) (fun _ => (inR_z zv41)) (fun _ => ?_) (fun _ => ?_)
                          · exact g_pick [0, 1, 2, 3, 4, 5, 6, 7] rfl (hj31 a1 a2 a3 a4 a5 a6 a7 s42 ra1 za2 ra3 ra4 ra5 ra6 ra7)
                          · exact g_pick [0, 1, 2, 3, 4, 5, 6, 7] rfl (hj35 a1 a2 a3 a4 a5 a6 a7 s42 ra1 za2 ra3 ra4 ra5 ra6 ra7)
                    · refine g_istore (loc' := [(7, vI t0), (0, vR 1), (1, vI a1), (2, vI a2), (3, vI a3), (4, vI a4), (5, vI a5), (6, vI a6)]) dX1_closeTerm_121 (by decide) rfl ?_
                      refine g_aload_n 1 dX1_closeTerm_123 rfl ?_
                      refine g_get (v := vR 88) (ci := 1) (b := 30) (N := 57) 48 rfl rfl (by decide) in_X1 rfl rfl q356 dX1_closeTerm_124 ?_
                      refine g_iload 6 dX1_closeTerm_127 rfl ?_
                      refine g_iald (id := 78) 37 rfl rfl dX1_closeTerm_129 (fun v43 rv43 => ?_)
                      refine g_if_eq 161 dX1_closeTerm_130 (by decide) (fun _ => rv43) (fun _ => ?_) (fun _ => ?_)
                      · exact g_pick [1, 2, 3, 4, 5, 6, 7, 0] rfl (hj33 a1 a2 a3 a4 a5 a6 t0 s9 ra1 za2 ra3 ra4 ra5 ra6 rt0)
                      · refine g_aload_n 1 dX1_closeTerm_133 rfl ?_
                        refine g_iload 7 dX1_closeTerm_134 rfl ?_
                        refine g_aload_n 1 dX1_closeTerm_136 rfl ?_
                        refine g_get (v := vR 0) (ci := 1) (b := 30) (N := 57) 0 rfl rfl (by decide) in_X1 rfl rfl q308 dX1_closeTerm_137 ?_
                        refine g_aload_n 1 dX1_closeTerm_140 rfl ?_
                        refine g_get (v := vR 88) (ci := 1) (b := 30) (N := 57) 48 rfl rfl (by decide) in_X1 rfl rfl q356 dX1_closeTerm_141 ?_
                        refine g_iload 6 dX1_closeTerm_144 rfl ?_
                        refine g_iald (id := 78) 37 rfl rfl dX1_closeTerm_146 (fun v44 rv44 => ?_)
                        refine g_iload 7 dX1_closeTerm_147 rfl ?_
                        refine g_iload 0 dX1_closeTerm_149 rfl ?_
                        refine g_iconst dX1_closeTerm_151 ?_
                        refine g_cVI (As := [vI v44, vI a6, vI t0, vI 0]) (n := 4) (stk := [vI a6, vR 1]) (ci := 0) (b := 0) (N := 21) (hX2_loci v44 a6 t0 0 s9) (by decide +kernel) rfl rfl (lw_V q864 q865 q866 q164 q867) (by decide +kernel) rfl (by decide) hRf hRl (fun _ => (avc rv44 (avc ra6 (avc rt0 (avc (inR_z (Or.inl rfl)) avn))))) (Nat.le_of_ble_eq_true rfl) rfl rfl dX1_closeTerm_152 (fun v45 s46 rv45 => ?_)
                        refine g_cVZ (As := [vI a6, vI v45]) (n := 2) (stk := []) (ci := 1) (b := 30) (N := 57) (hX1_classFits a6 v45 s46) (by decide +kernel) rfl rfl (lw_V q926 q928 qs43 q163 q929) (by decide +kernel) rfl (by decide) hRf hRl (fun _ => (avc ra6 (avc rv45 avn))) (Nat.le_of_ble_eq_true rfl) rfl rfl dX1_closeTerm_155 (fun v47 s48 zv47 => ?_)
                        refine g_if_eq 203 dX1_closeTerm_158 (by decide) (fun _ => (inR_z zv47)) (fun _ => ?_) (fun _ => ?_)
                        · exact g_pick [1, 2, 3, 4, 5, 6, 7, 0] rfl (hj31 a1 a2 a3 a4 a5 a6 t0 s48 ra1 za2 ra3 ra4 ra5 ra6 rt0)
                        · exact g_pick [1, 2, 3, 4, 5, 6, 7, 0] rfl (hj33 a1 a2 a3 a4 a5 a6 t0 s48 ra1 za2 ra3 ra4 ra5 ra6 rt0)
              · refine g_istore (loc' := [(6, vI t0), (0, vR 1), (1, vI a1), (2, vI a2), (3, vI a3), (4, vI a4), (5, vI a5)]) dX1_closeTerm_100 (by decide) rfl ?_
                refine g_iload 5 dX1_closeTerm_102 rfl ?_
                refine g_iconst dX1_closeTerm_104 ?_
                refine g_icmp_le 120 dX1_closeTerm_105 (by decide) (fun _ => ra4) (fun _ => (inR_z (Or.inr rfl))) (fun _ => ?_) (fun _ => ?_)
                · refine g_iconst dX1_closeTerm_120 ?_
                  exact g_pick [1, 2, 3, 4, 5, 6, 0] rfl (hj8 a1 a2 a3 a4 a5 t0 0 s7 ra1 za2 ra3 ra4 ra5 rt0 (inR_z (Or.inl rfl)))
                · refine g_aload_n 1 dX1_closeTerm_108 rfl ?_
                  refine g_get (v := vR 0) (ci := 1) (b := 30) (N := 57) 0 rfl rfl (by decide) in_X1 rfl rfl q308 dX1_closeTerm_109 ?_
                  refine g_iload_n 2 dX1_closeTerm_112 rfl ?_
                  refine g_iconst dX1_closeTerm_113 ?_
                  refine g_cVI (As := [vI a1, vI 1]) (n := 2) (stk := []) (ci := 0) (b := 0) (N := 21) (hX2_at a1 1 s7) (by decide +kernel) rfl rfl (lw_V q571 q572 q573 q164 q574) (by decide +kernel) rfl (by decide) hRf hRl (fun _ => (avc ra1 (avc (inR_z (Or.inr rfl)) avn))) (Nat.le_of_ble_eq_true rfl) rfl rfl dX1_closeTerm_114 (fun v49 s50 rv49 => ?_)
                  refine g_goto 121 dX1_closeTerm_117 (by decide) ?_
                  exact g_pick [1, 2, 3, 4, 5, 6, 0] rfl (hj8 a1 a2 a3 a4 a5 t0 v49 s50 ra1 za2 ra3 ra4 ra5 rt0 rv49)
            · refine g_iload 4 dX1_closeTerm_82 rfl ?_
              refine g_if_le 99 dX1_closeTerm_84 (by decide) (fun _ => ra4) (fun _ => ?_) (fun _ => ?_)
              · refine g_iconst dX1_closeTerm_99 ?_
                exact g_pick [0, 1, 2, 3, 4, 5] rfl (hj6 a1 a2 a3 a4 a5 0 u ra1 za2 ra3 ra4 ra5 (inR_z (Or.inl rfl)))
              · refine g_aload_n 0 dX1_closeTerm_87 rfl ?_
                refine g_get (v := vR 0) (ci := 1) (b := 30) (N := 57) 0 rfl rfl (by decide) in_X1 rfl rfl q308 dX1_closeTerm_88 ?_
                refine g_iload_n 1 dX1_closeTerm_91 rfl ?_
                refine g_iconst dX1_closeTerm_92 ?_
                refine g_cVI (As := [vI a1, vI 0]) (n := 2) (stk := []) (ci := 0) (b := 0) (N := 21) (hX2_at a1 0 u) (by decide +kernel) rfl rfl (lw_V q571 q572 q573 q164 q574) (by decide +kernel) rfl (by decide) hRf hRl (fun _ => (avc ra1 (avc (inR_z (Or.inl rfl)) avn))) (Nat.le_of_ble_eq_true rfl) rfl rfl dX1_closeTerm_93 (fun v51 s52 rv51 => ?_)
                refine g_goto 100 dX1_closeTerm_96 (by decide) ?_
                exact g_pick [0, 1, 2, 3, 4, 5] rfl (hj6 a1 a2 a3 a4 a5 v51 s52 ra1 za2 ra3 ra4 ra5 rv51)
          · refine g_goto 329 dX1_closeTerm_79 (by decide) ?_
            refine g_iinc 5 (loc' := fun v53 => [(5, vI v53), (0, vR 1), (1, vI a1), (2, vI a2), (3, vI a3), (4, vI a4)]) dX1_closeTerm_329 rfl (by decide) (fun _ => rfl) (fun v53 rv53 => ?_)
            refine g_goto 41 dX1_closeTerm_332 (by decide) ?_
            exact g_pick [1, 2, 3, 4, 5, 0] rfl (ih a1 a2 a3 a4 v53 u ra1 za2 ra3 ra4 rv53)
      · exact g_pick [2] rfl (hx335 a2 u za2)
    · exact g_pick [2] rfl (hx335 a2 u za2)
theorem wX1_closeTerm (hd : 2 ≤ d) (hRf : d + 1 ≤ R.frames) (hRl : 40 * (d + 1) ≤ R.locals) (hX2_at : ∀ (a1 a2 : Int) (u : Sg), Ct l d FC clA yX2_at cX2_at 3 (some .int) DX2_at rvI [vR 0, vI a1, vI a2] u (call 98 [a1, a2] u)) (hX1_adjectiveFact : ∀ (a1 a2 : Int) (u : Sg), Ct l d FC clA yX1_adjectiveFact cX1_adjectiveFact 4 (some .boolean) DX1_adjectiveFact rvI [vR 1, vI a1, vI a2] u (call 50 [a1, a2] u)) (hX2_loci : ∀ (a1 a2 a3 a4 : Int) (u : Sg), Ct l d FC clA yX2_loci cX2_loci 5 (some .int) DX2_loci rvI [vR 0, vI a1, vI a2, vI a3, vI a4] u (call 111 [a1, a2, a3, a4] u)) (hX1_atHand : ∀ (a1 : Int) (u : Sg), Ct l d FC clA yX1_atHand cX1_atHand 3 none DX1_atHand rvV [vR 1, vI a1] u (call 45 [a1] u)) (hX1_join_2 : ∀ (a1 a2 : Int) (u : Sg), Ct l d FC clA yX1_join_2 cX1_join_2 5 (some .boolean) DX1_join_2 rvI [vR 1, vI a1, vI a2] u (call 55 [a1, a2] u)) (hX1_classFits : ∀ (a1 a2 : Int) (u : Sg), Ct l d FC clA yX1_classFits cX1_classFits 4 (some .boolean) DX1_classFits rvI [vR 1, vI a1, vI a2] u (call 61 [a1, a2] u)) (a1 : Int) (u : Sg) (ra1 : inR a1) : WG p l e R s m args below meth c JX1_closeTerm DX1_closeTerm G clA A FC ad0 σ0 rvI (bX1_closeTerm call a1 u) u 0 [(0, vR 1), (1, vI a1)] [] := by
  unfold bX1_closeTerm
  refine g_aload_n 0 dX1_closeTerm_0 rfl ?_
  refine g_get (v := vR 0) (ci := 1) (b := 30) (N := 57) 0 rfl rfl (by decide) in_X1 rfl rfl q308 dX1_closeTerm_1 ?_
  refine g_get (v := vR 10) (ci := 0) (b := 0) (N := 21) 0 rfl rfl (by decide) in_X2 rfl rfl q232 dX1_closeTerm_4 ?_
  refine g_iload_n 1 dX1_closeTerm_7 rfl ?_
  refine g_iald (id := 0) 0 rfl rfl dX1_closeTerm_8 (fun v1 rv1 => ?_)
  refine g_iconst dX1_closeTerm_9 ?_
  refine g_icmp_eq 15 dX1_closeTerm_10 (by decide) (fun _ => rv1) (fun _ => (by decide : inR (4))) (fun _ => ?_) (fun _ => ?_)
  · refine g_iconst dX1_closeTerm_15 ?_
    refine g_istore_n (loc' := [(2, vI 0), (0, vR 1), (1, vI a1)]) dX1_closeTerm_16 (by decide) rfl ?_
    refine g_aload_n 1 dX1_closeTerm_17 rfl ?_
    refine g_get (v := vR 0) (ci := 1) (b := 30) (N := 57) 0 rfl rfl (by decide) in_X1 rfl rfl q308 dX1_closeTerm_18 ?_
    refine g_get (v := vR 11) (ci := 0) (b := 0) (N := 21) 1 rfl rfl (by decide) in_X2 rfl rfl q234 dX1_closeTerm_21 ?_
    refine g_iload_n 2 dX1_closeTerm_24 rfl ?_
    refine g_iald (id := 1) 1 rfl rfl dX1_closeTerm_25 (fun v2 rv2 => ?_)
    refine g_istore_n (loc' := [(3, vI v2), (2, vI 0), (0, vR 1), (1, vI a1)]) dX1_closeTerm_26 (by decide) rfl ?_
    refine g_aload_n 2 dX1_closeTerm_27 rfl ?_
    refine g_get (v := vR 0) (ci := 1) (b := 30) (N := 57) 0 rfl rfl (by decide) in_X1 rfl rfl q308 dX1_closeTerm_28 ?_
    refine g_get (v := vR 13) (ci := 0) (b := 0) (N := 21) 3 rfl rfl (by decide) in_X2 rfl rfl q237 dX1_closeTerm_31 ?_
    refine g_iload_n 3 dX1_closeTerm_34 rfl ?_
    refine g_iald (id := 3) 3 rfl rfl dX1_closeTerm_35 (fun v3 rv3 => ?_)
    refine g_istore (loc' := [(4, vI v3), (3, vI v2), (2, vI 0), (0, vR 1), (1, vI a1)]) dX1_closeTerm_36 (by decide) rfl ?_
    refine g_iconst dX1_closeTerm_38 ?_
    refine g_istore (loc' := [(5, vI 0), (4, vI v3), (3, vI v2), (2, vI 0), (0, vR 1), (1, vI a1)]) dX1_closeTerm_39 (by decide) rfl ?_
    refine g_pick [4, 5, 3, 2, 1, 0] rfl (wX1_closeTerm_L41 hd hRf hRl hX2_at hX1_adjectiveFact hX2_loci hX1_atHand hX1_join_2 hX1_classFits _ _ (fun v5 s4 zv5 => ?_) (fun s6 => ?_) KF a1 0 v2 v3 0 u ra1 (Or.inl rfl) rv2 rv3 (inR_z (Or.inl rfl)))
    · refine g_iload_n 0 dX1_closeTerm_335 rfl ?_
      exact g_zret rfl rfl (fun _ => zv5) dX1_closeTerm_336
    · refine g_iconst dX1_closeTerm_317 ?_
      exact g_zret rfl rfl (fun _ => (Or.inl rfl)) dX1_closeTerm_318
  · refine g_iconst dX1_closeTerm_13 ?_
    exact g_zret rfl rfl (fun _ => (Or.inl rfl)) dX1_closeTerm_14
end
section
variable {l : Launch} {d : Nat} {call : Nat → List Int → Sg → Option (Int × Sg)}
theorem ctX1_closeTerm (p0 : Program) (e0 : Env) (s0 : State) (m0 : MethodId) (meth0 : Method) (c0 : Code) (G0 : Gm) (hd : 2 ≤ d) (hX2_at : ∀ (a1 a2 : Int) (u : Sg), Ct l d FC clA yX2_at cX2_at 3 (some .int) DX2_at rvI [vR 0, vI a1, vI a2] u (call 98 [a1, a2] u)) (hX1_adjectiveFact : ∀ (a1 a2 : Int) (u : Sg), Ct l d FC clA yX1_adjectiveFact cX1_adjectiveFact 4 (some .boolean) DX1_adjectiveFact rvI [vR 1, vI a1, vI a2] u (call 50 [a1, a2] u)) (hX2_loci : ∀ (a1 a2 a3 a4 : Int) (u : Sg), Ct l d FC clA yX2_loci cX2_loci 5 (some .int) DX2_loci rvI [vR 0, vI a1, vI a2, vI a3, vI a4] u (call 111 [a1, a2, a3, a4] u)) (hX1_atHand : ∀ (a1 : Int) (u : Sg), Ct l d FC clA yX1_atHand cX1_atHand 3 none DX1_atHand rvV [vR 1, vI a1] u (call 45 [a1] u)) (hX1_join_2 : ∀ (a1 a2 : Int) (u : Sg), Ct l d FC clA yX1_join_2 cX1_join_2 5 (some .boolean) DX1_join_2 rvI [vR 1, vI a1, vI a2] u (call 55 [a1, a2] u)) (hX1_classFits : ∀ (a1 a2 : Int) (u : Sg), Ct l d FC clA yX1_classFits cX1_classFits 4 (some .boolean) DX1_classFits rvI [vR 1, vI a1, vI a2] u (call 61 [a1, a2] u)) (a1 : Int) (u : Sg) : Ct l (d + 1) FC clA yX1_closeTerm cX1_closeTerm 10 (some .boolean) DX1_closeTerm rvI [vR 1, vI a1] u (bX1_closeTerm call a1 u) :=
  Ct_of (by decide) (Nat.le_of_ble_eq_true rfl) (fun p e R s1 m args below meth c G A ad hA hRf hRl => wX1_closeTerm hd hRf hRl hX2_at hX1_adjectiveFact hX2_loci hX1_atHand hX1_join_2 hX1_classFits a1 u (hA _ (List.mem_cons_of_mem _ List.mem_cons_self))) p0 e0 s0 m0 meth0 c0 G0
end
/-! RoundCheck.classFits(II)Z -/
abbrev JX1_classFits : Jm := (cX1_classFits, RX1, 4, (some .boolean))
def bX1_classFits_L26 (call : Nat → List Int → Sg → Option (Int × Sg)) : Nat → Int → Int → Int → Sg → (Sg → Option (Int × Sg)) → (Sg → Option (Int × Sg)) → Option (Int × Sg)
  | 0, _, _, _, _, _, _ => none
  | n + 1, a1, a2, a3, u, x64, x56 => ld u 3 a2 fun v1 => if a3 < v1 then (cl (call 98 [a2, a3] u) fun v2 s3 => cl (call 63 [a1, v2] s3) fun v4 s5 => if v4 = 0 then (x56 s5) else (ar (a3 + 1) fun v6 => bX1_classFits_L26 call n a1 a2 v6 s5 x64 x56)) else (x64 u)
def bX1_classFits (call : Nat → List Int → Sg → Option (Int × Sg)) (a1 a2 : Int) (u : Sg) : Option (Int × Sg) := ld u 1 a2 fun v1 => cl (call 30 [a2] u) fun v2 s3 => cl (call 62 [a1, v1, v2] s3) fun v4 s5 => if v4 = 0 then (some (0, s5)) else (bX1_classFits_L26 call KF a1 a2 1 s5 (fun s6 => some (1, s6)) (fun s7 => some (0, s7)))
section
variable {p : Program} {l : Launch} {e : Env} {R : Room} {s : State} {m : MethodId} {args : Array Value} {below : List Frame} {meth : Method} {c : Code} {G : Gm} {A : Nat → Prop} {ad0 : Nat → Nat} {σ0 : Sg} {d : Nat} {call : Nat → List Int → Sg → Option (Int × Sg)}
theorem wX1_classFits_L26 (hd : 2 ≤ d) (hRf : d + 1 ≤ R.frames) (hRl : 40 * (d + 1) ≤ R.locals) (hX1_argOf : ∀ (a1 : Int) (u : Sg), Ct l d FC clA yX1_argOf cX1_argOf 2 (some .int) DX1_argOf rvI [vR 1, vI a1] u (call 30 [a1] u)) (hX1_classHasMode : ∀ (a1 a2 a3 : Int) (u : Sg), Ct l d FC clA yX1_classHasMode cX1_classHasMode 5 (some .boolean) DX1_classHasMode rvI [vR 1, vI a1, vI a2, vI a3] u (call 62 [a1, a2, a3] u)) (hX2_at : ∀ (a1 a2 : Int) (u : Sg), Ct l d FC clA yX2_at cX2_at 3 (some .int) DX2_at rvI [vR 0, vI a1, vI a2] u (call 98 [a1, a2] u)) (hX1_classHas : ∀ (a1 a2 : Int) (u : Sg), Ct l d FC clA yX1_classHas cX1_classHas 4 (some .boolean) DX1_classHas rvI [vR 1, vI a1, vI a2] u (call 63 [a1, a2] u)) (x64 : Sg → Option (Int × Sg)) (x56 : Sg → Option (Int × Sg)) (hx64 : ∀ (u : Sg), WG p l e R s m args below meth c JX1_classFits DX1_classFits G clA A FC ad0 σ0 rvI (x64 u) u 64 [] []) (hx56 : ∀ (u : Sg), WG p l e R s m args below meth c JX1_classFits DX1_classFits G clA A FC ad0 σ0 rvI (x56 u) u 56 [] []) : ∀ (n : Nat) (a1 a2 a3 : Int) (u : Sg), inR a1 → inR a2 → inR a3 → WG p l e R s m args below meth c JX1_classFits DX1_classFits G clA A FC ad0 σ0 rvI (bX1_classFits_L26 call n a1 a2 a3 u x64 x56) u 26 [(0, vR 1), (1, vI a1), (2, vI a2), (3, vI a3)] [] := by
  intro n
  induction n with
  | zero =>
    intro a1 a2 a3 u ra1 ra2 ra3
    exact g_none
  | succ n ih =>
    intro a1 a2 a3 u ra1 ra2 ra3
    rw [bX1_classFits_L26]
    refine g_iload_n 3 dX1_classFits_26 rfl ?_
    refine g_aload_n 0 dX1_classFits_27 rfl ?_
    refine g_get (v := vR 0) (ci := 1) (b := 30) (N := 57) 0 rfl rfl (by decide) in_X1 rfl rfl q308 dX1_classFits_28 ?_
    refine g_get (v := vR 13) (ci := 0) (b := 0) (N := 21) 3 rfl rfl (by decide) in_X2 rfl rfl q237 dX1_classFits_31 ?_
    refine g_iload_n 2 dX1_classFits_34 rfl ?_
    refine g_iald (id := 3) 3 rfl rfl dX1_classFits_35 (fun v1 rv1 => ?_)
    refine g_icmp_ge 64 dX1_classFits_36 (by decide) (fun _ => ra3) (fun _ => rv1) (fun _ => ?_) (fun _ => ?_)
    · refine g_aload_n 0 dX1_classFits_39 rfl ?_
      refine g_iload_n 1 dX1_classFits_40 rfl ?_
      refine g_aload_n 0 dX1_classFits_41 rfl ?_
      refine g_get (v := vR 0) (ci := 1) (b := 30) (N := 57) 0 rfl rfl (by decide) in_X1 rfl rfl q308 dX1_classFits_42 ?_
      refine g_iload_n 2 dX1_classFits_45 rfl ?_
      refine g_iload_n 3 dX1_classFits_46 rfl ?_
      refine g_cVI (As := [vI a2, vI a3]) (n := 2) (stk := [vI a1, vR 1]) (ci := 0) (b := 0) (N := 21) (hX2_at a2 a3 u) (by decide +kernel) rfl rfl (lw_V q571 q572 q573 q164 q574) (by decide +kernel) rfl (by decide) hRf hRl (fun _ => (avc ra2 (avc ra3 avn))) (Nat.le_of_ble_eq_true rfl) rfl rfl dX1_classFits_47 (fun v2 s3 rv2 => ?_)
      refine g_cVZ (As := [vI a1, vI v2]) (n := 2) (stk := []) (ci := 1) (b := 30) (N := 57) (hX1_classHas a1 v2 s3) (by decide +kernel) rfl rfl (lw_V q934 q936 qs45 q163 q937) (by decide +kernel) rfl (by decide) hRf hRl (fun _ => (avc ra1 (avc rv2 avn))) (Nat.le_of_ble_eq_true rfl) rfl rfl dX1_classFits_50 (fun v4 s5 zv4 => ?_)
      refine g_if_ne 58 dX1_classFits_53 (by decide) (fun _ => (inR_z zv4)) (fun _ => ?_) (fun _ => ?_)
      · exact g_pick [] rfl (hx56 s5)
      · refine g_iinc 3 (loc' := fun v6 => [(3, vI v6), (0, vR 1), (1, vI a1), (2, vI a2)]) dX1_classFits_58 rfl (by decide) (fun _ => rfl) (fun v6 rv6 => ?_)
        refine g_goto 26 dX1_classFits_61 (by decide) ?_
        exact g_pick [1, 2, 3, 0] rfl (ih a1 a2 v6 s5 ra1 ra2 rv6)
    · exact g_pick [] rfl (hx64 u)
theorem wX1_classFits (hd : 2 ≤ d) (hRf : d + 1 ≤ R.frames) (hRl : 40 * (d + 1) ≤ R.locals) (hX1_argOf : ∀ (a1 : Int) (u : Sg), Ct l d FC clA yX1_argOf cX1_argOf 2 (some .int) DX1_argOf rvI [vR 1, vI a1] u (call 30 [a1] u)) (hX1_classHasMode : ∀ (a1 a2 a3 : Int) (u : Sg), Ct l d FC clA yX1_classHasMode cX1_classHasMode 5 (some .boolean) DX1_classHasMode rvI [vR 1, vI a1, vI a2, vI a3] u (call 62 [a1, a2, a3] u)) (hX2_at : ∀ (a1 a2 : Int) (u : Sg), Ct l d FC clA yX2_at cX2_at 3 (some .int) DX2_at rvI [vR 0, vI a1, vI a2] u (call 98 [a1, a2] u)) (hX1_classHas : ∀ (a1 a2 : Int) (u : Sg), Ct l d FC clA yX1_classHas cX1_classHas 4 (some .boolean) DX1_classHas rvI [vR 1, vI a1, vI a2] u (call 63 [a1, a2] u)) (a1 a2 : Int) (u : Sg) (ra1 : inR a1) (ra2 : inR a2) : WG p l e R s m args below meth c JX1_classFits DX1_classFits G clA A FC ad0 σ0 rvI (bX1_classFits call a1 a2 u) u 0 [(0, vR 1), (1, vI a1), (2, vI a2)] [] := by
  unfold bX1_classFits
  refine g_aload_n 0 dX1_classFits_0 rfl ?_
  refine g_iload_n 1 dX1_classFits_1 rfl ?_
  refine g_aload_n 0 dX1_classFits_2 rfl ?_
  refine g_get (v := vR 0) (ci := 1) (b := 30) (N := 57) 0 rfl rfl (by decide) in_X1 rfl rfl q308 dX1_classFits_3 ?_
  refine g_get (v := vR 11) (ci := 0) (b := 0) (N := 21) 1 rfl rfl (by decide) in_X2 rfl rfl q234 dX1_classFits_6 ?_
  refine g_iload_n 2 dX1_classFits_9 rfl ?_
  refine g_iald (id := 1) 1 rfl rfl dX1_classFits_10 (fun v1 rv1 => ?_)
  refine g_aload_n 0 dX1_classFits_11 rfl ?_
  refine g_iload_n 2 dX1_classFits_12 rfl ?_
  refine g_cVI (As := [vI a2]) (n := 1) (stk := [vI v1, vI a1, vR 1]) (ci := 1) (b := 30) (N := 57) (hX1_argOf a2 u) (by decide +kernel) rfl rfl (lw_V q773 q775 qs16 q163 q776) (by decide +kernel) rfl (by decide) hRf hRl (fun _ => (avc ra2 avn)) (Nat.le_of_ble_eq_true rfl) rfl rfl dX1_classFits_13 (fun v2 s3 rv2 => ?_)
  refine g_cVZ (As := [vI a1, vI v1, vI v2]) (n := 3) (stk := []) (ci := 1) (b := 30) (N := 57) (hX1_classHasMode a1 v1 v2 s3) (by decide +kernel) rfl rfl (lw_V q930 q932 qs44 q163 q933) (by decide +kernel) rfl (by decide) hRf hRl (fun _ => (avc ra1 (avc rv1 (avc rv2 avn)))) (Nat.le_of_ble_eq_true rfl) rfl rfl dX1_classFits_16 (fun v4 s5 zv4 => ?_)
  refine g_if_ne 24 dX1_classFits_19 (by decide) (fun _ => (inR_z zv4)) (fun _ => ?_) (fun _ => ?_)
  · refine g_iconst dX1_classFits_22 ?_
    exact g_zret rfl rfl (fun _ => (Or.inl rfl)) dX1_classFits_23
  · refine g_iconst dX1_classFits_24 ?_
    refine g_istore_n (loc' := [(3, vI 1), (0, vR 1), (1, vI a1), (2, vI a2)]) dX1_classFits_25 (by decide) rfl ?_
    refine g_pick [1, 2, 3, 0] rfl (wX1_classFits_L26 hd hRf hRl hX1_argOf hX1_classHasMode hX2_at hX1_classHas _ _ (fun s6 => ?_) (fun s7 => ?_) KF a1 a2 1 s5 ra1 ra2 (inR_z (Or.inr rfl)))
    · refine g_iconst dX1_classFits_64 ?_
      exact g_zret rfl rfl (fun _ => (Or.inr rfl)) dX1_classFits_65
    · refine g_iconst dX1_classFits_56 ?_
      exact g_zret rfl rfl (fun _ => (Or.inl rfl)) dX1_classFits_57
end
section
variable {l : Launch} {d : Nat} {call : Nat → List Int → Sg → Option (Int × Sg)}
theorem ctX1_classFits (p0 : Program) (e0 : Env) (s0 : State) (m0 : MethodId) (meth0 : Method) (c0 : Code) (G0 : Gm) (hd : 2 ≤ d) (hX1_argOf : ∀ (a1 : Int) (u : Sg), Ct l d FC clA yX1_argOf cX1_argOf 2 (some .int) DX1_argOf rvI [vR 1, vI a1] u (call 30 [a1] u)) (hX1_classHasMode : ∀ (a1 a2 a3 : Int) (u : Sg), Ct l d FC clA yX1_classHasMode cX1_classHasMode 5 (some .boolean) DX1_classHasMode rvI [vR 1, vI a1, vI a2, vI a3] u (call 62 [a1, a2, a3] u)) (hX2_at : ∀ (a1 a2 : Int) (u : Sg), Ct l d FC clA yX2_at cX2_at 3 (some .int) DX2_at rvI [vR 0, vI a1, vI a2] u (call 98 [a1, a2] u)) (hX1_classHas : ∀ (a1 a2 : Int) (u : Sg), Ct l d FC clA yX1_classHas cX1_classHas 4 (some .boolean) DX1_classHas rvI [vR 1, vI a1, vI a2] u (call 63 [a1, a2] u)) (a1 a2 : Int) (u : Sg) : Ct l (d + 1) FC clA yX1_classFits cX1_classFits 4 (some .boolean) DX1_classFits rvI [vR 1, vI a1, vI a2] u (bX1_classFits call a1 a2 u) :=
  Ct_of (by decide) (Nat.le_of_ble_eq_true rfl) (fun p e R s1 m args below meth c G A ad hA hRf hRl => wX1_classFits hd hRf hRl hX1_argOf hX1_classHasMode hX2_at hX1_classHas a1 a2 u (hA _ (List.mem_cons_of_mem _ List.mem_cons_self)) (hA _ (List.mem_cons_of_mem _ (List.mem_cons_of_mem _ List.mem_cons_self)))) p0 e0 s0 m0 meth0 c0 G0
end
/-! RoundCheck.classHasMode(III)Z -/
abbrev JX1_classHasMode : Jm := (cX1_classHasMode, RX1, 5, (some .boolean))
def bX1_classHasMode_L3 (call : Nat → List Int → Sg → Option (Int × Sg)) : Nat → Int → Int → Int → Int → Sg → (Sg → Option (Int × Sg)) → (Sg → Option (Int × Sg)) → (Sg → Option (Int × Sg)) → Option (Int × Sg)
  | 0, _, _, _, _, _, _, _, _ => none
  | n + 1, a1, a2, a3, a4, u, x91, x55, x83 => un (gI u 51) fun v1 => if a4 < v1 then (ld u 47 a4 fun v2 => if v2 = a2 then (ld u 46 a4 fun v3 => cl (call 59 [v3, a1] u) fun v4 s5 => if v4 = 0 then (ar (a4 + 1) fun v6 => bX1_classHasMode_L3 call n a1 a2 a3 v6 s5 x91 x55 x83) else (if a3 = 0 then (ld s5 48 a4 fun v7 => if v7 = 0 then (x55 s5) else (ar (a4 + 1) fun v8 => bX1_classHasMode_L3 call n a1 a2 a3 v8 s5 x91 x55 x83)) else (ld s5 48 a4 fun v9 => if v9 = 0 then (ar (a4 + 1) fun v10 => bX1_classHasMode_L3 call n a1 a2 a3 v10 s5 x91 x55 x83) else (ld s5 48 a4 fun v11 => cl (call 59 [v11, a3] s5) fun v12 s13 => if v12 = 0 then (ar (a4 + 1) fun v14 => bX1_classHasMode_L3 call n a1 a2 a3 v14 s13 x91 x55 x83) else (x83 s13))))) else (ar (a4 + 1) fun v15 => bX1_classHasMode_L3 call n a1 a2 a3 v15 u x91 x55 x83)) else (x91 u)
def bX1_classHasMode (call : Nat → List Int → Sg → Option (Int × Sg)) (a1 a2 a3 : Int) (u : Sg) : Option (Int × Sg) := bX1_classHasMode_L3 call KF a1 a2 a3 0 u (fun s1 => some (0, s1)) (fun s2 => some (1, s2)) (fun s3 => some (1, s3))
section
variable {p : Program} {l : Launch} {e : Env} {R : Room} {s : State} {m : MethodId} {args : Array Value} {below : List Frame} {meth : Method} {c : Code} {G : Gm} {A : Nat → Prop} {ad0 : Nat → Nat} {σ0 : Sg} {d : Nat} {call : Nat → List Int → Sg → Option (Int × Sg)}
theorem wX1_classHasMode_L3 (hd : 2 ≤ d) (hRf : d + 1 ≤ R.frames) (hRl : 40 * (d + 1) ≤ R.locals) (hX1_equal : ∀ (a1 a2 : Int) (u : Sg), Ct l d FC clA yX1_equal cX1_equal 3 (some .boolean) DX1_equal rvI [vR 1, vI a1, vI a2] u (call 59 [a1, a2] u)) (x91 : Sg → Option (Int × Sg)) (x55 : Sg → Option (Int × Sg)) (x83 : Sg → Option (Int × Sg)) (hx91 : ∀ (u : Sg), WG p l e R s m args below meth c JX1_classHasMode DX1_classHasMode G clA A FC ad0 σ0 rvI (x91 u) u 91 [] []) (hx55 : ∀ (u : Sg), WG p l e R s m args below meth c JX1_classHasMode DX1_classHasMode G clA A FC ad0 σ0 rvI (x55 u) u 55 [] []) (hx83 : ∀ (u : Sg), WG p l e R s m args below meth c JX1_classHasMode DX1_classHasMode G clA A FC ad0 σ0 rvI (x83 u) u 83 [] []) : ∀ (n : Nat) (a1 a2 a3 a4 : Int) (u : Sg), inR a1 → inR a2 → inR a3 → inR a4 → WG p l e R s m args below meth c JX1_classHasMode DX1_classHasMode G clA A FC ad0 σ0 rvI (bX1_classHasMode_L3 call n a1 a2 a3 a4 u x91 x55 x83) u 3 [(0, vR 1), (1, vI a1), (2, vI a2), (3, vI a3), (4, vI a4)] [] := by
  intro n
  induction n with
  | zero =>
    intro a1 a2 a3 a4 u ra1 ra2 ra3 ra4
    exact g_none
  | succ n ih =>
    intro a1 a2 a3 a4 u ra1 ra2 ra3 ra4
    rw [bX1_classHasMode_L3]
    refine g_iload 4 dX1_classHasMode_3 rfl ?_
    refine g_aload_n 0 dX1_classHasMode_5 rfl ?_
    refine g_getI (ci := 1) (b := 30) (N := 57) 21 rfl rfl rfl (by decide) in_X1 rfl rfl q329 dX1_classHasMode_6 (fun v1 rv1 => ?_)
    refine g_icmp_ge 91 dX1_classHasMode_9 (by decide) (fun _ => ra4) (fun _ => rv1) (fun _ => ?_) (fun _ => ?_)
    · refine g_aload_n 0 dX1_classHasMode_12 rfl ?_
      refine g_get (v := vR 57) (ci := 1) (b := 30) (N := 57) 17 rfl rfl (by decide) in_X1 rfl rfl q325 dX1_classHasMode_13 ?_
      refine g_iload 4 dX1_classHasMode_16 rfl ?_
      refine g_iald (id := 47) 20 rfl rfl dX1_classHasMode_18 (fun v2 rv2 => ?_)
      refine g_iload_n 2 dX1_classHasMode_19 rfl ?_
      refine g_icmp_ne 85 dX1_classHasMode_20 (by decide) (fun _ => rv2) (fun _ => ra2) (fun _ => ?_) (fun _ => ?_)
      · refine g_aload_n 0 dX1_classHasMode_23 rfl ?_
        refine g_aload_n 0 dX1_classHasMode_24 rfl ?_
        refine g_get (v := vR 56) (ci := 1) (b := 30) (N := 57) 16 rfl rfl (by decide) in_X1 rfl rfl q324 dX1_classHasMode_25 ?_
        refine g_iload 4 dX1_classHasMode_28 rfl ?_
        refine g_iald (id := 46) 19 rfl rfl dX1_classHasMode_30 (fun v3 rv3 => ?_)
        refine g_iload_n 1 dX1_classHasMode_31 rfl ?_
        refine g_cVZ (As := [vI v3, vI a1]) (n := 2) (stk := []) (ci := 1) (b := 30) (N := 57) (hX1_equal v3 a1 u) (by decide +kernel) rfl rfl (lw_V q918 q920 qs41 q163 q921) (by decide +kernel) rfl (by decide) hRf hRl (fun _ => (avc rv3 (avc ra1 avn))) (Nat.le_of_ble_eq_true rfl) rfl rfl dX1_classHasMode_32 (fun v4 s5 zv4 => ?_)
        refine g_if_ne 41 dX1_classHasMode_35 (by decide) (fun _ => (inR_z zv4)) (fun _ => ?_) (fun _ => ?_)
        · refine g_goto 85 dX1_classHasMode_38 (by decide) ?_
          refine g_iinc 4 (loc' := fun v6 => [(4, vI v6), (0, vR 1), (1, vI a1), (2, vI a2), (3, vI a3)]) dX1_classHasMode_85 rfl (by decide) (fun _ => rfl) (fun v6 rv6 => ?_)
          refine g_goto 3 dX1_classHasMode_88 (by decide) ?_
          exact g_pick [1, 2, 3, 4, 0] rfl (ih a1 a2 a3 v6 s5 ra1 ra2 ra3 rv6)
        · refine g_iload_n 3 dX1_classHasMode_41 rfl ?_
          refine g_if_ne 58 dX1_classHasMode_42 (by decide) (fun _ => ra3) (fun _ => ?_) (fun _ => ?_)
          · refine g_aload_n 0 dX1_classHasMode_45 rfl ?_
            refine g_get (v := vR 58) (ci := 1) (b := 30) (N := 57) 18 rfl rfl (by decide) in_X1 rfl rfl q326 dX1_classHasMode_46 ?_
            refine g_iload 4 dX1_classHasMode_49 rfl ?_
            refine g_iald (id := 48) 21 rfl rfl dX1_classHasMode_51 (fun v7 rv7 => ?_)
            refine g_if_ne 85 dX1_classHasMode_52 (by decide) (fun _ => rv7) (fun _ => ?_) (fun _ => ?_)
            · exact g_pick [] rfl (hx55 s5)
            · refine g_iinc 4 (loc' := fun v8 => [(4, vI v8), (0, vR 1), (1, vI a1), (2, vI a2), (3, vI a3)]) dX1_classHasMode_85 rfl (by decide) (fun _ => rfl) (fun v8 rv8 => ?_)
              refine g_goto 3 dX1_classHasMode_88 (by decide) ?_
              exact g_pick [1, 2, 3, 4, 0] rfl (ih a1 a2 a3 v8 s5 ra1 ra2 ra3 rv8)
          · refine g_aload_n 0 dX1_classHasMode_58 rfl ?_
            refine g_get (v := vR 58) (ci := 1) (b := 30) (N := 57) 18 rfl rfl (by decide) in_X1 rfl rfl q326 dX1_classHasMode_59 ?_
            refine g_iload 4 dX1_classHasMode_62 rfl ?_
            refine g_iald (id := 48) 21 rfl rfl dX1_classHasMode_64 (fun v9 rv9 => ?_)
            refine g_if_eq 85 dX1_classHasMode_65 (by decide) (fun _ => rv9) (fun _ => ?_) (fun _ => ?_)
            · refine g_iinc 4 (loc' := fun v10 => [(4, vI v10), (0, vR 1), (1, vI a1), (2, vI a2), (3, vI a3)]) dX1_classHasMode_85 rfl (by decide) (fun _ => rfl) (fun v10 rv10 => ?_)
              refine g_goto 3 dX1_classHasMode_88 (by decide) ?_
              exact g_pick [1, 2, 3, 4, 0] rfl (ih a1 a2 a3 v10 s5 ra1 ra2 ra3 rv10)
            · refine g_aload_n 0 dX1_classHasMode_68 rfl ?_
              refine g_aload_n 0 dX1_classHasMode_69 rfl ?_
              refine g_get (v := vR 58) (ci := 1) (b := 30) (N := 57) 18 rfl rfl (by decide) in_X1 rfl rfl q326 dX1_classHasMode_70 ?_
              refine g_iload 4 dX1_classHasMode_73 rfl ?_
              refine g_iald (id := 48) 21 rfl rfl dX1_classHasMode_75 (fun v11 rv11 => ?_)
              refine g_iload_n 3 dX1_classHasMode_76 rfl ?_
              refine g_cVZ (As := [vI v11, vI a3]) (n := 2) (stk := []) (ci := 1) (b := 30) (N := 57) (hX1_equal v11 a3 s5) (by decide +kernel) rfl rfl (lw_V q918 q920 qs41 q163 q921) (by decide +kernel) rfl (by decide) hRf hRl (fun _ => (avc rv11 (avc ra3 avn))) (Nat.le_of_ble_eq_true rfl) rfl rfl dX1_classHasMode_77 (fun v12 s13 zv12 => ?_)
              refine g_if_eq 85 dX1_classHasMode_80 (by decide) (fun _ => (inR_z zv12)) (fun _ => ?_) (fun _ => ?_)
              · refine g_iinc 4 (loc' := fun v14 => [(4, vI v14), (0, vR 1), (1, vI a1), (2, vI a2), (3, vI a3)]) dX1_classHasMode_85 rfl (by decide) (fun _ => rfl) (fun v14 rv14 => ?_)
                refine g_goto 3 dX1_classHasMode_88 (by decide) ?_
                exact g_pick [1, 2, 3, 4, 0] rfl (ih a1 a2 a3 v14 s13 ra1 ra2 ra3 rv14)
              · exact g_pick [] rfl (hx83 s13)
      · refine g_iinc 4 (loc' := fun v15 => [(4, vI v15), (0, vR 1), (1, vI a1), (2, vI a2), (3, vI a3)]) dX1_classHasMode_85 rfl (by decide) (fun _ => rfl) (fun v15 rv15 => ?_)
        refine g_goto 3 dX1_classHasMode_88 (by decide) ?_
        exact g_pick [1, 2, 3, 4, 0] rfl (ih a1 a2 a3 v15 u ra1 ra2 ra3 rv15)
    · exact g_pick [] rfl (hx91 u)
theorem wX1_classHasMode (hd : 2 ≤ d) (hRf : d + 1 ≤ R.frames) (hRl : 40 * (d + 1) ≤ R.locals) (hX1_equal : ∀ (a1 a2 : Int) (u : Sg), Ct l d FC clA yX1_equal cX1_equal 3 (some .boolean) DX1_equal rvI [vR 1, vI a1, vI a2] u (call 59 [a1, a2] u)) (a1 a2 a3 : Int) (u : Sg) (ra1 : inR a1) (ra2 : inR a2) (ra3 : inR a3) : WG p l e R s m args below meth c JX1_classHasMode DX1_classHasMode G clA A FC ad0 σ0 rvI (bX1_classHasMode call a1 a2 a3 u) u 0 [(0, vR 1), (1, vI a1), (2, vI a2), (3, vI a3)] [] := by
  unfold bX1_classHasMode
  refine g_iconst dX1_classHasMode_0 ?_
  refine g_istore (loc' := [(4, vI 0), (0, vR 1), (1, vI a1), (2, vI a2), (3, vI a3)]) dX1_classHasMode_1 (by decide) rfl ?_
  refine g_pick [1, 2, 3, 4, 0] rfl (wX1_classHasMode_L3 hd hRf hRl hX1_equal _ _ _ (fun s1 => ?_) (fun s2 => ?_) (fun s3 => ?_) KF a1 a2 a3 0 u ra1 ra2 ra3 (inR_z (Or.inl rfl)))
  · refine g_iconst dX1_classHasMode_91 ?_
    exact g_zret rfl rfl (fun _ => (Or.inl rfl)) dX1_classHasMode_92
  · refine g_goto 83 dX1_classHasMode_55 (by decide) ?_
    refine g_iconst dX1_classHasMode_83 ?_
    exact g_zret rfl rfl (fun _ => (Or.inr rfl)) dX1_classHasMode_84
  · refine g_iconst dX1_classHasMode_83 ?_
    exact g_zret rfl rfl (fun _ => (Or.inr rfl)) dX1_classHasMode_84
end
section
variable {l : Launch} {d : Nat} {call : Nat → List Int → Sg → Option (Int × Sg)}
theorem ctX1_classHasMode (p0 : Program) (e0 : Env) (s0 : State) (m0 : MethodId) (meth0 : Method) (c0 : Code) (G0 : Gm) (hd : 2 ≤ d) (hX1_equal : ∀ (a1 a2 : Int) (u : Sg), Ct l d FC clA yX1_equal cX1_equal 3 (some .boolean) DX1_equal rvI [vR 1, vI a1, vI a2] u (call 59 [a1, a2] u)) (a1 a2 a3 : Int) (u : Sg) : Ct l (d + 1) FC clA yX1_classHasMode cX1_classHasMode 5 (some .boolean) DX1_classHasMode rvI [vR 1, vI a1, vI a2, vI a3] u (bX1_classHasMode call a1 a2 a3 u) :=
  Ct_of (by decide) (Nat.le_of_ble_eq_true rfl) (fun p e R s1 m args below meth c G A ad hA hRf hRl => wX1_classHasMode hd hRf hRl hX1_equal a1 a2 a3 u (hA _ (List.mem_cons_of_mem _ List.mem_cons_self)) (hA _ (List.mem_cons_of_mem _ (List.mem_cons_of_mem _ List.mem_cons_self))) (hA _ (List.mem_cons_of_mem _ (List.mem_cons_of_mem _ (List.mem_cons_of_mem _ List.mem_cons_self))))) p0 e0 s0 m0 meth0 c0 G0
end
/-! RoundCheck.classHas(II)Z -/
abbrev JX1_classHas : Jm := (cX1_classHas, RX1, 4, (some .boolean))
def bX1_classHas_L2 (call : Nat → List Int → Sg → Option (Int × Sg)) : Nat → Int → Int → Int → Sg → (Sg → Option (Int × Sg)) → (Sg → Option (Int × Sg)) → Option (Int × Sg)
  | 0, _, _, _, _, _, _ => none
  | n + 1, a1, a2, a3, u, x42, x34 => un (gI u 52) fun v1 => if a3 < v1 then (ld u 50 a3 fun v2 => if v2 = a2 then (ld u 49 a3 fun v3 => cl (call 59 [v3, a1] u) fun v4 s5 => if v4 = 0 then (ar (a3 + 1) fun v6 => bX1_classHas_L2 call n a1 a2 v6 s5 x42 x34) else (x34 s5)) else (ar (a3 + 1) fun v7 => bX1_classHas_L2 call n a1 a2 v7 u x42 x34)) else (x42 u)
def bX1_classHas (call : Nat → List Int → Sg → Option (Int × Sg)) (a1 a2 : Int) (u : Sg) : Option (Int × Sg) := bX1_classHas_L2 call KF a1 a2 0 u (fun s1 => some (0, s1)) (fun s2 => some (1, s2))
section
variable {p : Program} {l : Launch} {e : Env} {R : Room} {s : State} {m : MethodId} {args : Array Value} {below : List Frame} {meth : Method} {c : Code} {G : Gm} {A : Nat → Prop} {ad0 : Nat → Nat} {σ0 : Sg} {d : Nat} {call : Nat → List Int → Sg → Option (Int × Sg)}
theorem wX1_classHas_L2 (hd : 2 ≤ d) (hRf : d + 1 ≤ R.frames) (hRl : 40 * (d + 1) ≤ R.locals) (hX1_equal : ∀ (a1 a2 : Int) (u : Sg), Ct l d FC clA yX1_equal cX1_equal 3 (some .boolean) DX1_equal rvI [vR 1, vI a1, vI a2] u (call 59 [a1, a2] u)) (x42 : Sg → Option (Int × Sg)) (x34 : Sg → Option (Int × Sg)) (hx42 : ∀ (u : Sg), WG p l e R s m args below meth c JX1_classHas DX1_classHas G clA A FC ad0 σ0 rvI (x42 u) u 42 [] []) (hx34 : ∀ (u : Sg), WG p l e R s m args below meth c JX1_classHas DX1_classHas G clA A FC ad0 σ0 rvI (x34 u) u 34 [] []) : ∀ (n : Nat) (a1 a2 a3 : Int) (u : Sg), inR a1 → inR a2 → inR a3 → WG p l e R s m args below meth c JX1_classHas DX1_classHas G clA A FC ad0 σ0 rvI (bX1_classHas_L2 call n a1 a2 a3 u x42 x34) u 2 [(0, vR 1), (1, vI a1), (2, vI a2), (3, vI a3)] [] := by
  intro n
  induction n with
  | zero =>
    intro a1 a2 a3 u ra1 ra2 ra3
    exact g_none
  | succ n ih =>
    intro a1 a2 a3 u ra1 ra2 ra3
    rw [bX1_classHas_L2]
    refine g_iload_n 3 dX1_classHas_2 rfl ?_
    refine g_aload_n 0 dX1_classHas_3 rfl ?_
    refine g_getI (ci := 1) (b := 30) (N := 57) 22 rfl rfl rfl (by decide) in_X1 rfl rfl q330 dX1_classHas_4 (fun v1 rv1 => ?_)
    refine g_icmp_ge 42 dX1_classHas_7 (by decide) (fun _ => ra3) (fun _ => rv1) (fun _ => ?_) (fun _ => ?_)
    · refine g_aload_n 0 dX1_classHas_10 rfl ?_
      refine g_get (v := vR 60) (ci := 1) (b := 30) (N := 57) 20 rfl rfl (by decide) in_X1 rfl rfl q328 dX1_classHas_11 ?_
      refine g_iload_n 3 dX1_classHas_14 rfl ?_
      refine g_iald (id := 50) 23 rfl rfl dX1_classHas_15 (fun v2 rv2 => ?_)
      refine g_iload_n 2 dX1_classHas_16 rfl ?_
      refine g_icmp_ne 36 dX1_classHas_17 (by decide) (fun _ => rv2) (fun _ => ra2) (fun _ => ?_) (fun _ => ?_)
      · refine g_aload_n 0 dX1_classHas_20 rfl ?_
        refine g_aload_n 0 dX1_classHas_21 rfl ?_
        refine g_get (v := vR 59) (ci := 1) (b := 30) (N := 57) 19 rfl rfl (by decide) in_X1 rfl rfl q327 dX1_classHas_22 ?_
        refine g_iload_n 3 dX1_classHas_25 rfl ?_
        refine g_iald (id := 49) 22 rfl rfl dX1_classHas_26 (fun v3 rv3 => ?_)
        refine g_iload_n 1 dX1_classHas_27 rfl ?_
        refine g_cVZ (As := [vI v3, vI a1]) (n := 2) (stk := []) (ci := 1) (b := 30) (N := 57) (hX1_equal v3 a1 u) (by decide +kernel) rfl rfl (lw_V q918 q920 qs41 q163 q921) (by decide +kernel) rfl (by decide) hRf hRl (fun _ => (avc rv3 (avc ra1 avn))) (Nat.le_of_ble_eq_true rfl) rfl rfl dX1_classHas_28 (fun v4 s5 zv4 => ?_)
        refine g_if_eq 36 dX1_classHas_31 (by decide) (fun _ => (inR_z zv4)) (fun _ => ?_) (fun _ => ?_)
        · refine g_iinc 3 (loc' := fun v6 => [(3, vI v6), (0, vR 1), (1, vI a1), (2, vI a2)]) dX1_classHas_36 rfl (by decide) (fun _ => rfl) (fun v6 rv6 => ?_)
          refine g_goto 2 dX1_classHas_39 (by decide) ?_
          exact g_pick [1, 2, 3, 0] rfl (ih a1 a2 v6 s5 ra1 ra2 rv6)
        · exact g_pick [] rfl (hx34 s5)
      · refine g_iinc 3 (loc' := fun v7 => [(3, vI v7), (0, vR 1), (1, vI a1), (2, vI a2)]) dX1_classHas_36 rfl (by decide) (fun _ => rfl) (fun v7 rv7 => ?_)
        refine g_goto 2 dX1_classHas_39 (by decide) ?_
        exact g_pick [1, 2, 3, 0] rfl (ih a1 a2 v7 u ra1 ra2 rv7)
    · exact g_pick [] rfl (hx42 u)
theorem wX1_classHas (hd : 2 ≤ d) (hRf : d + 1 ≤ R.frames) (hRl : 40 * (d + 1) ≤ R.locals) (hX1_equal : ∀ (a1 a2 : Int) (u : Sg), Ct l d FC clA yX1_equal cX1_equal 3 (some .boolean) DX1_equal rvI [vR 1, vI a1, vI a2] u (call 59 [a1, a2] u)) (a1 a2 : Int) (u : Sg) (ra1 : inR a1) (ra2 : inR a2) : WG p l e R s m args below meth c JX1_classHas DX1_classHas G clA A FC ad0 σ0 rvI (bX1_classHas call a1 a2 u) u 0 [(0, vR 1), (1, vI a1), (2, vI a2)] [] := by
  unfold bX1_classHas
  refine g_iconst dX1_classHas_0 ?_
  refine g_istore_n (loc' := [(3, vI 0), (0, vR 1), (1, vI a1), (2, vI a2)]) dX1_classHas_1 (by decide) rfl ?_
  refine g_pick [1, 2, 3, 0] rfl (wX1_classHas_L2 hd hRf hRl hX1_equal _ _ (fun s1 => ?_) (fun s2 => ?_) KF a1 a2 0 u ra1 ra2 (inR_z (Or.inl rfl)))
  · refine g_iconst dX1_classHas_42 ?_
    exact g_zret rfl rfl (fun _ => (Or.inl rfl)) dX1_classHas_43
  · refine g_iconst dX1_classHas_34 ?_
    exact g_zret rfl rfl (fun _ => (Or.inr rfl)) dX1_classHas_35
end
section
variable {l : Launch} {d : Nat} {call : Nat → List Int → Sg → Option (Int × Sg)}
theorem ctX1_classHas (p0 : Program) (e0 : Env) (s0 : State) (m0 : MethodId) (meth0 : Method) (c0 : Code) (G0 : Gm) (hd : 2 ≤ d) (hX1_equal : ∀ (a1 a2 : Int) (u : Sg), Ct l d FC clA yX1_equal cX1_equal 3 (some .boolean) DX1_equal rvI [vR 1, vI a1, vI a2] u (call 59 [a1, a2] u)) (a1 a2 : Int) (u : Sg) : Ct l (d + 1) FC clA yX1_classHas cX1_classHas 4 (some .boolean) DX1_classHas rvI [vR 1, vI a1, vI a2] u (bX1_classHas call a1 a2 u) :=
  Ct_of (by decide) (Nat.le_of_ble_eq_true rfl) (fun p e R s1 m args below meth c G A ad hA hRf hRl => wX1_classHas hd hRf hRl hX1_equal a1 a2 u (hA _ (List.mem_cons_of_mem _ List.mem_cons_self)) (hA _ (List.mem_cons_of_mem _ (List.mem_cons_of_mem _ List.mem_cons_self)))) p0 e0 s0 m0 meth0 c0 G0
end
/-! RoundCheck.closeClasses(I)Z -/
abbrev JX1_closeClasses : Jm := (cX1_closeClasses, RX1, 8, (some .boolean))
def bX1_closeClasses_L36 (call : Nat → List Int → Sg → Option (Int × Sg)) : Nat → Int → Int → Int → Int → Int → Int → Int → Sg → (Int → Int → Int → Int → Int → Int → Sg → Option (Int × Sg)) → Option (Int × Sg)
  | 0, _, _, _, _, _, _, _, _, _ => none
  | n + 1, a1, a2, a3, a4, a5, a6, a7, u, x175 => un (gI u 51) fun v1 => if a7 < v1 then (if a6 = 0 then (ld u 47 a7 fun v2 => ld u 1 a3 fun v3 => if v2 = v3 then (ld u 46 a7 fun v4 => cl (call 59 [v4, a5] u) fun v5 s6 => if v5 = 0 then (ar (a7 + 1) fun v7 => bX1_closeClasses_L36 call n a1 a2 a3 a4 a5 a6 v7 s6 x175) else (jn (fun (a1 a2 a3 a4 a5 a7 t0 : Int) (s9 : Sg) => ar (a7 + 1) fun v10 => bX1_closeClasses_L36 call n a1 a2 a3 a4 a5 t0 v10 s9 x175) fun j8 => cl (call 30 [a3] s6) fun v11 s12 => if v11 = 0 then (ld s12 48 a7 fun v13 => if v13 = 0 then (j8 a1 a2 a3 a4 a5 a7 1 s12) else (j8 a1 a2 a3 a4 a5 a7 0 s12)) else (jn (fun (a1 a2 a3 a4 a5 a7 : Int) (s15 : Sg) => j8 a1 a2 a3 a4 a5 a7 0 s15) fun j14 => ld s12 48 a7 fun v16 => if v16 = 0 then (j14 a1 a2 a3 a4 a5 a7 s12) else (ld s12 48 a7 fun v17 => ld s12 78 a1 fun v18 => ld s12 1 v18 fun v19 => ld s12 78 a1 fun v20 => cl (call 30 [v20] s12) fun v21 s22 => cl (call 62 [v17, v19, v21] s22) fun v23 s24 => if v23 = 0 then (j14 a1 a2 a3 a4 a5 a7 s24) else (j8 a1 a2 a3 a4 a5 a7 1 s24))))) else (ar (a7 + 1) fun v25 => bX1_closeClasses_L36 call n a1 a2 a3 a4 a5 a6 v25 u x175)) else (x175 a1 a2 a3 a4 a5 a6 u)) else (x175 a1 a2 a3 a4 a5 a6 u)
def bX1_closeClasses_L178 (call : Nat → List Int → Sg → Option (Int × Sg)) : Nat → Int → Int → Int → Int → Int → Int → Int → Sg → (Int → Int → Int → Int → Int → Int → Sg → Option (Int × Sg)) → Option (Int × Sg)
  | 0, _, _, _, _, _, _, _, _, _ => none
  | n + 1, a1, a2, a3, a4, a5, a6, a7, u, x221 => ld u 3 a3 fun v1 => if a7 < v1 then (if a6 = 0 then (x221 a1 a2 a3 a4 a5 a6 u) else (cl (call 98 [a3, a7] u) fun v2 s3 => cl (call 63 [a5, v2] s3) fun v4 s5 => ar (a7 + 1) fun v6 => bX1_closeClasses_L178 call n a1 a2 a3 a4 a5 v4 v6 s5 x221)) else (x221 a1 a2 a3 a4 a5 a6 u)
def bX1_closeClasses_L224 (call : Nat → List Int → Sg → Option (Int × Sg)) : Nat → Int → Int → Int → Int → Int → Int → Int → Sg → (Int → Int → Int → Int → Sg → Option (Int × Sg)) → Option (Int × Sg)
  | 0, _, _, _, _, _, _, _, _, _ => none
  | n + 1, a1, a2, a3, a4, a5, a6, a7, u, x304 => if a6 = 0 then (x304 a1 a2 a3 a4 u) else (ld u 80 a1 fun v1 => ld u 3 v1 fun v2 => if a7 < v2 then (ld u 80 a1 fun v3 => cl (call 98 [v3, a7] u) fun v4 s5 => cl (call 63 [a5, v4] s5) fun v6 s7 => if v6 = 0 then (ld s7 80 a1 fun v8 => cl (call 98 [v8, a7] s7) fun v9 s10 => cl (call 50 [a5, v9] s10) fun v11 s12 => if v11 = 0 then (ar (a7 + 1) fun v13 => bX1_closeClasses_L224 call n a1 a2 a3 a4 a5 a6 v13 s12 x304) else (ar (a7 + 1) fun v14 => bX1_closeClasses_L224 call n a1 1 a3 a4 a5 a6 v14 s12 x304)) else (ar (a7 + 1) fun v15 => bX1_closeClasses_L224 call n a1 a2 a3 a4 a5 a6 v15 s7 x304)) else (x304 a1 a2 a3 a4 u))
def bX1_closeClasses_L12 (call : Nat → List Int → Sg → Option (Int × Sg)) : Nat → Int → Int → Int → Int → Sg → (Int → Sg → Option (Int × Sg)) → Option (Int × Sg)
  | 0, _, _, _, _, _, _ => none
  | n + 1, a1, a2, a3, a4, u, x310 => un (gI u 43) fun v1 => if a4 < v1 then (ld u 40 a4 fun v2 => bX1_closeClasses_L36 call KF a1 a2 a3 a4 v2 0 0 u (fun v4 v5 v6 v7 v8 v9 s3 => bX1_closeClasses_L178 call KF v4 v5 v6 v7 v8 v9 1 s3 (fun v11 v12 v13 v14 v15 v16 s10 => bX1_closeClasses_L224 call KF v11 v12 v13 v14 v15 v16 1 s10 (fun v18 v19 v20 v21 s17 => ar (v21 + 1) fun v22 => bX1_closeClasses_L12 call n v18 v19 v20 v22 s17 x310)))) else (x310 a2 u)
def bX1_closeClasses (call : Nat → List Int → Sg → Option (Int × Sg)) (a1 : Int) (u : Sg) : Option (Int × Sg) := ld u 77 a1 fun v1 => bX1_closeClasses_L12 call KF a1 0 v1 0 u (fun v3 s2 => some (v3, s2))
section
variable {p : Program} {l : Launch} {e : Env} {R : Room} {s : State} {m : MethodId} {args : Array Value} {below : List Frame} {meth : Method} {c : Code} {G : Gm} {A : Nat → Prop} {ad0 : Nat → Nat} {σ0 : Sg} {d : Nat} {call : Nat → List Int → Sg → Option (Int × Sg)}
theorem wX1_closeClasses_L36 (hd : 2 ≤ d) (hRf : d + 1 ≤ R.frames) (hRl : 40 * (d + 1) ≤ R.locals) (hX1_equal : ∀ (a1 a2 : Int) (u : Sg), Ct l d FC clA yX1_equal cX1_equal 3 (some .boolean) DX1_equal rvI [vR 1, vI a1, vI a2] u (call 59 [a1, a2] u)) (hX1_argOf : ∀ (a1 : Int) (u : Sg), Ct l d FC clA yX1_argOf cX1_argOf 2 (some .int) DX1_argOf rvI [vR 1, vI a1] u (call 30 [a1] u)) (hX1_classHasMode : ∀ (a1 a2 a3 : Int) (u : Sg), Ct l d FC clA yX1_classHasMode cX1_classHasMode 5 (some .boolean) DX1_classHasMode rvI [vR 1, vI a1, vI a2, vI a3] u (call 62 [a1, a2, a3] u)) (hX2_at : ∀ (a1 a2 : Int) (u : Sg), Ct l d FC clA yX2_at cX2_at 3 (some .int) DX2_at rvI [vR 0, vI a1, vI a2] u (call 98 [a1, a2] u)) (hX1_classHas : ∀ (a1 a2 : Int) (u : Sg), Ct l d FC clA yX1_classHas cX1_classHas 4 (some .boolean) DX1_classHas rvI [vR 1, vI a1, vI a2] u (call 63 [a1, a2] u)) (hX1_adjectiveFact : ∀ (a1 a2 : Int) (u : Sg), Ct l d FC clA yX1_adjectiveFact cX1_adjectiveFact 4 (some .boolean) DX1_adjectiveFact rvI [vR 1, vI a1, vI a2] u (call 50 [a1, a2] u)) (x175 : Int → Int → Int → Int → Int → Int → Sg → Option (Int × Sg)) (hx175 : ∀ (a1 a2 a3 a4 a5 a6 : Int) (u : Sg), inR a1 → (a2 = 0 ∨ a2 = 1) → inR a3 → inR a4 → inR a5 → (a6 = 0 ∨ a6 = 1) → WG p l e R s m args below meth c JX1_closeClasses DX1_closeClasses G clA A FC ad0 σ0 rvI (x175 a1 a2 a3 a4 a5 a6 u) u 175 [(0, vR 1), (1, vI a1), (2, vI a2), (3, vI a3), (4, vI a4), (5, vI a5), (6, vI a6)] []) : ∀ (n : Nat) (a1 a2 a3 a4 a5 a6 a7 : Int) (u : Sg), inR a1 → (a2 = 0 ∨ a2 = 1) → inR a3 → inR a4 → inR a5 → (a6 = 0 ∨ a6 = 1) → inR a7 → WG p l e R s m args below meth c JX1_closeClasses DX1_closeClasses G clA A FC ad0 σ0 rvI (bX1_closeClasses_L36 call n a1 a2 a3 a4 a5 a6 a7 u x175) u 36 [(0, vR 1), (1, vI a1), (2, vI a2), (3, vI a3), (4, vI a4), (5, vI a5), (6, vI a6), (7, vI a7)] [] := by
  intro n
  induction n with
  | zero =>
    intro a1 a2 a3 a4 a5 a6 a7 u ra1 za2 ra3 ra4 ra5 za6 ra7
    exact g_none
  | succ n ih =>
    intro a1 a2 a3 a4 a5 a6 a7 u ra1 za2 ra3 ra4 ra5 za6 ra7
    rw [bX1_closeClasses_L36]
    refine g_iload 7 dX1_closeClasses_36 rfl ?_
    refine g_aload_n 0 dX1_closeClasses_38 rfl ?_
    refine g_getI (ci := 1) (b := 30) (N := 57) 21 rfl rfl rfl (by decide) in_X1 rfl rfl q329 dX1_closeClasses_39 (fun v1 rv1 => ?_)
    refine g_icmp_ge 175 dX1_closeClasses_42 (by decide) (fun _ => ra7) (fun _ => rv1) (fun _ => ?_) (fun _ => ?_)
    · refine g_iload 6 dX1_closeClasses_45 rfl ?_
      refine g_if_ne 175 dX1_closeClasses_47 (by decide) (fun _ => (inR_z za6)) (fun _ => ?_) (fun _ => ?_)
      · refine g_aload_n 0 dX1_closeClasses_50 rfl ?_
        refine g_get (v := vR 57) (ci := 1) (b := 30) (N := 57) 17 rfl rfl (by decide) in_X1 rfl rfl q325 dX1_closeClasses_51 ?_
        refine g_iload 7 dX1_closeClasses_54 rfl ?_
        refine g_iald (id := 47) 20 rfl rfl dX1_closeClasses_56 (fun v2 rv2 => ?_)
        refine g_aload_n 0 dX1_closeClasses_57 rfl ?_
        refine g_get (v := vR 0) (ci := 1) (b := 30) (N := 57) 0 rfl rfl (by decide) in_X1 rfl rfl q308 dX1_closeClasses_58 ?_
        refine g_get (v := vR 11) (ci := 0) (b := 0) (N := 21) 1 rfl rfl (by decide) in_X2 rfl rfl q234 dX1_closeClasses_61 ?_
        refine g_iload_n 3 dX1_closeClasses_64 rfl ?_
        refine g_iald (id := 1) 1 rfl rfl dX1_closeClasses_65 (fun v3 rv3 => ?_)
        refine g_icmp_ne 169 dX1_closeClasses_66 (by decide) (fun _ => rv2) (fun _ => rv3) (fun _ => ?_) (fun _ => ?_)
        · refine g_aload_n 0 dX1_closeClasses_69 rfl ?_
          refine g_aload_n 0 dX1_closeClasses_70 rfl ?_
          refine g_get (v := vR 56) (ci := 1) (b := 30) (N := 57) 16 rfl rfl (by decide) in_X1 rfl rfl q324 dX1_closeClasses_71 ?_
          refine g_iload 7 dX1_closeClasses_74 rfl ?_
          refine g_iald (id := 46) 19 rfl rfl dX1_closeClasses_76 (fun v4 rv4 => ?_)
          refine g_iload 5 dX1_closeClasses_77 rfl ?_
          refine g_cVZ (As := [vI v4, vI a5]) (n := 2) (stk := []) (ci := 1) (b := 30) (N := 57) (hX1_equal v4 a5 u) (by decide +kernel) rfl rfl (lw_V q918 q920 qs41 q163 q921) (by decide +kernel) rfl (by decide) hRf hRl (fun _ => (avc rv4 (avc ra5 avn))) (Nat.le_of_ble_eq_true rfl) rfl rfl dX1_closeClasses_79 (fun v5 s6 zv5 => ?_)
          refine g_if_ne 88 dX1_closeClasses_82 (by decide) (fun _ => (inR_z zv5)) (fun _ => ?_) (fun _ => ?_)
          · refine g_goto 169 dX1_closeClasses_85 (by decide) ?_
            refine g_iinc 7 (loc' := fun v7 => [(7, vI v7), (0, vR 1), (1, vI a1), (2, vI a2), (3, vI a3), (4, vI a4), (5, vI a5), (6, vI a6)]) dX1_closeClasses_169 rfl (by decide) (fun _ => rfl) (fun v7 rv7 => ?_)
            refine g_goto 36 dX1_closeClasses_172 (by decide) ?_
            exact g_pick [1, 2, 3, 4, 5, 6, 7, 0] rfl (ih a1 a2 a3 a4 a5 a6 v7 s6 ra1 za2 ra3 ra4 ra5 za6 rv7)
          · refine g_jn (fun j8 => ∀ (a1 a2 a3 a4 a5 a7 t0 : Int) (s9 : Sg), inR a1 → (a2 = 0 ∨ a2 = 1) → inR a3 → inR a4 → inR a5 → inR a7 → (t0 = 0 ∨ t0 = 1) → WG p l e R s m args below meth c JX1_closeClasses DX1_closeClasses G clA A FC ad0 σ0 rvI (j8 a1 a2 a3 a4 a5 a7 t0 s9) s9 167 [(0, vR 1), (1, vI a1), (2, vI a2), (3, vI a3), (4, vI a4), (5, vI a5), (7, vI a7)] [vI t0]) (fun a1 a2 a3 a4 a5 a7 t0 s9 ra1 za2 ra3 ra4 ra5 ra7 zt0 => ?_) (fun j8 hj8 => ?_)
            · refine g_istore (loc' := [(6, vI t0), (0, vR 1), (1, vI a1), (2, vI a2), (3, vI a3), (4, vI a4), (5, vI a5), (7, vI a7)]) dX1_closeClasses_167 (by decide) rfl ?_
              refine g_iinc 7 (loc' := fun v10 => [(7, vI v10), (6, vI t0), (0, vR 1), (1, vI a1), (2, vI a2), (3, vI a3), (4, vI a4), (5, vI a5)]) dX1_closeClasses_169 rfl (by decide) (fun _ => rfl) (fun v10 rv10 => ?_)
              refine g_goto 36 dX1_closeClasses_172 (by decide) ?_
              exact g_pick [2, 3, 4, 5, 6, 7, 1, 0] rfl (ih a1 a2 a3 a4 a5 t0 v10 s9 ra1 za2 ra3 ra4 ra5 zt0 rv10)
            · refine g_aload_n 0 dX1_closeClasses_88 rfl ?_
              refine g_iload_n 3 dX1_closeClasses_89 rfl ?_
              refine g_cVI (As := [vI a3]) (n := 1) (stk := []) (ci := 1) (b := 30) (N := 57) (hX1_argOf a3 s6) (by decide +kernel) rfl rfl (lw_V q773 q775 qs16 q163 q776) (by decide +kernel) rfl (by decide) hRf hRl (fun _ => (avc ra3 avn)) (Nat.le_of_ble_eq_true rfl) rfl rfl dX1_closeClasses_90 (fun v11 s12 rv11 => ?_)
              refine g_if_ne 114 dX1_closeClasses_93 (by decide) (fun _ => rv11) (fun _ => ?_) (fun _ => ?_)
              · refine g_aload_n 0 dX1_closeClasses_96 rfl ?_
                refine g_get (v := vR 58) (ci := 1) (b := 30) (N := 57) 18 rfl rfl (by decide) in_X1 rfl rfl q326 dX1_closeClasses_97 ?_
                refine g_iload 7 dX1_closeClasses_100 rfl ?_
                refine g_iald (id := 48) 21 rfl rfl dX1_closeClasses_102 (fun v13 rv13 => ?_)
                refine g_if_ne 110 dX1_closeClasses_103 (by decide) (fun _ => rv13) (fun _ => ?_) (fun _ => ?_)
                · refine g_iconst dX1_closeClasses_106 ?_
                  refine g_goto 167 dX1_closeClasses_107 (by decide) ?_
                  exact g_pick [0, 1, 2, 3, 4, 5, 7] rfl (hj8 a1 a2 a3 a4 a5 a7 1 s12 ra1 za2 ra3 ra4 ra5 ra7 (Or.inr rfl))
                · refine g_iconst dX1_closeClasses_110 ?_
                  refine g_goto 167 dX1_closeClasses_111 (by decide) ?_
                  exact g_pick [0, 1, 2, 3, 4, 5, 7] rfl (hj8 a1 a2 a3 a4 a5 a7 0 s12 ra1 za2 ra3 ra4 ra5 ra7 (Or.inl rfl))
              · refine g_jn (fun j14 => ∀ (a1 a2 a3 a4 a5 a7 : Int) (s15 : Sg), inR a1 → (a2 = 0 ∨ a2 = 1) → inR a3 → inR a4 → inR a5 → inR a7 → WG p l e R s m args below meth c JX1_closeClasses DX1_closeClasses G clA A FC ad0 σ0 rvI (j14 a1 a2 a3 a4 a5 a7 s15) s15 166 [(0, vR 1), (1, vI a1), (2, vI a2), (3, vI a3), (4, vI a4), (5, vI a5), (7, vI a7)] []) (fun a1 a2 a3 a4 a5 a7 s15 ra1 za2 ra3 ra4 ra5 ra7 => ?_) (fun j14 hj14 => ?_)
                · refine g_iconst dX1_closeClasses_166 ?_
                  exact g_pick [0, 1, 2, 3, 4, 5, 6] rfl (hj8 a1 a2 a3 a4 a5 a7 0 s15 ra1 za2 ra3 ra4 ra5 ra7 (Or.inl rfl))
                · refine g_aload_n 0 dX1_closeClasses_114 rfl ?_
                  refine g_get (v := vR 58) (ci := 1) (b := 30) (N := 57) 18 rfl rfl (by decide) in_X1 rfl rfl q326 dX1_closeClasses_115 ?_
                  refine g_iload 7 dX1_closeClasses_118 rfl ?_
                  refine g_iald (id := 48) 21 rfl rfl dX1_closeClasses_120 (fun v16 rv16 => ?_)
                  refine g_if_eq 166 dX1_closeClasses_121 (by decide) (fun _ => rv16) (fun _ => ?_) (fun _ => ?_)
                  · exact g_pick [0, 1, 2, 3, 4, 5, 7] rfl (hj14 a1 a2 a3 a4 a5 a7 s12 ra1 za2 ra3 ra4 ra5 ra7)
                  · refine g_aload_n 0 dX1_closeClasses_124 rfl ?_
                    refine g_aload_n 0 dX1_closeClasses_125 rfl ?_
                    refine g_get (v := vR 58) (ci := 1) (b := 30) (N := 57) 18 rfl rfl (by decide) in_X1 rfl rfl q326 dX1_closeClasses_126 ?_
                    refine g_iload 7 dX1_closeClasses_129 rfl ?_
                    refine g_iald (id := 48) 21 rfl rfl dX1_closeClasses_131 (fun v17 rv17 => ?_)
                    refine g_aload_n 0 dX1_closeClasses_132 rfl ?_
                    refine g_get (v := vR 0) (ci := 1) (b := 30) (N := 57) 0 rfl rfl (by decide) in_X1 rfl rfl q308 dX1_closeClasses_133 ?_
                    refine g_get (v := vR 11) (ci := 0) (b := 0) (N := 21) 1 rfl rfl (by decide) in_X2 rfl rfl q234 dX1_closeClasses_136 ?_
                    refine g_aload_n 0 dX1_closeClasses_139 rfl ?_
                    refine g_get (v := vR 88) (ci := 1) (b := 30) (N := 57) 48 rfl rfl (by decide) in_X1 rfl rfl q356 dX1_closeClasses_140 ?_
                    refine g_iload_n 1 dX1_closeClasses_143 rfl ?_
                    refine g_iald (id := 78) 37 rfl rfl dX1_closeClasses_144 (fun v18 rv18 => ?_)
                    refine g_iald (id := 1) 1 rfl rfl dX1_closeClasses_145 (fun v19 rv19 => ?_)
                    refine g_aload_n 0 dX1_closeClasses_146 rfl ?_
                    refine g_aload_n 0 dX1_closeClasses_147 rfl ?_
                    refine g_get (v := vR 88) (ci := 1) (b := 30) (N := 57) 48 rfl rfl (by decide) in_X1 rfl rfl q356 dX1_closeClasses_148 ?_
                    refine g_iload_n 1 dX1_closeClasses_151 rfl ?_
                    refine g_iald (id := 78) 37 rfl rfl dX1_closeClasses_152 (fun v20 rv20 => ?_)
                    refine g_cVI (As := [vI v20]) (n := 1) (stk := [vI v19, vI v17, vR 1]) (ci := 1) (b := 30) (N := 57) (hX1_argOf v20 s12) (by decide +kernel) rfl rfl (lw_V q773 q775 qs16 q163 q776) (by decide +kernel) rfl (by decide) hRf hRl (fun _ => (avc rv20 avn)) (Nat.le_of_ble_eq_true rfl) rfl rfl dX1_closeClasses_153 (fun v21 s22 rv21 => ?_)
                    refine g_cVZ (As := [vI v17, vI v19, vI v21]) (n := 3) (stk := []) (ci := 1) (b := 30) (N := 57) (hX1_classHasMode v17 v19 v21 s22) (by decide +kernel) rfl rfl (lw_V q930 q932 qs44 q163 q933) (by decide +kernel) rfl (by decide) hRf hRl (fun _ => (avc rv17 (avc rv19 (avc rv21 avn)))) (Nat.le_of_ble_eq_true rfl) rfl rfl dX1_closeClasses_156 (fun v23 s24 zv23 => ?_)
                    refine g_if_eq 166 dX1_closeClasses_159 (by decide) (fun _ => (inR_z zv23)) (fun _ => ?_) (fun _ => ?_)
                    · exact g_pick [0, 1, 2, 3, 4, 5, 7] rfl (hj14 a1 a2 a3 a4 a5 a7 s24 ra1 za2 ra3 ra4 ra5 ra7)
                    · refine g_iconst dX1_closeClasses_162 ?_
                      refine g_goto 167 dX1_closeClasses_163 (by decide) ?_
                      exact g_pick [0, 1, 2, 3, 4, 5, 7] rfl (hj8 a1 a2 a3 a4 a5 a7 1 s24 ra1 za2 ra3 ra4 ra5 ra7 (Or.inr rfl))
        · refine g_iinc 7 (loc' := fun v25 => [(7, vI v25), (0, vR 1), (1, vI a1), (2, vI a2), (3, vI a3), (4, vI a4), (5, vI a5), (6, vI a6)]) dX1_closeClasses_169 rfl (by decide) (fun _ => rfl) (fun v25 rv25 => ?_)
          refine g_goto 36 dX1_closeClasses_172 (by decide) ?_
          exact g_pick [1, 2, 3, 4, 5, 6, 7, 0] rfl (ih a1 a2 a3 a4 a5 a6 v25 u ra1 za2 ra3 ra4 ra5 za6 rv25)
      · exact g_pick [0, 1, 2, 3, 4, 5, 6] rfl (hx175 a1 a2 a3 a4 a5 a6 u ra1 za2 ra3 ra4 ra5 za6)
    · exact g_pick [0, 1, 2, 3, 4, 5, 6] rfl (hx175 a1 a2 a3 a4 a5 a6 u ra1 za2 ra3 ra4 ra5 za6)
theorem wX1_closeClasses_L178 (hd : 2 ≤ d) (hRf : d + 1 ≤ R.frames) (hRl : 40 * (d + 1) ≤ R.locals) (hX1_equal : ∀ (a1 a2 : Int) (u : Sg), Ct l d FC clA yX1_equal cX1_equal 3 (some .boolean) DX1_equal rvI [vR 1, vI a1, vI a2] u (call 59 [a1, a2] u)) (hX1_argOf : ∀ (a1 : Int) (u : Sg), Ct l d FC clA yX1_argOf cX1_argOf 2 (some .int) DX1_argOf rvI [vR 1, vI a1] u (call 30 [a1] u)) (hX1_classHasMode : ∀ (a1 a2 a3 : Int) (u : Sg), Ct l d FC clA yX1_classHasMode cX1_classHasMode 5 (some .boolean) DX1_classHasMode rvI [vR 1, vI a1, vI a2, vI a3] u (call 62 [a1, a2, a3] u)) (hX2_at : ∀ (a1 a2 : Int) (u : Sg), Ct l d FC clA yX2_at cX2_at 3 (some .int) DX2_at rvI [vR 0, vI a1, vI a2] u (call 98 [a1, a2] u)) (hX1_classHas : ∀ (a1 a2 : Int) (u : Sg), Ct l d FC clA yX1_classHas cX1_classHas 4 (some .boolean) DX1_classHas rvI [vR 1, vI a1, vI a2] u (call 63 [a1, a2] u)) (hX1_adjectiveFact : ∀ (a1 a2 : Int) (u : Sg), Ct l d FC clA yX1_adjectiveFact cX1_adjectiveFact 4 (some .boolean) DX1_adjectiveFact rvI [vR 1, vI a1, vI a2] u (call 50 [a1, a2] u)) (x221 : Int → Int → Int → Int → Int → Int → Sg → Option (Int × Sg)) (hx221 : ∀ (a1 a2 a3 a4 a5 a6 : Int) (u : Sg), inR a1 → (a2 = 0 ∨ a2 = 1) → inR a3 → inR a4 → inR a5 → (a6 = 0 ∨ a6 = 1) → WG p l e R s m args below meth c JX1_closeClasses DX1_closeClasses G clA A FC ad0 σ0 rvI (x221 a1 a2 a3 a4 a5 a6 u) u 221 [(0, vR 1), (1, vI a1), (2, vI a2), (3, vI a3), (4, vI a4), (5, vI a5), (6, vI a6)] []) : ∀ (n : Nat) (a1 a2 a3 a4 a5 a6 a7 : Int) (u : Sg), inR a1 → (a2 = 0 ∨ a2 = 1) → inR a3 → inR a4 → inR a5 → (a6 = 0 ∨ a6 = 1) → inR a7 → WG p l e R s m args below meth c JX1_closeClasses DX1_closeClasses G clA A FC ad0 σ0 rvI (bX1_closeClasses_L178 call n a1 a2 a3 a4 a5 a6 a7 u x221) u 178 [(0, vR 1), (1, vI a1), (2, vI a2), (3, vI a3), (4, vI a4), (5, vI a5), (6, vI a6), (7, vI a7)] [] := by
  intro n
  induction n with
  | zero =>
    intro a1 a2 a3 a4 a5 a6 a7 u ra1 za2 ra3 ra4 ra5 za6 ra7
    exact g_none
  | succ n ih =>
    intro a1 a2 a3 a4 a5 a6 a7 u ra1 za2 ra3 ra4 ra5 za6 ra7
    rw [bX1_closeClasses_L178]
    refine g_iload 7 dX1_closeClasses_178 rfl ?_
    refine g_aload_n 0 dX1_closeClasses_180 rfl ?_
    refine g_get (v := vR 0) (ci := 1) (b := 30) (N := 57) 0 rfl rfl (by decide) in_X1 rfl rfl q308 dX1_closeClasses_181 ?_
    refine g_get (v := vR 13) (ci := 0) (b := 0) (N := 21) 3 rfl rfl (by decide) in_X2 rfl rfl q237 dX1_closeClasses_184 ?_
    refine g_iload_n 3 dX1_closeClasses_187 rfl ?_
    refine g_iald (id := 3) 3 rfl rfl dX1_closeClasses_188 (fun v1 rv1 => ?_)
    refine g_icmp_ge 221 dX1_closeClasses_189 (by decide) (fun _ => ra7) (fun _ => rv1) (fun _ => ?_) (fun _ => ?_)
    · refine g_iload 6 dX1_closeClasses_192 rfl ?_
      refine g_if_eq 221 dX1_closeClasses_194 (by decide) (fun _ => (inR_z za6)) (fun _ => ?_) (fun _ => ?_)
      · exact g_pick [0, 1, 2, 3, 4, 5, 6] rfl (hx221 a1 a2 a3 a4 a5 a6 u ra1 za2 ra3 ra4 ra5 za6)
      · refine g_aload_n 0 dX1_closeClasses_197 rfl ?_
        refine g_iload 5 dX1_closeClasses_198 rfl ?_
        refine g_aload_n 0 dX1_closeClasses_200 rfl ?_
        refine g_get (v := vR 0) (ci := 1) (b := 30) (N := 57) 0 rfl rfl (by decide) in_X1 rfl rfl q308 dX1_closeClasses_201 ?_
        refine g_iload_n 3 dX1_closeClasses_204 rfl ?_
        refine g_iload 7 dX1_closeClasses_205 rfl ?_
        refine g_cVI (As := [vI a3, vI a7]) (n := 2) (stk := [vI a5, vR 1]) (ci := 0) (b := 0) (N := 21) (hX2_at a3 a7 u) (by decide +kernel) rfl rfl (lw_V q571 q572 q573 q164 q574) (by decide +kernel) rfl (by decide) hRf hRl (fun _ => (avc ra3 (avc ra7 avn))) (Nat.le_of_ble_eq_true rfl) rfl rfl dX1_closeClasses_207 (fun v2 s3 rv2 => ?_)
        refine g_cVZ (As := [vI a5, vI v2]) (n := 2) (stk := []) (ci := 1) (b := 30) (N := 57) (hX1_classHas a5 v2 s3) (by decide +kernel) rfl rfl (lw_V q934 q936 qs45 q163 q937) (by decide +kernel) rfl (by decide) hRf hRl (fun _ => (avc ra5 (avc rv2 avn))) (Nat.le_of_ble_eq_true rfl) rfl rfl dX1_closeClasses_210 (fun v4 s5 zv4 => ?_)
        refine g_istore (loc' := [(6, vI v4), (0, vR 1), (1, vI a1), (2, vI a2), (3, vI a3), (4, vI a4), (5, vI a5), (7, vI a7)]) dX1_closeClasses_213 (by decide) rfl ?_
        refine g_iinc 7 (loc' := fun v6 => [(7, vI v6), (6, vI v4), (0, vR 1), (1, vI a1), (2, vI a2), (3, vI a3), (4, vI a4), (5, vI a5)]) dX1_closeClasses_215 rfl (by decide) (fun _ => rfl) (fun v6 rv6 => ?_)
        refine g_goto 178 dX1_closeClasses_218 (by decide) ?_
        exact g_pick [2, 3, 4, 5, 6, 7, 1, 0] rfl (ih a1 a2 a3 a4 a5 v4 v6 s5 ra1 za2 ra3 ra4 ra5 zv4 rv6)
    · exact g_pick [0, 1, 2, 3, 4, 5, 6] rfl (hx221 a1 a2 a3 a4 a5 a6 u ra1 za2 ra3 ra4 ra5 za6)
theorem wX1_closeClasses_L224 (hd : 2 ≤ d) (hRf : d + 1 ≤ R.frames) (hRl : 40 * (d + 1) ≤ R.locals) (hX1_equal : ∀ (a1 a2 : Int) (u : Sg), Ct l d FC clA yX1_equal cX1_equal 3 (some .boolean) DX1_equal rvI [vR 1, vI a1, vI a2] u (call 59 [a1, a2] u)) (hX1_argOf : ∀ (a1 : Int) (u : Sg), Ct l d FC clA yX1_argOf cX1_argOf 2 (some .int) DX1_argOf rvI [vR 1, vI a1] u (call 30 [a1] u)) (hX1_classHasMode : ∀ (a1 a2 a3 : Int) (u : Sg), Ct l d FC clA yX1_classHasMode cX1_classHasMode 5 (some .boolean) DX1_classHasMode rvI [vR 1, vI a1, vI a2, vI a3] u (call 62 [a1, a2, a3] u)) (hX2_at : ∀ (a1 a2 : Int) (u : Sg), Ct l d FC clA yX2_at cX2_at 3 (some .int) DX2_at rvI [vR 0, vI a1, vI a2] u (call 98 [a1, a2] u)) (hX1_classHas : ∀ (a1 a2 : Int) (u : Sg), Ct l d FC clA yX1_classHas cX1_classHas 4 (some .boolean) DX1_classHas rvI [vR 1, vI a1, vI a2] u (call 63 [a1, a2] u)) (hX1_adjectiveFact : ∀ (a1 a2 : Int) (u : Sg), Ct l d FC clA yX1_adjectiveFact cX1_adjectiveFact 4 (some .boolean) DX1_adjectiveFact rvI [vR 1, vI a1, vI a2] u (call 50 [a1, a2] u)) (x304 : Int → Int → Int → Int → Sg → Option (Int × Sg)) (hx304 : ∀ (a1 a2 a3 a4 : Int) (u : Sg), inR a1 → (a2 = 0 ∨ a2 = 1) → inR a3 → inR a4 → WG p l e R s m args below meth c JX1_closeClasses DX1_closeClasses G clA A FC ad0 σ0 rvI (x304 a1 a2 a3 a4 u) u 304 [(0, vR 1), (1, vI a1), (2, vI a2), (3, vI a3), (4, vI a4)] []) : ∀ (n : Nat) (a1 a2 a3 a4 a5 a6 a7 : Int) (u : Sg), inR a1 → (a2 = 0 ∨ a2 = 1) → inR a3 → inR a4 → inR a5 → (a6 = 0 ∨ a6 = 1) → inR a7 → WG p l e R s m args below meth c JX1_closeClasses DX1_closeClasses G clA A FC ad0 σ0 rvI (bX1_closeClasses_L224 call n a1 a2 a3 a4 a5 a6 a7 u x304) u 224 [(0, vR 1), (1, vI a1), (2, vI a2), (3, vI a3), (4, vI a4), (5, vI a5), (6, vI a6), (7, vI a7)] [] := by
  intro n
  induction n with
  | zero =>
    intro a1 a2 a3 a4 a5 a6 a7 u ra1 za2 ra3 ra4 ra5 za6 ra7
    exact g_none
  | succ n ih =>
    intro a1 a2 a3 a4 a5 a6 a7 u ra1 za2 ra3 ra4 ra5 za6 ra7
    rw [bX1_closeClasses_L224]
    refine g_iload 6 dX1_closeClasses_224 rfl ?_
    refine g_if_eq 304 dX1_closeClasses_226 (by decide) (fun _ => (inR_z za6)) (fun _ => ?_) (fun _ => ?_)
    · exact g_pick [0, 1, 2, 3, 4] rfl (hx304 a1 a2 a3 a4 u ra1 za2 ra3 ra4)
    · refine g_iload 7 dX1_closeClasses_229 rfl ?_
      refine g_aload_n 0 dX1_closeClasses_231 rfl ?_
      refine g_get (v := vR 0) (ci := 1) (b := 30) (N := 57) 0 rfl rfl (by decide) in_X1 rfl rfl q308 dX1_closeClasses_232 ?_
      refine g_get (v := vR 13) (ci := 0) (b := 0) (N := 21) 3 rfl rfl (by decide) in_X2 rfl rfl q237 dX1_closeClasses_235 ?_
      refine g_aload_n 0 dX1_closeClasses_238 rfl ?_
      refine g_get (v := vR 90) (ci := 1) (b := 30) (N := 57) 50 rfl rfl (by decide) in_X1 rfl rfl q358 dX1_closeClasses_239 ?_
      refine g_iload_n 1 dX1_closeClasses_242 rfl ?_
      refine g_iald (id := 80) 39 rfl rfl dX1_closeClasses_243 (fun v1 rv1 => ?_)
      refine g_iald (id := 3) 3 rfl rfl dX1_closeClasses_244 (fun v2 rv2 => ?_)
      refine g_icmp_ge 304 dX1_closeClasses_245 (by decide) (fun _ => ra7) (fun _ => rv2) (fun _ => ?_) (fun _ => ?_)
      · refine g_aload_n 0 dX1_closeClasses_248 rfl ?_
        refine g_iload 5 dX1_closeClasses_249 rfl ?_
        refine g_aload_n 0 dX1_closeClasses_251 rfl ?_
        refine g_get (v := vR 0) (ci := 1) (b := 30) (N := 57) 0 rfl rfl (by decide) in_X1 rfl rfl q308 dX1_closeClasses_252 ?_
        refine g_aload_n 0 dX1_closeClasses_255 rfl ?_
        refine g_get (v := vR 90) (ci := 1) (b := 30) (N := 57) 50 rfl rfl (by decide) in_X1 rfl rfl q358 dX1_closeClasses_256 ?_
        refine g_iload_n 1 dX1_closeClasses_259 rfl ?_
        refine g_iald (id := 80) 39 rfl rfl dX1_closeClasses_260 (fun v3 rv3 => ?_)
        refine g_iload 7 dX1_closeClasses_261 rfl ?_
        refine g_cVI (As := [vI v3, vI a7]) (n := 2) (stk := [vI a5, vR 1]) (ci := 0) (b := 0) (N := 21) (hX2_at v3 a7 u) (by decide +kernel) rfl rfl (lw_V q571 q572 q573 q164 q574) (by decide +kernel) rfl (by decide) hRf hRl (fun _ => (avc rv3 (avc ra7 avn))) (Nat.le_of_ble_eq_true rfl) rfl rfl dX1_closeClasses_263 (fun v4 s5 rv4 => ?_)
        refine g_cVZ (As := [vI a5, vI v4]) (n := 2) (stk := []) (ci := 1) (b := 30) (N := 57) (hX1_classHas a5 v4 s5) (by decide +kernel) rfl rfl (lw_V q934 q936 qs45 q163 q937) (by decide +kernel) rfl (by decide) hRf hRl (fun _ => (avc ra5 (avc rv4 avn))) (Nat.le_of_ble_eq_true rfl) rfl rfl dX1_closeClasses_266 (fun v6 s7 zv6 => ?_)
        refine g_if_ne 298 dX1_closeClasses_269 (by decide) (fun _ => (inR_z zv6)) (fun _ => ?_) (fun _ => ?_)
        · refine g_aload_n 0 dX1_closeClasses_272 rfl ?_
          refine g_iload 5 dX1_closeClasses_273 rfl ?_
          refine g_aload_n 0 dX1_closeClasses_275 rfl ?_
          refine g_get (v := vR 0) (ci := 1) (b := 30) (N := 57) 0 rfl rfl (by decide) in_X1 rfl rfl q308 dX1_closeClasses_276 ?_
          refine g_aload_n 0 dX1_closeClasses_279 rfl ?_
          refine g_get (v := vR 90) (ci := 1) (b := 30) (N := 57) 50 rfl rfl (by decide) in_X1 rfl rfl q358 dX1_closeClasses_280 ?_
          refine g_iload_n 1 dX1_closeClasses_283 rfl ?_
          refine g_iald (id := 80) 39 rfl rfl dX1_closeClasses_284 (fun v8 rv8 => ?_)
          refine g_iload 7 dX1_closeClasses_285 rfl ?_
          refine g_cVI (As := [vI v8, vI a7]) (n := 2) (stk := [vI a5, vR 1]) (ci := 0) (b := 0) (N := 21) (hX2_at v8 a7 s7) (by decide +kernel) rfl rfl (lw_V q571 q572 q573 q164 q574) (by decide +kernel) rfl (by decide) hRf hRl (fun _ => (avc rv8 (avc ra7 avn))) (Nat.le_of_ble_eq_true rfl) rfl rfl dX1_closeClasses_287 (fun v9 s10 rv9 => ?_)
          refine g_cVZ (As := [vI a5, vI v9]) (n := 2) (stk := []) (ci := 1) (b := 30) (N := 57) (hX1_adjectiveFact a5 v9 s10) (by decide +kernel) rfl rfl (lw_V q876 q878 qs32 q163 q879) (by decide +kernel) rfl (by decide) hRf hRl (fun _ => (avc ra5 (avc rv9 avn))) (Nat.le_of_ble_eq_true rfl) rfl rfl dX1_closeClasses_290 (fun v11 s12 zv11 => ?_)
          refine g_if_eq 298 dX1_closeClasses_293 (by decide) (fun _ => (inR_z zv11)) (fun _ => ?_) (fun _ => ?_)
          · refine g_iinc 7 (loc' := fun v13 => [(7, vI v13), (0, vR 1), (1, vI a1), (2, vI a2), (3, vI a3), (4, vI a4), (5, vI a5), (6, vI a6)]) dX1_closeClasses_298 rfl (by decide) (fun _ => rfl) (fun v13 rv13 => ?_)
            refine g_goto 224 dX1_closeClasses_301 (by decide) ?_
            exact g_pick [1, 2, 3, 4, 5, 6, 7, 0] rfl (ih a1 a2 a3 a4 a5 a6 v13 s12 ra1 za2 ra3 ra4 ra5 za6 rv13)
          · refine g_iconst dX1_closeClasses_296 ?_
            refine g_istore_n (loc' := [(2, vI 1), (0, vR 1), (1, vI a1), (3, vI a3), (4, vI a4), (5, vI a5), (6, vI a6), (7, vI a7)]) dX1_closeClasses_297 (by decide) rfl ?_
            refine g_iinc 7 (loc' := fun v14 => [(7, vI v14), (2, vI 1), (0, vR 1), (1, vI a1), (3, vI a3), (4, vI a4), (5, vI a5), (6, vI a6)]) dX1_closeClasses_298 rfl (by decide) (fun _ => rfl) (fun v14 rv14 => ?_)
            refine g_goto 224 dX1_closeClasses_301 (by decide) ?_
            exact g_pick [2, 3, 1, 4, 5, 6, 7, 0] rfl (ih a1 1 a3 a4 a5 a6 v14 s12 ra1 (Or.inr rfl) ra3 ra4 ra5 za6 rv14)
        · refine g_iinc 7 (loc' := fun v15 => [(7, vI v15), (0, vR 1), (1, vI a1), (2, vI a2), (3, vI a3), (4, vI a4), (5, vI a5), (6, vI a6)]) dX1_closeClasses_298 rfl (by decide) (fun _ => rfl) (fun v15 rv15 => ?_)
          refine g_goto 224 dX1_closeClasses_301 (by decide) ?_
          exact g_pick [1, 2, 3, 4, 5, 6, 7, 0] rfl (ih a1 a2 a3 a4 a5 a6 v15 s7 ra1 za2 ra3 ra4 ra5 za6 rv15)
      · exact g_pick [0, 1, 2, 3, 4] rfl (hx304 a1 a2 a3 a4 u ra1 za2 ra3 ra4)
theorem wX1_closeClasses_L12 (hd : 2 ≤ d) (hRf : d + 1 ≤ R.frames) (hRl : 40 * (d + 1) ≤ R.locals) (hX1_equal : ∀ (a1 a2 : Int) (u : Sg), Ct l d FC clA yX1_equal cX1_equal 3 (some .boolean) DX1_equal rvI [vR 1, vI a1, vI a2] u (call 59 [a1, a2] u)) (hX1_argOf : ∀ (a1 : Int) (u : Sg), Ct l d FC clA yX1_argOf cX1_argOf 2 (some .int) DX1_argOf rvI [vR 1, vI a1] u (call 30 [a1] u)) (hX1_classHasMode : ∀ (a1 a2 a3 : Int) (u : Sg), Ct l d FC clA yX1_classHasMode cX1_classHasMode 5 (some .boolean) DX1_classHasMode rvI [vR 1, vI a1, vI a2, vI a3] u (call 62 [a1, a2, a3] u)) (hX2_at : ∀ (a1 a2 : Int) (u : Sg), Ct l d FC clA yX2_at cX2_at 3 (some .int) DX2_at rvI [vR 0, vI a1, vI a2] u (call 98 [a1, a2] u)) (hX1_classHas : ∀ (a1 a2 : Int) (u : Sg), Ct l d FC clA yX1_classHas cX1_classHas 4 (some .boolean) DX1_classHas rvI [vR 1, vI a1, vI a2] u (call 63 [a1, a2] u)) (hX1_adjectiveFact : ∀ (a1 a2 : Int) (u : Sg), Ct l d FC clA yX1_adjectiveFact cX1_adjectiveFact 4 (some .boolean) DX1_adjectiveFact rvI [vR 1, vI a1, vI a2] u (call 50 [a1, a2] u)) (x310 : Int → Sg → Option (Int × Sg)) (hx310 : ∀ (a2 : Int) (u : Sg), (a2 = 0 ∨ a2 = 1) → WG p l e R s m args below meth c JX1_closeClasses DX1_closeClasses G clA A FC ad0 σ0 rvI (x310 a2 u) u 310 [(2, vI a2)] []) : ∀ (n : Nat) (a1 a2 a3 a4 : Int) (u : Sg), inR a1 → (a2 = 0 ∨ a2 = 1) → inR a3 → inR a4 → WG p l e R s m args below meth c JX1_closeClasses DX1_closeClasses G clA A FC ad0 σ0 rvI (bX1_closeClasses_L12 call n a1 a2 a3 a4 u x310) u 12 [(0, vR 1), (1, vI a1), (2, vI a2), (3, vI a3), (4, vI a4)] [] := by
  intro n
  induction n with
  | zero =>
    intro a1 a2 a3 a4 u ra1 za2 ra3 ra4
    exact g_none
  | succ n ih =>
    intro a1 a2 a3 a4 u ra1 za2 ra3 ra4
    rw [bX1_closeClasses_L12]
    refine g_iload 4 dX1_closeClasses_12 rfl ?_
    refine g_aload_n 0 dX1_closeClasses_14 rfl ?_
    refine g_getI (ci := 1) (b := 30) (N := 57) 13 rfl rfl rfl (by decide) in_X1 rfl rfl q321 dX1_closeClasses_15 (fun v1 rv1 => ?_)
    refine g_icmp_ge 310 dX1_closeClasses_18 (by decide) (fun _ => ra4) (fun _ => rv1) (fun _ => ?_) (fun _ => ?_)
    · refine g_aload_n 0 dX1_closeClasses_21 rfl ?_
      refine g_get (v := vR 50) (ci := 1) (b := 30) (N := 57) 10 rfl rfl (by decide) in_X1 rfl rfl q318 dX1_closeClasses_22 ?_
      refine g_iload 4 dX1_closeClasses_25 rfl ?_
      refine g_iald (id := 40) 16 rfl rfl dX1_closeClasses_27 (fun v2 rv2 => ?_)
      refine g_istore (loc' := [(5, vI v2), (0, vR 1), (1, vI a1), (2, vI a2), (3, vI a3), (4, vI a4)]) dX1_closeClasses_28 (by decide) rfl ?_
      refine g_iconst dX1_closeClasses_30 ?_
      refine g_istore (loc' := [(6, vI 0), (5, vI v2), (0, vR 1), (1, vI a1), (2, vI a2), (3, vI a3), (4, vI a4)]) dX1_closeClasses_31 (by decide) rfl ?_
      refine g_iconst dX1_closeClasses_33 ?_
      refine g_istore (loc' := [(7, vI 0), (6, vI 0), (5, vI v2), (0, vR 1), (1, vI a1), (2, vI a2), (3, vI a3), (4, vI a4)]) dX1_closeClasses_34 (by decide) rfl ?_
      refine g_pick [3, 4, 5, 6, 7, 2, 1, 0] rfl (wX1_closeClasses_L36 hd hRf hRl hX1_equal hX1_argOf hX1_classHasMode hX2_at hX1_classHas hX1_adjectiveFact _ (fun v4 v5 v6 v7 v8 v9 s3 rv4 zv5 rv6 rv7 rv8 zv9 => ?_) KF a1 a2 a3 a4 v2 0 0 u ra1 za2 ra3 ra4 rv2 (Or.inl rfl) (inR_z (Or.inl rfl)))
      · refine g_iconst dX1_closeClasses_175 ?_
        refine g_istore (loc' := [(7, vI 1), (0, vR 1), (1, vI v4), (2, vI v5), (3, vI v6), (4, vI v7), (5, vI v8), (6, vI v9)]) dX1_closeClasses_176 (by decide) rfl ?_
        refine g_pick [1, 2, 3, 4, 5, 6, 7, 0] rfl (wX1_closeClasses_L178 hd hRf hRl hX1_equal hX1_argOf hX1_classHasMode hX2_at hX1_classHas hX1_adjectiveFact _ (fun v11 v12 v13 v14 v15 v16 s10 rv11 zv12 rv13 rv14 rv15 zv16 => ?_) KF v4 v5 v6 v7 v8 v9 1 s3 rv4 zv5 rv6 rv7 rv8 zv9 (inR_z (Or.inr rfl)))
        · refine g_iconst dX1_closeClasses_221 ?_
          refine g_istore (loc' := [(7, vI 1), (0, vR 1), (1, vI v11), (2, vI v12), (3, vI v13), (4, vI v14), (5, vI v15), (6, vI v16)]) dX1_closeClasses_222 (by decide) rfl ?_
          refine g_pick [1, 2, 3, 4, 5, 6, 7, 0] rfl (wX1_closeClasses_L224 hd hRf hRl hX1_equal hX1_argOf hX1_classHasMode hX2_at hX1_classHas hX1_adjectiveFact _ (fun v18 v19 v20 v21 s17 rv18 zv19 rv20 rv21 => ?_) KF v11 v12 v13 v14 v15 v16 1 s10 rv11 zv12 rv13 rv14 rv15 zv16 (inR_z (Or.inr rfl)))
          · refine g_iinc 4 (loc' := fun v22 => [(4, vI v22), (0, vR 1), (1, vI v18), (2, vI v19), (3, vI v20)]) dX1_closeClasses_304 rfl (by decide) (fun _ => rfl) (fun v22 rv22 => ?_)
            refine g_goto 12 dX1_closeClasses_307 (by decide) ?_
            exact g_pick [1, 2, 3, 4, 0] rfl (ih v18 v19 v20 v22 s17 rv18 zv19 rv20 rv22)
    · exact g_pick [2] rfl (hx310 a2 u za2)
theorem wX1_closeClasses (hd : 2 ≤ d) (hRf : d + 1 ≤ R.frames) (hRl : 40 * (d + 1) ≤ R.locals) (hX1_equal : ∀ (a1 a2 : Int) (u : Sg), Ct l d FC clA yX1_equal cX1_equal 3 (some .boolean) DX1_equal rvI [vR 1, vI a1, vI a2] u (call 59 [a1, a2] u)) (hX1_argOf : ∀ (a1 : Int) (u : Sg), Ct l d FC clA yX1_argOf cX1_argOf 2 (some .int) DX1_argOf rvI [vR 1, vI a1] u (call 30 [a1] u)) (hX1_classHasMode : ∀ (a1 a2 a3 : Int) (u : Sg), Ct l d FC clA yX1_classHasMode cX1_classHasMode 5 (some .boolean) DX1_classHasMode rvI [vR 1, vI a1, vI a2, vI a3] u (call 62 [a1, a2, a3] u)) (hX2_at : ∀ (a1 a2 : Int) (u : Sg), Ct l d FC clA yX2_at cX2_at 3 (some .int) DX2_at rvI [vR 0, vI a1, vI a2] u (call 98 [a1, a2] u)) (hX1_classHas : ∀ (a1 a2 : Int) (u : Sg), Ct l d FC clA yX1_classHas cX1_classHas 4 (some .boolean) DX1_classHas rvI [vR 1, vI a1, vI a2] u (call 63 [a1, a2] u)) (hX1_adjectiveFact : ∀ (a1 a2 : Int) (u : Sg), Ct l d FC clA yX1_adjectiveFact cX1_adjectiveFact 4 (some .boolean) DX1_adjectiveFact rvI [vR 1, vI a1, vI a2] u (call 50 [a1, a2] u)) (a1 : Int) (u : Sg) (ra1 : inR a1) : WG p l e R s m args below meth c JX1_closeClasses DX1_closeClasses G clA A FC ad0 σ0 rvI (bX1_closeClasses call a1 u) u 0 [(0, vR 1), (1, vI a1)] [] := by
  unfold bX1_closeClasses
  refine g_iconst dX1_closeClasses_0 ?_
  refine g_istore_n (loc' := [(2, vI 0), (0, vR 1), (1, vI a1)]) dX1_closeClasses_1 (by decide) rfl ?_
  refine g_aload_n 1 dX1_closeClasses_2 rfl ?_
  refine g_get (v := vR 87) (ci := 1) (b := 30) (N := 57) 47 rfl rfl (by decide) in_X1 rfl rfl q355 dX1_closeClasses_3 ?_
  refine g_iload_n 2 dX1_closeClasses_6 rfl ?_
  refine g_iald (id := 77) 36 rfl rfl dX1_closeClasses_7 (fun v1 rv1 => ?_)
  refine g_istore_n (loc' := [(3, vI v1), (2, vI 0), (0, vR 1), (1, vI a1)]) dX1_closeClasses_8 (by decide) rfl ?_
  refine g_iconst dX1_closeClasses_9 ?_
  refine g_istore (loc' := [(4, vI 0), (3, vI v1), (2, vI 0), (0, vR 1), (1, vI a1)]) dX1_closeClasses_10 (by decide) rfl ?_
  refine g_pick [3, 4, 2, 1, 0] rfl (wX1_closeClasses_L12 hd hRf hRl hX1_equal hX1_argOf hX1_classHasMode hX2_at hX1_classHas hX1_adjectiveFact _ (fun v3 s2 zv3 => ?_) KF a1 0 v1 0 u ra1 (Or.inl rfl) rv1 (inR_z (Or.inl rfl)))
  · refine g_iload_n 0 dX1_closeClasses_310 rfl ?_
    exact g_zret rfl rfl (fun _ => zv3) dX1_closeClasses_311
end
section
variable {l : Launch} {d : Nat} {call : Nat → List Int → Sg → Option (Int × Sg)}
theorem ctX1_closeClasses (p0 : Program) (e0 : Env) (s0 : State) (m0 : MethodId) (meth0 : Method) (c0 : Code) (G0 : Gm) (hd : 2 ≤ d) (hX1_equal : ∀ (a1 a2 : Int) (u : Sg), Ct l d FC clA yX1_equal cX1_equal 3 (some .boolean) DX1_equal rvI [vR 1, vI a1, vI a2] u (call 59 [a1, a2] u)) (hX1_argOf : ∀ (a1 : Int) (u : Sg), Ct l d FC clA yX1_argOf cX1_argOf 2 (some .int) DX1_argOf rvI [vR 1, vI a1] u (call 30 [a1] u)) (hX1_classHasMode : ∀ (a1 a2 a3 : Int) (u : Sg), Ct l d FC clA yX1_classHasMode cX1_classHasMode 5 (some .boolean) DX1_classHasMode rvI [vR 1, vI a1, vI a2, vI a3] u (call 62 [a1, a2, a3] u)) (hX2_at : ∀ (a1 a2 : Int) (u : Sg), Ct l d FC clA yX2_at cX2_at 3 (some .int) DX2_at rvI [vR 0, vI a1, vI a2] u (call 98 [a1, a2] u)) (hX1_classHas : ∀ (a1 a2 : Int) (u : Sg), Ct l d FC clA yX1_classHas cX1_classHas 4 (some .boolean) DX1_classHas rvI [vR 1, vI a1, vI a2] u (call 63 [a1, a2] u)) (hX1_adjectiveFact : ∀ (a1 a2 : Int) (u : Sg), Ct l d FC clA yX1_adjectiveFact cX1_adjectiveFact 4 (some .boolean) DX1_adjectiveFact rvI [vR 1, vI a1, vI a2] u (call 50 [a1, a2] u)) (a1 : Int) (u : Sg) : Ct l (d + 1) FC clA yX1_closeClasses cX1_closeClasses 8 (some .boolean) DX1_closeClasses rvI [vR 1, vI a1] u (bX1_closeClasses call a1 u) :=
  Ct_of (by decide) (Nat.le_of_ble_eq_true rfl) (fun p e R s1 m args below meth c G A ad hA hRf hRl => wX1_closeClasses hd hRf hRl hX1_equal hX1_argOf hX1_classHasMode hX2_at hX1_classHas hX1_adjectiveFact a1 u (hA _ (List.mem_cons_of_mem _ List.mem_cons_self))) p0 e0 s0 m0 meth0 c0 G0
end
/-! RoundCheck.contradictory()Z -/
abbrev JX1_contradictory : Jm := (cX1_contradictory, RX1, 6, (some .boolean))
def bX1_contradictory_L2 (call : Nat → List Int → Sg → Option (Int × Sg)) : Nat → Int → Sg → (Sg → Option (Int × Sg)) → (Sg → Option (Int × Sg)) → Option (Int × Sg)
  | 0, _, _, _, _ => none
  | n + 1, a1, u, x39, x31 => un (gI u 52) fun v1 => if a1 < v1 then (ld u 49 a1 fun v2 => ld u 50 a1 fun v3 => un (o_xor v3 1) fun v4 => cl (call 63 [v2, v4] u) fun v5 s6 => if v5 = 0 then (ar (a1 + 1) fun v7 => bX1_contradictory_L2 call n v7 s6 x39 x31) else (x31 s6)) else (x39 u)
def bX1_contradictory_L41 (call : Nat → List Int → Sg → Option (Int × Sg)) : Nat → Int → Sg → (Sg → Option (Int × Sg)) → (Sg → Option (Int × Sg)) → (Sg → Option (Int × Sg)) → (Sg → Option (Int × Sg)) → Option (Int × Sg)
  | 0, _, _, _, _, _, _ => none
  | n + 1, a1, u, x154, x67, x127, x146 => un (gI u 35) fun v1 => if a1 < v1 then (ld u 34 a1 fun v2 => un (gI u 14) fun v3 => if v2 = v3 then (x67 u) else (ld u 0 v2 fun v4 => if v4 = 16 then (cl (call 98 [v2, 0] u) fun v5 s6 => ld s6 0 v5 fun v7 => if v7 = 18 then (cl (call 66 [v5] s6) fun v8 s9 => if v8 = 0 then (ar (a1 + 1) fun v10 => bX1_contradictory_L41 call n v10 s9 x154 x67 x127 x146) else (x127 s9)) else (if v7 = 13 then (ar (a1 + 1) fun v11 => bX1_contradictory_L41 call n v11 s6 x154 x67 x127 x146) else (cl (call 67 [v5] s6) fun v12 s13 => if v12 = 0 then (ar (a1 + 1) fun v14 => bX1_contradictory_L41 call n v14 s13 x154 x67 x127 x146) else (x146 s13)))) else (ar (a1 + 1) fun v15 => bX1_contradictory_L41 call n v15 u x154 x67 x127 x146))) else (x154 u)
def bX1_contradictory (call : Nat → List Int → Sg → Option (Int × Sg)) (u : Sg) : Option (Int × Sg) := bX1_contradictory_L2 call KF 0 u (fun s1 => bX1_contradictory_L41 call KF 0 s1 (fun s2 => some (0, s2)) (fun s3 => some (1, s3)) (fun s4 => some (1, s4)) (fun s5 => some (1, s5))) (fun s6 => some (1, s6))
section
variable {p : Program} {l : Launch} {e : Env} {R : Room} {s : State} {m : MethodId} {args : Array Value} {below : List Frame} {meth : Method} {c : Code} {G : Gm} {A : Nat → Prop} {ad0 : Nat → Nat} {σ0 : Sg} {d : Nat} {call : Nat → List Int → Sg → Option (Int × Sg)}
theorem wX1_contradictory_L2 (hd : 2 ≤ d) (hRf : d + 1 ≤ R.frames) (hRl : 40 * (d + 1) ≤ R.locals) (hX1_classHas : ∀ (a1 a2 : Int) (u : Sg), Ct l d FC clA yX1_classHas cX1_classHas 4 (some .boolean) DX1_classHas rvI [vR 1, vI a1, vI a2] u (call 63 [a1, a2] u)) (hX2_at : ∀ (a1 a2 : Int) (u : Sg), Ct l d FC clA yX2_at cX2_at 3 (some .int) DX2_at rvI [vR 0, vI a1, vI a2] u (call 98 [a1, a2] u)) (hX1_isKnownHere : ∀ (a1 : Int) (u : Sg), Ct l d FC clA yX1_isKnownHere cX1_isKnownHere 2 (some .boolean) DX1_isKnownHere rvI [vR 1, vI a1] u (call 66 [a1] u)) (hX1_holds : ∀ (a1 : Int) (u : Sg), Ct l d FC clA yX1_holds cX1_holds 3 (some .boolean) DX1_holds rvI [vR 1, vI a1] u (call 67 [a1] u)) (x39 : Sg → Option (Int × Sg)) (x31 : Sg → Option (Int × Sg)) (hx39 : ∀ (u : Sg), WG p l e R s m args below meth c JX1_contradictory DX1_contradictory G clA A FC ad0 σ0 rvI (x39 u) u 39 [(0, vR 1)] []) (hx31 : ∀ (u : Sg), WG p l e R s m args below meth c JX1_contradictory DX1_contradictory G clA A FC ad0 σ0 rvI (x31 u) u 31 [] []) : ∀ (n : Nat) (a1 : Int) (u : Sg), inR a1 → WG p l e R s m args below meth c JX1_contradictory DX1_contradictory G clA A FC ad0 σ0 rvI (bX1_contradictory_L2 call n a1 u x39 x31) u 2 [(0, vR 1), (1, vI a1)] [] := by
  intro n
  induction n with
  | zero =>
    intro a1 u ra1
    exact g_none
  | succ n ih =>
    intro a1 u ra1
    rw [bX1_contradictory_L2]
    refine g_iload_n 1 dX1_contradictory_2 rfl ?_
    refine g_aload_n 0 dX1_contradictory_3 rfl ?_
    refine g_getI (ci := 1) (b := 30) (N := 57) 22 rfl rfl rfl (by decide) in_X1 rfl rfl q330 dX1_contradictory_4 (fun v1 rv1 => ?_)
    refine g_icmp_ge 39 dX1_contradictory_7 (by decide) (fun _ => ra1) (fun _ => rv1) (fun _ => ?_) (fun _ => ?_)
    · refine g_aload_n 0 dX1_contradictory_10 rfl ?_
      refine g_aload_n 0 dX1_contradictory_11 rfl ?_
      refine g_get (v := vR 59) (ci := 1) (b := 30) (N := 57) 19 rfl rfl (by decide) in_X1 rfl rfl q327 dX1_contradictory_12 ?_
      refine g_iload_n 1 dX1_contradictory_15 rfl ?_
      refine g_iald (id := 49) 22 rfl rfl dX1_contradictory_16 (fun v2 rv2 => ?_)
      refine g_aload_n 0 dX1_contradictory_17 rfl ?_
      refine g_get (v := vR 60) (ci := 1) (b := 30) (N := 57) 20 rfl rfl (by decide) in_X1 rfl rfl q328 dX1_contradictory_18 ?_
      refine g_iload_n 1 dX1_contradictory_21 rfl ?_
      refine g_iald (id := 50) 23 rfl rfl dX1_contradictory_22 (fun v3 rv3 => ?_)
      refine g_iconst dX1_contradictory_23 ?_
      refine g_ixorU dX1_contradictory_24 (fun v4 rv4 => ?_)
      refine g_cVZ (As := [vI v2, vI v4]) (n := 2) (stk := []) (ci := 1) (b := 30) (N := 57) (hX1_classHas v2 v4 u) (by decide +kernel) rfl rfl (lw_V q934 q936 qs45 q163 q937) (by decide +kernel) rfl (by decide) hRf hRl (fun _ => (avc rv2 (avc rv4 avn))) (Nat.le_of_ble_eq_true rfl) rfl rfl dX1_contradictory_25 (fun v5 s6 zv5 => ?_)
      refine g_if_eq 33 dX1_contradictory_28 (by decide) (fun _ => (inR_z zv5)) (fun _ => ?_) (fun _ => ?_)
      · refine g_iinc 1 (loc' := fun v7 => [(1, vI v7), (0, vR 1)]) dX1_contradictory_33 rfl (by decide) (fun _ => rfl) (fun v7 rv7 => ?_)
        refine g_goto 2 dX1_contradictory_36 (by decide) ?_
        exact g_pick [1, 0] rfl (ih v7 s6 rv7)
      · exact g_pick [] rfl (hx31 s6)
    · exact g_pick [0] rfl (hx39 u)
theorem wX1_contradictory_L41 (hd : 2 ≤ d) (hRf : d + 1 ≤ R.frames) (hRl : 40 * (d + 1) ≤ R.locals) (hX1_classHas : ∀ (a1 a2 : Int) (u : Sg), Ct l d FC clA yX1_classHas cX1_classHas 4 (some .boolean) DX1_classHas rvI [vR 1, vI a1, vI a2] u (call 63 [a1, a2] u)) (hX2_at : ∀ (a1 a2 : Int) (u : Sg), Ct l d FC clA yX2_at cX2_at 3 (some .int) DX2_at rvI [vR 0, vI a1, vI a2] u (call 98 [a1, a2] u)) (hX1_isKnownHere : ∀ (a1 : Int) (u : Sg), Ct l d FC clA yX1_isKnownHere cX1_isKnownHere 2 (some .boolean) DX1_isKnownHere rvI [vR 1, vI a1] u (call 66 [a1] u)) (hX1_holds : ∀ (a1 : Int) (u : Sg), Ct l d FC clA yX1_holds cX1_holds 3 (some .boolean) DX1_holds rvI [vR 1, vI a1] u (call 67 [a1] u)) (x154 : Sg → Option (Int × Sg)) (x67 : Sg → Option (Int × Sg)) (x127 : Sg → Option (Int × Sg)) (x146 : Sg → Option (Int × Sg)) (hx154 : ∀ (u : Sg), WG p l e R s m args below meth c JX1_contradictory DX1_contradictory G clA A FC ad0 σ0 rvI (x154 u) u 154 [] []) (hx67 : ∀ (u : Sg), WG p l e R s m args below meth c JX1_contradictory DX1_contradictory G clA A FC ad0 σ0 rvI (x67 u) u 67 [] []) (hx127 : ∀ (u : Sg), WG p l e R s m args below meth c JX1_contradictory DX1_contradictory G clA A FC ad0 σ0 rvI (x127 u) u 127 [] []) (hx146 : ∀ (u : Sg), WG p l e R s m args below meth c JX1_contradictory DX1_contradictory G clA A FC ad0 σ0 rvI (x146 u) u 146 [] []) : ∀ (n : Nat) (a1 : Int) (u : Sg), inR a1 → WG p l e R s m args below meth c JX1_contradictory DX1_contradictory G clA A FC ad0 σ0 rvI (bX1_contradictory_L41 call n a1 u x154 x67 x127 x146) u 41 [(0, vR 1), (1, vI a1)] [] := by
  intro n
  induction n with
  | zero =>
    intro a1 u ra1
    exact g_none
  | succ n ih =>
    intro a1 u ra1
    rw [bX1_contradictory_L41]
    refine g_iload_n 1 dX1_contradictory_41 rfl ?_
    refine g_aload_n 0 dX1_contradictory_42 rfl ?_
    refine g_getI (ci := 1) (b := 30) (N := 57) 5 rfl rfl rfl (by decide) in_X1 rfl rfl q313 dX1_contradictory_43 (fun v1 rv1 => ?_)
    refine g_icmp_ge 154 dX1_contradictory_46 (by decide) (fun _ => ra1) (fun _ => rv1) (fun _ => ?_) (fun _ => ?_)
    · refine g_aload_n 0 dX1_contradictory_49 rfl ?_
      refine g_get (v := vR 44) (ci := 1) (b := 30) (N := 57) 4 rfl rfl (by decide) in_X1 rfl rfl q312 dX1_contradictory_50 ?_
      refine g_iload_n 1 dX1_contradictory_53 rfl ?_
      refine g_iald (id := 34) 12 rfl rfl dX1_contradictory_54 (fun v2 rv2 => ?_)
      refine g_istore_n (loc' := [(2, vI v2), (0, vR 1), (1, vI a1)]) dX1_contradictory_55 (by decide) rfl ?_
      refine g_iload_n 0 dX1_contradictory_56 rfl ?_
      refine g_aload_n 1 dX1_contradictory_57 rfl ?_
      refine g_get (v := vR 0) (ci := 1) (b := 30) (N := 57) 0 rfl rfl (by decide) in_X1 rfl rfl q308 dX1_contradictory_58 ?_
      refine g_getI (ci := 0) (b := 0) (N := 21) 14 rfl rfl rfl (by decide) in_X2 rfl rfl q256 dX1_contradictory_61 (fun v3 rv3 => ?_)
      refine g_icmp_ne 69 dX1_contradictory_64 (by decide) (fun _ => rv2) (fun _ => rv3) (fun _ => ?_) (fun _ => ?_)
      · exact g_pick [] rfl (hx67 u)
      · refine g_aload_n 1 dX1_contradictory_69 rfl ?_
        refine g_get (v := vR 0) (ci := 1) (b := 30) (N := 57) 0 rfl rfl (by decide) in_X1 rfl rfl q308 dX1_contradictory_70 ?_
        refine g_get (v := vR 10) (ci := 0) (b := 0) (N := 21) 0 rfl rfl (by decide) in_X2 rfl rfl q232 dX1_contradictory_73 ?_
        refine g_iload_n 0 dX1_contradictory_76 rfl ?_
        refine g_iald (id := 0) 0 rfl rfl dX1_contradictory_77 (fun v4 rv4 => ?_)
        refine g_istore_n (loc' := [(3, vI v4), (2, vI v2), (0, vR 1), (1, vI a1)]) dX1_contradictory_78 (by decide) rfl ?_
        refine g_iload_n 0 dX1_contradictory_79 rfl ?_
        refine g_bipush (by decide +kernel) dX1_contradictory_80 ?_
        refine g_icmp_eq 88 dX1_contradictory_82 (by decide) (fun _ => rv4) (fun _ => (by decide : inR (16))) (fun _ => ?_) (fun _ => ?_)
        · refine g_aload_n 2 dX1_contradictory_88 rfl ?_
          refine g_get (v := vR 0) (ci := 1) (b := 30) (N := 57) 0 rfl rfl (by decide) in_X1 rfl rfl q308 dX1_contradictory_89 ?_
          refine g_iload_n 1 dX1_contradictory_92 rfl ?_
          refine g_iconst dX1_contradictory_93 ?_
          refine g_cVI (As := [vI v2, vI 0]) (n := 2) (stk := []) (ci := 0) (b := 0) (N := 21) (hX2_at v2 0 u) (by decide +kernel) rfl rfl (lw_V q571 q572 q573 q164 q574) (by decide +kernel) rfl (by decide) hRf hRl (fun _ => (avc rv2 (avc (inR_z (Or.inl rfl)) avn))) (Nat.le_of_ble_eq_true rfl) rfl rfl dX1_contradictory_94 (fun v5 s6 rv5 => ?_)
          refine g_istore (loc' := [(4, vI v5), (3, vI v4), (2, vI v2), (0, vR 1), (1, vI a1)]) dX1_contradictory_97 (by decide) rfl ?_
          refine g_aload_n 3 dX1_contradictory_99 rfl ?_
          refine g_get (v := vR 0) (ci := 1) (b := 30) (N := 57) 0 rfl rfl (by decide) in_X1 rfl rfl q308 dX1_contradictory_100 ?_
          refine g_get (v := vR 10) (ci := 0) (b := 0) (N := 21) 0 rfl rfl (by decide) in_X2 rfl rfl q232 dX1_contradictory_103 ?_
          refine g_iload 0 dX1_contradictory_106 rfl ?_
          refine g_iald (id := 0) 0 rfl rfl dX1_contradictory_108 (fun v7 rv7 => ?_)
          refine g_istore (loc' := [(5, vI v7), (4, vI v5), (3, vI v4), (2, vI v2), (0, vR 1), (1, vI a1)]) dX1_contradictory_109 (by decide) rfl ?_
          refine g_iload 0 dX1_contradictory_111 rfl ?_
          refine g_bipush (by decide +kernel) dX1_contradictory_113 ?_
          refine g_icmp_ne 130 dX1_contradictory_115 (by decide) (fun _ => rv7) (fun _ => (by decide : inR (18))) (fun _ => ?_) (fun _ => ?_)
          · refine g_aload_n 4 dX1_contradictory_118 rfl ?_
            refine g_iload 1 dX1_contradictory_119 rfl ?_
            refine g_cVZ (As := [vI v5]) (n := 1) (stk := []) (ci := 1) (b := 30) (N := 57) (hX1_isKnownHere v5 s6) (by decide +kernel) rfl rfl (lw_V q946 q948 qs48 q163 q949) (by decide +kernel) rfl (by decide) hRf hRl (fun _ => (avc rv5 avn)) (Nat.le_of_ble_eq_true rfl) rfl rfl dX1_contradictory_121 (fun v8 s9 zv8 => ?_)
            refine g_if_eq 148 dX1_contradictory_124 (by decide) (fun _ => (inR_z zv8)) (fun _ => ?_) (fun _ => ?_)
            · refine g_iinc 5 (loc' := fun v10 => [(1, vI v10), (5, vI v7), (4, vI v5), (3, vI v4), (2, vI v2), (0, vR 1)]) dX1_contradictory_148 rfl (by decide) (fun _ => rfl) (fun v10 rv10 => ?_)
              refine g_goto 41 dX1_contradictory_151 (by decide) ?_
              exact g_pick [5, 0] rfl (ih v10 s9 rv10)
            · exact g_pick [] rfl (hx127 s9)
          · refine g_iload 0 dX1_contradictory_130 rfl ?_
            refine g_bipush (by decide +kernel) dX1_contradictory_132 ?_
            refine g_icmp_eq 148 dX1_contradictory_134 (by decide) (fun _ => rv7) (fun _ => (by decide : inR (13))) (fun _ => ?_) (fun _ => ?_)
            · refine g_iinc 5 (loc' := fun v11 => [(1, vI v11), (5, vI v7), (4, vI v5), (3, vI v4), (2, vI v2), (0, vR 1)]) dX1_contradictory_148 rfl (by decide) (fun _ => rfl) (fun v11 rv11 => ?_)
              refine g_goto 41 dX1_contradictory_151 (by decide) ?_
              exact g_pick [5, 0] rfl (ih v11 s6 rv11)
            · refine g_aload_n 4 dX1_contradictory_137 rfl ?_
              refine g_iload 1 dX1_contradictory_138 rfl ?_
              refine g_cVZ (As := [vI v5]) (n := 1) (stk := []) (ci := 1) (b := 30) (N := 57) (hX1_holds v5 s6) (by decide +kernel) rfl rfl (lw_V q950 q952 qs49 q163 q953) (by decide +kernel) rfl (by decide) hRf hRl (fun _ => (avc rv5 avn)) (Nat.le_of_ble_eq_true rfl) rfl rfl dX1_contradictory_140 (fun v12 s13 zv12 => ?_)
              refine g_if_eq 148 dX1_contradictory_143 (by decide) (fun _ => (inR_z zv12)) (fun _ => ?_) (fun _ => ?_)
              · refine g_iinc 5 (loc' := fun v14 => [(1, vI v14), (5, vI v7), (4, vI v5), (3, vI v4), (2, vI v2), (0, vR 1)]) dX1_contradictory_148 rfl (by decide) (fun _ => rfl) (fun v14 rv14 => ?_)
                refine g_goto 41 dX1_contradictory_151 (by decide) ?_
                exact g_pick [5, 0] rfl (ih v14 s13 rv14)
              · exact g_pick [] rfl (hx146 s13)
        · refine g_goto 148 dX1_contradictory_85 (by decide) ?_
          refine g_iinc 3 (loc' := fun v15 => [(1, vI v15), (3, vI v4), (2, vI v2), (0, vR 1)]) dX1_contradictory_148 rfl (by decide) (fun _ => rfl) (fun v15 rv15 => ?_)
          refine g_goto 41 dX1_contradictory_151 (by decide) ?_
          exact g_pick [3, 0] rfl (ih v15 u rv15)
    · exact g_pick [] rfl (hx154 u)
theorem wX1_contradictory (hd : 2 ≤ d) (hRf : d + 1 ≤ R.frames) (hRl : 40 * (d + 1) ≤ R.locals) (hX1_classHas : ∀ (a1 a2 : Int) (u : Sg), Ct l d FC clA yX1_classHas cX1_classHas 4 (some .boolean) DX1_classHas rvI [vR 1, vI a1, vI a2] u (call 63 [a1, a2] u)) (hX2_at : ∀ (a1 a2 : Int) (u : Sg), Ct l d FC clA yX2_at cX2_at 3 (some .int) DX2_at rvI [vR 0, vI a1, vI a2] u (call 98 [a1, a2] u)) (hX1_isKnownHere : ∀ (a1 : Int) (u : Sg), Ct l d FC clA yX1_isKnownHere cX1_isKnownHere 2 (some .boolean) DX1_isKnownHere rvI [vR 1, vI a1] u (call 66 [a1] u)) (hX1_holds : ∀ (a1 : Int) (u : Sg), Ct l d FC clA yX1_holds cX1_holds 3 (some .boolean) DX1_holds rvI [vR 1, vI a1] u (call 67 [a1] u)) (u : Sg) : WG p l e R s m args below meth c JX1_contradictory DX1_contradictory G clA A FC ad0 σ0 rvI (bX1_contradictory call u) u 0 [(0, vR 1)] [] := by
  unfold bX1_contradictory
  refine g_iconst dX1_contradictory_0 ?_
  refine g_istore_n (loc' := [(1, vI 0), (0, vR 1)]) dX1_contradictory_1 (by decide) rfl ?_
  refine g_pick [1, 0] rfl (wX1_contradictory_L2 hd hRf hRl hX1_classHas hX2_at hX1_isKnownHere hX1_holds _ _ (fun s1 => ?_) (fun s6 => ?_) KF 0 u (inR_z (Or.inl rfl)))
  · refine g_iconst dX1_contradictory_39 ?_
    refine g_istore_n (loc' := [(1, vI 0), (0, vR 1)]) dX1_contradictory_40 (by decide) rfl ?_
    refine g_pick [1, 0] rfl (wX1_contradictory_L41 hd hRf hRl hX1_classHas hX2_at hX1_isKnownHere hX1_holds _ _ _ _ (fun s2 => ?_) (fun s3 => ?_) (fun s4 => ?_) (fun s5 => ?_) KF 0 s1 (inR_z (Or.inl rfl)))
    · refine g_iconst dX1_contradictory_154 ?_
      exact g_zret rfl rfl (fun _ => (Or.inl rfl)) dX1_contradictory_155
    · refine g_iconst dX1_contradictory_67 ?_
      exact g_zret rfl rfl (fun _ => (Or.inr rfl)) dX1_contradictory_68
    · refine g_goto 146 dX1_contradictory_127 (by decide) ?_
      refine g_iconst dX1_contradictory_146 ?_
      exact g_zret rfl rfl (fun _ => (Or.inr rfl)) dX1_contradictory_147
    · refine g_iconst dX1_contradictory_146 ?_
      exact g_zret rfl rfl (fun _ => (Or.inr rfl)) dX1_contradictory_147
  · refine g_iconst dX1_contradictory_31 ?_
    exact g_zret rfl rfl (fun _ => (Or.inr rfl)) dX1_contradictory_32
end
section
variable {l : Launch} {d : Nat} {call : Nat → List Int → Sg → Option (Int × Sg)}
theorem ctX1_contradictory (p0 : Program) (e0 : Env) (s0 : State) (m0 : MethodId) (meth0 : Method) (c0 : Code) (G0 : Gm) (hd : 2 ≤ d) (hX1_classHas : ∀ (a1 a2 : Int) (u : Sg), Ct l d FC clA yX1_classHas cX1_classHas 4 (some .boolean) DX1_classHas rvI [vR 1, vI a1, vI a2] u (call 63 [a1, a2] u)) (hX2_at : ∀ (a1 a2 : Int) (u : Sg), Ct l d FC clA yX2_at cX2_at 3 (some .int) DX2_at rvI [vR 0, vI a1, vI a2] u (call 98 [a1, a2] u)) (hX1_isKnownHere : ∀ (a1 : Int) (u : Sg), Ct l d FC clA yX1_isKnownHere cX1_isKnownHere 2 (some .boolean) DX1_isKnownHere rvI [vR 1, vI a1] u (call 66 [a1] u)) (hX1_holds : ∀ (a1 : Int) (u : Sg), Ct l d FC clA yX1_holds cX1_holds 3 (some .boolean) DX1_holds rvI [vR 1, vI a1] u (call 67 [a1] u)) (u : Sg) : Ct l (d + 1) FC clA yX1_contradictory cX1_contradictory 6 (some .boolean) DX1_contradictory rvI [vR 1] u (bX1_contradictory call u) :=
  Ct_of (by decide) (Nat.le_of_ble_eq_true rfl) (fun p e R s1 m args below meth c G A ad hA hRf hRl => wX1_contradictory hd hRf hRl hX1_classHas hX2_at hX1_isKnownHere hX1_holds u) p0 e0 s0 m0 meth0 c0 G0
end
