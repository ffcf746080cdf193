/-! RoundCheck.clear()I -/
abbrev JX1_clear : Jm := (cX1_clear, RX1, 2, (some .int))
def bX1_clear (call : Nat → List Int → Sg → Option (Int × Sg)) (u : Sg) : Option (Int × Sg) := un (gI u 83) fun v1 => un (sI u 83 0) fun s2 => some (v1, s2)
section
variable {p : Program} {l : Launch} {e : Env} {R : Room} {s : State} {m : MethodId} {args : Array Value} {below : List Frame} {meth : Method} {c : Code} {G : Gm} {A : Nat → Prop} {ad0 : Nat → Nat} {σ0 : Sg} {d : Nat} {call : Nat → List Int → Sg → Option (Int × Sg)}
theorem wX1_clear (hd : 2 ≤ d) (hRf : d + 1 ≤ R.frames) (hRl : 40 * (d + 1) ≤ R.locals) (u : Sg) : WG p l e R s m args below meth c JX1_clear DX1_clear G clA A FC ad0 σ0 rvI (bX1_clear call u) u 0 [(0, vR 1)] [] := by
  unfold bX1_clear
  refine g_aload_n 0 dX1_clear_0 rfl ?_
  refine g_getI (ci := 1) (b := 30) (N := 57) 53 rfl rfl rfl (by decide) in_X1 rfl rfl q361 dX1_clear_1 (fun v1 rv1 => ?_)
  refine g_istore_n (loc' := [(1, vI v1), (0, vR 1)]) dX1_clear_4 (by decide) rfl ?_
  refine g_aload_n 1 dX1_clear_5 rfl ?_
  refine g_iconst dX1_clear_6 ?_
  refine g_sIU (ci := 1) (b := 30) (N := 57) FC_ok 53 rfl rfl rfl (by decide) in_X1 tyX1 tyX1_ok nmX1 rfl rfl rfl rfl (by decide +kernel) (inR_z (Or.inl rfl)) q361 dX1_clear_7 (fun s2 => ?_)
  refine g_iload_n 0 dX1_clear_10 rfl ?_
  exact g_iret rfl rfl (fun _ => rv1) dX1_clear_11
end
section
variable {l : Launch} {d : Nat} {call : Nat → List Int → Sg → Option (Int × Sg)}
theorem ctX1_clear (p0 : Program) (e0 : Env) (s0 : State) (m0 : MethodId) (meth0 : Method) (c0 : Code) (G0 : Gm) (hd : 2 ≤ d) (u : Sg) : Ct l (d + 1) FC clA yX1_clear cX1_clear 2 (some .int) DX1_clear rvI [vR 1] u (bX1_clear call u) :=
  Ct_of (by decide) (Nat.le_of_ble_eq_true rfl) (fun p e R s1 m args below meth c G A ad hA hRf hRl => wX1_clear hd hRf hRl u) p0 e0 s0 m0 meth0 c0 G0
end
/-! RoundCheck.loci(I)I -/
abbrev JX1_loci : Jm := (cX1_loci, RX1, 5, (some .int))
def bX1_loci_L62 (call : Nat → List Int → Sg → Option (Int × Sg)) : Nat → Int → Int → Int → Int → Sg → (Int → Sg → Option (Int × Sg)) → Option (Int × Sg)
  | 0, _, _, _, _, _, _ => none
  | n + 1, a1, a2, a3, a4, u, x93 => if a4 < a3 then (cl (call 98 [a1, a4] u) fun v1 s2 => cl (call 5 [v1] s2) fun v3 s4 => un (if a2 < v3 then v3 else a2) fun v5 => ar (a4 + 1) fun v6 => bX1_loci_L62 call n a1 v5 a3 v6 s4 x93) else (x93 a2 u)
def bX1_loci (call : Nat → List Int → Sg → Option (Int × Sg)) (a1 : Int) (u : Sg) : Option (Int × Sg) := if a1 = 0 then (some ((-1), u)) else (ld u 0 a1 fun v1 => if v1 = 3 then (ld u 1 a1 fun v2 => some (v2, u)) else (jn (fun (a1 a2 t0 : Int) (s4 : Sg) => bX1_loci_L62 call KF a1 a2 t0 0 s4 (fun v6 s5 => some (v6, s5))) fun j3 => ld u 0 a1 fun v7 => if v7 = 8 then (j3 a1 ((-1)) 1 u) else (ld u 3 a1 fun v8 => j3 a1 ((-1)) v8 u)))
section
variable {p : Program} {l : Launch} {e : Env} {R : Room} {s : State} {m : MethodId} {args : Array Value} {below : List Frame} {meth : Method} {c : Code} {G : Gm} {A : Nat → Prop} {ad0 : Nat → Nat} {σ0 : Sg} {d : Nat} {call : Nat → List Int → Sg → Option (Int × Sg)}
theorem wX1_loci_L62 (hd : 2 ≤ d) (hRf : d + 1 ≤ R.frames) (hRl : 40 * (d + 1) ≤ R.locals) (hX2_at : ∀ (a1 a2 : Int) (u : Sg), Ct l d FC clA yX2_at cX2_at 3 (some .int) DX2_at rvI [vR 0, vI a1, vI a2] u (call 98 [a1, a2] u)) (hX1_loci : ∀ (a1 : Int) (u : Sg), Ct l d FC clA yX1_loci cX1_loci 5 (some .int) DX1_loci rvI [vR 1, vI a1] u (call 5 [a1] u)) (x93 : Int → Sg → Option (Int × Sg)) (hx93 : ∀ (a2 : Int) (u : Sg), inR a2 → WG p l e R s m args below meth c JX1_loci DX1_loci G clA A FC ad0 σ0 rvI (x93 a2 u) u 93 [(2, vI a2)] []) : ∀ (n : Nat) (a1 a2 a3 a4 : Int) (u : Sg), inR a1 → inR a2 → inR a3 → inR a4 → WG p l e R s m args below meth c JX1_loci DX1_loci G clA A FC ad0 σ0 rvI (bX1_loci_L62 call n a1 a2 a3 a4 u x93) u 62 [(0, vR 1), (1, vI a1), (2, vI a2), (3, vI a3), (4, vI a4)] [] := by
  intro n
  induction n with
  | zero =>
    intro a1 a2 a3 a4 u ra1 ra2 ra3 ra4
    exact g_none
  | succ n ih =>
    intro a1 a2 a3 a4 u ra1 ra2 ra3 ra4
    rw [bX1_loci_L62]
    refine g_iload 4 dX1_loci_62 rfl ?_
    refine g_iload_n 3 dX1_loci_64 rfl ?_
    refine g_icmp_ge 93 dX1_loci_65 (by decide) (fun _ => ra4) (fun _ => ra3) (fun _ => ?_) (fun _ => ?_)
    · refine g_iload_n 2 dX1_loci_68 rfl ?_
      refine g_aload_n 0 dX1_loci_69 rfl ?_
      refine g_aload_n 0 dX1_loci_70 rfl ?_
      refine g_get (v := vR 0) (ci := 1) (b := 30) (N := 57) 0 rfl rfl (by decide) in_X1 rfl rfl q308 dX1_loci_71 ?_
      refine g_iload_n 1 dX1_loci_74 rfl ?_
      refine g_iload 4 dX1_loci_75 rfl ?_
      refine g_cVI (As := [vI a1, vI a4]) (n := 2) (stk := [vR 1, vI a2]) (ci := 0) (b := 0) (N := 21) (hX2_at a1 a4 u) (by decide +kernel) rfl rfl (lw_V q571 q572 q573 q164 q574) (by decide +kernel) rfl (by decide) hRf hRl (fun _ => (avc ra1 (avc ra4 avn))) (Nat.le_of_ble_eq_true rfl) rfl rfl dX1_loci_77 (fun v1 s2 rv1 => ?_)
      refine g_cVI (As := [vI v1]) (n := 1) (stk := [vI a2]) (ci := 1) (b := 30) (N := 57) (hX1_loci v1 s2) (by decide +kernel) rfl rfl (lw_V q567 q569 qs4 q163 q570) (by decide +kernel) rfl (by decide) hRf hRl (fun _ => (avc rv1 avn)) (Nat.le_of_ble_eq_true rfl) rfl rfl dX1_loci_80 (fun v3 s4 rv3 => ?_)
      refine g_mmax ra2 rv3 (Nat.le_trans (Nat.succ_le_succ (Nat.zero_le _)) hRf) (Nat.le_trans (Nat.mul_le_mul_left 40 (Nat.succ_le_succ (Nat.zero_le d))) hRl) (Nat.le_of_ble_eq_true rfl) q575 q217 q166 q218 dX1_loci_83 (fun v5 rv5 => ?_)
      refine g_istore_n (loc' := [(2, vI v5), (0, vR 1), (1, vI a1), (3, vI a3), (4, vI a4)]) dX1_loci_86 (by decide) rfl ?_
      refine g_iinc 4 (loc' := fun v6 => [(4, vI v6), (2, vI v5), (0, vR 1), (1, vI a1), (3, vI a3)]) dX1_loci_87 rfl (by decide) (fun _ => rfl) (fun v6 rv6 => ?_)
      refine g_goto 62 dX1_loci_90 (by decide) ?_
      exact g_pick [2, 3, 1, 4, 0] rfl (ih a1 v5 a3 v6 s4 ra1 rv5 ra3 rv6)
    · exact g_pick [2] rfl (hx93 a2 u ra2)
theorem wX1_loci (hd : 2 ≤ d) (hRf : d + 1 ≤ R.frames) (hRl : 40 * (d + 1) ≤ R.locals) (hX2_at : ∀ (a1 a2 : Int) (u : Sg), Ct l d FC clA yX2_at cX2_at 3 (some .int) DX2_at rvI [vR 0, vI a1, vI a2] u (call 98 [a1, a2] u)) (hX1_loci : ∀ (a1 : Int) (u : Sg), Ct l d FC clA yX1_loci cX1_loci 5 (some .int) DX1_loci rvI [vR 1, vI a1] u (call 5 [a1] u)) (a1 : Int) (u : Sg) (ra1 : inR a1) : WG p l e R s m args below meth c JX1_loci DX1_loci G clA A FC ad0 σ0 rvI (bX1_loci call a1 u) u 0 [(0, vR 1), (1, vI a1)] [] := by
  unfold bX1_loci
  refine g_iload_n 1 dX1_loci_0 rfl ?_
  refine g_if_ne 6 dX1_loci_1 (by decide) (fun _ => ra1) (fun _ => ?_) (fun _ => ?_)
  · refine g_iconst dX1_loci_4 ?_
    exact g_iret rfl rfl (fun _ => (by decide : inR (-1))) dX1_loci_5
  · refine g_aload_n 0 dX1_loci_6 rfl ?_
    refine g_get (v := vR 0) (ci := 1) (b := 30) (N := 57) 0 rfl rfl (by decide) in_X1 rfl rfl q308 dX1_loci_7 ?_
    refine g_get (v := vR 10) (ci := 0) (b := 0) (N := 21) 0 rfl rfl (by decide) in_X2 rfl rfl q232 dX1_loci_10 ?_
    refine g_iload_n 1 dX1_loci_13 rfl ?_
    refine g_iald (id := 0) 0 rfl rfl dX1_loci_14 (fun v1 rv1 => ?_)
    refine g_iconst dX1_loci_15 ?_
    refine g_icmp_ne 29 dX1_loci_16 (by decide) (fun _ => rv1) (fun _ => (by decide : inR (3))) (fun _ => ?_) (fun _ => ?_)
    · refine g_aload_n 0 dX1_loci_19 rfl ?_
      refine g_get (v := vR 0) (ci := 1) (b := 30) (N := 57) 0 rfl rfl (by decide) in_X1 rfl rfl q308 dX1_loci_20 ?_
      refine g_get (v := vR 11) (ci := 0) (b := 0) (N := 21) 1 rfl rfl (by decide) in_X2 rfl rfl q234 dX1_loci_23 ?_
      refine g_iload_n 1 dX1_loci_26 rfl ?_
      refine g_iald (id := 1) 1 rfl rfl dX1_loci_27 (fun v2 rv2 => ?_)
      exact g_iret rfl rfl (fun _ => rv2) dX1_loci_28
    · refine g_jn (fun j3 => ∀ (a1 a2 t0 : Int) (s4 : Sg), inR a1 → inR a2 → inR t0 → WG p l e R s m args below meth c JX1_loci DX1_loci G clA A FC ad0 σ0 rvI (j3 a1 a2 t0 s4) s4 58 [(0, vR 1), (1, vI a1), (2, vI a2)] [vI t0]) (fun a1 a2 t0 s4 ra1 ra2 rt0 => ?_) (fun j3 hj3 => ?_)
      · refine g_istore_n (loc' := [(3, vI t0), (0, vR 1), (1, vI a1), (2, vI a2)]) dX1_loci_58 (by decide) rfl ?_
        refine g_iconst dX1_loci_59 ?_
        refine g_istore (loc' := [(4, vI 0), (3, vI t0), (0, vR 1), (1, vI a1), (2, vI a2)]) dX1_loci_60 (by decide) rfl ?_
        refine g_pick [2, 3, 4, 1, 0] rfl (wX1_loci_L62 hd hRf hRl hX2_at hX1_loci _ (fun v6 s5 rv6 => ?_) KF a1 a2 t0 0 s4 ra1 ra2 rt0 (inR_z (Or.inl rfl)))
        · refine g_iload_n 0 dX1_loci_93 rfl ?_
          exact g_iret rfl rfl (fun _ => rv6) dX1_loci_94
      · refine g_iconst dX1_loci_29 ?_
        refine g_istore_n (loc' := [(2, vI (-1)), (0, vR 1), (1, vI a1)]) dX1_loci_30 (by decide) rfl ?_
        refine g_aload_n 1 dX1_loci_31 rfl ?_
        refine g_get (v := vR 0) (ci := 1) (b := 30) (N := 57) 0 rfl rfl (by decide) in_X1 rfl rfl q308 dX1_loci_32 ?_
        refine g_get (v := vR 10) (ci := 0) (b := 0) (N := 21) 0 rfl rfl (by decide) in_X2 rfl rfl q232 dX1_loci_35 ?_
        refine g_iload_n 2 dX1_loci_38 rfl ?_
        refine g_iald (id := 0) 0 rfl rfl dX1_loci_39 (fun v7 rv7 => ?_)
        refine g_bipush (by decide +kernel) dX1_loci_40 ?_
        refine g_icmp_ne 49 dX1_loci_42 (by decide) (fun _ => rv7) (fun _ => (by decide : inR (8))) (fun _ => ?_) (fun _ => ?_)
        · refine g_iconst dX1_loci_45 ?_
          refine g_goto 58 dX1_loci_46 (by decide) ?_
          exact g_pick [1, 2, 0] rfl (hj3 a1 ((-1)) 1 u ra1 (by decide : inR (-1)) (inR_z (Or.inr rfl)))
        · refine g_aload_n 1 dX1_loci_49 rfl ?_
          refine g_get (v := vR 0) (ci := 1) (b := 30) (N := 57) 0 rfl rfl (by decide) in_X1 rfl rfl q308 dX1_loci_50 ?_
          refine g_get (v := vR 13) (ci := 0) (b := 0) (N := 21) 3 rfl rfl (by decide) in_X2 rfl rfl q237 dX1_loci_53 ?_
          refine g_iload_n 2 dX1_loci_56 rfl ?_
          refine g_iald (id := 3) 3 rfl rfl dX1_loci_57 (fun v8 rv8 => ?_)
          exact g_pick [1, 2, 0] rfl (hj3 a1 ((-1)) v8 u ra1 (by decide : inR (-1)) rv8)
end
section
variable {l : Launch} {d : Nat} {call : Nat → List Int → Sg → Option (Int × Sg)}
theorem ctX1_loci (p0 : Program) (e0 : Env) (s0 : State) (m0 : MethodId) (meth0 : Method) (c0 : Code) (G0 : Gm) (hd : 2 ≤ d) (hX2_at : ∀ (a1 a2 : Int) (u : Sg), Ct l d FC clA yX2_at cX2_at 3 (some .int) DX2_at rvI [vR 0, vI a1, vI a2] u (call 98 [a1, a2] u)) (hX1_loci : ∀ (a1 : Int) (u : Sg), Ct l d FC clA yX1_loci cX1_loci 5 (some .int) DX1_loci rvI [vR 1, vI a1] u (call 5 [a1] u)) (a1 : Int) (u : Sg) : Ct l (d + 1) FC clA yX1_loci cX1_loci 5 (some .int) DX1_loci rvI [vR 1, vI a1] u (bX1_loci call a1 u) :=
  Ct_of (by decide) (Nat.le_of_ble_eq_true rfl) (fun p e R s1 m args below meth c G A ad hA hRf hRl => wX1_loci hd hRf hRl hX2_at hX1_loci a1 u (hA _ (List.mem_cons_of_mem _ List.mem_cons_self))) p0 e0 s0 m0 meth0 c0 G0
end
/-! RoundCheck.isTerm(I)Z -/
abbrev JX1_isTerm : Jm := (cX1_isTerm, RX1, 1, (some .boolean))
def bX1_isTerm (call : Nat → List Int → Sg → Option (Int × Sg)) (a0 : Int) (u : Sg) : Option (Int × Sg) := if a0 ≤ 5 then (some (1, u)) else (some (0, u))
section
variable {p : Program} {l : Launch} {e : Env} {R : Room} {s : State} {m : MethodId} {args : Array Value} {below : List Frame} {meth : Method} {c : Code} {G : Gm} {A : Nat → Prop} {ad0 : Nat → Nat} {σ0 : Sg} {d : Nat} {call : Nat → List Int → Sg → Option (Int × Sg)}
theorem wX1_isTerm (hd : 2 ≤ d) (hRf : d + 1 ≤ R.frames) (hRl : 40 * (d + 1) ≤ R.locals) (a0 : Int) (u : Sg) (ra0 : inR a0) : WG p l e R s m args below meth c JX1_isTerm DX1_isTerm G clA A FC ad0 σ0 rvI (bX1_isTerm call a0 u) u 0 [(0, vI a0)] [] := by
  unfold bX1_isTerm
  refine g_iload_n 0 dX1_isTerm_0 rfl ?_
  refine g_iconst dX1_isTerm_1 ?_
  refine g_icmp_gt 9 dX1_isTerm_2 (by decide) (fun _ => ra0) (fun _ => (by decide : inR (5))) (fun _ => ?_) (fun _ => ?_)
  · refine g_iconst dX1_isTerm_5 ?_
    refine g_goto 10 dX1_isTerm_6 (by decide) ?_
    exact g_zret rfl rfl (fun _ => (Or.inr rfl)) dX1_isTerm_10
  · refine g_iconst dX1_isTerm_9 ?_
    exact g_zret rfl rfl (fun _ => (Or.inl rfl)) dX1_isTerm_10
end
section
variable {l : Launch} {d : Nat} {call : Nat → List Int → Sg → Option (Int × Sg)}
theorem ctX1_isTerm (p0 : Program) (e0 : Env) (s0 : State) (m0 : MethodId) (meth0 : Method) (c0 : Code) (G0 : Gm) (hd : 2 ≤ d) (a0 : Int) (u : Sg) : Ct l (d + 1) FC clA yX1_isTerm cX1_isTerm 1 (some .boolean) DX1_isTerm rvI [vI a0] u (bX1_isTerm call a0 u) :=
  Ct_of (by decide) (Nat.le_of_ble_eq_true rfl) (fun p e R s1 m args below meth c G A ad hA hRf hRl => wX1_isTerm hd hRf hRl a0 u (hA _ List.mem_cons_self)) p0 e0 s0 m0 meth0 c0 G0
end
/-! RoundCheck.withSet(III)I -/
abbrev JX1_withSet : Jm := (cX1_withSet, RX1, 6, (some .int))
def bX1_withSet_L12 (call : Nat → List Int → Sg → Option (Int × Sg)) : Nat → Int → Int → Int → Int → Int → Sg → (Int → Int → Int → Sg → Option (Int × Sg)) → Option (Int × Sg)
  | 0, _, _, _, _, _, _, _ => none
  | n + 1, a1, a2, a3, a4, a5, u, x48 => un (gI u 70) fun v1 => ar (2 * v1) fun v2 => if a5 < v2 then (un (o_shr a3 a5) fun v3 => un (o_and v3 1) fun v4 => if v4 = 1 then (cl (call 97 [a5] u) fun v5 s6 => ar (a5 + 1) fun v7 => bX1_withSet_L12 call n a1 a2 a3 a4 v7 s6 x48) else (ar (a5 + 1) fun v8 => bX1_withSet_L12 call n a1 a2 a3 a4 v8 u x48)) else (x48 a1 a2 a4 u)
def bX1_withSet (call : Nat → List Int → Sg → Option (Int × Sg)) (a1 a2 a3 : Int) (u : Sg) : Option (Int × Sg) := un (gI u 12) fun v1 => bX1_withSet_L12 call KF a1 a2 a3 v1 0 u (fun v3 v4 v5 s2 => cl (call 15 [v3, v4, v5] s2) fun v6 s7 => some (v6, s7))
section
variable {p : Program} {l : Launch} {e : Env} {R : Room} {s : State} {m : MethodId} {args : Array Value} {below : List Frame} {meth : Method} {c : Code} {G : Gm} {A : Nat → Prop} {ad0 : Nat → Nat} {σ0 : Sg} {d : Nat} {call : Nat → List Int → Sg → Option (Int × Sg)}
theorem wX1_withSet_L12 (hd : 2 ≤ d) (hRf : d + 1 ≤ R.frames) (hRl : 40 * (d + 1) ≤ R.locals) (hX2_push : ∀ (a1 : Int) (u : Sg), Ct l d FC clA yX2_push cX2_push 2 none DX2_push rvV [vR 0, vI a1] u (call 97 [a1] u)) (hX1_typed : ∀ (a1 a2 a3 : Int) (u : Sg), Ct l d FC clA yX1_typed cX1_typed 8 (some .int) DX1_typed rvI [vR 1, vI a1, vI a2, vI a3] u (call 15 [a1, a2, a3] u)) (x48 : Int → Int → Int → Sg → Option (Int × Sg)) (hx48 : ∀ (a1 a2 a4 : Int) (u : Sg), inR a1 → inR a2 → inR a4 → WG p l e R s m args below meth c JX1_withSet DX1_withSet G clA A FC ad0 σ0 rvI (x48 a1 a2 a4 u) u 48 [(0, vR 1), (1, vI a1), (2, vI a2), (4, vI a4)] []) : ∀ (n : Nat) (a1 a2 a3 a4 a5 : Int) (u : Sg), inR a1 → inR a2 → inR a3 → inR a4 → inR a5 → WG p l e R s m args below meth c JX1_withSet DX1_withSet G clA A FC ad0 σ0 rvI (bX1_withSet_L12 call n a1 a2 a3 a4 a5 u x48) u 12 [(0, vR 1), (1, vI a1), (2, vI a2), (3, vI a3), (4, vI a4), (5, vI a5)] [] := by
  intro n
  induction n with
  | zero =>
    intro a1 a2 a3 a4 a5 u ra1 ra2 ra3 ra4 ra5
    exact g_none
  | succ n ih =>
    intro a1 a2 a3 a4 a5 u ra1 ra2 ra3 ra4 ra5
    rw [bX1_withSet_L12]
    refine g_iload 5 dX1_withSet_12 rfl ?_
    refine g_iconst dX1_withSet_14 ?_
    refine g_aload_n 0 dX1_withSet_15 rfl ?_
    refine g_getI (ci := 1) (b := 30) (N := 57) 40 rfl rfl rfl (by decide) in_X1 rfl rfl q348 dX1_withSet_16 (fun v1 rv1 => ?_)
    refine g_imul dX1_withSet_19 (fun v2 rv2 => ?_)
    refine g_icmp_ge 48 dX1_withSet_20 (by decide) (fun _ => ra5) (fun _ => rv2) (fun _ => ?_) (fun _ => ?_)
    · refine g_iload_n 3 dX1_withSet_23 rfl ?_
      refine g_iload 5 dX1_withSet_24 rfl ?_
      refine g_ishrU dX1_withSet_26 (fun v3 rv3 => ?_)
      refine g_iconst dX1_withSet_27 ?_
      refine g_iandU dX1_withSet_28 (fun v4 rv4 => ?_)
      refine g_iconst dX1_withSet_29 ?_
      refine g_icmp_ne 42 dX1_withSet_30 (by decide) (fun _ => rv4) (fun _ => (inR_z (Or.inr rfl))) (fun _ => ?_) (fun _ => ?_)
      · refine g_aload_n 0 dX1_withSet_33 rfl ?_
        refine g_get (v := vR 0) (ci := 1) (b := 30) (N := 57) 0 rfl rfl (by decide) in_X1 rfl rfl q308 dX1_withSet_34 ?_
        refine g_iload 5 dX1_withSet_37 rfl ?_
        refine g_cVV (As := [vI a5]) (n := 1) (stk := []) (ci := 0) (b := 0) (N := 21) (hX2_push a5 u) (by decide +kernel) rfl rfl (lw_V q637 q228 q229 q164 q230) (by decide +kernel) rfl (by decide) hRf hRl (fun _ => (avc ra5 avn)) (Nat.le_of_ble_eq_true rfl) rfl rfl dX1_withSet_39 (fun v5 s6 => ?_)
        refine g_iinc 5 (loc' := fun v7 => [(5, vI v7), (0, vR 1), (1, vI a1), (2, vI a2), (3, vI a3), (4, vI a4)]) dX1_withSet_42 rfl (by decide) (fun _ => rfl) (fun v7 rv7 => ?_)
        refine g_goto 12 dX1_withSet_45 (by decide) ?_
        exact g_pick [1, 2, 3, 4, 5, 0] rfl (ih a1 a2 a3 a4 v7 s6 ra1 ra2 ra3 ra4 rv7)
      · refine g_iinc 5 (loc' := fun v8 => [(5, vI v8), (0, vR 1), (1, vI a1), (2, vI a2), (3, vI a3), (4, vI a4)]) dX1_withSet_42 rfl (by decide) (fun _ => rfl) (fun v8 rv8 => ?_)
        refine g_goto 12 dX1_withSet_45 (by decide) ?_
        exact g_pick [1, 2, 3, 4, 5, 0] rfl (ih a1 a2 a3 a4 v8 u ra1 ra2 ra3 ra4 rv8)
    · exact g_pick [0, 1, 2, 4] rfl (hx48 a1 a2 a4 u ra1 ra2 ra4)
theorem wX1_withSet (hd : 2 ≤ d) (hRf : d + 1 ≤ R.frames) (hRl : 40 * (d + 1) ≤ R.locals) (hX2_push : ∀ (a1 : Int) (u : Sg), Ct l d FC clA yX2_push cX2_push 2 none DX2_push rvV [vR 0, vI a1] u (call 97 [a1] u)) (hX1_typed : ∀ (a1 a2 a3 : Int) (u : Sg), Ct l d FC clA yX1_typed cX1_typed 8 (some .int) DX1_typed rvI [vR 1, vI a1, vI a2, vI a3] u (call 15 [a1, a2, a3] u)) (a1 a2 a3 : Int) (u : Sg) (ra1 : inR a1) (ra2 : inR a2) (ra3 : inR a3) : WG p l e R s m args below meth c JX1_withSet DX1_withSet G clA A FC ad0 σ0 rvI (bX1_withSet call a1 a2 a3 u) u 0 [(0, vR 1), (1, vI a1), (2, vI a2), (3, vI a3)] [] := by
  unfold bX1_withSet
  refine g_aload_n 0 dX1_withSet_0 rfl ?_
  refine g_get (v := vR 0) (ci := 1) (b := 30) (N := 57) 0 rfl rfl (by decide) in_X1 rfl rfl q308 dX1_withSet_1 ?_
  refine g_getI (ci := 0) (b := 0) (N := 21) 12 rfl rfl rfl (by decide) in_X2 rfl rfl q251 dX1_withSet_4 (fun v1 rv1 => ?_)
  refine g_istore (loc' := [(4, vI v1), (0, vR 1), (1, vI a1), (2, vI a2), (3, vI a3)]) dX1_withSet_7 (by decide) rfl ?_
  refine g_iconst dX1_withSet_9 ?_
  refine g_istore (loc' := [(5, vI 0), (4, vI v1), (0, vR 1), (1, vI a1), (2, vI a2), (3, vI a3)]) dX1_withSet_10 (by decide) rfl ?_
  refine g_pick [2, 3, 4, 5, 1, 0] rfl (wX1_withSet_L12 hd hRf hRl hX2_push hX1_typed _ (fun v3 v4 v5 s2 rv3 rv4 rv5 => ?_) KF a1 a2 a3 v1 0 u ra1 ra2 ra3 rv1 (inR_z (Or.inl rfl)))
  · refine g_aload_n 0 dX1_withSet_48 rfl ?_
    refine g_iload_n 1 dX1_withSet_49 rfl ?_
    refine g_iload_n 2 dX1_withSet_50 rfl ?_
    refine g_iload 3 dX1_withSet_51 rfl ?_
    refine g_cVI (As := [vI v3, vI v4, vI v5]) (n := 3) (stk := []) (ci := 1) (b := 30) (N := 57) (hX1_typed v3 v4 v5 s2) (by decide +kernel) rfl rfl (lw_V q638 q640 qs8 q163 q641) (by decide +kernel) rfl (by decide) hRf hRl (fun _ => (avc rv3 (avc rv4 (avc rv5 avn)))) (Nat.le_of_ble_eq_true rfl) rfl rfl dX1_withSet_53 (fun v6 s7 rv6 => ?_)
    exact g_iret rfl rfl (fun _ => rv6) dX1_withSet_56
end
section
variable {l : Launch} {d : Nat} {call : Nat → List Int → Sg → Option (Int × Sg)}
theorem ctX1_withSet (p0 : Program) (e0 : Env) (s0 : State) (m0 : MethodId) (meth0 : Method) (c0 : Code) (G0 : Gm) (hd : 2 ≤ d) (hX2_push : ∀ (a1 : Int) (u : Sg), Ct l d FC clA yX2_push cX2_push 2 none DX2_push rvV [vR 0, vI a1] u (call 97 [a1] u)) (hX1_typed : ∀ (a1 a2 a3 : Int) (u : Sg), Ct l d FC clA yX1_typed cX1_typed 8 (some .int) DX1_typed rvI [vR 1, vI a1, vI a2, vI a3] u (call 15 [a1, a2, a3] u)) (a1 a2 a3 : Int) (u : Sg) : Ct l (d + 1) FC clA yX1_withSet cX1_withSet 6 (some .int) DX1_withSet rvI [vR 1, vI a1, vI a2, vI a3] u (bX1_withSet call a1 a2 a3 u) :=
  Ct_of (by decide) (Nat.le_of_ble_eq_true rfl) (fun p e R s1 m args below meth c G A ad hA hRf hRl => wX1_withSet hd hRf hRl hX2_push hX1_typed a1 a2 a3 u (hA _ (List.mem_cons_of_mem _ List.mem_cons_self)) (hA _ (List.mem_cons_of_mem _ (List.mem_cons_of_mem _ List.mem_cons_self))) (hA _ (List.mem_cons_of_mem _ (List.mem_cons_of_mem _ (List.mem_cons_of_mem _ List.mem_cons_self))))) p0 e0 s0 m0 meth0 c0 G0
end
/-! RoundCheck.typed(III)I -/
abbrev JX1_typed : Jm := (cX1_typed, RX1, 8, (some .int))
def bX1_typed_L39 (call : Nat → List Int → Sg → Option (Int × Sg)) : Nat → Int → Int → Int → Int → Int → Int → Int → Sg → (Int → Int → Int → Int → Int → Int → Int → Sg → Option (Int × Sg)) → Option (Int × Sg)
  | 0, _, _, _, _, _, _, _, _, _ => none
  | n + 1, a1, a2, a3, a4, a5, a6, a7, u, x95 => if a7 ≤ 0 then (x95 a1 a2 a3 a4 a5 a6 a7 u) else (ar (a3 + a7) fun v1 => ar (v1 - 1) fun v2 => ld u 11 v2 fun v3 => if v3 ≤ a6 then (x95 a1 a2 a3 a4 a5 a6 a7 u) else (ar (a3 + a7) fun v4 => ar (a3 + a7) fun v5 => ar (v5 - 1) fun v6 => ld u 11 v6 fun v7 => stA u 11 v4 v7 fun s8 => ar (a7 + (-1)) fun v9 => bX1_typed_L39 call n a1 a2 a3 a4 a5 a6 v9 s8 x95))
def bX1_typed_L14 (call : Nat → List Int → Sg → Option (Int × Sg)) : Nat → Int → Int → Int → Int → Int → Sg → (Int → Int → Int → Int → Sg → Option (Int × Sg)) → Option (Int × Sg)
  | 0, _, _, _, _, _, _, _ => none
  | n + 1, a1, a2, a3, a4, a5, u, x115 => if a5 < a4 then (ar (a3 + a5) fun v1 => ld u 11 v1 fun v2 => bX1_typed_L39 call KF a1 a2 a3 a4 a5 v2 a5 u (fun v4 v5 v6 v7 v8 v9 v10 s3 => ar (v6 + v10) fun v11 => stA s3 11 v11 v9 fun s12 => ar (v8 + 1) fun v13 => bX1_typed_L14 call n v4 v5 v6 v7 v13 s12 x115)) else (x115 a1 a2 a3 a4 u)
def bX1_typed_L121 (call : Nat → List Int → Sg → Option (Int × Sg)) : Nat → Int → Int → Int → Int → Int → Int → Sg → (Int → Int → Int → Int → Sg → Option (Int × Sg)) → Option (Int × Sg)
  | 0, _, _, _, _, _, _, _, _ => none
  | n + 1, a1, a2, a3, a4, a5, a6, u, x198 => if a6 < a4 then (jn (fun (a1 a2 a3 a4 a5 a6 : Int) (s2 : Sg) => ar (a3 + a5) fun v3 => ar (a3 + a6) fun v4 => ld s2 11 v4 fun v5 => stA s2 11 v3 v5 fun s6 => ar (a5 + 1) fun v7 => ar (a6 + 1) fun v8 => bX1_typed_L121 call n a1 a2 a3 a4 v7 v8 s6 x198) fun j1 => if a6 ≤ 0 then (j1 a1 a2 a3 a4 a5 a6 u) else (ar (a3 + a6) fun v9 => ld u 11 v9 fun v10 => ar (a3 + a5) fun v11 => ar (v11 - 1) fun v12 => ld u 11 v12 fun v13 => if v10 = v13 then (ar (a6 + 1) fun v14 => bX1_typed_L121 call n a1 a2 a3 a4 a5 v14 u x198) else (j1 a1 a2 a3 a4 a5 a6 u))) else (x198 a1 a2 a3 a5 u)
def bX1_typed_L221 (call : Nat → List Int → Sg → Option (Int × Sg)) : Nat → Int → Int → Int → Int → Sg → (Int → Int → Int → Sg → Option (Int × Sg)) → Option (Int × Sg)
  | 0, _, _, _, _, _, _ => none
  | n + 1, a1, a2, a3, a6, u, x258 => if a6 ≤ 0 then (x258 a1 a2 a3 u) else (ar (a3 + a6) fun v1 => ar (a3 + a6) fun v2 => ar (v2 - 1) fun v3 => ld u 11 v3 fun v4 => stA u 11 v1 v4 fun s5 => ar (a6 + (-1)) fun v6 => bX1_typed_L221 call n a1 a2 a3 v6 s5 x258)
def bX1_typed (call : Nat → List Int → Sg → Option (Int × Sg)) (a1 a2 a3 : Int) (u : Sg) : Option (Int × Sg) := un (gI u 12) fun v1 => ar (v1 - a3) fun v2 => bX1_typed_L14 call KF a1 a2 a3 v2 1 u (fun v4 v5 v6 v7 s3 => bX1_typed_L121 call KF v4 v5 v6 v7 0 0 s3 (fun v9 v10 v11 v12 s8 => ar (v11 + v12) fun v13 => un (sI s8 12 v13) fun s14 => cl (call 97 [0] s14) fun v15 s16 => bX1_typed_L221 call KF v9 v10 v11 v12 s16 (fun v18 v19 v20 s17 => stA s17 11 v20 v19 fun s21 => cl (call 94 [8, v18, v20] s21) fun v22 s23 => some (v22, s23))))
section
variable {p : Program} {l : Launch} {e : Env} {R : Room} {s : State} {m : MethodId} {args : Array Value} {below : List Frame} {meth : Method} {c : Code} {G : Gm} {A : Nat → Prop} {ad0 : Nat → Nat} {σ0 : Sg} {d : Nat} {call : Nat → List Int → Sg → Option (Int × Sg)}
theorem wX1_typed_L39 (hd : 2 ≤ d) (hRf : d + 1 ≤ R.frames) (hRl : 40 * (d + 1) ≤ R.locals) (hX2_push : ∀ (a1 : Int) (u : Sg), Ct l d FC clA yX2_push cX2_push 2 none DX2_push rvV [vR 0, vI a1] u (call 97 [a1] u)) (hX2_make : ∀ (a1 a2 a3 : Int) (u : Sg), Ct l d FC clA yX2_make cX2_make 13 (some .int) DX2_make rvI [vR 0, vI a1, vI a2, vI a3] u (call 94 [a1, a2, a3] u)) (x95 : Int → Int → Int → Int → Int → Int → Int → Sg → Option (Int × Sg)) (hx95 : ∀ (a1 a2 a3 a4 a5 a6 a7 : Int) (u : Sg), inR a1 → inR a2 → inR a3 → inR a4 → inR a5 → inR a6 → inR a7 → WG p l e R s m args below meth c JX1_typed DX1_typed G clA A FC ad0 σ0 rvI (x95 a1 a2 a3 a4 a5 a6 a7 u) u 95 [(0, vR 1), (1, vI a1), (2, vI a2), (3, vI a3), (4, vI a4), (5, vI a5), (6, vI a6), (7, vI a7)] []) : ∀ (n : Nat) (a1 a2 a3 a4 a5 a6 a7 : Int) (u : Sg), inR a1 → inR a2 → inR a3 → inR a4 → inR a5 → inR a6 → inR a7 → WG p l e R s m args below meth c JX1_typed DX1_typed G clA A FC ad0 σ0 rvI (bX1_typed_L39 call n a1 a2 a3 a4 a5 a6 a7 u x95) u 39 [(0, vR 1), (1, vI a1), (2, vI a2), (3, vI a3), (4, vI a4), (5, vI a5), (6, vI a6), (7, vI a7)] [] := by
  intro n
  induction n with
  | zero =>
    intro a1 a2 a3 a4 a5 a6 a7 u ra1 ra2 ra3 ra4 ra5 ra6 ra7
    exact g_none
  | succ n ih =>
    intro a1 a2 a3 a4 a5 a6 a7 u ra1 ra2 ra3 ra4 ra5 ra6 ra7
    rw [bX1_typed_L39]
    refine g_iload 7 dX1_typed_39 rfl ?_
    refine g_if_le 95 dX1_typed_41 (by decide) (fun _ => ra7) (fun _ => ?_) (fun _ => ?_)
    · exact g_pick [0, 1, 2, 3, 4, 5, 6, 7] rfl (hx95 a1 a2 a3 a4 a5 a6 a7 u ra1 ra2 ra3 ra4 ra5 ra6 ra7)
    · refine g_aload_n 0 dX1_typed_44 rfl ?_
      refine g_get (v := vR 0) (ci := 1) (b := 30) (N := 57) 0 rfl rfl (by decide) in_X1 rfl rfl q308 dX1_typed_45 ?_
      refine g_get (v := vR 21) (ci := 0) (b := 0) (N := 21) 11 rfl rfl (by decide) in_X2 rfl rfl q249 dX1_typed_48 ?_
      refine g_iload_n 3 dX1_typed_51 rfl ?_
      refine g_iload 7 dX1_typed_52 rfl ?_
      refine g_iadd dX1_typed_54 (fun v1 rv1 => ?_)
      refine g_iconst dX1_typed_55 ?_
      refine g_isub dX1_typed_56 (fun v2 rv2 => ?_)
      refine g_iald (id := 11) 9 rfl rfl dX1_typed_57 (fun v3 rv3 => ?_)
      refine g_iload 6 dX1_typed_58 rfl ?_
      refine g_icmp_le 95 dX1_typed_60 (by decide) (fun _ => rv3) (fun _ => ra6) (fun _ => ?_) (fun _ => ?_)
      · exact g_pick [0, 1, 2, 3, 4, 5, 6, 7] rfl (hx95 a1 a2 a3 a4 a5 a6 a7 u ra1 ra2 ra3 ra4 ra5 ra6 ra7)
      · refine g_aload_n 0 dX1_typed_63 rfl ?_
        refine g_get (v := vR 0) (ci := 1) (b := 30) (N := 57) 0 rfl rfl (by decide) in_X1 rfl rfl q308 dX1_typed_64 ?_
        refine g_get (v := vR 21) (ci := 0) (b := 0) (N := 21) 11 rfl rfl (by decide) in_X2 rfl rfl q249 dX1_typed_67 ?_
        refine g_iload_n 3 dX1_typed_70 rfl ?_
        refine g_iload 7 dX1_typed_71 rfl ?_
        refine g_iadd dX1_typed_73 (fun v4 rv4 => ?_)
        refine g_aload_n 0 dX1_typed_74 rfl ?_
        refine g_get (v := vR 0) (ci := 1) (b := 30) (N := 57) 0 rfl rfl (by decide) in_X1 rfl rfl q308 dX1_typed_75 ?_
        refine g_get (v := vR 21) (ci := 0) (b := 0) (N := 21) 11 rfl rfl (by decide) in_X2 rfl rfl q249 dX1_typed_78 ?_
        refine g_iload_n 3 dX1_typed_81 rfl ?_
        refine g_iload 7 dX1_typed_82 rfl ?_
        refine g_iadd dX1_typed_84 (fun v5 rv5 => ?_)
        refine g_iconst dX1_typed_85 ?_
        refine g_isub dX1_typed_86 (fun v6 rv6 => ?_)
        refine g_iald (id := 11) 9 rfl rfl dX1_typed_87 (fun v7 rv7 => ?_)
        refine g_iastU (id := 11) FC_ok 9 rfl rfl (by decide +kernel) rv7 dX1_typed_88 (fun s8 => ?_)
        refine g_iinc 7 (loc' := fun v9 => [(7, vI v9), (0, vR 1), (1, vI a1), (2, vI a2), (3, vI a3), (4, vI a4), (5, vI a5), (6, vI a6)]) dX1_typed_89 rfl (by decide) (fun _ => rfl) (fun v9 rv9 => ?_)
        refine g_goto 39 dX1_typed_92 (by decide) ?_
        exact g_pick [1, 2, 3, 4, 5, 6, 7, 0] rfl (ih a1 a2 a3 a4 a5 a6 v9 s8 ra1 ra2 ra3 ra4 ra5 ra6 rv9)
theorem wX1_typed_L14 (hd : 2 ≤ d) (hRf : d + 1 ≤ R.frames) (hRl : 40 * (d + 1) ≤ R.locals) (hX2_push : ∀ (a1 : Int) (u : Sg), Ct l d FC clA yX2_push cX2_push 2 none DX2_push rvV [vR 0, vI a1] u (call 97 [a1] u)) (hX2_make : ∀ (a1 a2 a3 : Int) (u : Sg), Ct l d FC clA yX2_make cX2_make 13 (some .int) DX2_make rvI [vR 0, vI a1, vI a2, vI a3] u (call 94 [a1, a2, a3] u)) (x115 : Int → Int → Int → Int → Sg → Option (Int × Sg)) (hx115 : ∀ (a1 a2 a3 a4 : Int) (u : Sg), inR a1 → inR a2 → inR a3 → inR a4 → WG p l e R s m args below meth c JX1_typed DX1_typed G clA A FC ad0 σ0 rvI (x115 a1 a2 a3 a4 u) u 115 [(0, vR 1), (1, vI a1), (2, vI a2), (3, vI a3), (4, vI a4)] []) : ∀ (n : Nat) (a1 a2 a3 a4 a5 : Int) (u : Sg), inR a1 → inR a2 → inR a3 → inR a4 → inR a5 → WG p l e R s m args below meth c JX1_typed DX1_typed G clA A FC ad0 σ0 rvI (bX1_typed_L14 call n a1 a2 a3 a4 a5 u x115) u 14 [(0, vR 1), (1, vI a1), (2, vI a2), (3, vI a3), (4, vI a4), (5, vI a5)] [] := by
  intro n
  induction n with
  | zero =>
    intro a1 a2 a3 a4 a5 u ra1 ra2 ra3 ra4 ra5
    exact g_none
  | succ n ih =>
    intro a1 a2 a3 a4 a5 u ra1 ra2 ra3 ra4 ra5
    rw [bX1_typed_L14]
    refine g_iload 5 dX1_typed_14 rfl ?_
    refine g_iload 4 dX1_typed_16 rfl ?_
    refine g_icmp_ge 115 dX1_typed_18 (by decide) (fun _ => ra5) (fun _ => ra4) (fun _ => ?_) (fun _ => ?_)
    · refine g_aload_n 0 dX1_typed_21 rfl ?_
      refine g_get (v := vR 0) (ci := 1) (b := 30) (N := 57) 0 rfl rfl (by decide) in_X1 rfl rfl q308 dX1_typed_22 ?_
      refine g_get (v := vR 21) (ci := 0) (b := 0) (N := 21) 11 rfl rfl (by decide) in_X2 rfl rfl q249 dX1_typed_25 ?_
      refine g_iload_n 3 dX1_typed_28 rfl ?_
      refine g_iload 5 dX1_typed_29 rfl ?_
      refine g_iadd dX1_typed_31 (fun v1 rv1 => ?_)
      refine g_iald (id := 11) 9 rfl rfl dX1_typed_32 (fun v2 rv2 => ?_)
      refine g_istore (loc' := [(6, vI v2), (0, vR 1), (1, vI a1), (2, vI a2), (3, vI a3), (4, vI a4), (5, vI a5)]) dX1_typed_33 (by decide) rfl ?_
      refine g_iload 6 dX1_typed_35 rfl ?_
      refine g_istore (loc' := [(7, vI a5), (6, vI v2), (0, vR 1), (1, vI a1), (2, vI a2), (3, vI a3), (4, vI a4), (5, vI a5)]) dX1_typed_37 (by decide) rfl ?_
      refine g_pick [2, 3, 4, 5, 6, 7, 1, 0] rfl (wX1_typed_L39 hd hRf hRl hX2_push hX2_make _ (fun v4 v5 v6 v7 v8 v9 v10 s3 rv4 rv5 rv6 rv7 rv8 rv9 rv10 => ?_) KF a1 a2 a3 a4 a5 v2 a5 u ra1 ra2 ra3 ra4 ra5 rv2 ra5)
      · refine g_aload_n 0 dX1_typed_95 rfl ?_
        refine g_get (v := vR 0) (ci := 1) (b := 30) (N := 57) 0 rfl rfl (by decide) in_X1 rfl rfl q308 dX1_typed_96 ?_
        refine g_get (v := vR 21) (ci := 0) (b := 0) (N := 21) 11 rfl rfl (by decide) in_X2 rfl rfl q249 dX1_typed_99 ?_
        refine g_iload_n 3 dX1_typed_102 rfl ?_
        refine g_iload 7 dX1_typed_103 rfl ?_
        refine g_iadd dX1_typed_105 (fun v11 rv11 => ?_)
        refine g_iload 6 dX1_typed_106 rfl ?_
        refine g_iastU (id := 11) FC_ok 9 rfl rfl (by decide +kernel) rv9 dX1_typed_108 (fun s12 => ?_)
        refine g_iinc 5 (loc' := fun v13 => [(5, vI v13), (0, vR 1), (1, vI v4), (2, vI v5), (3, vI v6), (4, vI v7), (6, vI v9), (7, vI v10)]) dX1_typed_109 rfl (by decide) (fun _ => rfl) (fun v13 rv13 => ?_)
        refine g_goto 14 dX1_typed_112 (by decide) ?_
        exact g_pick [1, 2, 3, 4, 5, 0] rfl (ih v4 v5 v6 v7 v13 s12 rv4 rv5 rv6 rv7 rv13)
    · exact g_pick [0, 1, 2, 3, 4] rfl (hx115 a1 a2 a3 a4 u ra1 ra2 ra3 ra4)
theorem wX1_typed_L121 (hd : 2 ≤ d) (hRf : d + 1 ≤ R.frames) (hRl : 40 * (d + 1) ≤ R.locals) (hX2_push : ∀ (a1 : Int) (u : Sg), Ct l d FC clA yX2_push cX2_push 2 none DX2_push rvV [vR 0, vI a1] u (call 97 [a1] u)) (hX2_make : ∀ (a1 a2 a3 : Int) (u : Sg), Ct l d FC clA yX2_make cX2_make 13 (some .int) DX2_make rvI [vR 0, vI a1, vI a2, vI a3] u (call 94 [a1, a2, a3] u)) (x198 : Int → Int → Int → Int → Sg → Option (Int × Sg)) (hx198 : ∀ (a1 a2 a3 a5 : Int) (u : Sg), inR a1 → inR a2 → inR a3 → inR a5 → WG p l e R s m args below meth c JX1_typed DX1_typed G clA A FC ad0 σ0 rvI (x198 a1 a2 a3 a5 u) u 198 [(0, vR 1), (1, vI a1), (2, vI a2), (3, vI a3), (5, vI a5)] []) : ∀ (n : Nat) (a1 a2 a3 a4 a5 a6 : Int) (u : Sg), inR a1 → inR a2 → inR a3 → inR a4 → inR a5 → inR a6 → WG p l e R s m args below meth c JX1_typed DX1_typed G clA A FC ad0 σ0 rvI (bX1_typed_L121 call n a1 a2 a3 a4 a5 a6 u x198) u 121 [(0, vR 1), (1, vI a1), (2, vI a2), (3, vI a3), (4, vI a4), (5, vI a5), (6, vI a6)] [] := by
  intro n
  induction n with
  | zero =>
    intro a1 a2 a3 a4 a5 a6 u ra1 ra2 ra3 ra4 ra5 ra6
    exact g_none
  | succ n ih =>
    intro a1 a2 a3 a4 a5 a6 u ra1 ra2 ra3 ra4 ra5 ra6
    rw [bX1_typed_L121]
    refine g_iload 6 dX1_typed_121 rfl ?_
    refine g_iload 4 dX1_typed_123 rfl ?_
    refine g_icmp_ge 198 dX1_typed_125 (by decide) (fun _ => ra6) (fun _ => ra4) (fun _ => ?_) (fun _ => ?_)
    · refine g_jn (fun j1 => ∀ (a1 a2 a3 a4 a5 a6 : Int) (s2 : Sg), inR a1 → inR a2 → inR a3 → inR a4 → inR a5 → inR a6 → WG p l e R s m args below meth c JX1_typed DX1_typed G clA A FC ad0 σ0 rvI (j1 a1 a2 a3 a4 a5 a6 s2) s2 165 [(0, vR 1), (1, vI a1), (2, vI a2), (3, vI a3), (4, vI a4), (5, vI a5), (6, vI a6)] []) (fun a1 a2 a3 a4 a5 a6 s2 ra1 ra2 ra3 ra4 ra5 ra6 => ?_) (fun j1 hj1 => ?_)
      · refine g_aload_n 0 dX1_typed_165 rfl ?_
        refine g_get (v := vR 0) (ci := 1) (b := 30) (N := 57) 0 rfl rfl (by decide) in_X1 rfl rfl q308 dX1_typed_166 ?_
        refine g_get (v := vR 21) (ci := 0) (b := 0) (N := 21) 11 rfl rfl (by decide) in_X2 rfl rfl q249 dX1_typed_169 ?_
        refine g_iload_n 3 dX1_typed_172 rfl ?_
        refine g_iload 5 dX1_typed_173 rfl ?_
        refine g_iadd dX1_typed_175 (fun v3 rv3 => ?_)
        refine g_aload_n 0 dX1_typed_176 rfl ?_
        refine g_get (v := vR 0) (ci := 1) (b := 30) (N := 57) 0 rfl rfl (by decide) in_X1 rfl rfl q308 dX1_typed_177 ?_
        refine g_get (v := vR 21) (ci := 0) (b := 0) (N := 21) 11 rfl rfl (by decide) in_X2 rfl rfl q249 dX1_typed_180 ?_
        refine g_iload_n 3 dX1_typed_183 rfl ?_
        refine g_iload 6 dX1_typed_184 rfl ?_
        refine g_iadd dX1_typed_186 (fun v4 rv4 => ?_)
        refine g_iald (id := 11) 9 rfl rfl dX1_typed_187 (fun v5 rv5 => ?_)
        refine g_iastU (id := 11) FC_ok 9 rfl rfl (by decide +kernel) rv5 dX1_typed_188 (fun s6 => ?_)
        refine g_iinc 5 (loc' := fun v7 => [(5, vI v7), (0, vR 1), (1, vI a1), (2, vI a2), (3, vI a3), (4, vI a4), (6, vI a6)]) dX1_typed_189 rfl (by decide) (fun _ => rfl) (fun v7 rv7 => ?_)
        refine g_iinc 6 (loc' := fun v8 => [(6, vI v8), (5, vI v7), (0, vR 1), (1, vI a1), (2, vI a2), (3, vI a3), (4, vI a4)]) dX1_typed_192 rfl (by decide) (fun _ => rfl) (fun v8 rv8 => ?_)
        refine g_goto 121 dX1_typed_195 (by decide) ?_
        exact g_pick [2, 3, 4, 5, 6, 1, 0] rfl (ih a1 a2 a3 a4 v7 v8 s6 ra1 ra2 ra3 ra4 rv7 rv8)
      · refine g_iload 6 dX1_typed_128 rfl ?_
        refine g_if_le 165 dX1_typed_130 (by decide) (fun _ => ra6) (fun _ => ?_) (fun _ => ?_)
        · exact g_pick [0, 1, 2, 3, 4, 5, 6] rfl (hj1 a1 a2 a3 a4 a5 a6 u ra1 ra2 ra3 ra4 ra5 ra6)
        · refine g_aload_n 0 dX1_typed_133 rfl ?_
          refine g_get (v := vR 0) (ci := 1) (b := 30) (N := 57) 0 rfl rfl (by decide) in_X1 rfl rfl q308 dX1_typed_134 ?_
          refine g_get (v := vR 21) (ci := 0) (b := 0) (N := 21) 11 rfl rfl (by decide) in_X2 rfl rfl q249 dX1_typed_137 ?_
          refine g_iload_n 3 dX1_typed_140 rfl ?_
          refine g_iload 6 dX1_typed_141 rfl ?_
          refine g_iadd dX1_typed_143 (fun v9 rv9 => ?_)
          refine g_iald (id := 11) 9 rfl rfl dX1_typed_144 (fun v10 rv10 => ?_)
          refine g_aload_n 0 dX1_typed_145 rfl ?_
          refine g_get (v := vR 0) (ci := 1) (b := 30) (N := 57) 0 rfl rfl (by decide) in_X1 rfl rfl q308 dX1_typed_146 ?_
          refine g_get (v := vR 21) (ci := 0) (b := 0) (N := 21) 11 rfl rfl (by decide) in_X2 rfl rfl q249 dX1_typed_149 ?_
          refine g_iload_n 3 dX1_typed_152 rfl ?_
          refine g_iload 5 dX1_typed_153 rfl ?_
          refine g_iadd dX1_typed_155 (fun v11 rv11 => ?_)
          refine g_iconst dX1_typed_156 ?_
          refine g_isub dX1_typed_157 (fun v12 rv12 => ?_)
          refine g_iald (id := 11) 9 rfl rfl dX1_typed_158 (fun v13 rv13 => ?_)
          refine g_icmp_ne 165 dX1_typed_159 (by decide) (fun _ => rv10) (fun _ => rv13) (fun _ => ?_) (fun _ => ?_)
          · refine g_goto 192 dX1_typed_162 (by decide) ?_
            refine g_iinc 6 (loc' := fun v14 => [(6, vI v14), (0, vR 1), (1, vI a1), (2, vI a2), (3, vI a3), (4, vI a4), (5, vI a5)]) dX1_typed_192 rfl (by decide) (fun _ => rfl) (fun v14 rv14 => ?_)
            refine g_goto 121 dX1_typed_195 (by decide) ?_
            exact g_pick [1, 2, 3, 4, 5, 6, 0] rfl (ih a1 a2 a3 a4 a5 v14 u ra1 ra2 ra3 ra4 ra5 rv14)
          · exact g_pick [0, 1, 2, 3, 4, 5, 6] rfl (hj1 a1 a2 a3 a4 a5 a6 u ra1 ra2 ra3 ra4 ra5 ra6)
    · exact g_pick [0, 1, 2, 3, 5] rfl (hx198 a1 a2 a3 a5 u ra1 ra2 ra3 ra5)
theorem wX1_typed_L221 (hd : 2 ≤ d) (hRf : d + 1 ≤ R.frames) (hRl : 40 * (d + 1) ≤ R.locals) (hX2_push : ∀ (a1 : Int) (u : Sg), Ct l d FC clA yX2_push cX2_push 2 none DX2_push rvV [vR 0, vI a1] u (call 97 [a1] u)) (hX2_make : ∀ (a1 a2 a3 : Int) (u : Sg), Ct l d FC clA yX2_make cX2_make 13 (some .int) DX2_make rvI [vR 0, vI a1, vI a2, vI a3] u (call 94 [a1, a2, a3] u)) (x258 : Int → Int → Int → Sg → Option (Int × Sg)) (hx258 : ∀ (a1 a2 a3 : Int) (u : Sg), inR a1 → inR a2 → inR a3 → WG p l e R s m args below meth c JX1_typed DX1_typed G clA A FC ad0 σ0 rvI (x258 a1 a2 a3 u) u 258 [(0, vR 1), (1, vI a1), (2, vI a2), (3, vI a3)] []) : ∀ (n : Nat) (a1 a2 a3 a6 : Int) (u : Sg), inR a1 → inR a2 → inR a3 → inR a6 → WG p l e R s m args below meth c JX1_typed DX1_typed G clA A FC ad0 σ0 rvI (bX1_typed_L221 call n a1 a2 a3 a6 u x258) u 221 [(0, vR 1), (1, vI a1), (2, vI a2), (3, vI a3), (6, vI a6)] [] := by
  intro n
  induction n with
  | zero =>
    intro a1 a2 a3 a6 u ra1 ra2 ra3 ra6
    exact g_none
  | succ n ih =>
    intro a1 a2 a3 a6 u ra1 ra2 ra3 ra6
    rw [bX1_typed_L221]
    refine g_iload 4 dX1_typed_221 rfl ?_
    refine g_if_le 258 dX1_typed_223 (by decide) (fun _ => ra6) (fun _ => ?_) (fun _ => ?_)
    · exact g_pick [0, 1, 2, 3] rfl (hx258 a1 a2 a3 u ra1 ra2 ra3)
    · refine g_aload_n 0 dX1_typed_226 rfl ?_
      refine g_get (v := vR 0) (ci := 1) (b := 30) (N := 57) 0 rfl rfl (by decide) in_X1 rfl rfl q308 dX1_typed_227 ?_
      refine g_get (v := vR 21) (ci := 0) (b := 0) (N := 21) 11 rfl rfl (by decide) in_X2 rfl rfl q249 dX1_typed_230 ?_
      refine g_iload_n 3 dX1_typed_233 rfl ?_
      refine g_iload 4 dX1_typed_234 rfl ?_
      refine g_iadd dX1_typed_236 (fun v1 rv1 => ?_)
      refine g_aload_n 0 dX1_typed_237 rfl ?_
      refine g_get (v := vR 0) (ci := 1) (b := 30) (N := 57) 0 rfl rfl (by decide) in_X1 rfl rfl q308 dX1_typed_238 ?_
      refine g_get (v := vR 21) (ci := 0) (b := 0) (N := 21) 11 rfl rfl (by decide) in_X2 rfl rfl q249 dX1_typed_241 ?_
      refine g_iload_n 3 dX1_typed_244 rfl ?_
      refine g_iload 4 dX1_typed_245 rfl ?_
      refine g_iadd dX1_typed_247 (fun v2 rv2 => ?_)
      refine g_iconst dX1_typed_248 ?_
      refine g_isub dX1_typed_249 (fun v3 rv3 => ?_)
      refine g_iald (id := 11) 9 rfl rfl dX1_typed_250 (fun v4 rv4 => ?_)
      refine g_iastU (id := 11) FC_ok 9 rfl rfl (by decide +kernel) rv4 dX1_typed_251 (fun s5 => ?_)
      refine g_iinc 4 (loc' := fun v6 => [(6, vI v6), (0, vR 1), (1, vI a1), (2, vI a2), (3, vI a3)]) dX1_typed_252 rfl (by decide) (fun _ => rfl) (fun v6 rv6 => ?_)
      refine g_goto 221 dX1_typed_255 (by decide) ?_
      exact g_pick [1, 2, 3, 4, 0] rfl (ih a1 a2 a3 v6 s5 ra1 ra2 ra3 rv6)
theorem wX1_typed (hd : 2 ≤ d) (hRf : d + 1 ≤ R.frames) (hRl : 40 * (d + 1) ≤ R.locals) (hX2_push : ∀ (a1 : Int) (u : Sg), Ct l d FC clA yX2_push cX2_push 2 none DX2_push rvV [vR 0, vI a1] u (call 97 [a1] u)) (hX2_make : ∀ (a1 a2 a3 : Int) (u : Sg), Ct l d FC clA yX2_make cX2_make 13 (some .int) DX2_make rvI [vR 0, vI a1, vI a2, vI a3] u (call 94 [a1, a2, a3] u)) (a1 a2 a3 : Int) (u : Sg) (ra1 : inR a1) (ra2 : inR a2) (ra3 : inR a3) : WG p l e R s m args below meth c JX1_typed DX1_typed G clA A FC ad0 σ0 rvI (bX1_typed call a1 a2 a3 u) u 0 [(0, vR 1), (1, vI a1), (2, vI a2), (3, vI a3)] [] := by
  unfold bX1_typed
  refine g_aload_n 0 dX1_typed_0 rfl ?_
  refine g_get (v := vR 0) (ci := 1) (b := 30) (N := 57) 0 rfl rfl (by decide) in_X1 rfl rfl q308 dX1_typed_1 ?_
  refine g_getI (ci := 0) (b := 0) (N := 21) 12 rfl rfl rfl (by decide) in_X2 rfl rfl q251 dX1_typed_4 (fun v1 rv1 => ?_)
  refine g_iload_n 3 dX1_typed_7 rfl ?_
  refine g_isub dX1_typed_8 (fun v2 rv2 => ?_)
  refine g_istore (loc' := [(4, vI v2), (0, vR 1), (1, vI a1), (2, vI a2), (3, vI a3)]) dX1_typed_9 (by decide) rfl ?_
  refine g_iconst dX1_typed_11 ?_
  refine g_istore (loc' := [(5, vI 1), (4, vI v2), (0, vR 1), (1, vI a1), (2, vI a2), (3, vI a3)]) dX1_typed_12 (by decide) rfl ?_
  refine g_pick [2, 3, 4, 5, 1, 0] rfl (wX1_typed_L14 hd hRf hRl hX2_push hX2_make _ (fun v4 v5 v6 v7 s3 rv4 rv5 rv6 rv7 => ?_) KF a1 a2 a3 v2 1 u ra1 ra2 ra3 rv2 (inR_z (Or.inr rfl)))
  · refine g_iconst dX1_typed_115 ?_
    refine g_istore (loc' := [(5, vI 0), (0, vR 1), (1, vI v4), (2, vI v5), (3, vI v6), (4, vI v7)]) dX1_typed_116 (by decide) rfl ?_
    refine g_iconst dX1_typed_118 ?_
    refine g_istore (loc' := [(6, vI 0), (5, vI 0), (0, vR 1), (1, vI v4), (2, vI v5), (3, vI v6), (4, vI v7)]) dX1_typed_119 (by decide) rfl ?_
    refine g_pick [2, 3, 4, 5, 6, 1, 0] rfl (wX1_typed_L121 hd hRf hRl hX2_push hX2_make _ (fun v9 v10 v11 v12 s8 rv9 rv10 rv11 rv12 => ?_) KF v4 v5 v6 v7 0 0 s3 rv4 rv5 rv6 rv7 (inR_z (Or.inl rfl)) (inR_z (Or.inl rfl)))
    · refine g_aload_n 0 dX1_typed_198 rfl ?_
      refine g_get (v := vR 0) (ci := 1) (b := 30) (N := 57) 0 rfl rfl (by decide) in_X1 rfl rfl q308 dX1_typed_199 ?_
      refine g_iload_n 3 dX1_typed_202 rfl ?_
      refine g_iload 4 dX1_typed_203 rfl ?_
      refine g_iadd dX1_typed_205 (fun v13 rv13 => ?_)
      refine g_sIU (ci := 0) (b := 0) (N := 21) FC_ok 12 rfl rfl rfl (by decide) in_X2 tyX2 tyX2_ok nmX2 rfl rfl rfl rfl (by decide +kernel) rv13 q251 dX1_typed_206 (fun s14 => ?_)
      refine g_aload_n 0 dX1_typed_209 rfl ?_
      refine g_get (v := vR 0) (ci := 1) (b := 30) (N := 57) 0 rfl rfl (by decide) in_X1 rfl rfl q308 dX1_typed_210 ?_
      refine g_iconst dX1_typed_213 ?_
      refine g_cVV (As := [vI 0]) (n := 1) (stk := []) (ci := 0) (b := 0) (N := 21) (hX2_push 0 s14) (by decide +kernel) rfl rfl (lw_V q637 q228 q229 q164 q230) (by decide +kernel) rfl (by decide) hRf hRl (fun _ => (avc (inR_z (Or.inl rfl)) avn)) (Nat.le_of_ble_eq_true rfl) rfl rfl dX1_typed_214 (fun v15 s16 => ?_)
      refine g_iload 4 dX1_typed_217 rfl ?_
      refine g_istore (loc' := [(6, vI v12), (0, vR 1), (1, vI v9), (2, vI v10), (3, vI v11), (5, vI v12)]) dX1_typed_219 (by decide) rfl ?_
      refine g_pick [1, 2, 3, 4, 0] rfl (wX1_typed_L221 hd hRf hRl hX2_push hX2_make _ (fun v18 v19 v20 s17 rv18 rv19 rv20 => ?_) KF v9 v10 v11 v12 s16 rv9 rv10 rv11 rv12)
      · refine g_aload_n 0 dX1_typed_258 rfl ?_
        refine g_get (v := vR 0) (ci := 1) (b := 30) (N := 57) 0 rfl rfl (by decide) in_X1 rfl rfl q308 dX1_typed_259 ?_
        refine g_get (v := vR 21) (ci := 0) (b := 0) (N := 21) 11 rfl rfl (by decide) in_X2 rfl rfl q249 dX1_typed_262 ?_
        refine g_iload_n 3 dX1_typed_265 rfl ?_
        refine g_iload_n 2 dX1_typed_266 rfl ?_
        refine g_iastU (id := 11) FC_ok 9 rfl rfl (by decide +kernel) rv19 dX1_typed_267 (fun s21 => ?_)
        refine g_aload_n 0 dX1_typed_268 rfl ?_
        refine g_get (v := vR 0) (ci := 1) (b := 30) (N := 57) 0 rfl rfl (by decide) in_X1 rfl rfl q308 dX1_typed_269 ?_
        refine g_bipush (by decide +kernel) dX1_typed_272 ?_
        refine g_iload_n 1 dX1_typed_274 rfl ?_
        refine g_iload_n 3 dX1_typed_275 rfl ?_
        refine g_cVI (As := [vI 8, vI v18, vI v20]) (n := 3) (stk := []) (ci := 0) (b := 0) (N := 21) (hX2_make 8 v18 v20 s21) (by decide +kernel) rfl rfl (lw_V q642 q192 q193 q164 q194) (by decide +kernel) rfl (by decide) hRf hRl (fun _ => (avc (by decide : inR (8)) (avc rv18 (avc rv20 avn)))) (Nat.le_of_ble_eq_true rfl) rfl rfl dX1_typed_276 (fun v22 s23 rv22 => ?_)
        exact g_iret rfl rfl (fun _ => rv22) dX1_typed_279
end
section
variable {l : Launch} {d : Nat} {call : Nat → List Int → Sg → Option (Int × Sg)}
theorem ctX1_typed (p0 : Program) (e0 : Env) (s0 : State) (m0 : MethodId) (meth0 : Method) (c0 : Code) (G0 : Gm) (hd : 2 ≤ d) (hX2_push : ∀ (a1 : Int) (u : Sg), Ct l d FC clA yX2_push cX2_push 2 none DX2_push rvV [vR 0, vI a1] u (call 97 [a1] u)) (hX2_make : ∀ (a1 a2 a3 : Int) (u : Sg), Ct l d FC clA yX2_make cX2_make 13 (some .int) DX2_make rvI [vR 0, vI a1, vI a2, vI a3] u (call 94 [a1, a2, a3] u)) (a1 a2 a3 : Int) (u : Sg) : Ct l (d + 1) FC clA yX1_typed cX1_typed 8 (some .int) DX1_typed rvI [vR 1, vI a1, vI a2, vI a3] u (bX1_typed call a1 a2 a3 u) :=
  Ct_of (by decide) (Nat.le_of_ble_eq_true rfl) (fun p e R s1 m args below meth c G A ad hA hRf hRl => wX1_typed hd hRf hRl hX2_push hX2_make a1 a2 a3 u (hA _ (List.mem_cons_of_mem _ List.mem_cons_self)) (hA _ (List.mem_cons_of_mem _ (List.mem_cons_of_mem _ List.mem_cons_self))) (hA _ (List.mem_cons_of_mem _ (List.mem_cons_of_mem _ (List.mem_cons_of_mem _ List.mem_cons_self))))) p0 e0 s0 m0 meth0 c0 G0
end
/-! RoundCheck.newOne(I)I -/
abbrev JX1_newOne : Jm := (cX1_newOne, RX1, 2, (some .int))
def bX1_newOne (call : Nat → List Int → Sg → Option (Int × Sg)) (a1 : Int) (u : Sg) : Option (Int × Sg) := jn (fun (a1 : Int) (s2 : Sg) => un (gI s2 86) fun v3 => stA s2 85 v3 a1 fun s4 => un (gI s4 86) fun v5 => ar (v5 + 1) fun v6 => un (sI s4 86 v6) fun s7 => un (gI s7 86) fun v8 => ar (v8 - 1) fun v9 => un (gI s7 12) fun v10 => cl (call 94 [1, v9, v10] s7) fun v11 s12 => some (v11, s12)) fun j1 => un (gI u 86) fun v13 => un (gL u 85 : Int) fun v14 => if v13 = v14 then (un (gI u 86) fun v15 => ar (2 * v15) fun v16 => cpy u 85 v16 fun s17 => j1 a1 s17) else (j1 a1 u)
section
variable {p : Program} {l : Launch} {e : Env} {R : Room} {s : State} {m : MethodId} {args : Array Value} {below : List Frame} {meth : Method} {c : Code} {G : Gm} {A : Nat → Prop} {ad0 : Nat → Nat} {σ0 : Sg} {d : Nat} {call : Nat → List Int → Sg → Option (Int × Sg)}
theorem wX1_newOne (hd : 2 ≤ d) (hRf : d + 1 ≤ R.frames) (hRl : 40 * (d + 1) ≤ R.locals) (hX2_make : ∀ (a1 a2 a3 : Int) (u : Sg), Ct l d FC clA yX2_make cX2_make 13 (some .int) DX2_make rvI [vR 0, vI a1, vI a2, vI a3] u (call 94 [a1, a2, a3] u)) (a1 : Int) (u : Sg) (ra1 : inR a1) : WG p l e R s m args below meth c JX1_newOne DX1_newOne G clA A FC ad0 σ0 rvI (bX1_newOne call a1 u) u 0 [(0, vR 1), (1, vI a1)] [] := by
  unfold bX1_newOne
  refine g_jn (fun j1 => ∀ (a1 : Int) (s2 : Sg), inR a1 → WG p l e R s m args below meth c JX1_newOne DX1_newOne G clA A FC ad0 σ0 rvI (j1 a1 s2) s2 29 [(0, vR 1), (1, vI a1)] []) (fun a1 s2 ra1 => ?_) (fun j1 hj1 => ?_)
  · refine g_aload_n 0 dX1_newOne_29 rfl ?_
    refine g_get (v := vR 95) (ci := 1) (b := 30) (N := 57) 55 rfl rfl (by decide) in_X1 rfl rfl q363 dX1_newOne_30 ?_
    refine g_aload_n 0 dX1_newOne_33 rfl ?_
    refine g_getI (ci := 1) (b := 30) (N := 57) 56 rfl rfl rfl (by decide) in_X1 rfl rfl q364 dX1_newOne_34 (fun v3 rv3 => ?_)
    refine g_iload_n 1 dX1_newOne_37 rfl ?_
    refine g_iastU (id := 85) FC_ok 41 rfl rfl (by decide +kernel) ra1 dX1_newOne_38 (fun s4 => ?_)
    refine g_aload_n 0 dX1_newOne_39 rfl ?_
    refine g_dup rfl dX1_newOne_40 ?_
    refine g_getI (ci := 1) (b := 30) (N := 57) 56 rfl rfl rfl (by decide) in_X1 rfl rfl q364 dX1_newOne_41 (fun v5 rv5 => ?_)
    refine g_iconst dX1_newOne_44 ?_
    refine g_iadd dX1_newOne_45 (fun v6 rv6 => ?_)
    refine g_sIU (ci := 1) (b := 30) (N := 57) FC_ok 56 rfl rfl rfl (by decide) in_X1 tyX1 tyX1_ok nmX1 rfl rfl rfl rfl (by decide +kernel) rv6 q364 dX1_newOne_46 (fun s7 => ?_)
    refine g_aload_n 0 dX1_newOne_49 rfl ?_
    refine g_get (v := vR 0) (ci := 1) (b := 30) (N := 57) 0 rfl rfl (by decide) in_X1 rfl rfl q308 dX1_newOne_50 ?_
    refine g_iconst dX1_newOne_53 ?_
    refine g_aload_n 0 dX1_newOne_54 rfl ?_
    refine g_getI (ci := 1) (b := 30) (N := 57) 56 rfl rfl rfl (by decide) in_X1 rfl rfl q364 dX1_newOne_55 (fun v8 rv8 => ?_)
    refine g_iconst dX1_newOne_58 ?_
    refine g_isub dX1_newOne_59 (fun v9 rv9 => ?_)
    refine g_aload_n 0 dX1_newOne_60 rfl ?_
    refine g_get (v := vR 0) (ci := 1) (b := 30) (N := 57) 0 rfl rfl (by decide) in_X1 rfl rfl q308 dX1_newOne_61 ?_
    refine g_getI (ci := 0) (b := 0) (N := 21) 12 rfl rfl rfl (by decide) in_X2 rfl rfl q251 dX1_newOne_64 (fun v10 rv10 => ?_)
    refine g_cVI (As := [vI 1, vI v9, vI v10]) (n := 3) (stk := []) (ci := 0) (b := 0) (N := 21) (hX2_make 1 v9 v10 s7) (by decide +kernel) rfl rfl (lw_V q642 q192 q193 q164 q194) (by decide +kernel) rfl (by decide) hRf hRl (fun _ => (avc (inR_z (Or.inr rfl)) (avc rv9 (avc rv10 avn)))) (Nat.le_of_ble_eq_true rfl) rfl rfl dX1_newOne_67 (fun v11 s12 rv11 => ?_)
    exact g_iret rfl rfl (fun _ => rv11) dX1_newOne_70
  · refine g_aload_n 0 dX1_newOne_0 rfl ?_
    refine g_getI (ci := 1) (b := 30) (N := 57) 56 rfl rfl rfl (by decide) in_X1 rfl rfl q364 dX1_newOne_1 (fun v13 rv13 => ?_)
    refine g_aload_n 0 dX1_newOne_4 rfl ?_
    refine g_get (v := vR 95) (ci := 1) (b := 30) (N := 57) 55 rfl rfl (by decide) in_X1 rfl rfl q363 dX1_newOne_5 ?_
    refine g_alenU (id := 85) 41 rfl (Or.inl rfl) dX1_newOne_8 (fun v14 rv14 => ?_)
    refine g_icmp_ne 29 dX1_newOne_9 (by decide) (fun _ => rv13) (fun _ => rv14) (fun _ => ?_) (fun _ => ?_)
    · refine g_aload_n 0 dX1_newOne_12 rfl ?_
      refine g_aload_n 0 dX1_newOne_13 rfl ?_
      refine g_get (v := vR 95) (ci := 1) (b := 30) (N := 57) 55 rfl rfl (by decide) in_X1 rfl rfl q363 dX1_newOne_14 ?_
      refine g_iconst dX1_newOne_17 ?_
      refine g_aload_n 0 dX1_newOne_18 rfl ?_
      refine g_getI (ci := 1) (b := 30) (N := 57) 56 rfl rfl rfl (by decide) in_X1 rfl rfl q364 dX1_newOne_19 (fun v15 rv15 => ?_)
      refine g_imul dX1_newOne_22 (fun v16 rv16 => ?_)
      refine g_cpy (ci := 1) (b := 30) (N := 57) FC_ok FC_10 rfl 55 41 rfl rfl rfl rfl (by decide) in_X1 tyX1 tyX1_ok nmX1 rfl rfl rfl rfl (by decide +kernel) q666 q363 hRf hRl (Nat.le_of_succ_le hd) (Nat.le_of_ble_eq_true rfl) rfl rfl dX1_newOne_23 dX1_newOne_26 (fun s17 => ?_)
      exact g_pick [0, 1] rfl (hj1 a1 s17 ra1)
    · exact g_pick [0, 1] rfl (hj1 a1 u ra1)
end
section
variable {l : Launch} {d : Nat} {call : Nat → List Int → Sg → Option (Int × Sg)}
theorem ctX1_newOne (p0 : Program) (e0 : Env) (s0 : State) (m0 : MethodId) (meth0 : Method) (c0 : Code) (G0 : Gm) (hd : 2 ≤ d) (hX2_make : ∀ (a1 a2 a3 : Int) (u : Sg), Ct l d FC clA yX2_make cX2_make 13 (some .int) DX2_make rvI [vR 0, vI a1, vI a2, vI a3] u (call 94 [a1, a2, a3] u)) (a1 : Int) (u : Sg) : Ct l (d + 1) FC clA yX1_newOne cX1_newOne 2 (some .int) DX1_newOne rvI [vR 1, vI a1] u (bX1_newOne call a1 u) :=
  Ct_of (by decide) (Nat.le_of_ble_eq_true rfl) (fun p e R s1 m args below meth c G A ad hA hRf hRl => wX1_newOne hd hRf hRl hX2_make a1 u (hA _ (List.mem_cons_of_mem _ List.mem_cons_self))) p0 e0 s0 m0 meth0 c0 G0
end
/-! RoundCheck.either(II)I -/
abbrev JX1_either : Jm := (cX1_either, RX1, 5, (some .int))
def bX1_either (call : Nat → List Int → Sg → Option (Int × Sg)) (a1 a2 : Int) (u : Sg) : Option (Int × Sg) := cl (call 102 [a1] u) fun v1 s2 => cl (call 102 [a2] s2) fun v3 s4 => cl (call 103 [v1, v3] s4) fun v5 s6 => cl (call 102 [v5] s6) fun v7 s8 => some (v7, s8)
section
variable {p : Program} {l : Launch} {e : Env} {R : Room} {s : State} {m : MethodId} {args : Array Value} {below : List Frame} {meth : Method} {c : Code} {G : Gm} {A : Nat → Prop} {ad0 : Nat → Nat} {σ0 : Sg} {d : Nat} {call : Nat → List Int → Sg → Option (Int × Sg)}
theorem wX1_either (hd : 2 ≤ d) (hRf : d + 1 ≤ R.frames) (hRl : 40 * (d + 1) ≤ R.locals) (hX2_not : ∀ (a1 : Int) (u : Sg), Ct l d FC clA yX2_not cX2_not 2 (some .int) DX2_not rvI [vR 0, vI a1] u (call 102 [a1] u)) (hX2_and : ∀ (a1 a2 : Int) (u : Sg), Ct l d FC clA yX2_and cX2_and 4 (some .int) DX2_and rvI [vR 0, vI a1, vI a2] u (call 103 [a1, a2] u)) (a1 a2 : Int) (u : Sg) (ra1 : inR a1) (ra2 : inR a2) : WG p l e R s m args below meth c JX1_either DX1_either G clA A FC ad0 σ0 rvI (bX1_either call a1 a2 u) u 0 [(0, vR 1), (1, vI a1), (2, vI a2)] [] := by
  unfold bX1_either
  refine g_aload_n 0 dX1_either_0 rfl ?_
  refine g_get (v := vR 0) (ci := 1) (b := 30) (N := 57) 0 rfl rfl (by decide) in_X1 rfl rfl q308 dX1_either_1 ?_
  refine g_iload_n 1 dX1_either_4 rfl ?_
  refine g_cVI (As := [vI a1]) (n := 1) (stk := []) (ci := 0) (b := 0) (N := 21) (hX2_not a1 u) (by decide +kernel) rfl rfl (lw_V q719 q720 q721 q164 q722) (by decide +kernel) rfl (by decide) hRf hRl (fun _ => (avc ra1 avn)) (Nat.le_of_ble_eq_true rfl) rfl rfl dX1_either_5 (fun v1 s2 rv1 => ?_)
  refine g_istore_n (loc' := [(3, vI v1), (0, vR 1), (1, vI a1), (2, vI a2)]) dX1_either_8 (by decide) rfl ?_
  refine g_aload_n 1 dX1_either_9 rfl ?_
  refine g_get (v := vR 0) (ci := 1) (b := 30) (N := 57) 0 rfl rfl (by decide) in_X1 rfl rfl q308 dX1_either_10 ?_
  refine g_iload_n 3 dX1_either_13 rfl ?_
  refine g_cVI (As := [vI a2]) (n := 1) (stk := []) (ci := 0) (b := 0) (N := 21) (hX2_not a2 s2) (by decide +kernel) rfl rfl (lw_V q719 q720 q721 q164 q722) (by decide +kernel) rfl (by decide) hRf hRl (fun _ => (avc ra2 avn)) (Nat.le_of_ble_eq_true rfl) rfl rfl dX1_either_14 (fun v3 s4 rv3 => ?_)
  refine g_istore (loc' := [(4, vI v3), (3, vI v1), (0, vR 1), (1, vI a1), (2, vI a2)]) dX1_either_17 (by decide) rfl ?_
  refine g_aload_n 2 dX1_either_19 rfl ?_
  refine g_get (v := vR 0) (ci := 1) (b := 30) (N := 57) 0 rfl rfl (by decide) in_X1 rfl rfl q308 dX1_either_20 ?_
  refine g_aload_n 2 dX1_either_23 rfl ?_
  refine g_get (v := vR 0) (ci := 1) (b := 30) (N := 57) 0 rfl rfl (by decide) in_X1 rfl rfl q308 dX1_either_24 ?_
  refine g_iload_n 1 dX1_either_27 rfl ?_
  refine g_iload 0 dX1_either_28 rfl ?_
  refine g_cVI (As := [vI v1, vI v3]) (n := 2) (stk := [vR 0]) (ci := 0) (b := 0) (N := 21) (hX2_and v1 v3 s4) (by decide +kernel) rfl rfl (lw_V q724 q725 q726 q164 q727) (by decide +kernel) rfl (by decide) hRf hRl (fun _ => (avc rv1 (avc rv3 avn))) (Nat.le_of_ble_eq_true rfl) rfl rfl dX1_either_30 (fun v5 s6 rv5 => ?_)
  refine g_cVI (As := [vI v5]) (n := 1) (stk := []) (ci := 0) (b := 0) (N := 21) (hX2_not v5 s6) (by decide +kernel) rfl rfl (lw_V q719 q720 q721 q164 q722) (by decide +kernel) rfl (by decide) hRf hRl (fun _ => (avc rv5 avn)) (Nat.le_of_ble_eq_true rfl) rfl rfl dX1_either_33 (fun v7 s8 rv7 => ?_)
  exact g_iret rfl rfl (fun _ => rv7) dX1_either_36
end
section
variable {l : Launch} {d : Nat} {call : Nat → List Int → Sg → Option (Int × Sg)}
theorem ctX1_either (p0 : Program) (e0 : Env) (s0 : State) (m0 : MethodId) (meth0 : Method) (c0 : Code) (G0 : Gm) (hd : 2 ≤ d) (hX2_not : ∀ (a1 : Int) (u : Sg), Ct l d FC clA yX2_not cX2_not 2 (some .int) DX2_not rvI [vR 0, vI a1] u (call 102 [a1] u)) (hX2_and : ∀ (a1 a2 : Int) (u : Sg), Ct l d FC clA yX2_and cX2_and 4 (some .int) DX2_and rvI [vR 0, vI a1, vI a2] u (call 103 [a1, a2] u)) (a1 a2 : Int) (u : Sg) : Ct l (d + 1) FC clA yX1_either cX1_either 5 (some .int) DX1_either rvI [vR 1, vI a1, vI a2] u (bX1_either call a1 a2 u) :=
  Ct_of (by decide) (Nat.le_of_ble_eq_true rfl) (fun p e R s1 m args below meth c G A ad hA hRf hRl => wX1_either hd hRf hRl hX2_not hX2_and a1 a2 u (hA _ (List.mem_cons_of_mem _ List.mem_cons_self)) (hA _ (List.mem_cons_of_mem _ (List.mem_cons_of_mem _ List.mem_cons_self)))) p0 e0 s0 m0 meth0 c0 G0
end
/-! RoundCheck.argOf(I)I -/
abbrev JX1_argOf : Jm := (cX1_argOf, RX1, 2, (some .int))
def bX1_argOf (call : Nat → List Int → Sg → Option (Int × Sg)) (a1 : Int) (u : Sg) : Option (Int × Sg) := cl (call 98 [a1, 0] u) fun v1 s2 => some (v1, s2)
section
variable {p : Program} {l : Launch} {e : Env} {R : Room} {s : State} {m : MethodId} {args : Array Value} {below : List Frame} {meth : Method} {c : Code} {G : Gm} {A : Nat → Prop} {ad0 : Nat → Nat} {σ0 : Sg} {d : Nat} {call : Nat → List Int → Sg → Option (Int × Sg)}
theorem wX1_argOf (hd : 2 ≤ d) (hRf : d + 1 ≤ R.frames) (hRl : 40 * (d + 1) ≤ R.locals) (hX2_at : ∀ (a1 a2 : Int) (u : Sg), Ct l d FC clA yX2_at cX2_at 3 (some .int) DX2_at rvI [vR 0, vI a1, vI a2] u (call 98 [a1, a2] u)) (a1 : Int) (u : Sg) (ra1 : inR a1) : WG p l e R s m args below meth c JX1_argOf DX1_argOf G clA A FC ad0 σ0 rvI (bX1_argOf call a1 u) u 0 [(0, vR 1), (1, vI a1)] [] := by
  unfold bX1_argOf
  refine g_aload_n 0 dX1_argOf_0 rfl ?_
  refine g_get (v := vR 0) (ci := 1) (b := 30) (N := 57) 0 rfl rfl (by decide) in_X1 rfl rfl q308 dX1_argOf_1 ?_
  refine g_iload_n 1 dX1_argOf_4 rfl ?_
  refine g_iconst dX1_argOf_5 ?_
  refine g_cVI (As := [vI a1, vI 0]) (n := 2) (stk := []) (ci := 0) (b := 0) (N := 21) (hX2_at a1 0 u) (by decide +kernel) rfl rfl (lw_V q571 q572 q573 q164 q574) (by decide +kernel) rfl (by decide) hRf hRl (fun _ => (avc ra1 (avc (inR_z (Or.inl rfl)) avn))) (Nat.le_of_ble_eq_true rfl) rfl rfl dX1_argOf_6 (fun v1 s2 rv1 => ?_)
  exact g_iret rfl rfl (fun _ => rv1) dX1_argOf_9
end
section
variable {l : Launch} {d : Nat} {call : Nat → List Int → Sg → Option (Int × Sg)}
theorem ctX1_argOf (p0 : Program) (e0 : Env) (s0 : State) (m0 : MethodId) (meth0 : Method) (c0 : Code) (G0 : Gm) (hd : 2 ≤ d) (hX2_at : ∀ (a1 a2 : Int) (u : Sg), Ct l d FC clA yX2_at cX2_at 3 (some .int) DX2_at rvI [vR 0, vI a1, vI a2] u (call 98 [a1, a2] u)) (a1 : Int) (u : Sg) : Ct l (d + 1) FC clA yX1_argOf cX1_argOf 2 (some .int) DX1_argOf rvI [vR 1, vI a1] u (bX1_argOf call a1 u) :=
  Ct_of (by decide) (Nat.le_of_ble_eq_true rfl) (fun p e R s1 m args below meth c G A ad hA hRf hRl => wX1_argOf hd hRf hRl hX2_at a1 u (hA _ (List.mem_cons_of_mem _ List.mem_cons_self))) p0 e0 s0 m0 meth0 c0 G0
end
/-! RoundCheck.casesOf(IZ)I -/
abbrev JX1_casesOf : Jm := (cX1_casesOf, RX1, 7, (some .int))
def bX1_casesOf_L110 (call : Nat → List Int → Sg → Option (Int × Sg)) : Nat → Int → Int → Int → Int → Sg → (Int → Sg → Option (Int × Sg)) → Option (Int × Sg)
  | 0, _, _, _, _, _, _ => none
  | n + 1, a1, a2, a3, a5, u, x173 => ld u 3 a1 fun v1 => if a5 < v1 then (jn (fun (a1 a2 a5 t0 : Int) (s3 : Sg) => un (if 1000 < t0 then 1000 else t0) fun v4 => ar (a5 + 1) fun v5 => bX1_casesOf_L110 call n a1 a2 v4 v5 s3 x173) fun j2 => cl (call 98 [a1, a5] u) fun v6 s7 => cl (call 37 [v6, a2] s7) fun v8 s9 => if a2 = 0 then (arL (a3 * v8) fun v10 => j2 a1 a2 a5 v10 s9) else (arL (a3 + v8) fun v11 => j2 a1 a2 a5 v11 s9)) else (x173 a3 u)
def bX1_casesOf (call : Nat → List Int → Sg → Option (Int × Sg)) (a1 a2 : Int) (u : Sg) : Option (Int × Sg) := gd (a2 = 0 ∨ a2 = 1) (ld u 0 a1 fun v1 => if v1 = 9 then (if a2 = 0 then (some (1, u)) else (some (0, u))) else (if v1 = 10 then (some (1, u)) else (if v1 = 11 then (some (1, u)) else (if v1 = 12 then (some (1, u)) else (if v1 = 13 then (some (1, u)) else (if v1 = 14 then (some (1, u)) else (if v1 = 15 then (some (1, u)) else (if v1 = 16 then (jn (fun (t1 t2 : Int) (s3 : Sg) => cl (call 37 [t1, t2] s3) fun v4 s5 => some (v4, s5)) fun j2 => cl (call 98 [a1, 0] u) fun v6 s7 => if a2 = 0 then (j2 v6 1 s7) else (j2 v6 0 s7)) else (if v1 = 17 then (jn (fun (a1 a2 t0 : Int) (s9 : Sg) => bX1_casesOf_L110 call KF a1 a2 t0 0 s9 (fun v11 s10 => ar v11 fun v12 => some (v12, s10))) fun j8 => if a2 = 0 then (j8 a1 a2 1 u) else (j8 a1 a2 0 u)) else (if v1 = 18 then (if a2 = 0 then (some (1, u)) else (cl (call 98 [a1, 1] u) fun v13 s14 => cl (call 37 [v13, 1] s14) fun v15 s16 => some (v15, s16))) else (some (1, u))))))))))))
section
variable {p : Program} {l : Launch} {e : Env} {R : Room} {s : State} {m : MethodId} {args : Array Value} {below : List Frame} {meth : Method} {c : Code} {G : Gm} {A : Nat → Prop} {ad0 : Nat → Nat} {σ0 : Sg} {d : Nat} {call : Nat → List Int → Sg → Option (Int × Sg)}
theorem wX1_casesOf_L110 (hd : 2 ≤ d) (hRf : d + 1 ≤ R.frames) (hRl : 40 * (d + 1) ≤ R.locals) (hX1_casesOf : ∀ (a1 a2 : Int) (u : Sg), Ct l d FC clA yX1_casesOf cX1_casesOf 7 (some .int) DX1_casesOf rvI [vR 1, vI a1, vI a2] u (call 37 [a1, a2] u)) (hX2_at : ∀ (a1 a2 : Int) (u : Sg), Ct l d FC clA yX2_at cX2_at 3 (some .int) DX2_at rvI [vR 0, vI a1, vI a2] u (call 98 [a1, a2] u)) (x173 : Int → Sg → Option (Int × Sg)) (hx173 : ∀ (a3 : Int) (u : Sg), inL a3 → WG p l e R s m args below meth c JX1_casesOf DX1_casesOf G clA A FC ad0 σ0 rvI (x173 a3 u) u 173 [(3, vL a3)] []) : ∀ (n : Nat) (a1 a2 a3 a5 : Int) (u : Sg), inR a1 → (a2 = 0 ∨ a2 = 1) → inL a3 → inR a5 → WG p l e R s m args below meth c JX1_casesOf DX1_casesOf G clA A FC ad0 σ0 rvI (bX1_casesOf_L110 call n a1 a2 a3 a5 u x173) u 110 [(0, vR 1), (1, vI a1), (2, vI a2), (3, vL a3), (5, vI a5)] [] := by
  intro n
  induction n with
  | zero =>
    intro a1 a2 a3 a5 u ra1 za2 ra3 ra5
    exact g_none
  | succ n ih =>
    intro a1 a2 a3 a5 u ra1 za2 ra3 ra5
    rw [bX1_casesOf_L110]
    refine g_iload 4 dX1_casesOf_110 rfl ?_
    refine g_aload_n 0 dX1_casesOf_112 rfl ?_
    refine g_get (v := vR 0) (ci := 1) (b := 30) (N := 57) 0 rfl rfl (by decide) in_X1 rfl rfl q308 dX1_casesOf_113 ?_
    refine g_get (v := vR 13) (ci := 0) (b := 0) (N := 21) 3 rfl rfl (by decide) in_X2 rfl rfl q237 dX1_casesOf_116 ?_
    refine g_iload_n 1 dX1_casesOf_119 rfl ?_
    refine g_iald (id := 3) 3 rfl rfl dX1_casesOf_120 (fun v1 rv1 => ?_)
    refine g_icmp_ge 173 dX1_casesOf_121 (by decide) (fun _ => ra5) (fun _ => rv1) (fun _ => ?_) (fun _ => ?_)
    · refine g_jn (fun j2 => ∀ (a1 a2 a5 t0 : Int) (s3 : Sg), inR a1 → (a2 = 0 ∨ a2 = 1) → inR a5 → inL t0 → WG p l e R s m args below meth c JX1_casesOf DX1_casesOf G clA A FC ad0 σ0 rvI (j2 a1 a2 a5 t0 s3) s3 158 [(0, vR 1), (1, vI a1), (2, vI a2), (5, vI a5)] [vL t0]) (fun a1 a2 a5 t0 s3 ra1 za2 ra5 rt0 => ?_) (fun j2 hj2 => ?_)
      · refine g_lstore_n (loc' := [(3, vL t0), (0, vR 1), (1, vI a1), (2, vI a2), (5, vI a5)]) dX1_casesOf_158 (by decide) rfl ?_
        refine g_lload_n 0 dX1_casesOf_159 rfl ?_
        refine g_ldc2 (n := 1000) (by decide +kernel) q818 dX1_casesOf_160 ?_
        refine g_mminL rt0 (by decide : inL (1000)) (Nat.le_trans (Nat.succ_le_succ (Nat.zero_le _)) hRf) (Nat.le_trans (Nat.mul_le_mul_left 40 (Nat.succ_le_succ (Nat.zero_le d))) hRl) (Nat.le_of_ble_eq_true rfl) q819 q221 q166 q222 dX1_casesOf_163 (fun v4 rv4 => ?_)
        refine g_lstore_n (loc' := [(3, vL v4), (0, vR 1), (1, vI a1), (2, vI a2), (5, vI a5)]) dX1_casesOf_166 (by decide) rfl ?_
        refine g_iinc 4 (loc' := fun v5 => [(5, vI v5), (3, vL v4), (0, vR 1), (1, vI a1), (2, vI a2)]) dX1_casesOf_167 rfl (by decide) (fun _ => rfl) (fun v5 rv5 => ?_)
        refine g_goto 110 dX1_casesOf_170 (by decide) ?_
        exact g_pick [2, 3, 4, 1, 0] rfl (ih a1 a2 v4 v5 s3 ra1 za2 rv4 rv5)
      · refine g_aload_n 0 dX1_casesOf_124 rfl ?_
        refine g_aload_n 0 dX1_casesOf_125 rfl ?_
        refine g_get (v := vR 0) (ci := 1) (b := 30) (N := 57) 0 rfl rfl (by decide) in_X1 rfl rfl q308 dX1_casesOf_126 ?_
        refine g_iload_n 1 dX1_casesOf_129 rfl ?_
        refine g_iload 4 dX1_casesOf_130 rfl ?_
        refine g_cVI (As := [vI a1, vI a5]) (n := 2) (stk := [vR 1]) (ci := 0) (b := 0) (N := 21) (hX2_at a1 a5 u) (by decide +kernel) rfl rfl (lw_V q571 q572 q573 q164 q574) (by decide +kernel) rfl (by decide) hRf hRl (fun _ => (avc ra1 (avc ra5 avn))) (Nat.le_of_ble_eq_true rfl) rfl rfl dX1_casesOf_132 (fun v6 s7 rv6 => ?_)
        refine g_iload_n 2 dX1_casesOf_135 rfl ?_
        refine g_cVI (As := [vI v6, vI a2]) (n := 2) (stk := []) (ci := 1) (b := 30) (N := 57) (hX1_casesOf v6 a2 s7) (by decide +kernel) rfl rfl (lw_V q814 q816 qs19 q163 q817) (by decide +kernel) rfl (by decide) hRf hRl (fun _ => (avc rv6 (avc (inR_z za2) avn))) (Nat.le_of_ble_eq_true rfl) rfl rfl dX1_casesOf_136 (fun v8 s9 rv8 => ?_)
        refine g_istore (loc' := [(6, vI v8), (0, vR 1), (1, vI a1), (2, vI a2), (3, vL a3), (5, vI a5)]) dX1_casesOf_139 (by decide) rfl ?_
        refine g_iload_n 3 dX1_casesOf_141 rfl ?_
        refine g_if_eq 153 dX1_casesOf_142 (by decide) (fun _ => (inR_z za2)) (fun _ => ?_) (fun _ => ?_)
        · refine g_lload_n 4 dX1_casesOf_153 rfl ?_
          refine g_iload 0 dX1_casesOf_154 rfl ?_
          refine g_i2l rv8 dX1_casesOf_156 ?_
          refine g_lmul dX1_casesOf_157 (fun v10 rv10 => ?_)
          exact g_pick [1, 2, 3, 5] rfl (hj2 a1 a2 a5 v10 s9 ra1 za2 ra5 rv10)
        · refine g_lload_n 4 dX1_casesOf_145 rfl ?_
          refine g_iload 0 dX1_casesOf_146 rfl ?_
          refine g_i2l rv8 dX1_casesOf_148 ?_
          refine g_ladd dX1_casesOf_149 (fun v11 rv11 => ?_)
          refine g_goto 158 dX1_casesOf_150 (by decide) ?_
          exact g_pick [1, 2, 3, 5] rfl (hj2 a1 a2 a5 v11 s9 ra1 za2 ra5 rv11)
    · exact g_pick [3] rfl (hx173 a3 u ra3)
theorem wX1_casesOf (hd : 2 ≤ d) (hRf : d + 1 ≤ R.frames) (hRl : 40 * (d + 1) ≤ R.locals) (hX1_casesOf : ∀ (a1 a2 : Int) (u : Sg), Ct l d FC clA yX1_casesOf cX1_casesOf 7 (some .int) DX1_casesOf rvI [vR 1, vI a1, vI a2] u (call 37 [a1, a2] u)) (hX2_at : ∀ (a1 a2 : Int) (u : Sg), Ct l d FC clA yX2_at cX2_at 3 (some .int) DX2_at rvI [vR 0, vI a1, vI a2] u (call 98 [a1, a2] u)) (a1 a2 : Int) (u : Sg) (ra1 : inR a1) (ra2 : inR a2) : WG p l e R s m args below meth c JX1_casesOf DX1_casesOf G clA A FC ad0 σ0 rvI (bX1_casesOf call a1 a2 u) u 0 [(0, vR 1), (1, vI a1), (2, vI a2)] [] := by
  unfold bX1_casesOf
  refine g_gd (fun za2 => ?_)
  refine g_aload_n 0 dX1_casesOf_0 rfl ?_
  refine g_get (v := vR 0) (ci := 1) (b := 30) (N := 57) 0 rfl rfl (by decide) in_X1 rfl rfl q308 dX1_casesOf_1 ?_
  refine g_get (v := vR 10) (ci := 0) (b := 0) (N := 21) 0 rfl rfl (by decide) in_X2 rfl rfl q232 dX1_casesOf_4 ?_
  refine g_iload_n 1 dX1_casesOf_7 rfl ?_
  refine g_iald (id := 0) 0 rfl rfl dX1_casesOf_8 (fun v1 rv1 => ?_)
  refine WG.byc (fun e0 => ?_) (fun n0 => ?_)
  · refine g_tswIn 64 9 dX1_casesOf_9 (by decide) rfl (by decide) e0 ?_
    refine g_iload_n 2 dX1_casesOf_64 rfl ?_
    refine g_if_eq 72 dX1_casesOf_65 (by decide) (fun _ => (inR_z za2)) (fun _ => ?_) (fun _ => ?_)
    · refine g_iconst dX1_casesOf_72 ?_
      exact g_iret rfl rfl (fun _ => (inR_z (Or.inr rfl))) dX1_casesOf_73
    · refine g_iconst dX1_casesOf_68 ?_
      refine g_goto 73 dX1_casesOf_69 (by decide) ?_
      exact g_iret rfl rfl (fun _ => (inR_z (Or.inl rfl))) dX1_casesOf_73
  · skip
    refine WG.byc (fun e1 => ?_) (fun n1 => ?_)
    · refine g_tswIn 199 10 dX1_casesOf_9 (by decide) rfl (by decide) e1 ?_
      refine g_iconst dX1_casesOf_199 ?_
      exact g_iret rfl rfl (fun _ => (inR_z (Or.inr rfl))) dX1_casesOf_200
    · skip
      refine WG.byc (fun e2 => ?_) (fun n2 => ?_)
      · refine g_tswIn 199 11 dX1_casesOf_9 (by decide) rfl (by decide) e2 ?_
        refine g_iconst dX1_casesOf_199 ?_
        exact g_iret rfl rfl (fun _ => (inR_z (Or.inr rfl))) dX1_casesOf_200
      · skip
        refine WG.byc (fun e3 => ?_) (fun n3 => ?_)
        · refine g_tswIn 199 12 dX1_casesOf_9 (by decide) rfl (by decide) e3 ?_
          refine g_iconst dX1_casesOf_199 ?_
          exact g_iret rfl rfl (fun _ => (inR_z (Or.inr rfl))) dX1_casesOf_200
        · skip
          refine WG.byc (fun e4 => ?_) (fun n4 => ?_)
          · refine g_tswIn 199 13 dX1_casesOf_9 (by decide) rfl (by decide) e4 ?_
            refine g_iconst dX1_casesOf_199 ?_
            exact g_iret rfl rfl (fun _ => (inR_z (Or.inr rfl))) dX1_casesOf_200
          · skip
            refine WG.byc (fun e5 => ?_) (fun n5 => ?_)
            · refine g_tswIn 199 14 dX1_casesOf_9 (by decide) rfl (by decide) e5 ?_
              refine g_iconst dX1_casesOf_199 ?_
              exact g_iret rfl rfl (fun _ => (inR_z (Or.inr rfl))) dX1_casesOf_200
            · skip
              refine WG.byc (fun e6 => ?_) (fun n6 => ?_)
              · refine g_tswIn 199 15 dX1_casesOf_9 (by decide) rfl (by decide) e6 ?_
                refine g_iconst dX1_casesOf_199 ?_
                exact g_iret rfl rfl (fun _ => (inR_z (Or.inr rfl))) dX1_casesOf_200
              · skip
                refine WG.byc (fun e7 => ?_) (fun n7 => ?_)
                · refine g_tswIn 74 16 dX1_casesOf_9 (by decide) rfl (by decide) e7 ?_
                  refine g_jn (fun j2 => ∀ (t1 t2 : Int) (s3 : Sg), inR t1 → (t2 = 0 ∨ t2 = 1) → WG p l e R s m args below meth c JX1_casesOf DX1_casesOf G clA A FC ad0 σ0 rvI (j2 t1 t2 s3) s3 93 [] [vI t2, vI t1, vR 1]) (fun t1 t2 s3 rt1 zt2 => ?_) (fun j2 hj2 => ?_)
                  · refine g_cVI (As := [vI t1, vI t2]) (n := 2) (stk := []) (ci := 1) (b := 30) (N := 57) (hX1_casesOf t1 t2 s3) (by decide +kernel) rfl rfl (lw_V q814 q816 qs19 q163 q817) (by decide +kernel) rfl (by decide) hRf hRl (fun _ => (avc rt1 (avc (inR_z zt2) avn))) (Nat.le_of_ble_eq_true rfl) rfl rfl dX1_casesOf_93 (fun v4 s5 rv4 => ?_)
                    exact g_iret rfl rfl (fun _ => rv4) dX1_casesOf_96
                  · refine g_aload_n 0 dX1_casesOf_74 rfl ?_
                    refine g_aload_n 0 dX1_casesOf_75 rfl ?_
                    refine g_get (v := vR 0) (ci := 1) (b := 30) (N := 57) 0 rfl rfl (by decide) in_X1 rfl rfl q308 dX1_casesOf_76 ?_
                    refine g_iload_n 1 dX1_casesOf_79 rfl ?_
                    refine g_iconst dX1_casesOf_80 ?_
                    refine g_cVI (As := [vI a1, vI 0]) (n := 2) (stk := [vR 1]) (ci := 0) (b := 0) (N := 21) (hX2_at a1 0 u) (by decide +kernel) rfl rfl (lw_V q571 q572 q573 q164 q574) (by decide +kernel) rfl (by decide) hRf hRl (fun _ => (avc ra1 (avc (inR_z (Or.inl rfl)) avn))) (Nat.le_of_ble_eq_true rfl) rfl rfl dX1_casesOf_81 (fun v6 s7 rv6 => ?_)
                    refine g_iload_n 2 dX1_casesOf_84 rfl ?_
                    refine g_if_ne 92 dX1_casesOf_85 (by decide) (fun _ => (inR_z za2)) (fun _ => ?_) (fun _ => ?_)
                    · refine g_iconst dX1_casesOf_88 ?_
                      refine g_goto 93 dX1_casesOf_89 (by decide) ?_
                      exact g_pick [] rfl (hj2 v6 1 s7 rv6 (Or.inr rfl))
                    · refine g_iconst dX1_casesOf_92 ?_
                      exact g_pick [] rfl (hj2 v6 0 s7 rv6 (Or.inl rfl))
                · skip
                  refine WG.byc (fun e8 => ?_) (fun n8 => ?_)
                  · refine g_tswIn 97 17 dX1_casesOf_9 (by decide) rfl (by decide) e8 ?_
                    refine g_jn (fun j8 => ∀ (a1 a2 t0 : Int) (s9 : Sg), inR a1 → (a2 = 0 ∨ a2 = 1) → inL t0 → WG p l e R s m args below meth c JX1_casesOf DX1_casesOf G clA A FC ad0 σ0 rvI (j8 a1 a2 t0 s9) s9 106 [(0, vR 1), (1, vI a1), (2, vI a2)] [vL t0]) (fun a1 a2 t0 s9 ra1 za2 rt0 => ?_) (fun j8 hj8 => ?_)
                    · refine g_lstore_n (loc' := [(3, vL t0), (0, vR 1), (1, vI a1), (2, vI a2)]) dX1_casesOf_106 (by decide) rfl ?_
                      refine g_iconst dX1_casesOf_107 ?_
                      refine g_istore (loc' := [(5, vI 0), (3, vL t0), (0, vR 1), (1, vI a1), (2, vI a2)]) dX1_casesOf_108 (by decide) rfl ?_
                      refine g_pick [2, 3, 4, 1, 0] rfl (wX1_casesOf_L110 hd hRf hRl hX1_casesOf hX2_at _ (fun v11 s10 rv11 => ?_) KF a1 a2 t0 0 s9 ra1 za2 rt0 (inR_z (Or.inl rfl)))
                      · refine g_lload_n 0 dX1_casesOf_173 rfl ?_
                        refine g_l2i rv11 dX1_casesOf_174 (fun v12 rv12 => ?_)
                        exact g_iret rfl rfl (fun _ => rv12) dX1_casesOf_175
                    · refine g_iload_n 2 dX1_casesOf_97 rfl ?_
                      refine g_if_eq 105 dX1_casesOf_98 (by decide) (fun _ => (inR_z za2)) (fun _ => ?_) (fun _ => ?_)
                      · refine g_lconst (v := 1) (by decide +kernel) dX1_casesOf_105 ?_
                        exact g_pick [0, 1, 2] rfl (hj8 a1 a2 1 u ra1 za2 (by decide : inL (1)))
                      · refine g_lconst (v := 0) (by decide +kernel) dX1_casesOf_101 ?_
                        refine g_goto 106 dX1_casesOf_102 (by decide) ?_
                        exact g_pick [0, 1, 2] rfl (hj8 a1 a2 0 u ra1 za2 (by decide : inL (0)))
                  · skip
                    refine WG.byc (fun e9 => ?_) (fun n9 => ?_)
                    · refine g_tswIn 176 18 dX1_casesOf_9 (by decide) rfl (by decide) e9 ?_
                      refine g_iload_n 2 dX1_casesOf_176 rfl ?_
                      refine g_if_eq 197 dX1_casesOf_177 (by decide) (fun _ => (inR_z za2)) (fun _ => ?_) (fun _ => ?_)
                      · refine g_iconst dX1_casesOf_197 ?_
                        exact g_iret rfl rfl (fun _ => (inR_z (Or.inr rfl))) dX1_casesOf_198
                      · refine g_aload_n 0 dX1_casesOf_180 rfl ?_
                        refine g_aload_n 0 dX1_casesOf_181 rfl ?_
                        refine g_get (v := vR 0) (ci := 1) (b := 30) (N := 57) 0 rfl rfl (by decide) in_X1 rfl rfl q308 dX1_casesOf_182 ?_
                        refine g_iload_n 1 dX1_casesOf_185 rfl ?_
                        refine g_iconst dX1_casesOf_186 ?_
                        refine g_cVI (As := [vI a1, vI 1]) (n := 2) (stk := [vR 1]) (ci := 0) (b := 0) (N := 21) (hX2_at a1 1 u) (by decide +kernel) rfl rfl (lw_V q571 q572 q573 q164 q574) (by decide +kernel) rfl (by decide) hRf hRl (fun _ => (avc ra1 (avc (inR_z (Or.inr rfl)) avn))) (Nat.le_of_ble_eq_true rfl) rfl rfl dX1_casesOf_187 (fun v13 s14 rv13 => ?_)
                        refine g_iconst dX1_casesOf_190 ?_
                        refine g_cVI (As := [vI v13, vI 1]) (n := 2) (stk := []) (ci := 1) (b := 30) (N := 57) (hX1_casesOf v13 1 s14) (by decide +kernel) rfl rfl (lw_V q814 q816 qs19 q163 q817) (by decide +kernel) rfl (by decide) hRf hRl (fun _ => (avc rv13 (avc (inR_z (Or.inr rfl)) avn))) (Nat.le_of_ble_eq_true rfl) rfl rfl dX1_casesOf_191 (fun v15 s16 rv15 => ?_)
                        refine g_goto 198 dX1_casesOf_194 (by decide) ?_
                        exact g_iret rfl rfl (fun _ => rv15) dX1_casesOf_198
                    · skip
                      refine g_tswOut 199 dX1_casesOf_9 (fun _ => rv1) (by omega) (by decide) ?_
                      refine g_iconst dX1_casesOf_199 ?_
                      exact g_iret rfl rfl (fun _ => (inR_z (Or.inr rfl))) dX1_casesOf_200
end
section
variable {l : Launch} {d : Nat} {call : Nat → List Int → Sg → Option (Int × Sg)}
theorem ctX1_casesOf (p0 : Program) (e0 : Env) (s0 : State) (m0 : MethodId) (meth0 : Method) (c0 : Code) (G0 : Gm) (hd : 2 ≤ d) (hX1_casesOf : ∀ (a1 a2 : Int) (u : Sg), Ct l d FC clA yX1_casesOf cX1_casesOf 7 (some .int) DX1_casesOf rvI [vR 1, vI a1, vI a2] u (call 37 [a1, a2] u)) (hX2_at : ∀ (a1 a2 : Int) (u : Sg), Ct l d FC clA yX2_at cX2_at 3 (some .int) DX2_at rvI [vR 0, vI a1, vI a2] u (call 98 [a1, a2] u)) (a1 a2 : Int) (u : Sg) : Ct l (d + 1) FC clA yX1_casesOf cX1_casesOf 7 (some .int) DX1_casesOf rvI [vR 1, vI a1, vI a2] u (bX1_casesOf call a1 a2 u) :=
  Ct_of (by decide) (Nat.le_of_ble_eq_true rfl) (fun p e R s1 m args below meth c G A ad hA hRf hRl => wX1_casesOf hd hRf hRl hX1_casesOf hX2_at a1 a2 u (hA _ (List.mem_cons_of_mem _ List.mem_cons_self)) (hA _ (List.mem_cons_of_mem _ (List.mem_cons_of_mem _ List.mem_cons_self)))) p0 e0 s0 m0 meth0 c0 G0
end
/-! RoundCheck.open(I)I -/
abbrev JX1_open : Jm := (cX1_open, RX1, 7, (some .int))
def bX1_open_L27 (call : Nat → List Int → Sg → Option (Int × Sg)) : Nat → Int → Int → Int → Sg → (Int → Sg → Option (Int × Sg)) → Option (Int × Sg)
  | 0, _, _, _, _, _ => none
  | n + 1, a1, a3, a4, u, x72 => ld u 3 a1 fun v1 => if a4 < v1 then (cl (call 98 [a1, a4] u) fun v2 s3 => cl (call 38 [v2] s3) fun v4 s5 => cl (call 97 [v4] s5) fun v6 s7 => ar (a4 + 1) fun v8 => bX1_open_L27 call n a1 a3 v8 s7 x72) else (x72 a3 u)
def bX1_open_L125 (call : Nat → List Int → Sg → Option (Int × Sg)) : Nat → Int → Int → Int → Sg → (Int → Sg → Option (Int × Sg)) → Option (Int × Sg)
  | 0, _, _, _, _, _ => none
  | n + 1, a3, a4, a5, u, x177 => ld u 3 a3 fun v1 => if a5 < v1 then (cl (call 98 [a3, a5] u) fun v2 s3 => cl (call 102 [v2] s3) fun v4 s5 => cl (call 38 [v4] s5) fun v6 s7 => cl (call 97 [v6] s7) fun v8 s9 => ar (a5 + 1) fun v10 => bX1_open_L125 call n a3 a4 v10 s9 x177) else (x177 a4 u)
def bX1_open (call : Nat → List Int → Sg → Option (Int × Sg)) (a1 : Int) (u : Sg) : Option (Int × Sg) := ld u 0 a1 fun v1 => if v1 = 17 then (un (gI u 12) fun v2 => bX1_open_L27 call KF a1 v2 0 u (fun v4 s3 => cl (call 104 [v4] s3) fun v5 s6 => some (v5, s6))) else (if v1 = 16 then (cl (call 98 [a1, 0] u) fun v7 s8 => ld s8 0 v7 fun v9 => if v9 = 17 then (un (gI s8 12) fun v10 => bX1_open_L125 call KF v7 v10 0 s8 (fun v12 s11 => cl (call 94 [30, 0, v12] s11) fun v13 s14 => some (v13, s14))) else (ld s8 0 v7 fun v15 => if v15 = 18 then (cl (call 98 [v7, 0] s8) fun v16 s17 => cl (call 19 [v16] s17) fun v18 s19 => cl (call 98 [v7, 1] s19) fun v20 s21 => cl (call 110 [v20, v18] s21) fun v22 s23 => cl (call 102 [v22] s23) fun v24 s25 => cl (call 38 [v24] s25) fun v26 s27 => some (v26, s27)) else (some (a1, s8)))) else (some (a1, u)))
section
variable {p : Program} {l : Launch} {e : Env} {R : Room} {s : State} {m : MethodId} {args : Array Value} {below : List Frame} {meth : Method} {c : Code} {G : Gm} {A : Nat → Prop} {ad0 : Nat → Nat} {σ0 : Sg} {d : Nat} {call : Nat → List Int → Sg → Option (Int × Sg)}
theorem wX1_open_L27 (hd : 2 ≤ d) (hRf : d + 1 ≤ R.frames) (hRl : 40 * (d + 1) ≤ R.locals) (hX2_at : ∀ (a1 a2 : Int) (u : Sg), Ct l d FC clA yX2_at cX2_at 3 (some .int) DX2_at rvI [vR 0, vI a1, vI a2] u (call 98 [a1, a2] u)) (hX1_open : ∀ (a1 : Int) (u : Sg), Ct l d FC clA yX1_open cX1_open 7 (some .int) DX1_open rvI [vR 1, vI a1] u (call 38 [a1] u)) (hX2_push : ∀ (a1 : Int) (u : Sg), Ct l d FC clA yX2_push cX2_push 2 none DX2_push rvV [vR 0, vI a1] u (call 97 [a1] u)) (hX2_and_2 : ∀ (a1 : Int) (u : Sg), Ct l d FC clA yX2_and_2 cX2_and_2 7 (some .int) DX2_and_2 rvI [vR 0, vI a1] u (call 104 [a1] u)) (hX2_not : ∀ (a1 : Int) (u : Sg), Ct l d FC clA yX2_not cX2_not 2 (some .int) DX2_not rvI [vR 0, vI a1] u (call 102 [a1] u)) (hX2_make : ∀ (a1 a2 a3 : Int) (u : Sg), Ct l d FC clA yX2_make cX2_make 13 (some .int) DX2_make rvI [vR 0, vI a1, vI a2, vI a3] u (call 94 [a1, a2, a3] u)) (hX1_newOne : ∀ (a1 : Int) (u : Sg), Ct l d FC clA yX1_newOne cX1_newOne 2 (some .int) DX1_newOne rvI [vR 1, vI a1] u (call 19 [a1] u)) (hX2_put : ∀ (a1 a2 : Int) (u : Sg), Ct l d FC clA yX2_put cX2_put 3 (some .int) DX2_put rvI [vR 0, vI a1, vI a2] u (call 110 [a1, a2] u)) (x72 : Int → Sg → Option (Int × Sg)) (hx72 : ∀ (a3 : Int) (u : Sg), inR a3 → WG p l e R s m args below meth c JX1_open DX1_open G clA A FC ad0 σ0 rvI (x72 a3 u) u 72 [(0, vR 1), (3, vI a3)] []) : ∀ (n : Nat) (a1 a3 a4 : Int) (u : Sg), inR a1 → inR a3 → inR a4 → WG p l e R s m args below meth c JX1_open DX1_open G clA A FC ad0 σ0 rvI (bX1_open_L27 call n a1 a3 a4 u x72) u 27 [(0, vR 1), (1, vI a1), (3, vI a3), (4, vI a4)] [] := by
  intro n
  induction n with
  | zero =>
    intro a1 a3 a4 u ra1 ra3 ra4
    exact g_none
  | succ n ih =>
    intro a1 a3 a4 u ra1 ra3 ra4
    rw [bX1_open_L27]
    refine g_iload 3 dX1_open_27 rfl ?_
    refine g_aload_n 0 dX1_open_29 rfl ?_
    refine g_get (v := vR 0) (ci := 1) (b := 30) (N := 57) 0 rfl rfl (by decide) in_X1 rfl rfl q308 dX1_open_30 ?_
    refine g_get (v := vR 13) (ci := 0) (b := 0) (N := 21) 3 rfl rfl (by decide) in_X2 rfl rfl q237 dX1_open_33 ?_
    refine g_iload_n 1 dX1_open_36 rfl ?_
    refine g_iald (id := 3) 3 rfl rfl dX1_open_37 (fun v1 rv1 => ?_)
    refine g_icmp_ge 72 dX1_open_38 (by decide) (fun _ => ra4) (fun _ => rv1) (fun _ => ?_) (fun _ => ?_)
    · refine g_aload_n 0 dX1_open_41 rfl ?_
      refine g_aload_n 0 dX1_open_42 rfl ?_
      refine g_get (v := vR 0) (ci := 1) (b := 30) (N := 57) 0 rfl rfl (by decide) in_X1 rfl rfl q308 dX1_open_43 ?_
      refine g_iload_n 1 dX1_open_46 rfl ?_
      refine g_iload 3 dX1_open_47 rfl ?_
      refine g_cVI (As := [vI a1, vI a4]) (n := 2) (stk := [vR 1]) (ci := 0) (b := 0) (N := 21) (hX2_at a1 a4 u) (by decide +kernel) rfl rfl (lw_V q571 q572 q573 q164 q574) (by decide +kernel) rfl (by decide) hRf hRl (fun _ => (avc ra1 (avc ra4 avn))) (Nat.le_of_ble_eq_true rfl) rfl rfl dX1_open_49 (fun v2 s3 rv2 => ?_)
      refine g_cVI (As := [vI v2]) (n := 1) (stk := []) (ci := 1) (b := 30) (N := 57) (hX1_open v2 s3) (by decide +kernel) rfl rfl (lw_V q820 q822 qs20 q163 q823) (by decide +kernel) rfl (by decide) hRf hRl (fun _ => (avc rv2 avn)) (Nat.le_of_ble_eq_true rfl) rfl rfl dX1_open_52 (fun v4 s5 rv4 => ?_)
      refine g_istore (loc' := [(5, vI v4), (0, vR 1), (1, vI a1), (3, vI a3), (4, vI a4)]) dX1_open_55 (by decide) rfl ?_
      refine g_aload_n 1 dX1_open_57 rfl ?_
      refine g_get (v := vR 0) (ci := 1) (b := 30) (N := 57) 0 rfl rfl (by decide) in_X1 rfl rfl q308 dX1_open_58 ?_
      refine g_iload 0 dX1_open_61 rfl ?_
      refine g_cVV (As := [vI v4]) (n := 1) (stk := []) (ci := 0) (b := 0) (N := 21) (hX2_push v4 s5) (by decide +kernel) rfl rfl (lw_V q637 q228 q229 q164 q230) (by decide +kernel) rfl (by decide) hRf hRl (fun _ => (avc rv4 avn)) (Nat.le_of_ble_eq_true rfl) rfl rfl dX1_open_63 (fun v6 s7 => ?_)
      refine g_iinc 4 (loc' := fun v8 => [(4, vI v8), (5, vI v4), (0, vR 1), (1, vI a1), (3, vI a3)]) dX1_open_66 rfl (by decide) (fun _ => rfl) (fun v8 rv8 => ?_)
      refine g_goto 27 dX1_open_69 (by decide) ?_
      exact g_pick [2, 3, 4, 0] rfl (ih a1 a3 v8 s7 ra1 ra3 rv8)
    · exact g_pick [0, 2] rfl (hx72 a3 u ra3)
theorem wX1_open_L125 (hd : 2 ≤ d) (hRf : d + 1 ≤ R.frames) (hRl : 40 * (d + 1) ≤ R.locals) (hX2_at : ∀ (a1 a2 : Int) (u : Sg), Ct l d FC clA yX2_at cX2_at 3 (some .int) DX2_at rvI [vR 0, vI a1, vI a2] u (call 98 [a1, a2] u)) (hX1_open : ∀ (a1 : Int) (u : Sg), Ct l d FC clA yX1_open cX1_open 7 (some .int) DX1_open rvI [vR 1, vI a1] u (call 38 [a1] u)) (hX2_push : ∀ (a1 : Int) (u : Sg), Ct l d FC clA yX2_push cX2_push 2 none DX2_push rvV [vR 0, vI a1] u (call 97 [a1] u)) (hX2_and_2 : ∀ (a1 : Int) (u : Sg), Ct l d FC clA yX2_and_2 cX2_and_2 7 (some .int) DX2_and_2 rvI [vR 0, vI a1] u (call 104 [a1] u)) (hX2_not : ∀ (a1 : Int) (u : Sg), Ct l d FC clA yX2_not cX2_not 2 (some .int) DX2_not rvI [vR 0, vI a1] u (call 102 [a1] u)) (hX2_make : ∀ (a1 a2 a3 : Int) (u : Sg), Ct l d FC clA yX2_make cX2_make 13 (some .int) DX2_make rvI [vR 0, vI a1, vI a2, vI a3] u (call 94 [a1, a2, a3] u)) (hX1_newOne : ∀ (a1 : Int) (u : Sg), Ct l d FC clA yX1_newOne cX1_newOne 2 (some .int) DX1_newOne rvI [vR 1, vI a1] u (call 19 [a1] u)) (hX2_put : ∀ (a1 a2 : Int) (u : Sg), Ct l d FC clA yX2_put cX2_put 3 (some .int) DX2_put rvI [vR 0, vI a1, vI a2] u (call 110 [a1, a2] u)) (x177 : Int → Sg → Option (Int × Sg)) (hx177 : ∀ (a4 : Int) (u : Sg), inR a4 → WG p l e R s m args below meth c JX1_open DX1_open G clA A FC ad0 σ0 rvI (x177 a4 u) u 177 [(0, vR 1), (4, vI a4)] []) : ∀ (n : Nat) (a3 a4 a5 : Int) (u : Sg), inR a3 → inR a4 → inR a5 → WG p l e R s m args below meth c JX1_open DX1_open G clA A FC ad0 σ0 rvI (bX1_open_L125 call n a3 a4 a5 u x177) u 125 [(0, vR 1), (3, vI a3), (4, vI a4), (5, vI a5)] [] := by
  intro n
  induction n with
  | zero =>
    intro a3 a4 a5 u ra3 ra4 ra5
    exact g_none
  | succ n ih =>
    intro a3 a4 a5 u ra3 ra4 ra5
    rw [bX1_open_L125]
    refine g_iload 3 dX1_open_125 rfl ?_
    refine g_aload_n 0 dX1_open_127 rfl ?_
    refine g_get (v := vR 0) (ci := 1) (b := 30) (N := 57) 0 rfl rfl (by decide) in_X1 rfl rfl q308 dX1_open_128 ?_
    refine g_get (v := vR 13) (ci := 0) (b := 0) (N := 21) 3 rfl rfl (by decide) in_X2 rfl rfl q237 dX1_open_131 ?_
    refine g_iload_n 1 dX1_open_134 rfl ?_
    refine g_iald (id := 3) 3 rfl rfl dX1_open_135 (fun v1 rv1 => ?_)
    refine g_icmp_ge 177 dX1_open_136 (by decide) (fun _ => ra5) (fun _ => rv1) (fun _ => ?_) (fun _ => ?_)
    · refine g_aload_n 0 dX1_open_139 rfl ?_
      refine g_aload_n 0 dX1_open_140 rfl ?_
      refine g_get (v := vR 0) (ci := 1) (b := 30) (N := 57) 0 rfl rfl (by decide) in_X1 rfl rfl q308 dX1_open_141 ?_
      refine g_aload_n 0 dX1_open_144 rfl ?_
      refine g_get (v := vR 0) (ci := 1) (b := 30) (N := 57) 0 rfl rfl (by decide) in_X1 rfl rfl q308 dX1_open_145 ?_
      refine g_iload_n 1 dX1_open_148 rfl ?_
      refine g_iload 3 dX1_open_149 rfl ?_
      refine g_cVI (As := [vI a3, vI a5]) (n := 2) (stk := [vR 0, vR 1]) (ci := 0) (b := 0) (N := 21) (hX2_at a3 a5 u) (by decide +kernel) rfl rfl (lw_V q571 q572 q573 q164 q574) (by decide +kernel) rfl (by decide) hRf hRl (fun _ => (avc ra3 (avc ra5 avn))) (Nat.le_of_ble_eq_true rfl) rfl rfl dX1_open_151 (fun v2 s3 rv2 => ?_)
      refine g_cVI (As := [vI v2]) (n := 1) (stk := [vR 1]) (ci := 0) (b := 0) (N := 21) (hX2_not v2 s3) (by decide +kernel) rfl rfl (lw_V q719 q720 q721 q164 q722) (by decide +kernel) rfl (by decide) hRf hRl (fun _ => (avc rv2 avn)) (Nat.le_of_ble_eq_true rfl) rfl rfl dX1_open_154 (fun v4 s5 rv4 => ?_)
      refine g_cVI (As := [vI v4]) (n := 1) (stk := []) (ci := 1) (b := 30) (N := 57) (hX1_open v4 s5) (by decide +kernel) rfl rfl (lw_V q820 q822 qs20 q163 q823) (by decide +kernel) rfl (by decide) hRf hRl (fun _ => (avc rv4 avn)) (Nat.le_of_ble_eq_true rfl) rfl rfl dX1_open_157 (fun v6 s7 rv6 => ?_)
      refine g_istore (loc' := [(6, vI v6), (0, vR 1), (3, vI a3), (4, vI a4), (5, vI a5)]) dX1_open_160 (by decide) rfl ?_
      refine g_aload_n 1 dX1_open_162 rfl ?_
      refine g_get (v := vR 0) (ci := 1) (b := 30) (N := 57) 0 rfl rfl (by decide) in_X1 rfl rfl q308 dX1_open_163 ?_
      refine g_iload 0 dX1_open_166 rfl ?_
      refine g_cVV (As := [vI v6]) (n := 1) (stk := []) (ci := 0) (b := 0) (N := 21) (hX2_push v6 s7) (by decide +kernel) rfl rfl (lw_V q637 q228 q229 q164 q230) (by decide +kernel) rfl (by decide) hRf hRl (fun _ => (avc rv6 avn)) (Nat.le_of_ble_eq_true rfl) rfl rfl dX1_open_168 (fun v8 s9 => ?_)
      refine g_iinc 4 (loc' := fun v10 => [(5, vI v10), (6, vI v6), (0, vR 1), (3, vI a3), (4, vI a4)]) dX1_open_171 rfl (by decide) (fun _ => rfl) (fun v10 rv10 => ?_)
      refine g_goto 125 dX1_open_174 (by decide) ?_
      exact g_pick [2, 3, 4, 0] rfl (ih a3 a4 v10 s9 ra3 ra4 rv10)
    · exact g_pick [0, 2] rfl (hx177 a4 u ra4)
theorem wX1_open (hd : 2 ≤ d) (hRf : d + 1 ≤ R.frames) (hRl : 40 * (d + 1) ≤ R.locals) (hX2_at : ∀ (a1 a2 : Int) (u : Sg), Ct l d FC clA yX2_at cX2_at 3 (some .int) DX2_at rvI [vR 0, vI a1, vI a2] u (call 98 [a1, a2] u)) (hX1_open : ∀ (a1 : Int) (u : Sg), Ct l d FC clA yX1_open cX1_open 7 (some .int) DX1_open rvI [vR 1, vI a1] u (call 38 [a1] u)) (hX2_push : ∀ (a1 : Int) (u : Sg), Ct l d FC clA yX2_push cX2_push 2 none DX2_push rvV [vR 0, vI a1] u (call 97 [a1] u)) (hX2_and_2 : ∀ (a1 : Int) (u : Sg), Ct l d FC clA yX2_and_2 cX2_and_2 7 (some .int) DX2_and_2 rvI [vR 0, vI a1] u (call 104 [a1] u)) (hX2_not : ∀ (a1 : Int) (u : Sg), Ct l d FC clA yX2_not cX2_not 2 (some .int) DX2_not rvI [vR 0, vI a1] u (call 102 [a1] u)) (hX2_make : ∀ (a1 a2 a3 : Int) (u : Sg), Ct l d FC clA yX2_make cX2_make 13 (some .int) DX2_make rvI [vR 0, vI a1, vI a2, vI a3] u (call 94 [a1, a2, a3] u)) (hX1_newOne : ∀ (a1 : Int) (u : Sg), Ct l d FC clA yX1_newOne cX1_newOne 2 (some .int) DX1_newOne rvI [vR 1, vI a1] u (call 19 [a1] u)) (hX2_put : ∀ (a1 a2 : Int) (u : Sg), Ct l d FC clA yX2_put cX2_put 3 (some .int) DX2_put rvI [vR 0, vI a1, vI a2] u (call 110 [a1, a2] u)) (a1 : Int) (u : Sg) (ra1 : inR a1) : WG p l e R s m args below meth c JX1_open DX1_open G clA A FC ad0 σ0 rvI (bX1_open call a1 u) u 0 [(0, vR 1), (1, vI a1)] [] := by
  unfold bX1_open
  refine g_aload_n 0 dX1_open_0 rfl ?_
  refine g_get (v := vR 0) (ci := 1) (b := 30) (N := 57) 0 rfl rfl (by decide) in_X1 rfl rfl q308 dX1_open_1 ?_
  refine g_get (v := vR 10) (ci := 0) (b := 0) (N := 21) 0 rfl rfl (by decide) in_X2 rfl rfl q232 dX1_open_4 ?_
  refine g_iload_n 1 dX1_open_7 rfl ?_
  refine g_iald (id := 0) 0 rfl rfl dX1_open_8 (fun v1 rv1 => ?_)
  refine g_istore_n (loc' := [(2, vI v1), (0, vR 1), (1, vI a1)]) dX1_open_9 (by decide) rfl ?_
  refine g_iload_n 0 dX1_open_10 rfl ?_
  refine g_bipush (by decide +kernel) dX1_open_11 ?_
  refine g_icmp_ne 81 dX1_open_13 (by decide) (fun _ => rv1) (fun _ => (by decide : inR (17))) (fun _ => ?_) (fun _ => ?_)
  · refine g_aload_n 1 dX1_open_16 rfl ?_
    refine g_get (v := vR 0) (ci := 1) (b := 30) (N := 57) 0 rfl rfl (by decide) in_X1 rfl rfl q308 dX1_open_17 ?_
    refine g_getI (ci := 0) (b := 0) (N := 21) 12 rfl rfl rfl (by decide) in_X2 rfl rfl q251 dX1_open_20 (fun v2 rv2 => ?_)
    refine g_istore_n (loc' := [(3, vI v2), (2, vI v1), (0, vR 1), (1, vI a1)]) dX1_open_23 (by decide) rfl ?_
    refine g_iconst dX1_open_24 ?_
    refine g_istore (loc' := [(4, vI 0), (3, vI v2), (2, vI v1), (0, vR 1), (1, vI a1)]) dX1_open_25 (by decide) rfl ?_
    refine g_pick [3, 4, 1, 0] rfl (wX1_open_L27 hd hRf hRl hX2_at hX1_open hX2_push hX2_and_2 hX2_not hX2_make hX1_newOne hX2_put _ (fun v4 s3 rv4 => ?_) KF a1 v2 0 u ra1 rv2 (inR_z (Or.inl rfl)))
    · refine g_aload_n 0 dX1_open_72 rfl ?_
      refine g_get (v := vR 0) (ci := 1) (b := 30) (N := 57) 0 rfl rfl (by decide) in_X1 rfl rfl q308 dX1_open_73 ?_
      refine g_iload_n 1 dX1_open_76 rfl ?_
      refine g_cVI (As := [vI v4]) (n := 1) (stk := []) (ci := 0) (b := 0) (N := 21) (hX2_and_2 v4 s3) (by decide +kernel) rfl rfl (lw_V q813 q729 q730 q164 q731) (by decide +kernel) rfl (by decide) hRf hRl (fun _ => (avc rv4 avn)) (Nat.le_of_ble_eq_true rfl) rfl rfl dX1_open_77 (fun v5 s6 rv5 => ?_)
      exact g_iret rfl rfl (fun _ => rv5) dX1_open_80
  · refine g_iload_n 0 dX1_open_81 rfl ?_
    refine g_bipush (by decide +kernel) dX1_open_82 ?_
    refine g_icmp_eq 89 dX1_open_84 (by decide) (fun _ => rv1) (fun _ => (by decide : inR (16))) (fun _ => ?_) (fun _ => ?_)
    · refine g_aload_n 1 dX1_open_89 rfl ?_
      refine g_get (v := vR 0) (ci := 1) (b := 30) (N := 57) 0 rfl rfl (by decide) in_X1 rfl rfl q308 dX1_open_90 ?_
      refine g_iload_n 2 dX1_open_93 rfl ?_
      refine g_iconst dX1_open_94 ?_
      refine g_cVI (As := [vI a1, vI 0]) (n := 2) (stk := []) (ci := 0) (b := 0) (N := 21) (hX2_at a1 0 u) (by decide +kernel) rfl rfl (lw_V q571 q572 q573 q164 q574) (by decide +kernel) rfl (by decide) hRf hRl (fun _ => (avc ra1 (avc (inR_z (Or.inl rfl)) avn))) (Nat.le_of_ble_eq_true rfl) rfl rfl dX1_open_95 (fun v7 s8 rv7 => ?_)
      refine g_istore_n (loc' := [(3, vI v7), (2, vI v1), (0, vR 1), (1, vI a1)]) dX1_open_98 (by decide) rfl ?_
      refine g_aload_n 2 dX1_open_99 rfl ?_
      refine g_get (v := vR 0) (ci := 1) (b := 30) (N := 57) 0 rfl rfl (by decide) in_X1 rfl rfl q308 dX1_open_100 ?_
      refine g_get (v := vR 10) (ci := 0) (b := 0) (N := 21) 0 rfl rfl (by decide) in_X2 rfl rfl q232 dX1_open_103 ?_
      refine g_iload_n 0 dX1_open_106 rfl ?_
      refine g_iald (id := 0) 0 rfl rfl dX1_open_107 (fun v9 rv9 => ?_)
      refine g_bipush (by decide +kernel) dX1_open_108 ?_
      refine g_icmp_ne 190 dX1_open_110 (by decide) (fun _ => rv9) (fun _ => (by decide : inR (17))) (fun _ => ?_) (fun _ => ?_)
      · refine g_aload_n 2 dX1_open_113 rfl ?_
        refine g_get (v := vR 0) (ci := 1) (b := 30) (N := 57) 0 rfl rfl (by decide) in_X1 rfl rfl q308 dX1_open_114 ?_
        refine g_getI (ci := 0) (b := 0) (N := 21) 12 rfl rfl rfl (by decide) in_X2 rfl rfl q251 dX1_open_117 (fun v10 rv10 => ?_)
        refine g_istore (loc' := [(4, vI v10), (3, vI v7), (2, vI v1), (0, vR 1), (1, vI a1)]) dX1_open_120 (by decide) rfl ?_
        refine g_iconst dX1_open_122 ?_
        refine g_istore (loc' := [(5, vI 0), (4, vI v10), (3, vI v7), (2, vI v1), (0, vR 1), (1, vI a1)]) dX1_open_123 (by decide) rfl ?_
        refine g_pick [4, 2, 1, 0] rfl (wX1_open_L125 hd hRf hRl hX2_at hX1_open hX2_push hX2_and_2 hX2_not hX2_make hX1_newOne hX2_put _ (fun v12 s11 rv12 => ?_) KF v7 v10 0 s8 rv7 rv10 (inR_z (Or.inl rfl)))
        · refine g_aload_n 0 dX1_open_177 rfl ?_
          refine g_get (v := vR 0) (ci := 1) (b := 30) (N := 57) 0 rfl rfl (by decide) in_X1 rfl rfl q308 dX1_open_178 ?_
          refine g_bipush (by decide +kernel) dX1_open_181 ?_
          refine g_iconst dX1_open_183 ?_
          refine g_iload 1 dX1_open_184 rfl ?_
          refine g_cVI (As := [vI 30, vI 0, vI v12]) (n := 3) (stk := []) (ci := 0) (b := 0) (N := 21) (hX2_make 30 0 v12 s11) (by decide +kernel) rfl rfl (lw_V q642 q192 q193 q164 q194) (by decide +kernel) rfl (by decide) hRf hRl (fun _ => (avc (by decide : inR (30)) (avc (inR_z (Or.inl rfl)) (avc rv12 avn)))) (Nat.le_of_ble_eq_true rfl) rfl rfl dX1_open_186 (fun v13 s14 rv13 => ?_)
          exact g_iret rfl rfl (fun _ => rv13) dX1_open_189
      · refine g_aload_n 2 dX1_open_190 rfl ?_
        refine g_get (v := vR 0) (ci := 1) (b := 30) (N := 57) 0 rfl rfl (by decide) in_X1 rfl rfl q308 dX1_open_191 ?_
        refine g_get (v := vR 10) (ci := 0) (b := 0) (N := 21) 0 rfl rfl (by decide) in_X2 rfl rfl q232 dX1_open_194 ?_
        refine g_iload_n 0 dX1_open_197 rfl ?_
        refine g_iald (id := 0) 0 rfl rfl dX1_open_198 (fun v15 rv15 => ?_)
        refine g_bipush (by decide +kernel) dX1_open_199 ?_
        refine g_icmp_eq 206 dX1_open_201 (by decide) (fun _ => rv15) (fun _ => (by decide : inR (18))) (fun _ => ?_) (fun _ => ?_)
        · refine g_aload_n 2 dX1_open_206 rfl ?_
          refine g_aload_n 2 dX1_open_207 rfl ?_
          refine g_get (v := vR 0) (ci := 1) (b := 30) (N := 57) 0 rfl rfl (by decide) in_X1 rfl rfl q308 dX1_open_208 ?_
          refine g_iload_n 0 dX1_open_211 rfl ?_
          refine g_iconst dX1_open_212 ?_
          refine g_cVI (As := [vI v7, vI 0]) (n := 2) (stk := [vR 1]) (ci := 0) (b := 0) (N := 21) (hX2_at v7 0 s8) (by decide +kernel) rfl rfl (lw_V q571 q572 q573 q164 q574) (by decide +kernel) rfl (by decide) hRf hRl (fun _ => (avc rv7 (avc (inR_z (Or.inl rfl)) avn))) (Nat.le_of_ble_eq_true rfl) rfl rfl dX1_open_213 (fun v16 s17 rv16 => ?_)
          refine g_cVI (As := [vI v16]) (n := 1) (stk := []) (ci := 1) (b := 30) (N := 57) (hX1_newOne v16 s17) (by decide +kernel) rfl rfl (lw_V q662 q664 qs11 q163 q665) (by decide +kernel) rfl (by decide) hRf hRl (fun _ => (avc rv16 avn)) (Nat.le_of_ble_eq_true rfl) rfl rfl dX1_open_216 (fun v18 s19 rv18 => ?_)
          refine g_istore (loc' := [(4, vI v18), (3, vI v7), (2, vI v1), (0, vR 1), (1, vI a1)]) dX1_open_219 (by decide) rfl ?_
          refine g_aload_n 3 dX1_open_221 rfl ?_
          refine g_get (v := vR 0) (ci := 1) (b := 30) (N := 57) 0 rfl rfl (by decide) in_X1 rfl rfl q308 dX1_open_222 ?_
          refine g_aload_n 3 dX1_open_225 rfl ?_
          refine g_get (v := vR 0) (ci := 1) (b := 30) (N := 57) 0 rfl rfl (by decide) in_X1 rfl rfl q308 dX1_open_226 ?_
          refine g_iload_n 1 dX1_open_229 rfl ?_
          refine g_iconst dX1_open_230 ?_
          refine g_cVI (As := [vI v7, vI 1]) (n := 2) (stk := [vR 0]) (ci := 0) (b := 0) (N := 21) (hX2_at v7 1 s19) (by decide +kernel) rfl rfl (lw_V q571 q572 q573 q164 q574) (by decide +kernel) rfl (by decide) hRf hRl (fun _ => (avc rv7 (avc (inR_z (Or.inr rfl)) avn))) (Nat.le_of_ble_eq_true rfl) rfl rfl dX1_open_231 (fun v20 s21 rv20 => ?_)
          refine g_iload 0 dX1_open_234 rfl ?_
          refine g_cVI (As := [vI v20, vI v18]) (n := 2) (stk := []) (ci := 0) (b := 0) (N := 21) (hX2_put v20 v18 s21) (by decide +kernel) rfl rfl (lw_V q824 q825 q826 q164 q827) (by decide +kernel) rfl (by decide) hRf hRl (fun _ => (avc rv20 (avc rv18 avn))) (Nat.le_of_ble_eq_true rfl) rfl rfl dX1_open_236 (fun v22 s23 rv22 => ?_)
          refine g_istore (loc' := [(5, vI v22), (4, vI v18), (3, vI v7), (2, vI v1), (0, vR 1), (1, vI a1)]) dX1_open_239 (by decide) rfl ?_
          refine g_aload_n 4 dX1_open_241 rfl ?_
          refine g_aload_n 4 dX1_open_242 rfl ?_
          refine g_get (v := vR 0) (ci := 1) (b := 30) (N := 57) 0 rfl rfl (by decide) in_X1 rfl rfl q308 dX1_open_243 ?_
          refine g_iload 0 dX1_open_246 rfl ?_
          refine g_cVI (As := [vI v22]) (n := 1) (stk := [vR 1]) (ci := 0) (b := 0) (N := 21) (hX2_not v22 s23) (by decide +kernel) rfl rfl (lw_V q719 q720 q721 q164 q722) (by decide +kernel) rfl (by decide) hRf hRl (fun _ => (avc rv22 avn)) (Nat.le_of_ble_eq_true rfl) rfl rfl dX1_open_248 (fun v24 s25 rv24 => ?_)
          refine g_cVI (As := [vI v24]) (n := 1) (stk := []) (ci := 1) (b := 30) (N := 57) (hX1_open v24 s25) (by decide +kernel) rfl rfl (lw_V q820 q822 qs20 q163 q823) (by decide +kernel) rfl (by decide) hRf hRl (fun _ => (avc rv24 avn)) (Nat.le_of_ble_eq_true rfl) rfl rfl dX1_open_251 (fun v26 s27 rv26 => ?_)
          exact g_iret rfl rfl (fun _ => rv26) dX1_open_254
        · refine g_iload_n 3 dX1_open_204 rfl ?_
          exact g_iret rfl rfl (fun _ => ra1) dX1_open_205
    · refine g_iload_n 2 dX1_open_87 rfl ?_
      exact g_iret rfl rfl (fun _ => ra1) dX1_open_88
end
section
variable {l : Launch} {d : Nat} {call : Nat → List Int → Sg → Option (Int × Sg)}
theorem ctX1_open (p0 : Program) (e0 : Env) (s0 : State) (m0 : MethodId) (meth0 : Method) (c0 : Code) (G0 : Gm) (hd : 2 ≤ d) (hX2_at : ∀ (a1 a2 : Int) (u : Sg), Ct l d FC clA yX2_at cX2_at 3 (some .int) DX2_at rvI [vR 0, vI a1, vI a2] u (call 98 [a1, a2] u)) (hX1_open : ∀ (a1 : Int) (u : Sg), Ct l d FC clA yX1_open cX1_open 7 (some .int) DX1_open rvI [vR 1, vI a1] u (call 38 [a1] u)) (hX2_push : ∀ (a1 : Int) (u : Sg), Ct l d FC clA yX2_push cX2_push 2 none DX2_push rvV [vR 0, vI a1] u (call 97 [a1] u)) (hX2_and_2 : ∀ (a1 : Int) (u : Sg), Ct l d FC clA yX2_and_2 cX2_and_2 7 (some .int) DX2_and_2 rvI [vR 0, vI a1] u (call 104 [a1] u)) (hX2_not : ∀ (a1 : Int) (u : Sg), Ct l d FC clA yX2_not cX2_not 2 (some .int) DX2_not rvI [vR 0, vI a1] u (call 102 [a1] u)) (hX2_make : ∀ (a1 a2 a3 : Int) (u : Sg), Ct l d FC clA yX2_make cX2_make 13 (some .int) DX2_make rvI [vR 0, vI a1, vI a2, vI a3] u (call 94 [a1, a2, a3] u)) (hX1_newOne : ∀ (a1 : Int) (u : Sg), Ct l d FC clA yX1_newOne cX1_newOne 2 (some .int) DX1_newOne rvI [vR 1, vI a1] u (call 19 [a1] u)) (hX2_put : ∀ (a1 a2 : Int) (u : Sg), Ct l d FC clA yX2_put cX2_put 3 (some .int) DX2_put rvI [vR 0, vI a1, vI a2] u (call 110 [a1, a2] u)) (a1 : Int) (u : Sg) : Ct l (d + 1) FC clA yX1_open cX1_open 7 (some .int) DX1_open rvI [vR 1, vI a1] u (bX1_open call a1 u) :=
  Ct_of (by decide) (Nat.le_of_ble_eq_true rfl) (fun p e R s1 m args below meth c G A ad hA hRf hRl => wX1_open hd hRf hRl hX2_at hX1_open hX2_push hX2_and_2 hX2_not hX2_make hX1_newOne hX2_put a1 u (hA _ (List.mem_cons_of_mem _ List.mem_cons_self))) p0 e0 s0 m0 meth0 c0 G0
end
/-! RoundCheck.pend(II)I -/
abbrev JX1_pend : Jm := (cX1_pend, RX1, 3, (some .int))
def bX1_pend (call : Nat → List Int → Sg → Option (Int × Sg)) (a1 a2 : Int) (u : Sg) : Option (Int × Sg) := jn (fun (a1 a2 : Int) (s2 : Sg) => un (gI s2 63) fun v3 => stA s2 61 v3 a1 fun s4 => un (gI s4 63) fun v5 => stA s4 62 v5 a2 fun s6 => un (gI s6 63) fun v7 => ar (v7 + 1) fun v8 => un (sI s6 63 v8) fun s9 => un (gI s9 63) fun v10 => ar (v10 - 1) fun v11 => some (v11, s9)) fun j1 => un (gI u 63) fun v12 => un (gL u 61 : Int) fun v13 => if v12 = v13 then (un (gI u 63) fun v14 => ar (2 * v14) fun v15 => cpy u 61 v15 fun s16 => un (gI s16 63) fun v17 => ar (2 * v17) fun v18 => cpy s16 62 v18 fun s19 => j1 a1 a2 s19) else (j1 a1 a2 u)
section
variable {p : Program} {l : Launch} {e : Env} {R : Room} {s : State} {m : MethodId} {args : Array Value} {below : List Frame} {meth : Method} {c : Code} {G : Gm} {A : Nat → Prop} {ad0 : Nat → Nat} {σ0 : Sg} {d : Nat} {call : Nat → List Int → Sg → Option (Int × Sg)}
theorem wX1_pend (hd : 2 ≤ d) (hRf : d + 1 ≤ R.frames) (hRl : 40 * (d + 1) ≤ R.locals) (a1 a2 : Int) (u : Sg) (ra1 : inR a1) (ra2 : inR a2) : WG p l e R s m args below meth c JX1_pend DX1_pend G clA A FC ad0 σ0 rvI (bX1_pend call a1 a2 u) u 0 [(0, vR 1), (1, vI a1), (2, vI a2)] [] := by
  unfold bX1_pend
  refine g_jn (fun j1 => ∀ (a1 a2 : Int) (s2 : Sg), inR a1 → inR a2 → WG p l e R s m args below meth c JX1_pend DX1_pend G clA A FC ad0 σ0 rvI (j1 a1 a2 s2) s2 46 [(0, vR 1), (1, vI a1), (2, vI a2)] []) (fun a1 a2 s2 ra1 ra2 => ?_) (fun j1 hj1 => ?_)
  · refine g_aload_n 0 dX1_pend_46 rfl ?_
    refine g_get (v := vR 71) (ci := 1) (b := 30) (N := 57) 31 rfl rfl (by decide) in_X1 rfl rfl q339 dX1_pend_47 ?_
    refine g_aload_n 0 dX1_pend_50 rfl ?_
    refine g_getI (ci := 1) (b := 30) (N := 57) 33 rfl rfl rfl (by decide) in_X1 rfl rfl q341 dX1_pend_51 (fun v3 rv3 => ?_)
    refine g_iload_n 1 dX1_pend_54 rfl ?_
    refine g_iastU (id := 61) FC_ok 27 rfl rfl (by decide +kernel) ra1 dX1_pend_55 (fun s4 => ?_)
    refine g_aload_n 0 dX1_pend_56 rfl ?_
    refine g_get (v := vR 72) (ci := 1) (b := 30) (N := 57) 32 rfl rfl (by decide) in_X1 rfl rfl q340 dX1_pend_57 ?_
    refine g_aload_n 0 dX1_pend_60 rfl ?_
    refine g_getI (ci := 1) (b := 30) (N := 57) 33 rfl rfl rfl (by decide) in_X1 rfl rfl q341 dX1_pend_61 (fun v5 rv5 => ?_)
    refine g_iload_n 2 dX1_pend_64 rfl ?_
    refine g_iastU (id := 62) FC_ok 28 rfl rfl (by decide +kernel) ra2 dX1_pend_65 (fun s6 => ?_)
    refine g_aload_n 0 dX1_pend_66 rfl ?_
    refine g_dup rfl dX1_pend_67 ?_
    refine g_getI (ci := 1) (b := 30) (N := 57) 33 rfl rfl rfl (by decide) in_X1 rfl rfl q341 dX1_pend_68 (fun v7 rv7 => ?_)
    refine g_iconst dX1_pend_71 ?_
    refine g_iadd dX1_pend_72 (fun v8 rv8 => ?_)
    refine g_sIU (ci := 1) (b := 30) (N := 57) FC_ok 33 rfl rfl rfl (by decide) in_X1 tyX1 tyX1_ok nmX1 rfl rfl rfl rfl (by decide +kernel) rv8 q341 dX1_pend_73 (fun s9 => ?_)
    refine g_aload_n 0 dX1_pend_76 rfl ?_
    refine g_getI (ci := 1) (b := 30) (N := 57) 33 rfl rfl rfl (by decide) in_X1 rfl rfl q341 dX1_pend_77 (fun v10 rv10 => ?_)
    refine g_iconst dX1_pend_80 ?_
    refine g_isub dX1_pend_81 (fun v11 rv11 => ?_)
    exact g_iret rfl rfl (fun _ => rv11) dX1_pend_82
  · refine g_aload_n 0 dX1_pend_0 rfl ?_
    refine g_getI (ci := 1) (b := 30) (N := 57) 33 rfl rfl rfl (by decide) in_X1 rfl rfl q341 dX1_pend_1 (fun v12 rv12 => ?_)
    refine g_aload_n 0 dX1_pend_4 rfl ?_
    refine g_get (v := vR 71) (ci := 1) (b := 30) (N := 57) 31 rfl rfl (by decide) in_X1 rfl rfl q339 dX1_pend_5 ?_
    refine g_alenU (id := 61) 27 rfl (Or.inl rfl) dX1_pend_8 (fun v13 rv13 => ?_)
    refine g_icmp_ne 46 dX1_pend_9 (by decide) (fun _ => rv12) (fun _ => rv13) (fun _ => ?_) (fun _ => ?_)
    · refine g_aload_n 0 dX1_pend_12 rfl ?_
      refine g_aload_n 0 dX1_pend_13 rfl ?_
      refine g_get (v := vR 71) (ci := 1) (b := 30) (N := 57) 31 rfl rfl (by decide) in_X1 rfl rfl q339 dX1_pend_14 ?_
      refine g_iconst dX1_pend_17 ?_
      refine g_aload_n 0 dX1_pend_18 rfl ?_
      refine g_getI (ci := 1) (b := 30) (N := 57) 33 rfl rfl rfl (by decide) in_X1 rfl rfl q341 dX1_pend_19 (fun v14 rv14 => ?_)
      refine g_imul dX1_pend_22 (fun v15 rv15 => ?_)
      refine g_cpy (ci := 1) (b := 30) (N := 57) FC_ok FC_10 rfl 31 27 rfl rfl rfl rfl (by decide) in_X1 tyX1 tyX1_ok nmX1 rfl rfl rfl rfl (by decide +kernel) q666 q339 hRf hRl (Nat.le_of_succ_le hd) (Nat.le_of_ble_eq_true rfl) rfl rfl dX1_pend_23 dX1_pend_26 (fun s16 => ?_)
      refine g_aload_n 0 dX1_pend_29 rfl ?_
      refine g_aload_n 0 dX1_pend_30 rfl ?_
      refine g_get (v := vR 72) (ci := 1) (b := 30) (N := 57) 32 rfl rfl (by decide) in_X1 rfl rfl q340 dX1_pend_31 ?_
      refine g_iconst dX1_pend_34 ?_
      refine g_aload_n 0 dX1_pend_35 rfl ?_
      refine g_getI (ci := 1) (b := 30) (N := 57) 33 rfl rfl rfl (by decide) in_X1 rfl rfl q341 dX1_pend_36 (fun v17 rv17 => ?_)
      refine g_imul dX1_pend_39 (fun v18 rv18 => ?_)
      refine g_cpy (ci := 1) (b := 30) (N := 57) FC_ok FC_10 rfl 32 28 rfl rfl rfl rfl (by decide) in_X1 tyX1 tyX1_ok nmX1 rfl rfl rfl rfl (by decide +kernel) q666 q340 hRf hRl (Nat.le_of_succ_le hd) (Nat.le_of_ble_eq_true rfl) rfl rfl dX1_pend_40 dX1_pend_43 (fun s19 => ?_)
      exact g_pick [0, 1, 2] rfl (hj1 a1 a2 s19 ra1 ra2)
    · exact g_pick [0, 1, 2] rfl (hj1 a1 a2 u ra1 ra2)
end
section
variable {l : Launch} {d : Nat} {call : Nat → List Int → Sg → Option (Int × Sg)}
theorem ctX1_pend (p0 : Program) (e0 : Env) (s0 : State) (m0 : MethodId) (meth0 : Method) (c0 : Code) (G0 : Gm) (hd : 2 ≤ d) (a1 a2 : Int) (u : Sg) : Ct l (d + 1) FC clA yX1_pend cX1_pend 3 (some .int) DX1_pend rvI [vR 1, vI a1, vI a2] u (bX1_pend call a1 a2 u) :=
  Ct_of (by decide) (Nat.le_of_ble_eq_true rfl) (fun p e R s1 m args below meth c G A ad hA hRf hRl => wX1_pend hd hRf hRl a1 a2 u (hA _ (List.mem_cons_of_mem _ List.mem_cons_self)) (hA _ (List.mem_cons_of_mem _ (List.mem_cons_of_mem _ List.mem_cons_self)))) p0 e0 s0 m0 meth0 c0 G0
end
/-! RoundCheck.split(II)V -/
abbrev JX1_split : Jm := (cX1_split, RX1, 9, none)
def bX1_split_L53 (call : Nat → List Int → Sg → Option (Int × Sg)) : Nat → Int → Int → Int → Int → Sg → (Int → Int → Sg → Option (Int × Sg)) → Option (Int × Sg)
  | 0, _, _, _, _, _, _ => none
  | n + 1, a3, a4, a5, a7, u, x91 => ld u 3 a5 fun v1 => if a7 < v1 then (cl (call 98 [a5, a7] u) fun v2 s3 => cl (call 39 [v2, a3] s3) fun v4 s5 => ar (a7 + 1) fun v6 => bX1_split_L53 call n v4 a4 a5 v6 s5 x91) else (x91 a3 a4 u)
def bX1_split_L5 (call : Nat → List Int → Sg → Option (Int × Sg)) : Nat → Int → Int → Sg → (Int → Sg → Option (Int × Sg)) → (Int → Int → Int → Sg → Option (Int × Sg)) → (Sg → Option (Int × Sg)) → Option (Int × Sg)
  | 0, _, _, _, _, _, _ => none
  | n + 1, a3, a4, u, x224, x101, x171 => if a3 < 0 then (x224 a4 u) else (un (gI u 64) fun v1 => if v1 = 0 then (x224 a4 u) else (ld u 61 a3 fun v2 => ld u 62 a3 fun v3 => ld u 0 v2 fun v4 => if v4 = 17 then (bX1_split_L53 call KF v3 a4 v2 0 u (fun v6 v7 s5 => bX1_split_L5 call n v6 v7 s5 x224 x101 x171)) else (if v4 = 30 then (x101 v3 a4 v2 u) else (un (gI u 14) fun v8 => if v2 = v8 then (x171 u) else (un (gI u 13) fun v9 => if v2 = v9 then (bX1_split_L5 call n v3 a4 u x224 x101 x171) else (jn (fun (a3 a4 a5 : Int) (s11 : Sg) => stA s11 60 a4 a5 fun s12 => ar (a4 + 1) fun v13 => bX1_split_L5 call n a3 v13 s12 x224 x101 x171) fun j10 => un (gL u 60 : Int) fun v14 => if a4 = v14 then (ar (2 * a4) fun v15 => cpy u 60 v15 fun s16 => j10 v3 a4 v2 s16) else (j10 v3 a4 v2 u)))))))
def bX1_split_L104 (call : Nat → List Int → Sg → Option (Int × Sg)) : Nat → Int → Int → Int → Int → Sg → (Sg → Option (Int × Sg)) → Option (Int × Sg)
  | 0, _, _, _, _, _, _ => none
  | n + 1, a3, a4, a5, a7, u, x158 => ld u 3 a5 fun v1 => if a7 < v1 then (un (gI u 64) fun v2 => if v2 = 0 then (x158 u) else (cl (call 98 [a5, a7] u) fun v3 s4 => cl (call 39 [v3, a3] s4) fun v5 s6 => cl (call 40 [v5, a4] s6) fun v7 s8 => ar (a7 + 1) fun v9 => bX1_split_L104 call n a3 a4 a5 v9 s8 x158)) else (x158 u)
def bX1_split (call : Nat → List Int → Sg → Option (Int × Sg)) (a1 a2 : Int) (u : Sg) : Option (Int × Sg) := bX1_split_L5 call KF a1 a2 u (fun v2 s1 => un (gI s1 64) fun v3 => if v3 = 0 then (some (0, s1)) else (un (gI s1 9) fun v4 => un (gI s1 10) fun v5 => un (gI s1 86) fun v6 => cl (call 41 [0, v2] s1) fun v7 s8 => cl (call 79 [v4, v5, v6] s8) fun v9 s10 => if v7 = 1 then (some (0, s10)) else (un (sI s10 64 v7) fun s11 => some (0, s11)))) (fun v13 v14 v15 s12 => bX1_split_L104 call KF v13 v14 v15 0 s12 (fun s16 => some (0, s16))) (fun s17 => some (0, s17))
section
variable {p : Program} {l : Launch} {e : Env} {R : Room} {s : State} {m : MethodId} {args : Array Value} {below : List Frame} {meth : Method} {c : Code} {G : Gm} {A : Nat → Prop} {ad0 : Nat → Nat} {σ0 : Sg} {d : Nat} {call : Nat → List Int → Sg → Option (Int × Sg)}
theorem wX1_split_L53 (hd : 2 ≤ d) (hRf : d + 1 ≤ R.frames) (hRl : 40 * (d + 1) ≤ R.locals) (hX2_at : ∀ (a1 a2 : Int) (u : Sg), Ct l d FC clA yX2_at cX2_at 3 (some .int) DX2_at rvI [vR 0, vI a1, vI a2] u (call 98 [a1, a2] u)) (hX1_pend : ∀ (a1 a2 : Int) (u : Sg), Ct l d FC clA yX1_pend cX1_pend 3 (some .int) DX1_pend rvI [vR 1, vI a1, vI a2] u (call 39 [a1, a2] u)) (hX1_refuted : ∀ (a1 a2 : Int) (u : Sg), Ct l d FC clA yX1_refuted cX1_refuted 6 (some .int) DX1_refuted rvI [vR 1, vI a1, vI a2] u (call 41 [a1, a2] u)) (hX1_forget : ∀ (a1 a2 a3 : Int) (u : Sg), Ct l d FC clA yX1_forget cX1_forget 4 none DX1_forget rvV [vR 1, vI a1, vI a2, vI a3] u (call 79 [a1, a2, a3] u)) (hX1_split : ∀ (a1 a2 : Int) (u : Sg), Ct l d FC clA yX1_split cX1_split 9 none DX1_split rvV [vR 1, vI a1, vI a2] u (call 40 [a1, a2] u)) (x91 : Int → Int → Sg → Option (Int × Sg)) (hx91 : ∀ (a3 a4 : Int) (u : Sg), inR a3 → inR a4 → WG p l e R s m args below meth c JX1_split DX1_split G clA A FC ad0 σ0 rvV (x91 a3 a4 u) u 91 [(0, vR 1), (3, vI a3), (4, vI a4)] []) : ∀ (n : Nat) (a3 a4 a5 a7 : Int) (u : Sg), inR a3 → inR a4 → inR a5 → inR a7 → WG p l e R s m args below meth c JX1_split DX1_split G clA A FC ad0 σ0 rvV (bX1_split_L53 call n a3 a4 a5 a7 u x91) u 53 [(0, vR 1), (3, vI a3), (4, vI a4), (5, vI a5), (7, vI a7)] [] := by
  intro n
  induction n with
  | zero =>
    intro a3 a4 a5 a7 u ra3 ra4 ra5 ra7
    exact g_none
  | succ n ih =>
    intro a3 a4 a5 a7 u ra3 ra4 ra5 ra7
    rw [bX1_split_L53]
    refine g_iload 4 dX1_split_53 rfl ?_
    refine g_aload_n 0 dX1_split_55 rfl ?_
    refine g_get (v := vR 0) (ci := 1) (b := 30) (N := 57) 0 rfl rfl (by decide) in_X1 rfl rfl q308 dX1_split_56 ?_
    refine g_get (v := vR 13) (ci := 0) (b := 0) (N := 21) 3 rfl rfl (by decide) in_X2 rfl rfl q237 dX1_split_59 ?_
    refine g_iload 3 dX1_split_62 rfl ?_
    refine g_iald (id := 3) 3 rfl rfl dX1_split_64 (fun v1 rv1 => ?_)
    refine g_icmp_ge 91 dX1_split_65 (by decide) (fun _ => ra7) (fun _ => rv1) (fun _ => ?_) (fun _ => ?_)
    · refine g_aload_n 0 dX1_split_68 rfl ?_
      refine g_aload_n 0 dX1_split_69 rfl ?_
      refine g_get (v := vR 0) (ci := 1) (b := 30) (N := 57) 0 rfl rfl (by decide) in_X1 rfl rfl q308 dX1_split_70 ?_
      refine g_iload 3 dX1_split_73 rfl ?_
      refine g_iload 4 dX1_split_75 rfl ?_
      refine g_cVI (As := [vI a5, vI a7]) (n := 2) (stk := [vR 1]) (ci := 0) (b := 0) (N := 21) (hX2_at a5 a7 u) (by decide +kernel) rfl rfl (lw_V q571 q572 q573 q164 q574) (by decide +kernel) rfl (by decide) hRf hRl (fun _ => (avc ra5 (avc ra7 avn))) (Nat.le_of_ble_eq_true rfl) rfl rfl dX1_split_77 (fun v2 s3 rv2 => ?_)
      refine g_iload_n 1 dX1_split_80 rfl ?_
      refine g_cVI (As := [vI v2, vI a3]) (n := 2) (stk := []) (ci := 1) (b := 30) (N := 57) (hX1_pend v2 a3 s3) (by decide +kernel) rfl rfl (lw_V q828 q830 qs21 q163 q831) (by decide +kernel) rfl (by decide) hRf hRl (fun _ => (avc rv2 (avc ra3 avn))) (Nat.le_of_ble_eq_true rfl) rfl rfl dX1_split_81 (fun v4 s5 rv4 => ?_)
      refine g_istore_n (loc' := [(3, vI v4), (0, vR 1), (4, vI a4), (5, vI a5), (7, vI a7)]) dX1_split_84 (by decide) rfl ?_
      refine g_iinc 4 (loc' := fun v6 => [(7, vI v6), (3, vI v4), (0, vR 1), (4, vI a4), (5, vI a5)]) dX1_split_85 rfl (by decide) (fun _ => rfl) (fun v6 rv6 => ?_)
      refine g_goto 53 dX1_split_88 (by decide) ?_
      exact g_pick [2, 1, 3, 4, 0] rfl (ih v4 a4 a5 v6 s5 rv4 ra4 ra5 rv6)
    · exact g_pick [0, 1, 2] rfl (hx91 a3 a4 u ra3 ra4)
theorem wX1_split_L5 (hd : 2 ≤ d) (hRf : d + 1 ≤ R.frames) (hRl : 40 * (d + 1) ≤ R.locals) (hX2_at : ∀ (a1 a2 : Int) (u : Sg), Ct l d FC clA yX2_at cX2_at 3 (some .int) DX2_at rvI [vR 0, vI a1, vI a2] u (call 98 [a1, a2] u)) (hX1_pend : ∀ (a1 a2 : Int) (u : Sg), Ct l d FC clA yX1_pend cX1_pend 3 (some .int) DX1_pend rvI [vR 1, vI a1, vI a2] u (call 39 [a1, a2] u)) (hX1_refuted : ∀ (a1 a2 : Int) (u : Sg), Ct l d FC clA yX1_refuted cX1_refuted 6 (some .int) DX1_refuted rvI [vR 1, vI a1, vI a2] u (call 41 [a1, a2] u)) (hX1_forget : ∀ (a1 a2 a3 : Int) (u : Sg), Ct l d FC clA yX1_forget cX1_forget 4 none DX1_forget rvV [vR 1, vI a1, vI a2, vI a3] u (call 79 [a1, a2, a3] u)) (hX1_split : ∀ (a1 a2 : Int) (u : Sg), Ct l d FC clA yX1_split cX1_split 9 none DX1_split rvV [vR 1, vI a1, vI a2] u (call 40 [a1, a2] u)) (x224 : Int → Sg → Option (Int × Sg)) (x101 : Int → Int → Int → Sg → Option (Int × Sg)) (x171 : Sg → Option (Int × Sg)) (hx224 : ∀ (a4 : Int) (u : Sg), inR a4 → WG p l e R s m args below meth c JX1_split DX1_split G clA A FC ad0 σ0 rvV (x224 a4 u) u 224 [(0, vR 1), (4, vI a4)] []) (hx101 : ∀ (a3 a4 a5 : Int) (u : Sg), inR a3 → inR a4 → inR a5 → WG p l e R s m args below meth c JX1_split DX1_split G clA A FC ad0 σ0 rvV (x101 a3 a4 a5 u) u 101 [(0, vR 1), (3, vI a3), (4, vI a4), (5, vI a5)] []) (hx171 : ∀ (u : Sg), WG p l e R s m args below meth c JX1_split DX1_split G clA A FC ad0 σ0 rvV (x171 u) u 171 [] []) : ∀ (n : Nat) (a3 a4 : Int) (u : Sg), inR a3 → inR a4 → WG p l e R s m args below meth c JX1_split DX1_split G clA A FC ad0 σ0 rvV (bX1_split_L5 call n a3 a4 u x224 x101 x171) u 5 [(0, vR 1), (3, vI a3), (4, vI a4)] [] := by
  intro n
  induction n with
  | zero =>
    intro a3 a4 u ra3 ra4
    exact g_none
  | succ n ih =>
    intro a3 a4 u ra3 ra4
    rw [bX1_split_L5]
    refine g_iload_n 1 dX1_split_5 rfl ?_
    refine g_if_lt 224 dX1_split_6 (by decide) (fun _ => ra3) (fun _ => ?_) (fun _ => ?_)
    · exact g_pick [0, 2] rfl (hx224 a4 u ra4)
    · refine g_aload_n 0 dX1_split_9 rfl ?_
      refine g_getI (ci := 1) (b := 30) (N := 57) 34 rfl rfl rfl (by decide) in_X1 rfl rfl q342 dX1_split_10 (fun v1 rv1 => ?_)
      refine g_if_eq 224 dX1_split_13 (by decide) (fun _ => rv1) (fun _ => ?_) (fun _ => ?_)
      · exact g_pick [0, 2] rfl (hx224 a4 u ra4)
      · refine g_aload_n 0 dX1_split_16 rfl ?_
        refine g_get (v := vR 71) (ci := 1) (b := 30) (N := 57) 31 rfl rfl (by decide) in_X1 rfl rfl q339 dX1_split_17 ?_
        refine g_iload_n 1 dX1_split_20 rfl ?_
        refine g_iald (id := 61) 27 rfl rfl dX1_split_21 (fun v2 rv2 => ?_)
        refine g_istore (loc' := [(5, vI v2), (0, vR 1), (3, vI a3), (4, vI a4)]) dX1_split_22 (by decide) rfl ?_
        refine g_aload_n 1 dX1_split_24 rfl ?_
        refine g_get (v := vR 72) (ci := 1) (b := 30) (N := 57) 32 rfl rfl (by decide) in_X1 rfl rfl q340 dX1_split_25 ?_
        refine g_iload_n 2 dX1_split_28 rfl ?_
        refine g_iald (id := 62) 28 rfl rfl dX1_split_29 (fun v3 rv3 => ?_)
        refine g_istore_n (loc' := [(3, vI v3), (5, vI v2), (0, vR 1), (4, vI a4)]) dX1_split_30 (by decide) rfl ?_
        refine g_aload_n 2 dX1_split_31 rfl ?_
        refine g_get (v := vR 0) (ci := 1) (b := 30) (N := 57) 0 rfl rfl (by decide) in_X1 rfl rfl q308 dX1_split_32 ?_
        refine g_get (v := vR 10) (ci := 0) (b := 0) (N := 21) 0 rfl rfl (by decide) in_X2 rfl rfl q232 dX1_split_35 ?_
        refine g_iload 1 dX1_split_38 rfl ?_
        refine g_iald (id := 0) 0 rfl rfl dX1_split_40 (fun v4 rv4 => ?_)
        refine g_istore (loc' := [(6, vI v4), (3, vI v3), (5, vI v2), (0, vR 1), (4, vI a4)]) dX1_split_41 (by decide) rfl ?_
        refine g_iload 0 dX1_split_43 rfl ?_
        refine g_bipush (by decide +kernel) dX1_split_45 ?_
        refine g_icmp_ne 94 dX1_split_47 (by decide) (fun _ => rv4) (fun _ => (by decide : inR (17))) (fun _ => ?_) (fun _ => ?_)
        · refine g_iconst dX1_split_50 ?_
          refine g_istore (loc' := [(7, vI 0), (6, vI v4), (3, vI v3), (5, vI v2), (0, vR 1), (4, vI a4)]) dX1_split_51 (by decide) rfl ?_
          refine g_pick [4, 2, 5, 3, 0] rfl (wX1_split_L53 hd hRf hRl hX2_at hX1_pend hX1_refuted hX1_forget hX1_split _ (fun v6 v7 s5 rv6 rv7 => ?_) KF v3 a4 v2 0 u rv3 ra4 rv2 (inR_z (Or.inl rfl)))
          · refine g_goto 221 dX1_split_91 (by decide) ?_
            refine g_goto 5 dX1_split_221 (by decide) ?_
            exact g_pick [0, 1, 2] rfl (ih v6 v7 s5 rv6 rv7)
        · refine g_iload 0 dX1_split_94 rfl ?_
          refine g_bipush (by decide +kernel) dX1_split_96 ?_
          refine g_icmp_ne 159 dX1_split_98 (by decide) (fun _ => rv4) (fun _ => (by decide : inR (30))) (fun _ => ?_) (fun _ => ?_)
          · exact g_pick [3, 1, 4, 2] rfl (hx101 v3 a4 v2 u rv3 ra4 rv2)
          · refine g_iload 2 dX1_split_159 rfl ?_
            refine g_aload_n 3 dX1_split_161 rfl ?_
            refine g_get (v := vR 0) (ci := 1) (b := 30) (N := 57) 0 rfl rfl (by decide) in_X1 rfl rfl q308 dX1_split_162 ?_
            refine g_getI (ci := 0) (b := 0) (N := 21) 14 rfl rfl rfl (by decide) in_X2 rfl rfl q256 dX1_split_165 (fun v8 rv8 => ?_)
            refine g_icmp_ne 172 dX1_split_168 (by decide) (fun _ => rv2) (fun _ => rv8) (fun _ => ?_) (fun _ => ?_)
            · exact g_pick [] rfl (hx171 u)
            · refine g_iload 2 dX1_split_172 rfl ?_
              refine g_aload_n 3 dX1_split_174 rfl ?_
              refine g_get (v := vR 0) (ci := 1) (b := 30) (N := 57) 0 rfl rfl (by decide) in_X1 rfl rfl q308 dX1_split_175 ?_
              refine g_getI (ci := 0) (b := 0) (N := 21) 13 rfl rfl rfl (by decide) in_X2 rfl rfl q254 dX1_split_178 (fun v9 rv9 => ?_)
              refine g_icmp_eq 221 dX1_split_181 (by decide) (fun _ => rv2) (fun _ => rv9) (fun _ => ?_) (fun _ => ?_)
              · refine g_goto 5 dX1_split_221 (by decide) ?_
                exact g_pick [3, 1, 4] rfl (ih v3 a4 u rv3 ra4)
              · refine g_jn (fun j10 => ∀ (a3 a4 a5 : Int) (s11 : Sg), inR a3 → inR a4 → inR a5 → WG p l e R s m args below meth c JX1_split DX1_split G clA A FC ad0 σ0 rvV (j10 a3 a4 a5 s11) s11 209 [(0, vR 1), (3, vI a3), (4, vI a4), (5, vI a5)] []) (fun a3 a4 a5 s11 ra3 ra4 ra5 => ?_) (fun j10 hj10 => ?_)
                · refine g_aload_n 0 dX1_split_209 rfl ?_
                  refine g_get (v := vR 70) (ci := 1) (b := 30) (N := 57) 30 rfl rfl (by decide) in_X1 rfl rfl q338 dX1_split_210 ?_
                  refine g_iload 2 dX1_split_213 rfl ?_
                  refine g_iload 3 dX1_split_215 rfl ?_
                  refine g_iastU (id := 60) FC_ok 26 rfl rfl (by decide +kernel) ra5 dX1_split_217 (fun s12 => ?_)
                  refine g_iinc 2 (loc' := fun v13 => [(4, vI v13), (0, vR 1), (3, vI a3), (5, vI a5)]) dX1_split_218 rfl (by decide) (fun _ => rfl) (fun v13 rv13 => ?_)
                  refine g_goto 5 dX1_split_221 (by decide) ?_
                  exact g_pick [1, 2, 0] rfl (ih a3 v13 s12 ra3 rv13)
                · refine g_iload 4 dX1_split_184 rfl ?_
                  refine g_aload_n 3 dX1_split_186 rfl ?_
                  refine g_get (v := vR 70) (ci := 1) (b := 30) (N := 57) 30 rfl rfl (by decide) in_X1 rfl rfl q338 dX1_split_187 ?_
                  refine g_alenU (id := 60) 26 rfl (Or.inl rfl) dX1_split_190 (fun v14 rv14 => ?_)
                  refine g_icmp_ne 209 dX1_split_191 (by decide) (fun _ => ra4) (fun _ => rv14) (fun _ => ?_) (fun _ => ?_)
                  · refine g_aload_n 3 dX1_split_194 rfl ?_
                    refine g_aload_n 3 dX1_split_195 rfl ?_
                    refine g_get (v := vR 70) (ci := 1) (b := 30) (N := 57) 30 rfl rfl (by decide) in_X1 rfl rfl q338 dX1_split_196 ?_
                    refine g_iconst dX1_split_199 ?_
                    refine g_iload 4 dX1_split_200 rfl ?_
                    refine g_imul dX1_split_202 (fun v15 rv15 => ?_)
                    refine g_cpy (ci := 1) (b := 30) (N := 57) FC_ok FC_10 rfl 30 26 rfl rfl rfl rfl (by decide) in_X1 tyX1 tyX1_ok nmX1 rfl rfl rfl rfl (by decide +kernel) q666 q338 hRf hRl (Nat.le_of_succ_le hd) (Nat.le_of_ble_eq_true rfl) rfl rfl dX1_split_203 dX1_split_206 (fun s16 => ?_)
                    exact g_pick [3, 1, 4, 2] rfl (hj10 v3 a4 v2 s16 rv3 ra4 rv2)
                  · exact g_pick [3, 1, 4, 2] rfl (hj10 v3 a4 v2 u rv3 ra4 rv2)
theorem wX1_split_L104 (hd : 2 ≤ d) (hRf : d + 1 ≤ R.frames) (hRl : 40 * (d + 1) ≤ R.locals) (hX2_at : ∀ (a1 a2 : Int) (u : Sg), Ct l d FC clA yX2_at cX2_at 3 (some .int) DX2_at rvI [vR 0, vI a1, vI a2] u (call 98 [a1, a2] u)) (hX1_pend : ∀ (a1 a2 : Int) (u : Sg), Ct l d FC clA yX1_pend cX1_pend 3 (some .int) DX1_pend rvI [vR 1, vI a1, vI a2] u (call 39 [a1, a2] u)) (hX1_refuted : ∀ (a1 a2 : Int) (u : Sg), Ct l d FC clA yX1_refuted cX1_refuted 6 (some .int) DX1_refuted rvI [vR 1, vI a1, vI a2] u (call 41 [a1, a2] u)) (hX1_forget : ∀ (a1 a2 a3 : Int) (u : Sg), Ct l d FC clA yX1_forget cX1_forget 4 none DX1_forget rvV [vR 1, vI a1, vI a2, vI a3] u (call 79 [a1, a2, a3] u)) (hX1_split : ∀ (a1 a2 : Int) (u : Sg), Ct l d FC clA yX1_split cX1_split 9 none DX1_split rvV [vR 1, vI a1, vI a2] u (call 40 [a1, a2] u)) (x158 : Sg → Option (Int × Sg)) (hx158 : ∀ (u : Sg), WG p l e R s m args below meth c JX1_split DX1_split G clA A FC ad0 σ0 rvV (x158 u) u 158 [] []) : ∀ (n : Nat) (a3 a4 a5 a7 : Int) (u : Sg), inR a3 → inR a4 → inR a5 → inR a7 → WG p l e R s m args below meth c JX1_split DX1_split G clA A FC ad0 σ0 rvV (bX1_split_L104 call n a3 a4 a5 a7 u x158) u 104 [(0, vR 1), (3, vI a3), (4, vI a4), (5, vI a5), (7, vI a7)] [] := by
  intro n
  induction n with
  | zero =>
    intro a3 a4 a5 a7 u ra3 ra4 ra5 ra7
    exact g_none
  | succ n ih =>
    intro a3 a4 a5 a7 u ra3 ra4 ra5 ra7
    rw [bX1_split_L104]
    refine g_iload 4 dX1_split_104 rfl ?_
    refine g_aload_n 0 dX1_split_106 rfl ?_
    refine g_get (v := vR 0) (ci := 1) (b := 30) (N := 57) 0 rfl rfl (by decide) in_X1 rfl rfl q308 dX1_split_107 ?_
    refine g_get (v := vR 13) (ci := 0) (b := 0) (N := 21) 3 rfl rfl (by decide) in_X2 rfl rfl q237 dX1_split_110 ?_
    refine g_iload 3 dX1_split_113 rfl ?_
    refine g_iald (id := 3) 3 rfl rfl dX1_split_115 (fun v1 rv1 => ?_)
    refine g_icmp_ge 158 dX1_split_116 (by decide) (fun _ => ra7) (fun _ => rv1) (fun _ => ?_) (fun _ => ?_)
    · refine g_aload_n 0 dX1_split_119 rfl ?_
      refine g_getI (ci := 1) (b := 30) (N := 57) 34 rfl rfl rfl (by decide) in_X1 rfl rfl q342 dX1_split_120 (fun v2 rv2 => ?_)
      refine g_if_eq 158 dX1_split_123 (by decide) (fun _ => rv2) (fun _ => ?_) (fun _ => ?_)
      · exact g_pick [] rfl (hx158 u)
      · refine g_aload_n 0 dX1_split_126 rfl ?_
        refine g_aload_n 0 dX1_split_127 rfl ?_
        refine g_get (v := vR 0) (ci := 1) (b := 30) (N := 57) 0 rfl rfl (by decide) in_X1 rfl rfl q308 dX1_split_128 ?_
        refine g_iload 3 dX1_split_131 rfl ?_
        refine g_iload 4 dX1_split_133 rfl ?_
        refine g_cVI (As := [vI a5, vI a7]) (n := 2) (stk := [vR 1]) (ci := 0) (b := 0) (N := 21) (hX2_at a5 a7 u) (by decide +kernel) rfl rfl (lw_V q571 q572 q573 q164 q574) (by decide +kernel) rfl (by decide) hRf hRl (fun _ => (avc ra5 (avc ra7 avn))) (Nat.le_of_ble_eq_true rfl) rfl rfl dX1_split_135 (fun v3 s4 rv3 => ?_)
        refine g_iload_n 1 dX1_split_138 rfl ?_
        refine g_cVI (As := [vI v3, vI a3]) (n := 2) (stk := []) (ci := 1) (b := 30) (N := 57) (hX1_pend v3 a3 s4) (by decide +kernel) rfl rfl (lw_V q828 q830 qs21 q163 q831) (by decide +kernel) rfl (by decide) hRf hRl (fun _ => (avc rv3 (avc ra3 avn))) (Nat.le_of_ble_eq_true rfl) rfl rfl dX1_split_139 (fun v5 s6 rv5 => ?_)
        refine g_istore (loc' := [(8, vI v5), (0, vR 1), (3, vI a3), (4, vI a4), (5, vI a5), (7, vI a7)]) dX1_split_142 (by decide) rfl ?_
        refine g_aload_n 1 dX1_split_144 rfl ?_
        refine g_iload 0 dX1_split_145 rfl ?_
        refine g_iload 3 dX1_split_147 rfl ?_
        refine g_cVV (As := [vI v5, vI a4]) (n := 2) (stk := []) (ci := 1) (b := 30) (N := 57) (hX1_split v5 a4 s6) (by decide +kernel) rfl rfl (lw_V q832 q834 qs22 q163 q835) (by decide +kernel) rfl (by decide) hRf hRl (fun _ => (avc rv5 (avc ra4 avn))) (Nat.le_of_ble_eq_true rfl) rfl rfl dX1_split_149 (fun v7 s8 => ?_)
        refine g_iinc 5 (loc' := fun v9 => [(7, vI v9), (8, vI v5), (0, vR 1), (3, vI a3), (4, vI a4), (5, vI a5)]) dX1_split_152 rfl (by decide) (fun _ => rfl) (fun v9 rv9 => ?_)
        refine g_goto 104 dX1_split_155 (by decide) ?_
        exact g_pick [2, 3, 4, 5, 0] rfl (ih a3 a4 a5 v9 s8 ra3 ra4 ra5 rv9)
    · exact g_pick [] rfl (hx158 u)
theorem wX1_split (hd : 2 ≤ d) (hRf : d + 1 ≤ R.frames) (hRl : 40 * (d + 1) ≤ R.locals) (hX2_at : ∀ (a1 a2 : Int) (u : Sg), Ct l d FC clA yX2_at cX2_at 3 (some .int) DX2_at rvI [vR 0, vI a1, vI a2] u (call 98 [a1, a2] u)) (hX1_pend : ∀ (a1 a2 : Int) (u : Sg), Ct l d FC clA yX1_pend cX1_pend 3 (some .int) DX1_pend rvI [vR 1, vI a1, vI a2] u (call 39 [a1, a2] u)) (hX1_refuted : ∀ (a1 a2 : Int) (u : Sg), Ct l d FC clA yX1_refuted cX1_refuted 6 (some .int) DX1_refuted rvI [vR 1, vI a1, vI a2] u (call 41 [a1, a2] u)) (hX1_forget : ∀ (a1 a2 a3 : Int) (u : Sg), Ct l d FC clA yX1_forget cX1_forget 4 none DX1_forget rvV [vR 1, vI a1, vI a2, vI a3] u (call 79 [a1, a2, a3] u)) (hX1_split : ∀ (a1 a2 : Int) (u : Sg), Ct l d FC clA yX1_split cX1_split 9 none DX1_split rvV [vR 1, vI a1, vI a2] u (call 40 [a1, a2] u)) (a1 a2 : Int) (u : Sg) (ra1 : inR a1) (ra2 : inR a2) : WG p l e R s m args below meth c JX1_split DX1_split G clA A FC ad0 σ0 rvV (bX1_split call a1 a2 u) u 0 [(0, vR 1), (1, vI a1), (2, vI a2)] [] := by
  unfold bX1_split
  refine g_iload_n 1 dX1_split_0 rfl ?_
  refine g_istore_n (loc' := [(3, vI a1), (0, vR 1), (1, vI a1), (2, vI a2)]) dX1_split_1 (by decide) rfl ?_
  refine g_iload_n 3 dX1_split_2 rfl ?_
  refine g_istore (loc' := [(4, vI a2), (3, vI a1), (0, vR 1), (1, vI a1), (2, vI a2)]) dX1_split_3 (by decide) rfl ?_
  refine g_pick [2, 1, 0] rfl (wX1_split_L5 hd hRf hRl hX2_at hX1_pend hX1_refuted hX1_forget hX1_split _ _ _ (fun v2 s1 rv2 => ?_) (fun v13 v14 v15 s12 rv13 rv14 rv15 => ?_) (fun s17 => ?_) KF a1 a2 u ra1 ra2)
  · refine g_aload_n 0 dX1_split_224 rfl ?_
    refine g_getI (ci := 1) (b := 30) (N := 57) 34 rfl rfl rfl (by decide) in_X1 rfl rfl q342 dX1_split_225 (fun v3 rv3 => ?_)
    refine g_if_ne 232 dX1_split_228 (by decide) (fun _ => rv3) (fun _ => ?_) (fun _ => ?_)
    · exact g_vret rfl rfl dX1_split_231
    · refine g_aload_n 0 dX1_split_232 rfl ?_
      refine g_get (v := vR 0) (ci := 1) (b := 30) (N := 57) 0 rfl rfl (by decide) in_X1 rfl rfl q308 dX1_split_233 ?_
      refine g_getI (ci := 0) (b := 0) (N := 21) 9 rfl rfl rfl (by decide) in_X2 rfl rfl q246 dX1_split_236 (fun v4 rv4 => ?_)
      refine g_istore (loc' := [(5, vI v4), (0, vR 1), (4, vI v2)]) dX1_split_239 (by decide) rfl ?_
      refine g_aload_n 1 dX1_split_241 rfl ?_
      refine g_get (v := vR 0) (ci := 1) (b := 30) (N := 57) 0 rfl rfl (by decide) in_X1 rfl rfl q308 dX1_split_242 ?_
      refine g_getI (ci := 0) (b := 0) (N := 21) 10 rfl rfl rfl (by decide) in_X2 rfl rfl q248 dX1_split_245 (fun v5 rv5 => ?_)
      refine g_istore (loc' := [(6, vI v5), (5, vI v4), (0, vR 1), (4, vI v2)]) dX1_split_248 (by decide) rfl ?_
      refine g_aload_n 2 dX1_split_250 rfl ?_
      refine g_getI (ci := 1) (b := 30) (N := 57) 56 rfl rfl rfl (by decide) in_X1 rfl rfl q364 dX1_split_251 (fun v6 rv6 => ?_)
      refine g_istore (loc' := [(7, vI v6), (6, vI v5), (5, vI v4), (0, vR 1), (4, vI v2)]) dX1_split_254 (by decide) rfl ?_
      refine g_aload_n 3 dX1_split_256 rfl ?_
      refine g_iconst dX1_split_257 ?_
      refine g_iload 4 dX1_split_258 rfl ?_
      refine g_cVI (As := [vI 0, vI v2]) (n := 2) (stk := []) (ci := 1) (b := 30) (N := 57) (hX1_refuted 0 v2 s1) (by decide +kernel) rfl rfl (lw_V q836 q838 qs23 q163 q839) (by decide +kernel) rfl (by decide) hRf hRl (fun _ => (avc (inR_z (Or.inl rfl)) (avc rv2 avn))) (Nat.le_of_ble_eq_true rfl) rfl rfl dX1_split_260 (fun v7 s8 rv7 => ?_)
      refine g_istore (loc' := [(8, vI v7), (7, vI v6), (6, vI v5), (5, vI v4), (0, vR 1), (4, vI v2)]) dX1_split_263 (by decide) rfl ?_
      refine g_aload_n 4 dX1_split_265 rfl ?_
      refine g_iload 3 dX1_split_266 rfl ?_
      refine g_iload 2 dX1_split_268 rfl ?_
      refine g_iload 1 dX1_split_270 rfl ?_
      refine g_cVV (As := [vI v4, vI v5, vI v6]) (n := 3) (stk := []) (ci := 1) (b := 30) (N := 57) (hX1_forget v4 v5 v6 s8) (by decide +kernel) rfl rfl (lw_V q1002 q1004 qs61 q163 q1005) (by decide +kernel) rfl (by decide) hRf hRl (fun _ => (avc rv4 (avc rv5 (avc rv6 avn)))) (Nat.le_of_ble_eq_true rfl) rfl rfl dX1_split_272 (fun v9 s10 => ?_)
      refine g_iload 0 dX1_split_275 rfl ?_
      refine g_iconst dX1_split_277 ?_
      refine g_icmp_eq 287 dX1_split_278 (by decide) (fun _ => rv7) (fun _ => (inR_z (Or.inr rfl))) (fun _ => ?_) (fun _ => ?_)
      · exact g_vret rfl rfl dX1_split_287
      · refine g_aload_n 4 dX1_split_281 rfl ?_
        refine g_iload 0 dX1_split_282 rfl ?_
        refine g_sIU (ci := 1) (b := 30) (N := 57) FC_ok 34 rfl rfl rfl (by decide) in_X1 tyX1 tyX1_ok nmX1 rfl rfl rfl rfl (by decide +kernel) rv7 q342 dX1_split_284 (fun s11 => ?_)
        exact g_vret rfl rfl dX1_split_287
  · refine g_iconst dX1_split_101 ?_
    refine g_istore (loc' := [(7, vI 0), (0, vR 1), (3, vI v13), (4, vI v14), (5, vI v15)]) dX1_split_102 (by decide) rfl ?_
    refine g_pick [1, 2, 3, 4, 0] rfl (wX1_split_L104 hd hRf hRl hX2_at hX1_pend hX1_refuted hX1_forget hX1_split _ (fun s16 => ?_) KF v13 v14 v15 0 s12 rv13 rv14 rv15 (inR_z (Or.inl rfl)))
    · exact g_vret rfl rfl dX1_split_158
  · exact g_vret rfl rfl dX1_split_171
end
section
variable {l : Launch} {d : Nat} {call : Nat → List Int → Sg → Option (Int × Sg)}
theorem ctX1_split (p0 : Program) (e0 : Env) (s0 : State) (m0 : MethodId) (meth0 : Method) (c0 : Code) (G0 : Gm) (hd : 2 ≤ d) (hX2_at : ∀ (a1 a2 : Int) (u : Sg), Ct l d FC clA yX2_at cX2_at 3 (some .int) DX2_at rvI [vR 0, vI a1, vI a2] u (call 98 [a1, a2] u)) (hX1_pend : ∀ (a1 a2 : Int) (u : Sg), Ct l d FC clA yX1_pend cX1_pend 3 (some .int) DX1_pend rvI [vR 1, vI a1, vI a2] u (call 39 [a1, a2] u)) (hX1_refuted : ∀ (a1 a2 : Int) (u : Sg), Ct l d FC clA yX1_refuted cX1_refuted 6 (some .int) DX1_refuted rvI [vR 1, vI a1, vI a2] u (call 41 [a1, a2] u)) (hX1_forget : ∀ (a1 a2 a3 : Int) (u : Sg), Ct l d FC clA yX1_forget cX1_forget 4 none DX1_forget rvV [vR 1, vI a1, vI a2, vI a3] u (call 79 [a1, a2, a3] u)) (hX1_split : ∀ (a1 a2 : Int) (u : Sg), Ct l d FC clA yX1_split cX1_split 9 none DX1_split rvV [vR 1, vI a1, vI a2] u (call 40 [a1, a2] u)) (a1 a2 : Int) (u : Sg) : Ct l (d + 1) FC clA yX1_split cX1_split 9 none DX1_split rvV [vR 1, vI a1, vI a2] u (bX1_split call a1 a2 u) :=
  Ct_of (by decide) (Nat.le_of_ble_eq_true rfl) (fun p e R s1 m args below meth c G A ad hA hRf hRl => wX1_split hd hRf hRl hX2_at hX1_pend hX1_refuted hX1_forget hX1_split a1 a2 u (hA _ (List.mem_cons_of_mem _ List.mem_cons_self)) (hA _ (List.mem_cons_of_mem _ (List.mem_cons_of_mem _ List.mem_cons_self)))) p0 e0 s0 m0 meth0 c0 G0
end
/-! RoundCheck.refuted(II)I -/
abbrev JX1_refuted : Jm := (cX1_refuted, RX1, 6, (some .int))
def bX1_refuted_L37 (call : Nat → List Int → Sg → Option (Int × Sg)) : Nat → Int → Int → Sg → (Sg → Option (Int × Sg)) → Option (Int × Sg)
  | 0, _, _, _, _ => none
  | n + 1, a2, a3, u, x58 => if a3 < a2 then (ld u 60 a3 fun v1 => cl (call 42 [v1] u) fun v2 s3 => ar (a3 + 1) fun v4 => bX1_refuted_L37 call n a2 v4 s3 x58) else (x58 u)
def bX1_refuted_L60 (call : Nat → List Int → Sg → Option (Int × Sg)) : Nat → Int → Sg → (Sg → Option (Int × Sg)) → Option (Int × Sg)
  | 0, _, _, _ => none
  | n + 1, a3, u, x91 => un (gI u 35) fun v1 => if a3 < v1 then (un (gI u 45) fun v2 => if v2 = 0 then (ld u 34 a3 fun v3 => cl (call 44 [v3] u) fun v4 s5 => ar (a3 + 1) fun v6 => bX1_refuted_L60 call n v6 s5 x91) else (x91 u)) else (x91 u)
def bX1_refuted_L154 (call : Nat → List Int → Sg → Option (Int × Sg)) : Nat → Int → Int → Int → Sg → (Int → Int → Sg → Option (Int × Sg)) → Option (Int × Sg)
  | 0, _, _, _, _, _ => none
  | n + 1, a3, a4, a5, u, x187 => un (gI u 56) fun v1 => if a5 < v1 then (un (gI u 45) fun v2 => if v2 = 0 then (ld u 55 a5 fun v3 => cl (call 45 [v3] u) fun v4 s5 => ar (a5 + 1) fun v6 => bX1_refuted_L154 call n a3 a4 v6 s5 x187) else (x187 a3 a4 u)) else (x187 a3 a4 u)
def bX1_refuted_L120 (call : Nat → List Int → Sg → Option (Int × Sg)) : Nat → Int → Int → Sg → (Sg → Option (Int × Sg)) → (Sg → Option (Int × Sg)) → (Sg → Option (Int × Sg)) → (Sg → Option (Int × Sg)) → Option (Int × Sg)
  | 0, _, _, _, _, _, _, _ => none
  | n + 1, a3, a4, u, x210, x219, x233, x249 => jn (fun (a3 a4 : Int) (s2 : Sg) => bX1_refuted_L154 call KF a3 a4 0 s2 (fun v4 v5 s3 => jn (fun (a3 a4 : Int) (s7 : Sg) => un (gI s7 45) fun v8 => if v8 = 0 then (cl (call 65 [] s7) fun v9 s10 => if v9 = 0 then (un (sI s10 54 0) fun s11 => cl (call 71 [] s11) fun v12 s13 => if v12 = 0 then (x233 s13) else (un (gI s13 45) fun v14 => if v14 = 0 then (if a4 ≤ 16 then (ar (a4 + 1) fun v15 => bX1_refuted_L120 call n a3 v15 s13 x210 x219 x233 x249) else (x249 s13)) else (x249 s13))) else (x219 s10)) else (x210 s7)) fun j6 => un (sI s3 56 0) fun s16 => un (gI s16 45) fun v17 => if v17 = 0 then (cl (call 54 [] s16) fun v18 s19 => j6 v4 v5 s19) else (j6 v4 v5 s16))) fun j1 => un (gI u 35) fun v20 => if a3 < v20 then (un (gI u 45) fun v21 => if v21 = 0 then (ld u 34 a3 fun v22 => cl (call 44 [v22] u) fun v23 s24 => ar (a3 + 1) fun v25 => bX1_refuted_L120 call n v25 a4 s24 x210 x219 x233 x249) else (j1 a3 a4 u)) else (j1 a3 a4 u)
def bX1_refuted (call : Nat → List Int → Sg → Option (Int × Sg)) (a1 a2 : Int) (u : Sg) : Option (Int × Sg) := un (gI u 36) fun v1 => ar (v1 + 1) fun v2 => un (sI u 36 v2) fun s3 => un (sI s3 35 0) fun s4 => un (sI s4 43 0) fun s5 => un (sI s5 51 0) fun s6 => un (sI s6 52 0) fun s7 => un (sI s7 45 0) fun s8 => bX1_refuted_L37 call KF a2 a1 s8 (fun s9 => bX1_refuted_L60 call KF 0 s9 (fun s10 => un (gI s10 35) fun v11 => cl (call 52 [] s10) fun v12 s13 => un (sI s13 44 v12) fun s14 => un (gI s14 86) fun v15 => un (sI s14 57 v15) fun s16 => un (sI s16 56 0) fun s17 => bX1_refuted_L120 call KF v11 1 s17 (fun s18 => some (2, s18)) (fun s19 => some (1, s19)) (fun s20 => some (0, s20)) (fun s21 => some (2, s21))))
section
variable {p : Program} {l : Launch} {e : Env} {R : Room} {s : State} {m : MethodId} {args : Array Value} {below : List Frame} {meth : Method} {c : Code} {G : Gm} {A : Nat → Prop} {ad0 : Nat → Nat} {σ0 : Sg} {d : Nat} {call : Nat → List Int → Sg → Option (Int × Sg)}
theorem wX1_refuted_L37 (hd : 2 ≤ d) (hRf : d + 1 ≤ R.frames) (hRl : 40 * (d + 1) ≤ R.locals) (hX1_know : ∀ (a1 : Int) (u : Sg), Ct l d FC clA yX1_know cX1_know 2 none DX1_know rvV [vR 1, vI a1] u (call 42 [a1] u)) (hX1_termsOf : ∀ (a1 : Int) (u : Sg), Ct l d FC clA yX1_termsOf cX1_termsOf 4 none DX1_termsOf rvV [vR 1, vI a1] u (call 44 [a1] u)) (hX1_firstsOf : ∀ (u : Sg), Ct l d FC clA yX1_firstsOf cX1_firstsOf 5 (some .int) DX1_firstsOf rvI [vR 1] u (call 52 [] u)) (hX1_atHand : ∀ (a1 : Int) (u : Sg), Ct l d FC clA yX1_atHand cX1_atHand 3 none DX1_atHand rvV [vR 1, vI a1] u (call 45 [a1] u)) (hX1_contradictory : ∀ (u : Sg), Ct l d FC clA yX1_contradictory cX1_contradictory 6 (some .boolean) DX1_contradictory rvI [vR 1] u (call 65 [] u)) (hX1_round : ∀ (u : Sg), Ct l d FC clA yX1_round cX1_round 8 (some .boolean) DX1_round rvI [vR 1] u (call 71 [] u)) (hX1_close : ∀ (u : Sg), Ct l d FC clA yX1_close cX1_close 6 none DX1_close rvV [vR 1] u (call 54 [] u)) (x58 : Sg → Option (Int × Sg)) (hx58 : ∀ (u : Sg), WG p l e R s m args below meth c JX1_refuted DX1_refuted G clA A FC ad0 σ0 rvI (x58 u) u 58 [(0, vR 1)] []) : ∀ (n : Nat) (a2 a3 : Int) (u : Sg), inR a2 → inR a3 → WG p l e R s m args below meth c JX1_refuted DX1_refuted G clA A FC ad0 σ0 rvI (bX1_refuted_L37 call n a2 a3 u x58) u 37 [(0, vR 1), (2, vI a2), (3, vI a3)] [] := by
  intro n
  induction n with
  | zero =>
    intro a2 a3 u ra2 ra3
    exact g_none
  | succ n ih =>
    intro a2 a3 u ra2 ra3
    rw [bX1_refuted_L37]
    refine g_iload_n 2 dX1_refuted_37 rfl ?_
    refine g_iload_n 1 dX1_refuted_38 rfl ?_
    refine g_icmp_ge 58 dX1_refuted_39 (by decide) (fun _ => ra3) (fun _ => ra2) (fun _ => ?_) (fun _ => ?_)
    · refine g_aload_n 0 dX1_refuted_42 rfl ?_
      refine g_aload_n 0 dX1_refuted_43 rfl ?_
      refine g_get (v := vR 70) (ci := 1) (b := 30) (N := 57) 30 rfl rfl (by decide) in_X1 rfl rfl q338 dX1_refuted_44 ?_
      refine g_iload_n 2 dX1_refuted_47 rfl ?_
      refine g_iald (id := 60) 26 rfl rfl dX1_refuted_48 (fun v1 rv1 => ?_)
      refine g_cVV (As := [vI v1]) (n := 1) (stk := []) (ci := 1) (b := 30) (N := 57) (hX1_know v1 u) (by decide +kernel) rfl rfl (lw_V q840 q842 qs24 q163 q843) (by decide +kernel) rfl (by decide) hRf hRl (fun _ => (avc rv1 avn)) (Nat.le_of_ble_eq_true rfl) rfl rfl dX1_refuted_49 (fun v2 s3 => ?_)
      refine g_iinc 2 (loc' := fun v4 => [(3, vI v4), (0, vR 1), (2, vI a2)]) dX1_refuted_52 rfl (by decide) (fun _ => rfl) (fun v4 rv4 => ?_)
      refine g_goto 37 dX1_refuted_55 (by decide) ?_
      exact g_pick [1, 2, 0] rfl (ih a2 v4 s3 ra2 rv4)
    · exact g_pick [0] rfl (hx58 u)
theorem wX1_refuted_L60 (hd : 2 ≤ d) (hRf : d + 1 ≤ R.frames) (hRl : 40 * (d + 1) ≤ R.locals) (hX1_know : ∀ (a1 : Int) (u : Sg), Ct l d FC clA yX1_know cX1_know 2 none DX1_know rvV [vR 1, vI a1] u (call 42 [a1] u)) (hX1_termsOf : ∀ (a1 : Int) (u : Sg), Ct l d FC clA yX1_termsOf cX1_termsOf 4 none DX1_termsOf rvV [vR 1, vI a1] u (call 44 [a1] u)) (hX1_firstsOf : ∀ (u : Sg), Ct l d FC clA yX1_firstsOf cX1_firstsOf 5 (some .int) DX1_firstsOf rvI [vR 1] u (call 52 [] u)) (hX1_atHand : ∀ (a1 : Int) (u : Sg), Ct l d FC clA yX1_atHand cX1_atHand 3 none DX1_atHand rvV [vR 1, vI a1] u (call 45 [a1] u)) (hX1_contradictory : ∀ (u : Sg), Ct l d FC clA yX1_contradictory cX1_contradictory 6 (some .boolean) DX1_contradictory rvI [vR 1] u (call 65 [] u)) (hX1_round : ∀ (u : Sg), Ct l d FC clA yX1_round cX1_round 8 (some .boolean) DX1_round rvI [vR 1] u (call 71 [] u)) (hX1_close : ∀ (u : Sg), Ct l d FC clA yX1_close cX1_close 6 none DX1_close rvV [vR 1] u (call 54 [] u)) (x91 : Sg → Option (Int × Sg)) (hx91 : ∀ (u : Sg), WG p l e R s m args below meth c JX1_refuted DX1_refuted G clA A FC ad0 σ0 rvI (x91 u) u 91 [(0, vR 1)] []) : ∀ (n : Nat) (a3 : Int) (u : Sg), inR a3 → WG p l e R s m args below meth c JX1_refuted DX1_refuted G clA A FC ad0 σ0 rvI (bX1_refuted_L60 call n a3 u x91) u 60 [(0, vR 1), (3, vI a3)] [] := by
  intro n
  induction n with
  | zero =>
    intro a3 u ra3
    exact g_none
  | succ n ih =>
    intro a3 u ra3
    rw [bX1_refuted_L60]
    refine g_iload_n 1 dX1_refuted_60 rfl ?_
    refine g_aload_n 0 dX1_refuted_61 rfl ?_
    refine g_getI (ci := 1) (b := 30) (N := 57) 5 rfl rfl rfl (by decide) in_X1 rfl rfl q313 dX1_refuted_62 (fun v1 rv1 => ?_)
    refine g_icmp_ge 91 dX1_refuted_65 (by decide) (fun _ => ra3) (fun _ => rv1) (fun _ => ?_) (fun _ => ?_)
    · refine g_aload_n 0 dX1_refuted_68 rfl ?_
      refine g_getZ (ci := 1) (b := 30) (N := 57) 15 rfl rfl rfl (by decide) in_X1 rfl rfl q323 dX1_refuted_69 (fun v2 zv2 => ?_)
      refine g_if_ne 91 dX1_refuted_72 (by decide) (fun _ => (inR_z zv2)) (fun _ => ?_) (fun _ => ?_)
      · refine g_aload_n 0 dX1_refuted_75 rfl ?_
        refine g_aload_n 0 dX1_refuted_76 rfl ?_
        refine g_get (v := vR 44) (ci := 1) (b := 30) (N := 57) 4 rfl rfl (by decide) in_X1 rfl rfl q312 dX1_refuted_77 ?_
        refine g_iload_n 1 dX1_refuted_80 rfl ?_
        refine g_iald (id := 34) 12 rfl rfl dX1_refuted_81 (fun v3 rv3 => ?_)
        refine g_cVV (As := [vI v3]) (n := 1) (stk := []) (ci := 1) (b := 30) (N := 57) (hX1_termsOf v3 u) (by decide +kernel) rfl rfl (lw_V q848 q850 qs26 q163 q851) (by decide +kernel) rfl (by decide) hRf hRl (fun _ => (avc rv3 avn)) (Nat.le_of_ble_eq_true rfl) rfl rfl dX1_refuted_82 (fun v4 s5 => ?_)
        refine g_iinc 1 (loc' := fun v6 => [(3, vI v6), (0, vR 1)]) dX1_refuted_85 rfl (by decide) (fun _ => rfl) (fun v6 rv6 => ?_)
        refine g_goto 60 dX1_refuted_88 (by decide) ?_
        exact g_pick [1, 0] rfl (ih v6 s5 rv6)
      · exact g_pick [0] rfl (hx91 u)
    · exact g_pick [0] rfl (hx91 u)
theorem wX1_refuted_L154 (hd : 2 ≤ d) (hRf : d + 1 ≤ R.frames) (hRl : 40 * (d + 1) ≤ R.locals) (hX1_know : ∀ (a1 : Int) (u : Sg), Ct l d FC clA yX1_know cX1_know 2 none DX1_know rvV [vR 1, vI a1] u (call 42 [a1] u)) (hX1_termsOf : ∀ (a1 : Int) (u : Sg), Ct l d FC clA yX1_termsOf cX1_termsOf 4 none DX1_termsOf rvV [vR 1, vI a1] u (call 44 [a1] u)) (hX1_firstsOf : ∀ (u : Sg), Ct l d FC clA yX1_firstsOf cX1_firstsOf 5 (some .int) DX1_firstsOf rvI [vR 1] u (call 52 [] u)) (hX1_atHand : ∀ (a1 : Int) (u : Sg), Ct l d FC clA yX1_atHand cX1_atHand 3 none DX1_atHand rvV [vR 1, vI a1] u (call 45 [a1] u)) (hX1_contradictory : ∀ (u : Sg), Ct l d FC clA yX1_contradictory cX1_contradictory 6 (some .boolean) DX1_contradictory rvI [vR 1] u (call 65 [] u)) (hX1_round : ∀ (u : Sg), Ct l d FC clA yX1_round cX1_round 8 (some .boolean) DX1_round rvI [vR 1] u (call 71 [] u)) (hX1_close : ∀ (u : Sg), Ct l d FC clA yX1_close cX1_close 6 none DX1_close rvV [vR 1] u (call 54 [] u)) (x187 : Int → Int → Sg → Option (Int × Sg)) (hx187 : ∀ (a3 a4 : Int) (u : Sg), inR a3 → inR a4 → WG p l e R s m args below meth c JX1_refuted DX1_refuted G clA A FC ad0 σ0 rvI (x187 a3 a4 u) u 187 [(0, vR 1), (3, vI a3), (4, vI a4)] []) : ∀ (n : Nat) (a3 a4 a5 : Int) (u : Sg), inR a3 → inR a4 → inR a5 → WG p l e R s m args below meth c JX1_refuted DX1_refuted G clA A FC ad0 σ0 rvI (bX1_refuted_L154 call n a3 a4 a5 u x187) u 154 [(0, vR 1), (3, vI a3), (4, vI a4), (5, vI a5)] [] := by
  intro n
  induction n with
  | zero =>
    intro a3 a4 a5 u ra3 ra4 ra5
    exact g_none
  | succ n ih =>
    intro a3 a4 a5 u ra3 ra4 ra5
    rw [bX1_refuted_L154]
    refine g_iload 3 dX1_refuted_154 rfl ?_
    refine g_aload_n 0 dX1_refuted_156 rfl ?_
    refine g_getI (ci := 1) (b := 30) (N := 57) 26 rfl rfl rfl (by decide) in_X1 rfl rfl q334 dX1_refuted_157 (fun v1 rv1 => ?_)
    refine g_icmp_ge 187 dX1_refuted_160 (by decide) (fun _ => ra5) (fun _ => rv1) (fun _ => ?_) (fun _ => ?_)
    · refine g_aload_n 0 dX1_refuted_163 rfl ?_
      refine g_getZ (ci := 1) (b := 30) (N := 57) 15 rfl rfl rfl (by decide) in_X1 rfl rfl q323 dX1_refuted_164 (fun v2 zv2 => ?_)
      refine g_if_ne 187 dX1_refuted_167 (by decide) (fun _ => (inR_z zv2)) (fun _ => ?_) (fun _ => ?_)
      · refine g_aload_n 0 dX1_refuted_170 rfl ?_
        refine g_aload_n 0 dX1_refuted_171 rfl ?_
        refine g_get (v := vR 65) (ci := 1) (b := 30) (N := 57) 25 rfl rfl (by decide) in_X1 rfl rfl q333 dX1_refuted_172 ?_
        refine g_iload 3 dX1_refuted_175 rfl ?_
        refine g_iald (id := 55) 25 rfl rfl dX1_refuted_177 (fun v3 rv3 => ?_)
        refine g_cVV (As := [vI v3]) (n := 1) (stk := []) (ci := 1) (b := 30) (N := 57) (hX1_atHand v3 u) (by decide +kernel) rfl rfl (lw_V q852 q854 qs27 q163 q855) (by decide +kernel) rfl (by decide) hRf hRl (fun _ => (avc rv3 avn)) (Nat.le_of_ble_eq_true rfl) rfl rfl dX1_refuted_178 (fun v4 s5 => ?_)
        refine g_iinc 3 (loc' := fun v6 => [(5, vI v6), (0, vR 1), (3, vI a3), (4, vI a4)]) dX1_refuted_181 rfl (by decide) (fun _ => rfl) (fun v6 rv6 => ?_)
        refine g_goto 154 dX1_refuted_184 (by decide) ?_
        exact g_pick [1, 2, 3, 0] rfl (ih a3 a4 v6 s5 ra3 ra4 rv6)
      · exact g_pick [0, 1, 2] rfl (hx187 a3 a4 u ra3 ra4)
    · exact g_pick [0, 1, 2] rfl (hx187 a3 a4 u ra3 ra4)
theorem wX1_refuted_L120 (hd : 2 ≤ d) (hRf : d + 1 ≤ R.frames) (hRl : 40 * (d + 1) ≤ R.locals) (hX1_know : ∀ (a1 : Int) (u : Sg), Ct l d FC clA yX1_know cX1_know 2 none DX1_know rvV [vR 1, vI a1] u (call 42 [a1] u)) (hX1_termsOf : ∀ (a1 : Int) (u : Sg), Ct l d FC clA yX1_termsOf cX1_termsOf 4 none DX1_termsOf rvV [vR 1, vI a1] u (call 44 [a1] u)) (hX1_firstsOf : ∀ (u : Sg), Ct l d FC clA yX1_firstsOf cX1_firstsOf 5 (some .int) DX1_firstsOf rvI [vR 1] u (call 52 [] u)) (hX1_atHand : ∀ (a1 : Int) (u : Sg), Ct l d FC clA yX1_atHand cX1_atHand 3 none DX1_atHand rvV [vR 1, vI a1] u (call 45 [a1] u)) (hX1_contradictory : ∀ (u : Sg), Ct l d FC clA yX1_contradictory cX1_contradictory 6 (some .boolean) DX1_contradictory rvI [vR 1] u (call 65 [] u)) (hX1_round : ∀ (u : Sg), Ct l d FC clA yX1_round cX1_round 8 (some .boolean) DX1_round rvI [vR 1] u (call 71 [] u)) (hX1_close : ∀ (u : Sg), Ct l d FC clA yX1_close cX1_close 6 none DX1_close rvV [vR 1] u (call 54 [] u)) (x210 : Sg → Option (Int × Sg)) (x219 : Sg → Option (Int × Sg)) (x233 : Sg → Option (Int × Sg)) (x249 : Sg → Option (Int × Sg)) (hx210 : ∀ (u : Sg), WG p l e R s m args below meth c JX1_refuted DX1_refuted G clA A FC ad0 σ0 rvI (x210 u) u 210 [] []) (hx219 : ∀ (u : Sg), WG p l e R s m args below meth c JX1_refuted DX1_refuted G clA A FC ad0 σ0 rvI (x219 u) u 219 [] []) (hx233 : ∀ (u : Sg), WG p l e R s m args below meth c JX1_refuted DX1_refuted G clA A FC ad0 σ0 rvI (x233 u) u 233 [] []) (hx249 : ∀ (u : Sg), WG p l e R s m args below meth c JX1_refuted DX1_refuted G clA A FC ad0 σ0 rvI (x249 u) u 249 [] []) : ∀ (n : Nat) (a3 a4 : Int) (u : Sg), inR a3 → inR a4 → WG p l e R s m args below meth c JX1_refuted DX1_refuted G clA A FC ad0 σ0 rvI (bX1_refuted_L120 call n a3 a4 u x210 x219 x233 x249) u 120 [(0, vR 1), (3, vI a3), (4, vI a4)] [] := by
  intro n
  induction n with
  | zero =>
    intro a3 a4 u ra3 ra4
    exact g_none
  | succ n ih =>
    intro a3 a4 u ra3 ra4
    rw [bX1_refuted_L120]
    refine g_jn (fun j1 => ∀ (a3 a4 : Int) (s2 : Sg), inR a3 → inR a4 → WG p l e R s m args below meth c JX1_refuted DX1_refuted G clA A FC ad0 σ0 rvI (j1 a3 a4 s2) s2 151 [(0, vR 1), (3, vI a3), (4, vI a4)] []) (fun a3 a4 s2 ra3 ra4 => ?_) (fun j1 hj1 => ?_)
    · refine g_iconst dX1_refuted_151 ?_
      refine g_istore (loc' := [(5, vI 0), (0, vR 1), (3, vI a3), (4, vI a4)]) dX1_refuted_152 (by decide) rfl ?_
      refine g_pick [1, 2, 3, 0] rfl (wX1_refuted_L154 hd hRf hRl hX1_know hX1_termsOf hX1_firstsOf hX1_atHand hX1_contradictory hX1_round hX1_close _ (fun v4 v5 s3 rv4 rv5 => ?_) KF a3 a4 0 s2 ra3 ra4 (inR_z (Or.inl rfl)))
      · refine g_jn (fun j6 => ∀ (a3 a4 : Int) (s7 : Sg), inR a3 → inR a4 → WG p l e R s m args below meth c JX1_refuted DX1_refuted G clA A FC ad0 σ0 rvI (j6 a3 a4 s7) s7 203 [(0, vR 1), (3, vI a3), (4, vI a4)] []) (fun a3 a4 s7 ra3 ra4 => ?_) (fun j6 hj6 => ?_)
        · refine g_aload_n 0 dX1_refuted_203 rfl ?_
          refine g_getZ (ci := 1) (b := 30) (N := 57) 15 rfl rfl rfl (by decide) in_X1 rfl rfl q323 dX1_refuted_204 (fun v8 zv8 => ?_)
          refine g_if_eq 212 dX1_refuted_207 (by decide) (fun _ => (inR_z zv8)) (fun _ => ?_) (fun _ => ?_)
          · refine g_aload_n 0 dX1_refuted_212 rfl ?_
            refine g_cVZ (As := []) (n := 0) (stk := []) (ci := 1) (b := 30) (N := 57) (hX1_contradictory  s7) (by decide +kernel) rfl rfl (lw_V q942 q944 qs47 q163 q945) (by decide +kernel) rfl (by decide) hRf hRl (fun _ => avn) (Nat.le_of_ble_eq_true rfl) rfl rfl dX1_refuted_213 (fun v9 s10 zv9 => ?_)
            refine g_if_eq 221 dX1_refuted_216 (by decide) (fun _ => (inR_z zv9)) (fun _ => ?_) (fun _ => ?_)
            · refine g_aload_n 0 dX1_refuted_221 rfl ?_
              refine g_iconst dX1_refuted_222 ?_
              refine g_sIU (ci := 1) (b := 30) (N := 57) FC_ok 24 rfl rfl rfl (by decide) in_X1 tyX1 tyX1_ok nmX1 rfl rfl rfl rfl (by decide +kernel) (inR_z (Or.inl rfl)) q332 dX1_refuted_223 (fun s11 => ?_)
              refine g_aload_n 0 dX1_refuted_226 rfl ?_
              refine g_cVZ (As := []) (n := 0) (stk := []) (ci := 1) (b := 30) (N := 57) (hX1_round  s11) (by decide +kernel) rfl rfl (lw_V q966 q968 qs53 q163 q969) (by decide +kernel) rfl (by decide) hRf hRl (fun _ => avn) (Nat.le_of_ble_eq_true rfl) rfl rfl dX1_refuted_227 (fun v12 s13 zv12 => ?_)
              refine g_if_ne 235 dX1_refuted_230 (by decide) (fun _ => (inR_z zv12)) (fun _ => ?_) (fun _ => ?_)
              · exact g_pick [] rfl (hx233 s13)
              · refine g_aload_n 0 dX1_refuted_235 rfl ?_
                refine g_getZ (ci := 1) (b := 30) (N := 57) 15 rfl rfl rfl (by decide) in_X1 rfl rfl q323 dX1_refuted_236 (fun v14 zv14 => ?_)
                refine g_if_ne 249 dX1_refuted_239 (by decide) (fun _ => (inR_z zv14)) (fun _ => ?_) (fun _ => ?_)
                · refine g_iload 2 dX1_refuted_242 rfl ?_
                  refine g_bipush (by decide +kernel) dX1_refuted_244 ?_
                  refine g_icmp_le 251 dX1_refuted_246 (by decide) (fun _ => ra4) (fun _ => (by decide : inR (16))) (fun _ => ?_) (fun _ => ?_)
                  · refine g_iinc 2 (loc' := fun v15 => [(4, vI v15), (0, vR 1), (3, vI a3)]) dX1_refuted_251 rfl (by decide) (fun _ => rfl) (fun v15 rv15 => ?_)
                    refine g_goto 120 dX1_refuted_254 (by decide) ?_
                    exact g_pick [1, 2, 0] rfl (ih a3 v15 s13 ra3 rv15)
                  · exact g_pick [] rfl (hx249 s13)
                · exact g_pick [] rfl (hx249 s13)
            · exact g_pick [] rfl (hx219 s10)
          · exact g_pick [] rfl (hx210 s7)
        · refine g_aload_n 0 dX1_refuted_187 rfl ?_
          refine g_iconst dX1_refuted_188 ?_
          refine g_sIU (ci := 1) (b := 30) (N := 57) FC_ok 26 rfl rfl rfl (by decide) in_X1 tyX1 tyX1_ok nmX1 rfl rfl rfl rfl (by decide +kernel) (inR_z (Or.inl rfl)) q334 dX1_refuted_189 (fun s16 => ?_)
          refine g_aload_n 0 dX1_refuted_192 rfl ?_
          refine g_getZ (ci := 1) (b := 30) (N := 57) 15 rfl rfl rfl (by decide) in_X1 rfl rfl q323 dX1_refuted_193 (fun v17 zv17 => ?_)
          refine g_if_ne 203 dX1_refuted_196 (by decide) (fun _ => (inR_z zv17)) (fun _ => ?_) (fun _ => ?_)
          · refine g_aload_n 0 dX1_refuted_199 rfl ?_
            refine g_cVV (As := []) (n := 0) (stk := []) (ci := 1) (b := 30) (N := 57) (hX1_close  s16) (by decide +kernel) rfl rfl (lw_V q897 q899 qs36 q163 q900) (by decide +kernel) rfl (by decide) hRf hRl (fun _ => avn) (Nat.le_of_ble_eq_true rfl) rfl rfl dX1_refuted_200 (fun v18 s19 => ?_)
            exact g_pick [0, 1, 2] rfl (hj6 v4 v5 s19 rv4 rv5)
          · exact g_pick [0, 1, 2] rfl (hj6 v4 v5 s16 rv4 rv5)
    · refine g_iload_n 1 dX1_refuted_120 rfl ?_
      refine g_aload_n 0 dX1_refuted_121 rfl ?_
      refine g_getI (ci := 1) (b := 30) (N := 57) 5 rfl rfl rfl (by decide) in_X1 rfl rfl q313 dX1_refuted_122 (fun v20 rv20 => ?_)
      refine g_icmp_ge 151 dX1_refuted_125 (by decide) (fun _ => ra3) (fun _ => rv20) (fun _ => ?_) (fun _ => ?_)
      · refine g_aload_n 0 dX1_refuted_128 rfl ?_
        refine g_getZ (ci := 1) (b := 30) (N := 57) 15 rfl rfl rfl (by decide) in_X1 rfl rfl q323 dX1_refuted_129 (fun v21 zv21 => ?_)
        refine g_if_ne 151 dX1_refuted_132 (by decide) (fun _ => (inR_z zv21)) (fun _ => ?_) (fun _ => ?_)
        · refine g_aload_n 0 dX1_refuted_135 rfl ?_
          refine g_aload_n 0 dX1_refuted_136 rfl ?_
          refine g_get (v := vR 44) (ci := 1) (b := 30) (N := 57) 4 rfl rfl (by decide) in_X1 rfl rfl q312 dX1_refuted_137 ?_
          refine g_iload_n 1 dX1_refuted_140 rfl ?_
          refine g_iald (id := 34) 12 rfl rfl dX1_refuted_141 (fun v22 rv22 => ?_)
          refine g_cVV (As := [vI v22]) (n := 1) (stk := []) (ci := 1) (b := 30) (N := 57) (hX1_termsOf v22 u) (by decide +kernel) rfl rfl (lw_V q848 q850 qs26 q163 q851) (by decide +kernel) rfl (by decide) hRf hRl (fun _ => (avc rv22 avn)) (Nat.le_of_ble_eq_true rfl) rfl rfl dX1_refuted_142 (fun v23 s24 => ?_)
          refine g_iinc 1 (loc' := fun v25 => [(3, vI v25), (0, vR 1), (4, vI a4)]) dX1_refuted_145 rfl (by decide) (fun _ => rfl) (fun v25 rv25 => ?_)
          refine g_goto 120 dX1_refuted_148 (by decide) ?_
          exact g_pick [1, 0, 2] rfl (ih v25 a4 s24 rv25 ra4)
        · exact g_pick [0, 1, 2] rfl (hj1 a3 a4 u ra3 ra4)
      · exact g_pick [0, 1, 2] rfl (hj1 a3 a4 u ra3 ra4)
theorem wX1_refuted (hd : 2 ≤ d) (hRf : d + 1 ≤ R.frames) (hRl : 40 * (d + 1) ≤ R.locals) (hX1_know : ∀ (a1 : Int) (u : Sg), Ct l d FC clA yX1_know cX1_know 2 none DX1_know rvV [vR 1, vI a1] u (call 42 [a1] u)) (hX1_termsOf : ∀ (a1 : Int) (u : Sg), Ct l d FC clA yX1_termsOf cX1_termsOf 4 none DX1_termsOf rvV [vR 1, vI a1] u (call 44 [a1] u)) (hX1_firstsOf : ∀ (u : Sg), Ct l d FC clA yX1_firstsOf cX1_firstsOf 5 (some .int) DX1_firstsOf rvI [vR 1] u (call 52 [] u)) (hX1_atHand : ∀ (a1 : Int) (u : Sg), Ct l d FC clA yX1_atHand cX1_atHand 3 none DX1_atHand rvV [vR 1, vI a1] u (call 45 [a1] u)) (hX1_contradictory : ∀ (u : Sg), Ct l d FC clA yX1_contradictory cX1_contradictory 6 (some .boolean) DX1_contradictory rvI [vR 1] u (call 65 [] u)) (hX1_round : ∀ (u : Sg), Ct l d FC clA yX1_round cX1_round 8 (some .boolean) DX1_round rvI [vR 1] u (call 71 [] u)) (hX1_close : ∀ (u : Sg), Ct l d FC clA yX1_close cX1_close 6 none DX1_close rvV [vR 1] u (call 54 [] u)) (a1 a2 : Int) (u : Sg) (ra1 : inR a1) (ra2 : inR a2) : WG p l e R s m args below meth c JX1_refuted DX1_refuted G clA A FC ad0 σ0 rvI (bX1_refuted call a1 a2 u) u 0 [(0, vR 1), (1, vI a1), (2, vI a2)] [] := by
  unfold bX1_refuted
  refine g_aload_n 0 dX1_refuted_0 rfl ?_
  refine g_dup rfl dX1_refuted_1 ?_
  refine g_getI (ci := 1) (b := 30) (N := 57) 6 rfl rfl rfl (by decide) in_X1 rfl rfl q314 dX1_refuted_2 (fun v1 rv1 => ?_)
  refine g_iconst dX1_refuted_5 ?_
  refine g_iadd dX1_refuted_6 (fun v2 rv2 => ?_)
  refine g_sIU (ci := 1) (b := 30) (N := 57) FC_ok 6 rfl rfl rfl (by decide) in_X1 tyX1 tyX1_ok nmX1 rfl rfl rfl rfl (by decide +kernel) rv2 q314 dX1_refuted_7 (fun s3 => ?_)
  refine g_aload_n 0 dX1_refuted_10 rfl ?_
  refine g_iconst dX1_refuted_11 ?_
  refine g_sIU (ci := 1) (b := 30) (N := 57) FC_ok 5 rfl rfl rfl (by decide) in_X1 tyX1 tyX1_ok nmX1 rfl rfl rfl rfl (by decide +kernel) (inR_z (Or.inl rfl)) q313 dX1_refuted_12 (fun s4 => ?_)
  refine g_aload_n 0 dX1_refuted_15 rfl ?_
  refine g_iconst dX1_refuted_16 ?_
  refine g_sIU (ci := 1) (b := 30) (N := 57) FC_ok 13 rfl rfl rfl (by decide) in_X1 tyX1 tyX1_ok nmX1 rfl rfl rfl rfl (by decide +kernel) (inR_z (Or.inl rfl)) q321 dX1_refuted_17 (fun s5 => ?_)
  refine g_aload_n 0 dX1_refuted_20 rfl ?_
  refine g_iconst dX1_refuted_21 ?_
  refine g_sIU (ci := 1) (b := 30) (N := 57) FC_ok 21 rfl rfl rfl (by decide) in_X1 tyX1 tyX1_ok nmX1 rfl rfl rfl rfl (by decide +kernel) (inR_z (Or.inl rfl)) q329 dX1_refuted_22 (fun s6 => ?_)
  refine g_aload_n 0 dX1_refuted_25 rfl ?_
  refine g_iconst dX1_refuted_26 ?_
  refine g_sIU (ci := 1) (b := 30) (N := 57) FC_ok 22 rfl rfl rfl (by decide) in_X1 tyX1 tyX1_ok nmX1 rfl rfl rfl rfl (by decide +kernel) (inR_z (Or.inl rfl)) q330 dX1_refuted_27 (fun s7 => ?_)
  refine g_aload_n 0 dX1_refuted_30 rfl ?_
  refine g_iconst dX1_refuted_31 ?_
  refine g_sZU (ci := 1) (b := 30) (N := 57) FC_ok 15 rfl rfl rfl (by decide) in_X1 tyX1 tyX1_ok nmX1 rfl rfl rfl rfl (by decide +kernel) (Or.inl rfl) q323 dX1_refuted_32 (fun s8 => ?_)
  refine g_iload_n 1 dX1_refuted_35 rfl ?_
  refine g_istore_n (loc' := [(3, vI a1), (0, vR 1), (1, vI a1), (2, vI a2)]) dX1_refuted_36 (by decide) rfl ?_
  refine g_pick [1, 3, 0] rfl (wX1_refuted_L37 hd hRf hRl hX1_know hX1_termsOf hX1_firstsOf hX1_atHand hX1_contradictory hX1_round hX1_close _ (fun s9 => ?_) KF a2 a1 s8 ra2 ra1)
  · refine g_iconst dX1_refuted_58 ?_
    refine g_istore_n (loc' := [(3, vI 0), (0, vR 1)]) dX1_refuted_59 (by decide) rfl ?_
    refine g_pick [1, 0] rfl (wX1_refuted_L60 hd hRf hRl hX1_know hX1_termsOf hX1_firstsOf hX1_atHand hX1_contradictory hX1_round hX1_close _ (fun s10 => ?_) KF 0 s9 (inR_z (Or.inl rfl)))
    · refine g_aload_n 0 dX1_refuted_91 rfl ?_
      refine g_getI (ci := 1) (b := 30) (N := 57) 5 rfl rfl rfl (by decide) in_X1 rfl rfl q313 dX1_refuted_92 (fun v11 rv11 => ?_)
      refine g_istore_n (loc' := [(3, vI v11), (0, vR 1)]) dX1_refuted_95 (by decide) rfl ?_
      refine g_aload_n 1 dX1_refuted_96 rfl ?_
      refine g_aload_n 1 dX1_refuted_97 rfl ?_
      refine g_cVI (As := []) (n := 0) (stk := [vR 1]) (ci := 1) (b := 30) (N := 57) (hX1_firstsOf  s10) (by decide +kernel) rfl rfl (lw_V q884 q886 qs34 q163 q887) (by decide +kernel) rfl (by decide) hRf hRl (fun _ => avn) (Nat.le_of_ble_eq_true rfl) rfl rfl dX1_refuted_98 (fun v12 s13 rv12 => ?_)
      refine g_sIU (ci := 1) (b := 30) (N := 57) FC_ok 14 rfl rfl rfl (by decide) in_X1 tyX1 tyX1_ok nmX1 rfl rfl rfl rfl (by decide +kernel) rv12 q322 dX1_refuted_101 (fun s14 => ?_)
      refine g_aload_n 1 dX1_refuted_104 rfl ?_
      refine g_aload_n 1 dX1_refuted_105 rfl ?_
      refine g_getI (ci := 1) (b := 30) (N := 57) 56 rfl rfl rfl (by decide) in_X1 rfl rfl q364 dX1_refuted_106 (fun v15 rv15 => ?_)
      refine g_sIU (ci := 1) (b := 30) (N := 57) FC_ok 27 rfl rfl rfl (by decide) in_X1 tyX1 tyX1_ok nmX1 rfl rfl rfl rfl (by decide +kernel) rv15 q335 dX1_refuted_109 (fun s16 => ?_)
      refine g_aload_n 1 dX1_refuted_112 rfl ?_
      refine g_iconst dX1_refuted_113 ?_
      refine g_sIU (ci := 1) (b := 30) (N := 57) FC_ok 26 rfl rfl rfl (by decide) in_X1 tyX1 tyX1_ok nmX1 rfl rfl rfl rfl (by decide +kernel) (inR_z (Or.inl rfl)) q334 dX1_refuted_114 (fun s17 => ?_)
      refine g_iconst dX1_refuted_117 ?_
      refine g_istore (loc' := [(4, vI 1), (3, vI v11), (0, vR 1)]) dX1_refuted_118 (by decide) rfl ?_
      refine g_pick [2, 1, 0] rfl (wX1_refuted_L120 hd hRf hRl hX1_know hX1_termsOf hX1_firstsOf hX1_atHand hX1_contradictory hX1_round hX1_close _ _ _ _ (fun s18 => ?_) (fun s19 => ?_) (fun s20 => ?_) (fun s21 => ?_) KF v11 1 s17 rv11 (inR_z (Or.inr rfl)))
      · refine g_iconst dX1_refuted_210 ?_
        exact g_iret rfl rfl (fun _ => (by decide : inR (2))) dX1_refuted_211
      · refine g_iconst dX1_refuted_219 ?_
        exact g_iret rfl rfl (fun _ => (inR_z (Or.inr rfl))) dX1_refuted_220
      · refine g_iconst dX1_refuted_233 ?_
        exact g_iret rfl rfl (fun _ => (inR_z (Or.inl rfl))) dX1_refuted_234
      · refine g_iconst dX1_refuted_249 ?_
        exact g_iret rfl rfl (fun _ => (by decide : inR (2))) dX1_refuted_250
end
section
variable {l : Launch} {d : Nat} {call : Nat → List Int → Sg → Option (Int × Sg)}
theorem ctX1_refuted (p0 : Program) (e0 : Env) (s0 : State) (m0 : MethodId) (meth0 : Method) (c0 : Code) (G0 : Gm) (hd : 2 ≤ d) (hX1_know : ∀ (a1 : Int) (u : Sg), Ct l d FC clA yX1_know cX1_know 2 none DX1_know rvV [vR 1, vI a1] u (call 42 [a1] u)) (hX1_termsOf : ∀ (a1 : Int) (u : Sg), Ct l d FC clA yX1_termsOf cX1_termsOf 4 none DX1_termsOf rvV [vR 1, vI a1] u (call 44 [a1] u)) (hX1_firstsOf : ∀ (u : Sg), Ct l d FC clA yX1_firstsOf cX1_firstsOf 5 (some .int) DX1_firstsOf rvI [vR 1] u (call 52 [] u)) (hX1_atHand : ∀ (a1 : Int) (u : Sg), Ct l d FC clA yX1_atHand cX1_atHand 3 none DX1_atHand rvV [vR 1, vI a1] u (call 45 [a1] u)) (hX1_contradictory : ∀ (u : Sg), Ct l d FC clA yX1_contradictory cX1_contradictory 6 (some .boolean) DX1_contradictory rvI [vR 1] u (call 65 [] u)) (hX1_round : ∀ (u : Sg), Ct l d FC clA yX1_round cX1_round 8 (some .boolean) DX1_round rvI [vR 1] u (call 71 [] u)) (hX1_close : ∀ (u : Sg), Ct l d FC clA yX1_close cX1_close 6 none DX1_close rvV [vR 1] u (call 54 [] u)) (a1 a2 : Int) (u : Sg) : Ct l (d + 1) FC clA yX1_refuted cX1_refuted 6 (some .int) DX1_refuted rvI [vR 1, vI a1, vI a2] u (bX1_refuted call a1 a2 u) :=
  Ct_of (by decide) (Nat.le_of_ble_eq_true rfl) (fun p e R s1 m args below meth c G A ad hA hRf hRl => wX1_refuted hd hRf hRl hX1_know hX1_termsOf hX1_firstsOf hX1_atHand hX1_contradictory hX1_round hX1_close a1 a2 u (hA _ (List.mem_cons_of_mem _ List.mem_cons_self)) (hA _ (List.mem_cons_of_mem _ (List.mem_cons_of_mem _ List.mem_cons_self)))) p0 e0 s0 m0 meth0 c0 G0
end
