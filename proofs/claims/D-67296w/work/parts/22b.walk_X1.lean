/-! RoundCheck.know(I)V -/
abbrev JX1_know : Jm := (cX1_know, RX1, 2, none)
def bX1_know (call : Nat → List Int → Sg → Option (Int × Sg)) (a1 : Int) (u : Sg) : Option (Int × Sg) := cl (call 43 [a1] u) fun v1 s2 => ld s2 37 a1 fun v3 => un (gI s2 36) fun v4 => if v3 = v4 then (some (0, s2)) else (jn (fun (a1 : Int) (s6 : Sg) => un (gI s6 35) fun v7 => stA s6 34 v7 a1 fun s8 => un (gI s8 35) fun v9 => ar (v9 + 1) fun v10 => un (sI s8 35 v10) fun s11 => some (0, s11)) fun j5 => un (gI s2 36) fun v12 => stA s2 37 a1 v12 fun s13 => un (gI s13 35) fun v14 => un (gL s13 34 : Int) fun v15 => if v14 = v15 then (un (gI s13 35) fun v16 => ar (2 * v16) fun v17 => cpy s13 34 v17 fun s18 => j5 a1 s18) else (j5 a1 s13))
section
variable {p : Program} {l : Launch} {e : Env} {R : Room} {s : State} {m : MethodId} {args : Array Value} {below : List Frame} {meth : Method} {c : Code} {G : Gm} {A : Nat → Prop} {ad0 : Nat → Nat} {σ0 : Sg} {d : Nat} {call : Nat → List Int → Sg → Option (Int × Sg)}
theorem wX1_know (hd : 2 ≤ d) (hRf : d + 1 ≤ R.frames) (hRl : 40 * (d + 1) ≤ R.locals) (hX1_room_2 : ∀ (a1 : Int) (u : Sg), Ct l d FC clA yX1_room_2 cX1_room_2 3 none DX1_room_2 rvV [vR 1, vI a1] u (call 43 [a1] u)) (a1 : Int) (u : Sg) (ra1 : inR a1) : WG p l e R s m args below meth c JX1_know DX1_know G clA A FC ad0 σ0 rvV (bX1_know call a1 u) u 0 [(0, vR 1), (1, vI a1)] [] := by
  unfold bX1_know
  refine g_aload_n 0 dX1_know_0 rfl ?_
  refine g_iload_n 1 dX1_know_1 rfl ?_
  refine g_cVV (As := [vI a1]) (n := 1) (stk := []) (ci := 1) (b := 30) (N := 57) (hX1_room_2 a1 u) (by decide +kernel) rfl rfl (lw_V q844 q846 qs25 q163 q847) (by decide +kernel) rfl (by decide) hRf hRl (fun _ => (avc ra1 avn)) (Nat.le_of_ble_eq_true rfl) rfl rfl dX1_know_2 (fun v1 s2 => ?_)
  refine g_aload_n 0 dX1_know_5 rfl ?_
  refine g_get (v := vR 47) (ci := 1) (b := 30) (N := 57) 7 rfl rfl (by decide) in_X1 rfl rfl q315 dX1_know_6 ?_
  refine g_iload_n 1 dX1_know_9 rfl ?_
  refine g_iald (id := 37) 13 rfl rfl dX1_know_10 (fun v3 rv3 => ?_)
  refine g_aload_n 0 dX1_know_11 rfl ?_
  refine g_getI (ci := 1) (b := 30) (N := 57) 6 rfl rfl rfl (by decide) in_X1 rfl rfl q314 dX1_know_12 (fun v4 rv4 => ?_)
  refine g_icmp_ne 19 dX1_know_15 (by decide) (fun _ => rv3) (fun _ => rv4) (fun _ => ?_) (fun _ => ?_)
  · exact g_vret rfl rfl dX1_know_18
  · refine g_jn (fun j5 => ∀ (a1 : Int) (s6 : Sg), inR a1 → WG p l e R s m args below meth c JX1_know DX1_know G clA A FC ad0 σ0 rvV (j5 a1 s6) s6 58 [(0, vR 1), (1, vI a1)] []) (fun a1 s6 ra1 => ?_) (fun j5 hj5 => ?_)
    · refine g_aload_n 0 dX1_know_58 rfl ?_
      refine g_get (v := vR 44) (ci := 1) (b := 30) (N := 57) 4 rfl rfl (by decide) in_X1 rfl rfl q312 dX1_know_59 ?_
      refine g_aload_n 0 dX1_know_62 rfl ?_
      refine g_getI (ci := 1) (b := 30) (N := 57) 5 rfl rfl rfl (by decide) in_X1 rfl rfl q313 dX1_know_63 (fun v7 rv7 => ?_)
      refine g_iload_n 1 dX1_know_66 rfl ?_
      refine g_iastU (id := 34) FC_ok 12 rfl rfl (by decide +kernel) ra1 dX1_know_67 (fun s8 => ?_)
      refine g_aload_n 0 dX1_know_68 rfl ?_
      refine g_dup rfl dX1_know_69 ?_
      refine g_getI (ci := 1) (b := 30) (N := 57) 5 rfl rfl rfl (by decide) in_X1 rfl rfl q313 dX1_know_70 (fun v9 rv9 => ?_)
      refine g_iconst dX1_know_73 ?_
      refine g_iadd dX1_know_74 (fun v10 rv10 => ?_)
      refine g_sIU (ci := 1) (b := 30) (N := 57) FC_ok 5 rfl rfl rfl (by decide) in_X1 tyX1 tyX1_ok nmX1 rfl rfl rfl rfl (by decide +kernel) rv10 q313 dX1_know_75 (fun s11 => ?_)
      exact g_vret rfl rfl dX1_know_78
    · refine g_aload_n 0 dX1_know_19 rfl ?_
      refine g_get (v := vR 47) (ci := 1) (b := 30) (N := 57) 7 rfl rfl (by decide) in_X1 rfl rfl q315 dX1_know_20 ?_
      refine g_iload_n 1 dX1_know_23 rfl ?_
      refine g_aload_n 0 dX1_know_24 rfl ?_
      refine g_getI (ci := 1) (b := 30) (N := 57) 6 rfl rfl rfl (by decide) in_X1 rfl rfl q314 dX1_know_25 (fun v12 rv12 => ?_)
      refine g_iastU (id := 37) FC_ok 13 rfl rfl (by decide +kernel) rv12 dX1_know_28 (fun s13 => ?_)
      refine g_aload_n 0 dX1_know_29 rfl ?_
      refine g_getI (ci := 1) (b := 30) (N := 57) 5 rfl rfl rfl (by decide) in_X1 rfl rfl q313 dX1_know_30 (fun v14 rv14 => ?_)
      refine g_aload_n 0 dX1_know_33 rfl ?_
      refine g_get (v := vR 44) (ci := 1) (b := 30) (N := 57) 4 rfl rfl (by decide) in_X1 rfl rfl q312 dX1_know_34 ?_
      refine g_alenU (id := 34) 12 rfl (Or.inl rfl) dX1_know_37 (fun v15 rv15 => ?_)
      refine g_icmp_ne 58 dX1_know_38 (by decide) (fun _ => rv14) (fun _ => rv15) (fun _ => ?_) (fun _ => ?_)
      · refine g_aload_n 0 dX1_know_41 rfl ?_
        refine g_aload_n 0 dX1_know_42 rfl ?_
        refine g_get (v := vR 44) (ci := 1) (b := 30) (N := 57) 4 rfl rfl (by decide) in_X1 rfl rfl q312 dX1_know_43 ?_
        refine g_iconst dX1_know_46 ?_
        refine g_aload_n 0 dX1_know_47 rfl ?_
        refine g_getI (ci := 1) (b := 30) (N := 57) 5 rfl rfl rfl (by decide) in_X1 rfl rfl q313 dX1_know_48 (fun v16 rv16 => ?_)
        refine g_imul dX1_know_51 (fun v17 rv17 => ?_)
        refine g_cpy (ci := 1) (b := 30) (N := 57) FC_ok FC_10 rfl 4 12 rfl rfl rfl rfl (by decide) in_X1 tyX1 tyX1_ok nmX1 rfl rfl rfl rfl (by decide +kernel) q666 q312 hRf hRl (Nat.le_of_succ_le hd) (Nat.le_of_ble_eq_true rfl) rfl rfl dX1_know_52 dX1_know_55 (fun s18 => ?_)
        exact g_pick [0, 1] rfl (hj5 a1 s18 ra1)
      · exact g_pick [0, 1] rfl (hj5 a1 s13 ra1)
end
section
variable {l : Launch} {d : Nat} {call : Nat → List Int → Sg → Option (Int × Sg)}
theorem ctX1_know (p0 : Program) (e0 : Env) (s0 : State) (m0 : MethodId) (meth0 : Method) (c0 : Code) (G0 : Gm) (hd : 2 ≤ d) (hX1_room_2 : ∀ (a1 : Int) (u : Sg), Ct l d FC clA yX1_room_2 cX1_room_2 3 none DX1_room_2 rvV [vR 1, vI a1] u (call 43 [a1] u)) (a1 : Int) (u : Sg) : Ct l (d + 1) FC clA yX1_know cX1_know 2 none DX1_know rvV [vR 1, vI a1] u (bX1_know call a1 u) :=
  Ct_of (by decide) (Nat.le_of_ble_eq_true rfl) (fun p e R s1 m args below meth c G A ad hA hRf hRl => wX1_know hd hRf hRl hX1_room_2 a1 u (hA _ (List.mem_cons_of_mem _ List.mem_cons_self))) p0 e0 s0 m0 meth0 c0 G0
end
/-! RoundCheck.room(I)V -/
abbrev JX1_room_2 : Jm := (cX1_room_2, RX1, 3, none)
def bX1_room_2 (call : Nat → List Int → Sg → Option (Int × Sg)) (a1 : Int) (u : Sg) : Option (Int × Sg) := un (gL u 37 : Int) fun v1 => if a1 < v1 then (some (0, u)) else (ar (a1 + 1) fun v2 => un (gL u 37 : Int) fun v3 => un (gL u 37 : Int) fun v4 => gd (2 ≠ 0) (ar (Int.tdiv v4 2) fun v5 => ar (v3 + v5) fun v6 => un (if v2 < v6 then v6 else v2) fun v7 => cpy u 37 v7 fun s8 => cpy s8 38 v7 fun s9 => cpy s9 39 v7 fun s10 => cpy s10 42 v7 fun s11 => some (0, s11)))
section
variable {p : Program} {l : Launch} {e : Env} {R : Room} {s : State} {m : MethodId} {args : Array Value} {below : List Frame} {meth : Method} {c : Code} {G : Gm} {A : Nat → Prop} {ad0 : Nat → Nat} {σ0 : Sg} {d : Nat} {call : Nat → List Int → Sg → Option (Int × Sg)}
theorem wX1_room_2 (hd : 2 ≤ d) (hRf : d + 1 ≤ R.frames) (hRl : 40 * (d + 1) ≤ R.locals) (a1 : Int) (u : Sg) (ra1 : inR a1) : WG p l e R s m args below meth c JX1_room_2 DX1_room_2 G clA A FC ad0 σ0 rvV (bX1_room_2 call a1 u) u 0 [(0, vR 1), (1, vI a1)] [] := by
  unfold bX1_room_2
  refine g_iload_n 1 dX1_room_2_0 rfl ?_
  refine g_aload_n 0 dX1_room_2_1 rfl ?_
  refine g_get (v := vR 47) (ci := 1) (b := 30) (N := 57) 7 rfl rfl (by decide) in_X1 rfl rfl q315 dX1_room_2_2 ?_
  refine g_alenU (id := 37) 13 rfl (Or.inl rfl) dX1_room_2_5 (fun v1 rv1 => ?_)
  refine g_icmp_ge 10 dX1_room_2_6 (by decide) (fun _ => ra1) (fun _ => rv1) (fun _ => ?_) (fun _ => ?_)
  · exact g_vret rfl rfl dX1_room_2_9
  · refine g_iload_n 1 dX1_room_2_10 rfl ?_
    refine g_iconst dX1_room_2_11 ?_
    refine g_iadd dX1_room_2_12 (fun v2 rv2 => ?_)
    refine g_aload_n 0 dX1_room_2_13 rfl ?_
    refine g_get (v := vR 47) (ci := 1) (b := 30) (N := 57) 7 rfl rfl (by decide) in_X1 rfl rfl q315 dX1_room_2_14 ?_
    refine g_alenU (id := 37) 13 rfl (Or.inl rfl) dX1_room_2_17 (fun v3 rv3 => ?_)
    refine g_aload_n 0 dX1_room_2_18 rfl ?_
    refine g_get (v := vR 47) (ci := 1) (b := 30) (N := 57) 7 rfl rfl (by decide) in_X1 rfl rfl q315 dX1_room_2_19 ?_
    refine g_alenU (id := 37) 13 rfl (Or.inl rfl) dX1_room_2_22 (fun v4 rv4 => ?_)
    refine g_iconst dX1_room_2_23 ?_
    refine g_idiv rv4 (by decide : inR (2)) dX1_room_2_24 (fun v5 rv5 => ?_)
    refine g_iadd dX1_room_2_25 (fun v6 rv6 => ?_)
    refine g_mmax rv2 rv6 (Nat.le_trans (Nat.succ_le_succ (Nat.zero_le _)) hRf) (Nat.le_trans (Nat.mul_le_mul_left 40 (Nat.succ_le_succ (Nat.zero_le d))) hRl) (Nat.le_of_ble_eq_true rfl) q575 q217 q166 q218 dX1_room_2_26 (fun v7 rv7 => ?_)
    refine g_istore_n (loc' := [(2, vI v7), (0, vR 1), (1, vI a1)]) dX1_room_2_29 (by decide) rfl ?_
    refine g_aload_n 1 dX1_room_2_30 rfl ?_
    refine g_aload_n 1 dX1_room_2_31 rfl ?_
    refine g_get (v := vR 47) (ci := 1) (b := 30) (N := 57) 7 rfl rfl (by decide) in_X1 rfl rfl q315 dX1_room_2_32 ?_
    refine g_iload_n 0 dX1_room_2_35 rfl ?_
    refine g_cpy (ci := 1) (b := 30) (N := 57) FC_ok FC_10 rfl 7 13 rfl rfl rfl rfl (by decide) in_X1 tyX1 tyX1_ok nmX1 rfl rfl rfl rfl (by decide +kernel) q666 q315 hRf hRl (Nat.le_of_succ_le hd) (Nat.le_of_ble_eq_true rfl) rfl rfl dX1_room_2_36 dX1_room_2_39 (fun s8 => ?_)
    refine g_aload_n 1 dX1_room_2_42 rfl ?_
    refine g_aload_n 1 dX1_room_2_43 rfl ?_
    refine g_get (v := vR 48) (ci := 1) (b := 30) (N := 57) 8 rfl rfl (by decide) in_X1 rfl rfl q316 dX1_room_2_44 ?_
    refine g_iload_n 0 dX1_room_2_47 rfl ?_
    refine g_cpy (ci := 1) (b := 30) (N := 57) FC_ok FC_10 rfl 8 14 rfl rfl rfl rfl (by decide) in_X1 tyX1 tyX1_ok nmX1 rfl rfl rfl rfl (by decide +kernel) q666 q316 hRf hRl (Nat.le_of_succ_le hd) (Nat.le_of_ble_eq_true rfl) rfl rfl dX1_room_2_48 dX1_room_2_51 (fun s9 => ?_)
    refine g_aload_n 1 dX1_room_2_54 rfl ?_
    refine g_aload_n 1 dX1_room_2_55 rfl ?_
    refine g_get (v := vR 49) (ci := 1) (b := 30) (N := 57) 9 rfl rfl (by decide) in_X1 rfl rfl q317 dX1_room_2_56 ?_
    refine g_iload_n 0 dX1_room_2_59 rfl ?_
    refine g_cpy (ci := 1) (b := 30) (N := 57) FC_ok FC_10 rfl 9 15 rfl rfl rfl rfl (by decide) in_X1 tyX1 tyX1_ok nmX1 rfl rfl rfl rfl (by decide +kernel) q666 q317 hRf hRl (Nat.le_of_succ_le hd) (Nat.le_of_ble_eq_true rfl) rfl rfl dX1_room_2_60 dX1_room_2_63 (fun s10 => ?_)
    refine g_aload_n 1 dX1_room_2_66 rfl ?_
    refine g_aload_n 1 dX1_room_2_67 rfl ?_
    refine g_get (v := vR 52) (ci := 1) (b := 30) (N := 57) 12 rfl rfl (by decide) in_X1 rfl rfl q320 dX1_room_2_68 ?_
    refine g_iload_n 0 dX1_room_2_71 rfl ?_
    refine g_cpy (ci := 1) (b := 30) (N := 57) FC_ok FC_10 rfl 12 18 rfl rfl rfl rfl (by decide) in_X1 tyX1 tyX1_ok nmX1 rfl rfl rfl rfl (by decide +kernel) q666 q320 hRf hRl (Nat.le_of_succ_le hd) (Nat.le_of_ble_eq_true rfl) rfl rfl dX1_room_2_72 dX1_room_2_75 (fun s11 => ?_)
    exact g_vret rfl rfl dX1_room_2_78
end
section
variable {l : Launch} {d : Nat} {call : Nat → List Int → Sg → Option (Int × Sg)}
theorem ctX1_room_2 (p0 : Program) (e0 : Env) (s0 : State) (m0 : MethodId) (meth0 : Method) (c0 : Code) (G0 : Gm) (hd : 2 ≤ d) (a1 : Int) (u : Sg) : Ct l (d + 1) FC clA yX1_room_2 cX1_room_2 3 none DX1_room_2 rvV [vR 1, vI a1] u (bX1_room_2 call a1 u) :=
  Ct_of (by decide) (Nat.le_of_ble_eq_true rfl) (fun p e R s1 m args below meth c G A ad hA hRf hRl => wX1_room_2 hd hRf hRl a1 u (hA _ (List.mem_cons_of_mem _ List.mem_cons_self))) p0 e0 s0 m0 meth0 c0 G0
end
/-! RoundCheck.termsOf(I)V -/
abbrev JX1_termsOf : Jm := (cX1_termsOf, RX1, 4, none)
def bX1_termsOf_L63 (call : Nat → List Int → Sg → Option (Int × Sg)) : Nat → Int → Int → Int → Sg → (Sg → Option (Int × Sg)) → Option (Int × Sg)
  | 0, _, _, _, _, _ => none
  | n + 1, a1, a2, a3, u, x106 => if a3 < a2 then (un (gI u 45) fun v1 => if v1 = 0 then (cl (call 98 [a1, a3] u) fun v2 s3 => if v2 = 0 then (ar (a3 + 1) fun v4 => bX1_termsOf_L63 call n a1 a2 v4 s3 x106) else (cl (call 98 [a1, a3] s3) fun v5 s6 => cl (call 44 [v5] s6) fun v7 s8 => ar (a3 + 1) fun v9 => bX1_termsOf_L63 call n a1 a2 v9 s8 x106)) else (x106 u)) else (x106 u)
def bX1_termsOf (call : Nat → List Int → Sg → Option (Int × Sg)) (a1 : Int) (u : Sg) : Option (Int × Sg) := jn (fun (a1 : Int) (s2 : Sg) => jn (fun (a1 t0 : Int) (s4 : Sg) => bX1_termsOf_L63 call KF a1 t0 0 s4 (fun s5 => some (0, s5))) fun j3 => ld s2 0 a1 fun v6 => if v6 = 8 then (j3 a1 1 s2) else (ld s2 3 a1 fun v7 => j3 a1 v7 s2)) fun j1 => ld u 0 a1 fun v8 => cl (call 12 [v8] u) fun v9 s10 => if v9 = 0 then (j1 a1 s10) else (ld s10 5 a1 fun v11 => if v11 = 0 then (cl (call 45 [a1] s10) fun v12 s13 => some (0, s13)) else (j1 a1 s10))
section
variable {p : Program} {l : Launch} {e : Env} {R : Room} {s : State} {m : MethodId} {args : Array Value} {below : List Frame} {meth : Method} {c : Code} {G : Gm} {A : Nat → Prop} {ad0 : Nat → Nat} {σ0 : Sg} {d : Nat} {call : Nat → List Int → Sg → Option (Int × Sg)}
theorem wX1_termsOf_L63 (hd : 2 ≤ d) (hRf : d + 1 ≤ R.frames) (hRl : 40 * (d + 1) ≤ R.locals) (hX2_at : ∀ (a1 a2 : Int) (u : Sg), Ct l d FC clA yX2_at cX2_at 3 (some .int) DX2_at rvI [vR 0, vI a1, vI a2] u (call 98 [a1, a2] u)) (hX1_termsOf : ∀ (a1 : Int) (u : Sg), Ct l d FC clA yX1_termsOf cX1_termsOf 4 none DX1_termsOf rvV [vR 1, vI a1] u (call 44 [a1] u)) (hX1_isTerm : ∀ (a1 : Int) (u : Sg), Ct l d FC clA yX1_isTerm cX1_isTerm 1 (some .boolean) DX1_isTerm rvI [vI a1] u (call 12 [a1] u)) (hX1_atHand : ∀ (a1 : Int) (u : Sg), Ct l d FC clA yX1_atHand cX1_atHand 3 none DX1_atHand rvV [vR 1, vI a1] u (call 45 [a1] u)) (x106 : Sg → Option (Int × Sg)) (hx106 : ∀ (u : Sg), WG p l e R s m args below meth c JX1_termsOf DX1_termsOf G clA A FC ad0 σ0 rvV (x106 u) u 106 [] []) : ∀ (n : Nat) (a1 a2 a3 : Int) (u : Sg), inR a1 → inR a2 → inR a3 → WG p l e R s m args below meth c JX1_termsOf DX1_termsOf G clA A FC ad0 σ0 rvV (bX1_termsOf_L63 call n a1 a2 a3 u x106) u 63 [(0, vR 1), (1, vI a1), (2, vI a2), (3, vI a3)] [] := by
  intro n
  induction n with
  | zero =>
    intro a1 a2 a3 u ra1 ra2 ra3
    exact g_none
  | succ n ih =>
    intro a1 a2 a3 u ra1 ra2 ra3
    rw [bX1_termsOf_L63]
    refine g_iload_n 3 dX1_termsOf_63 rfl ?_
    refine g_iload_n 2 dX1_termsOf_64 rfl ?_
    refine g_icmp_ge 106 dX1_termsOf_65 (by decide) (fun _ => ra3) (fun _ => ra2) (fun _ => ?_) (fun _ => ?_)
    · refine g_aload_n 0 dX1_termsOf_68 rfl ?_
      refine g_getZ (ci := 1) (b := 30) (N := 57) 15 rfl rfl rfl (by decide) in_X1 rfl rfl q323 dX1_termsOf_69 (fun v1 zv1 => ?_)
      refine g_if_ne 106 dX1_termsOf_72 (by decide) (fun _ => (inR_z zv1)) (fun _ => ?_) (fun _ => ?_)
      · refine g_aload_n 0 dX1_termsOf_75 rfl ?_
        refine g_get (v := vR 0) (ci := 1) (b := 30) (N := 57) 0 rfl rfl (by decide) in_X1 rfl rfl q308 dX1_termsOf_76 ?_
        refine g_iload_n 1 dX1_termsOf_79 rfl ?_
        refine g_iload_n 3 dX1_termsOf_80 rfl ?_
        refine g_cVI (As := [vI a1, vI a3]) (n := 2) (stk := []) (ci := 0) (b := 0) (N := 21) (hX2_at a1 a3 u) (by decide +kernel) rfl rfl (lw_V q571 q572 q573 q164 q574) (by decide +kernel) rfl (by decide) hRf hRl (fun _ => (avc ra1 (avc ra3 avn))) (Nat.le_of_ble_eq_true rfl) rfl rfl dX1_termsOf_81 (fun v2 s3 rv2 => ?_)
        refine g_if_eq 100 dX1_termsOf_84 (by decide) (fun _ => rv2) (fun _ => ?_) (fun _ => ?_)
        · refine g_iinc 3 (loc' := fun v4 => [(3, vI v4), (0, vR 1), (1, vI a1), (2, vI a2)]) dX1_termsOf_100 rfl (by decide) (fun _ => rfl) (fun v4 rv4 => ?_)
          refine g_goto 63 dX1_termsOf_103 (by decide) ?_
          exact g_pick [1, 2, 3, 0] rfl (ih a1 a2 v4 s3 ra1 ra2 rv4)
        · refine g_aload_n 0 dX1_termsOf_87 rfl ?_
          refine g_aload_n 0 dX1_termsOf_88 rfl ?_
          refine g_get (v := vR 0) (ci := 1) (b := 30) (N := 57) 0 rfl rfl (by decide) in_X1 rfl rfl q308 dX1_termsOf_89 ?_
          refine g_iload_n 1 dX1_termsOf_92 rfl ?_
          refine g_iload_n 3 dX1_termsOf_93 rfl ?_
          refine g_cVI (As := [vI a1, vI a3]) (n := 2) (stk := [vR 1]) (ci := 0) (b := 0) (N := 21) (hX2_at a1 a3 s3) (by decide +kernel) rfl rfl (lw_V q571 q572 q573 q164 q574) (by decide +kernel) rfl (by decide) hRf hRl (fun _ => (avc ra1 (avc ra3 avn))) (Nat.le_of_ble_eq_true rfl) rfl rfl dX1_termsOf_94 (fun v5 s6 rv5 => ?_)
          refine g_cVV (As := [vI v5]) (n := 1) (stk := []) (ci := 1) (b := 30) (N := 57) (hX1_termsOf v5 s6) (by decide +kernel) rfl rfl (lw_V q848 q850 qs26 q163 q851) (by decide +kernel) rfl (by decide) hRf hRl (fun _ => (avc rv5 avn)) (Nat.le_of_ble_eq_true rfl) rfl rfl dX1_termsOf_97 (fun v7 s8 => ?_)
          refine g_iinc 3 (loc' := fun v9 => [(3, vI v9), (0, vR 1), (1, vI a1), (2, vI a2)]) dX1_termsOf_100 rfl (by decide) (fun _ => rfl) (fun v9 rv9 => ?_)
          refine g_goto 63 dX1_termsOf_103 (by decide) ?_
          exact g_pick [1, 2, 3, 0] rfl (ih a1 a2 v9 s8 ra1 ra2 rv9)
      · exact g_pick [] rfl (hx106 u)
    · exact g_pick [] rfl (hx106 u)
theorem wX1_termsOf (hd : 2 ≤ d) (hRf : d + 1 ≤ R.frames) (hRl : 40 * (d + 1) ≤ R.locals) (hX2_at : ∀ (a1 a2 : Int) (u : Sg), Ct l d FC clA yX2_at cX2_at 3 (some .int) DX2_at rvI [vR 0, vI a1, vI a2] u (call 98 [a1, a2] u)) (hX1_termsOf : ∀ (a1 : Int) (u : Sg), Ct l d FC clA yX1_termsOf cX1_termsOf 4 none DX1_termsOf rvV [vR 1, vI a1] u (call 44 [a1] u)) (hX1_isTerm : ∀ (a1 : Int) (u : Sg), Ct l d FC clA yX1_isTerm cX1_isTerm 1 (some .boolean) DX1_isTerm rvI [vI a1] u (call 12 [a1] u)) (hX1_atHand : ∀ (a1 : Int) (u : Sg), Ct l d FC clA yX1_atHand cX1_atHand 3 none DX1_atHand rvV [vR 1, vI a1] u (call 45 [a1] u)) (a1 : Int) (u : Sg) (ra1 : inR a1) : WG p l e R s m args below meth c JX1_termsOf DX1_termsOf G clA A FC ad0 σ0 rvV (bX1_termsOf call a1 u) u 0 [(0, vR 1), (1, vI a1)] [] := by
  unfold bX1_termsOf
  refine g_jn (fun j1 => ∀ (a1 : Int) (s2 : Sg), inR a1 → WG p l e R s m args below meth c JX1_termsOf DX1_termsOf G clA A FC ad0 σ0 rvV (j1 a1 s2) s2 33 [(0, vR 1), (1, vI a1)] []) (fun a1 s2 ra1 => ?_) (fun j1 hj1 => ?_)
  · refine g_jn (fun j3 => ∀ (a1 t0 : Int) (s4 : Sg), inR a1 → inR t0 → WG p l e R s m args below meth c JX1_termsOf DX1_termsOf G clA A FC ad0 σ0 rvV (j3 a1 t0 s4) s4 60 [(0, vR 1), (1, vI a1)] [vI t0]) (fun a1 t0 s4 ra1 rt0 => ?_) (fun j3 hj3 => ?_)
    · refine g_istore_n (loc' := [(2, vI t0), (0, vR 1), (1, vI a1)]) dX1_termsOf_60 (by decide) rfl ?_
      refine g_iconst dX1_termsOf_61 ?_
      refine g_istore_n (loc' := [(3, vI 0), (2, vI t0), (0, vR 1), (1, vI a1)]) dX1_termsOf_62 (by decide) rfl ?_
      refine g_pick [2, 3, 1, 0] rfl (wX1_termsOf_L63 hd hRf hRl hX2_at hX1_termsOf hX1_isTerm hX1_atHand _ (fun s5 => ?_) KF a1 t0 0 s4 ra1 rt0 (inR_z (Or.inl rfl)))
      · exact g_vret rfl rfl dX1_termsOf_106
    · refine g_aload_n 0 dX1_termsOf_33 rfl ?_
      refine g_get (v := vR 0) (ci := 1) (b := 30) (N := 57) 0 rfl rfl (by decide) in_X1 rfl rfl q308 dX1_termsOf_34 ?_
      refine g_get (v := vR 10) (ci := 0) (b := 0) (N := 21) 0 rfl rfl (by decide) in_X2 rfl rfl q232 dX1_termsOf_37 ?_
      refine g_iload_n 1 dX1_termsOf_40 rfl ?_
      refine g_iald (id := 0) 0 rfl rfl dX1_termsOf_41 (fun v6 rv6 => ?_)
      refine g_bipush (by decide +kernel) dX1_termsOf_42 ?_
      refine g_icmp_ne 51 dX1_termsOf_44 (by decide) (fun _ => rv6) (fun _ => (by decide : inR (8))) (fun _ => ?_) (fun _ => ?_)
      · refine g_iconst dX1_termsOf_47 ?_
        refine g_goto 60 dX1_termsOf_48 (by decide) ?_
        exact g_pick [0, 1] rfl (hj3 a1 1 s2 ra1 (inR_z (Or.inr rfl)))
      · refine g_aload_n 0 dX1_termsOf_51 rfl ?_
        refine g_get (v := vR 0) (ci := 1) (b := 30) (N := 57) 0 rfl rfl (by decide) in_X1 rfl rfl q308 dX1_termsOf_52 ?_
        refine g_get (v := vR 13) (ci := 0) (b := 0) (N := 21) 3 rfl rfl (by decide) in_X2 rfl rfl q237 dX1_termsOf_55 ?_
        refine g_iload_n 1 dX1_termsOf_58 rfl ?_
        refine g_iald (id := 3) 3 rfl rfl dX1_termsOf_59 (fun v7 rv7 => ?_)
        exact g_pick [0, 1] rfl (hj3 a1 v7 s2 ra1 rv7)
  · refine g_aload_n 0 dX1_termsOf_0 rfl ?_
    refine g_get (v := vR 0) (ci := 1) (b := 30) (N := 57) 0 rfl rfl (by decide) in_X1 rfl rfl q308 dX1_termsOf_1 ?_
    refine g_get (v := vR 10) (ci := 0) (b := 0) (N := 21) 0 rfl rfl (by decide) in_X2 rfl rfl q232 dX1_termsOf_4 ?_
    refine g_iload_n 1 dX1_termsOf_7 rfl ?_
    refine g_iald (id := 0) 0 rfl rfl dX1_termsOf_8 (fun v8 rv8 => ?_)
    refine g_cSZ (As := [vI v8]) (n := 1) (stk := []) (hX1_isTerm v8 u) (by decide +kernel) (lw_S q626 q627 q163 q628) (by decide +kernel) rfl (by decide) hRf hRl (fun _ => (avc rv8 avn)) (Nat.le_of_ble_eq_true rfl) rfl rfl dX1_termsOf_9 (fun v9 s10 zv9 => ?_)
    refine g_if_eq 33 dX1_termsOf_12 (by decide) (fun _ => (inR_z zv9)) (fun _ => ?_) (fun _ => ?_)
    · exact g_pick [0, 1] rfl (hj1 a1 s10 ra1)
    · refine g_aload_n 0 dX1_termsOf_15 rfl ?_
      refine g_get (v := vR 0) (ci := 1) (b := 30) (N := 57) 0 rfl rfl (by decide) in_X1 rfl rfl q308 dX1_termsOf_16 ?_
      refine g_get (v := vR 15) (ci := 0) (b := 0) (N := 21) 5 rfl rfl (by decide) in_X2 rfl rfl q241 dX1_termsOf_19 ?_
      refine g_iload_n 1 dX1_termsOf_22 rfl ?_
      refine g_iald (id := 5) 5 rfl rfl dX1_termsOf_23 (fun v11 rv11 => ?_)
      refine g_if_ne 33 dX1_termsOf_24 (by decide) (fun _ => rv11) (fun _ => ?_) (fun _ => ?_)
      · refine g_aload_n 0 dX1_termsOf_27 rfl ?_
        refine g_iload_n 1 dX1_termsOf_28 rfl ?_
        refine g_cVV (As := [vI a1]) (n := 1) (stk := []) (ci := 1) (b := 30) (N := 57) (hX1_atHand a1 s10) (by decide +kernel) rfl rfl (lw_V q852 q854 qs27 q163 q855) (by decide +kernel) rfl (by decide) hRf hRl (fun _ => (avc ra1 avn)) (Nat.le_of_ble_eq_true rfl) rfl rfl dX1_termsOf_29 (fun v12 s13 => ?_)
        exact g_vret rfl rfl dX1_termsOf_32
      · exact g_pick [0, 1] rfl (hj1 a1 s10 ra1)
end
section
variable {l : Launch} {d : Nat} {call : Nat → List Int → Sg → Option (Int × Sg)}
theorem ctX1_termsOf (p0 : Program) (e0 : Env) (s0 : State) (m0 : MethodId) (meth0 : Method) (c0 : Code) (G0 : Gm) (hd : 2 ≤ d) (hX2_at : ∀ (a1 a2 : Int) (u : Sg), Ct l d FC clA yX2_at cX2_at 3 (some .int) DX2_at rvI [vR 0, vI a1, vI a2] u (call 98 [a1, a2] u)) (hX1_termsOf : ∀ (a1 : Int) (u : Sg), Ct l d FC clA yX1_termsOf cX1_termsOf 4 none DX1_termsOf rvV [vR 1, vI a1] u (call 44 [a1] u)) (hX1_isTerm : ∀ (a1 : Int) (u : Sg), Ct l d FC clA yX1_isTerm cX1_isTerm 1 (some .boolean) DX1_isTerm rvI [vI a1] u (call 12 [a1] u)) (hX1_atHand : ∀ (a1 : Int) (u : Sg), Ct l d FC clA yX1_atHand cX1_atHand 3 none DX1_atHand rvV [vR 1, vI a1] u (call 45 [a1] u)) (a1 : Int) (u : Sg) : Ct l (d + 1) FC clA yX1_termsOf cX1_termsOf 4 none DX1_termsOf rvV [vR 1, vI a1] u (bX1_termsOf call a1 u) :=
  Ct_of (by decide) (Nat.le_of_ble_eq_true rfl) (fun p e R s1 m args below meth c G A ad hA hRf hRl => wX1_termsOf hd hRf hRl hX2_at hX1_termsOf hX1_isTerm hX1_atHand a1 u (hA _ (List.mem_cons_of_mem _ List.mem_cons_self))) p0 e0 s0 m0 meth0 c0 G0
end
/-! RoundCheck.atHand(I)V -/
abbrev JX1_atHand : Jm := (cX1_atHand, RX1, 3, none)
def bX1_atHand_L140 (call : Nat → List Int → Sg → Option (Int × Sg)) : Nat → Int → Int → Sg → (Int → Sg → Option (Int × Sg)) → Option (Int × Sg)
  | 0, _, _, _, _ => none
  | n + 1, a1, a2, u, x172 => ld u 3 a1 fun v1 => if a2 < v1 then (cl (call 98 [a1, a2] u) fun v2 s3 => cl (call 45 [v2] s3) fun v4 s5 => ar (a2 + 1) fun v6 => bX1_atHand_L140 call n a1 v6 s5 x172) else (x172 a1 u)
def bX1_atHand (call : Nat → List Int → Sg → Option (Int × Sg)) (a1 : Int) (u : Sg) : Option (Int × Sg) := cl (call 46 [a1] u) fun v1 s2 => if v1 = 0 then (un (gI s2 45) fun v3 => if v3 = 0 then (un (gI s2 43) fun v4 => if v4 = 100 then (un (sI s2 45 1) fun s5 => some (0, s5)) else (jn (fun (a1 : Int) (s7 : Sg) => cl (call 47 [a1] s7) fun v8 s9 => cl (call 48 [a1, v8] s9) fun v10 s11 => some (0, s11)) fun j6 => cl (call 43 [a1] s2) fun v12 s13 => un (gI s13 36) fun v14 => stA s13 42 a1 v14 fun s15 => un (gI s15 43) fun v16 => stA s15 39 a1 v16 fun s17 => un (gI s17 43) fun v18 => stA s17 40 v18 a1 fun s19 => un (gI s19 43) fun v20 => un (gI s19 43) fun v21 => stA s19 41 v20 v21 fun s22 => un (gI s22 43) fun v23 => ar (v23 + 1) fun v24 => un (sI s22 43 v24) fun s25 => ld s25 0 a1 fun v26 => if v26 = 5 then (cl (call 98 [a1, 0] s25) fun v27 s28 => cl (call 30 [v27] s28) fun v29 s30 => if v29 = 0 then (j6 a1 s30) else (cl (call 98 [a1, 0] s30) fun v31 s32 => cl (call 30 [v31] s32) fun v33 s34 => cl (call 45 [v33] s34) fun v35 s36 => j6 a1 s36)) else (bX1_atHand_L140 call KF a1 0 s25 (fun v38 s37 => j6 v38 s37)))) else (some (0, s2))) else (some (0, s2))
section
variable {p : Program} {l : Launch} {e : Env} {R : Room} {s : State} {m : MethodId} {args : Array Value} {below : List Frame} {meth : Method} {c : Code} {G : Gm} {A : Nat → Prop} {ad0 : Nat → Nat} {σ0 : Sg} {d : Nat} {call : Nat → List Int → Sg → Option (Int × Sg)}
theorem wX1_atHand_L140 (hd : 2 ≤ d) (hRf : d + 1 ≤ R.frames) (hRl : 40 * (d + 1) ≤ R.locals) (hX1_isAtHand : ∀ (a1 : Int) (u : Sg), Ct l d FC clA yX1_isAtHand cX1_isAtHand 2 (some .boolean) DX1_isAtHand rvI [vR 1, vI a1] u (call 46 [a1] u)) (hX1_typeOf : ∀ (a1 : Int) (u : Sg), Ct l d FC clA yX1_typeOf cX1_typeOf 3 (some .int) DX1_typeOf rvI [vR 1, vI a1] u (call 47 [a1] u)) (hX1_hasType : ∀ (a1 a2 : Int) (u : Sg), Ct l d FC clA yX1_hasType cX1_hasType 6 (some .boolean) DX1_hasType rvI [vR 1, vI a1, vI a2] u (call 48 [a1, a2] u)) (hX1_room_2 : ∀ (a1 : Int) (u : Sg), Ct l d FC clA yX1_room_2 cX1_room_2 3 none DX1_room_2 rvV [vR 1, vI a1] u (call 43 [a1] u)) (hX2_at : ∀ (a1 a2 : Int) (u : Sg), Ct l d FC clA yX2_at cX2_at 3 (some .int) DX2_at rvI [vR 0, vI a1, vI a2] u (call 98 [a1, a2] u)) (hX1_argOf : ∀ (a1 : Int) (u : Sg), Ct l d FC clA yX1_argOf cX1_argOf 2 (some .int) DX1_argOf rvI [vR 1, vI a1] u (call 30 [a1] u)) (hX1_atHand : ∀ (a1 : Int) (u : Sg), Ct l d FC clA yX1_atHand cX1_atHand 3 none DX1_atHand rvV [vR 1, vI a1] u (call 45 [a1] u)) (x172 : Int → Sg → Option (Int × Sg)) (hx172 : ∀ (a1 : Int) (u : Sg), inR a1 → WG p l e R s m args below meth c JX1_atHand DX1_atHand G clA A FC ad0 σ0 rvV (x172 a1 u) u 172 [(0, vR 1), (1, vI a1)] []) : ∀ (n : Nat) (a1 a2 : Int) (u : Sg), inR a1 → inR a2 → WG p l e R s m args below meth c JX1_atHand DX1_atHand G clA A FC ad0 σ0 rvV (bX1_atHand_L140 call n a1 a2 u x172) u 140 [(0, vR 1), (1, vI a1), (2, vI a2)] [] := by
  intro n
  induction n with
  | zero =>
    intro a1 a2 u ra1 ra2
    exact g_none
  | succ n ih =>
    intro a1 a2 u ra1 ra2
    rw [bX1_atHand_L140]
    refine g_iload_n 2 dX1_atHand_140 rfl ?_
    refine g_aload_n 0 dX1_atHand_141 rfl ?_
    refine g_get (v := vR 0) (ci := 1) (b := 30) (N := 57) 0 rfl rfl (by decide) in_X1 rfl rfl q308 dX1_atHand_142 ?_
    refine g_get (v := vR 13) (ci := 0) (b := 0) (N := 21) 3 rfl rfl (by decide) in_X2 rfl rfl q237 dX1_atHand_145 ?_
    refine g_iload_n 1 dX1_atHand_148 rfl ?_
    refine g_iald (id := 3) 3 rfl rfl dX1_atHand_149 (fun v1 rv1 => ?_)
    refine g_icmp_ge 172 dX1_atHand_150 (by decide) (fun _ => ra2) (fun _ => rv1) (fun _ => ?_) (fun _ => ?_)
    · refine g_aload_n 0 dX1_atHand_153 rfl ?_
      refine g_aload_n 0 dX1_atHand_154 rfl ?_
      refine g_get (v := vR 0) (ci := 1) (b := 30) (N := 57) 0 rfl rfl (by decide) in_X1 rfl rfl q308 dX1_atHand_155 ?_
      refine g_iload_n 1 dX1_atHand_158 rfl ?_
      refine g_iload_n 2 dX1_atHand_159 rfl ?_
      refine g_cVI (As := [vI a1, vI a2]) (n := 2) (stk := [vR 1]) (ci := 0) (b := 0) (N := 21) (hX2_at a1 a2 u) (by decide +kernel) rfl rfl (lw_V q571 q572 q573 q164 q574) (by decide +kernel) rfl (by decide) hRf hRl (fun _ => (avc ra1 (avc ra2 avn))) (Nat.le_of_ble_eq_true rfl) rfl rfl dX1_atHand_160 (fun v2 s3 rv2 => ?_)
      refine g_cVV (As := [vI v2]) (n := 1) (stk := []) (ci := 1) (b := 30) (N := 57) (hX1_atHand v2 s3) (by decide +kernel) rfl rfl (lw_V q852 q854 qs27 q163 q855) (by decide +kernel) rfl (by decide) hRf hRl (fun _ => (avc rv2 avn)) (Nat.le_of_ble_eq_true rfl) rfl rfl dX1_atHand_163 (fun v4 s5 => ?_)
      refine g_iinc 2 (loc' := fun v6 => [(2, vI v6), (0, vR 1), (1, vI a1)]) dX1_atHand_166 rfl (by decide) (fun _ => rfl) (fun v6 rv6 => ?_)
      refine g_goto 140 dX1_atHand_169 (by decide) ?_
      exact g_pick [1, 2, 0] rfl (ih a1 v6 s5 ra1 rv6)
    · exact g_pick [0, 1] rfl (hx172 a1 u ra1)
theorem wX1_atHand (hd : 2 ≤ d) (hRf : d + 1 ≤ R.frames) (hRl : 40 * (d + 1) ≤ R.locals) (hX1_isAtHand : ∀ (a1 : Int) (u : Sg), Ct l d FC clA yX1_isAtHand cX1_isAtHand 2 (some .boolean) DX1_isAtHand rvI [vR 1, vI a1] u (call 46 [a1] u)) (hX1_typeOf : ∀ (a1 : Int) (u : Sg), Ct l d FC clA yX1_typeOf cX1_typeOf 3 (some .int) DX1_typeOf rvI [vR 1, vI a1] u (call 47 [a1] u)) (hX1_hasType : ∀ (a1 a2 : Int) (u : Sg), Ct l d FC clA yX1_hasType cX1_hasType 6 (some .boolean) DX1_hasType rvI [vR 1, vI a1, vI a2] u (call 48 [a1, a2] u)) (hX1_room_2 : ∀ (a1 : Int) (u : Sg), Ct l d FC clA yX1_room_2 cX1_room_2 3 none DX1_room_2 rvV [vR 1, vI a1] u (call 43 [a1] u)) (hX2_at : ∀ (a1 a2 : Int) (u : Sg), Ct l d FC clA yX2_at cX2_at 3 (some .int) DX2_at rvI [vR 0, vI a1, vI a2] u (call 98 [a1, a2] u)) (hX1_argOf : ∀ (a1 : Int) (u : Sg), Ct l d FC clA yX1_argOf cX1_argOf 2 (some .int) DX1_argOf rvI [vR 1, vI a1] u (call 30 [a1] u)) (hX1_atHand : ∀ (a1 : Int) (u : Sg), Ct l d FC clA yX1_atHand cX1_atHand 3 none DX1_atHand rvV [vR 1, vI a1] u (call 45 [a1] u)) (a1 : Int) (u : Sg) (ra1 : inR a1) : WG p l e R s m args below meth c JX1_atHand DX1_atHand G clA A FC ad0 σ0 rvV (bX1_atHand call a1 u) u 0 [(0, vR 1), (1, vI a1)] [] := by
  unfold bX1_atHand
  refine g_aload_n 0 dX1_atHand_0 rfl ?_
  refine g_iload_n 1 dX1_atHand_1 rfl ?_
  refine g_cVZ (As := [vI a1]) (n := 1) (stk := []) (ci := 1) (b := 30) (N := 57) (hX1_isAtHand a1 u) (by decide +kernel) rfl rfl (lw_V q856 q858 qs28 q163 q859) (by decide +kernel) rfl (by decide) hRf hRl (fun _ => (avc ra1 avn)) (Nat.le_of_ble_eq_true rfl) rfl rfl dX1_atHand_2 (fun v1 s2 zv1 => ?_)
  refine g_if_ne 15 dX1_atHand_5 (by decide) (fun _ => (inR_z zv1)) (fun _ => ?_) (fun _ => ?_)
  · refine g_aload_n 0 dX1_atHand_8 rfl ?_
    refine g_getZ (ci := 1) (b := 30) (N := 57) 15 rfl rfl rfl (by decide) in_X1 rfl rfl q323 dX1_atHand_9 (fun v3 zv3 => ?_)
    refine g_if_eq 16 dX1_atHand_12 (by decide) (fun _ => (inR_z zv3)) (fun _ => ?_) (fun _ => ?_)
    · refine g_aload_n 0 dX1_atHand_16 rfl ?_
      refine g_getI (ci := 1) (b := 30) (N := 57) 13 rfl rfl rfl (by decide) in_X1 rfl rfl q321 dX1_atHand_17 (fun v4 rv4 => ?_)
      refine g_bipush (by decide +kernel) dX1_atHand_20 ?_
      refine g_icmp_ne 31 dX1_atHand_22 (by decide) (fun _ => rv4) (fun _ => (by decide : inR (100))) (fun _ => ?_) (fun _ => ?_)
      · refine g_aload_n 0 dX1_atHand_25 rfl ?_
        refine g_iconst dX1_atHand_26 ?_
        refine g_sZU (ci := 1) (b := 30) (N := 57) FC_ok 15 rfl rfl rfl (by decide) in_X1 tyX1 tyX1_ok nmX1 rfl rfl rfl rfl (by decide +kernel) (Or.inr rfl) q323 dX1_atHand_27 (fun s5 => ?_)
        exact g_vret rfl rfl dX1_atHand_30
      · refine g_jn (fun j6 => ∀ (a1 : Int) (s7 : Sg), inR a1 → WG p l e R s m args below meth c JX1_atHand DX1_atHand G clA A FC ad0 σ0 rvV (j6 a1 s7) s7 172 [(0, vR 1), (1, vI a1)] []) (fun a1 s7 ra1 => ?_) (fun j6 hj6 => ?_)
        · refine g_aload_n 0 dX1_atHand_172 rfl ?_
          refine g_iload_n 1 dX1_atHand_173 rfl ?_
          refine g_aload_n 0 dX1_atHand_174 rfl ?_
          refine g_iload_n 1 dX1_atHand_175 rfl ?_
          refine g_cVI (As := [vI a1]) (n := 1) (stk := [vI a1, vR 1]) (ci := 1) (b := 30) (N := 57) (hX1_typeOf a1 s7) (by decide +kernel) rfl rfl (lw_V q860 q862 qs29 q163 q863) (by decide +kernel) rfl (by decide) hRf hRl (fun _ => (avc ra1 avn)) (Nat.le_of_ble_eq_true rfl) rfl rfl dX1_atHand_176 (fun v8 s9 rv8 => ?_)
          refine g_cVZ (As := [vI a1, vI v8]) (n := 2) (stk := []) (ci := 1) (b := 30) (N := 57) (hX1_hasType a1 v8 s9) (by decide +kernel) rfl rfl (lw_V q868 q870 qs30 q163 q871) (by decide +kernel) rfl (by decide) hRf hRl (fun _ => (avc ra1 (avc rv8 avn))) (Nat.le_of_ble_eq_true rfl) rfl rfl dX1_atHand_179 (fun v10 s11 zv10 => ?_)
          refine g_pop rfl dX1_atHand_182 ?_
          exact g_vret rfl rfl dX1_atHand_183
        · refine g_aload_n 0 dX1_atHand_31 rfl ?_
          refine g_iload_n 1 dX1_atHand_32 rfl ?_
          refine g_cVV (As := [vI a1]) (n := 1) (stk := []) (ci := 1) (b := 30) (N := 57) (hX1_room_2 a1 s2) (by decide +kernel) rfl rfl (lw_V q844 q846 qs25 q163 q847) (by decide +kernel) rfl (by decide) hRf hRl (fun _ => (avc ra1 avn)) (Nat.le_of_ble_eq_true rfl) rfl rfl dX1_atHand_33 (fun v12 s13 => ?_)
          refine g_aload_n 0 dX1_atHand_36 rfl ?_
          refine g_get (v := vR 52) (ci := 1) (b := 30) (N := 57) 12 rfl rfl (by decide) in_X1 rfl rfl q320 dX1_atHand_37 ?_
          refine g_iload_n 1 dX1_atHand_40 rfl ?_
          refine g_aload_n 0 dX1_atHand_41 rfl ?_
          refine g_getI (ci := 1) (b := 30) (N := 57) 6 rfl rfl rfl (by decide) in_X1 rfl rfl q314 dX1_atHand_42 (fun v14 rv14 => ?_)
          refine g_iastU (id := 42) FC_ok 18 rfl rfl (by decide +kernel) rv14 dX1_atHand_45 (fun s15 => ?_)
          refine g_aload_n 0 dX1_atHand_46 rfl ?_
          refine g_get (v := vR 49) (ci := 1) (b := 30) (N := 57) 9 rfl rfl (by decide) in_X1 rfl rfl q317 dX1_atHand_47 ?_
          refine g_iload_n 1 dX1_atHand_50 rfl ?_
          refine g_aload_n 0 dX1_atHand_51 rfl ?_
          refine g_getI (ci := 1) (b := 30) (N := 57) 13 rfl rfl rfl (by decide) in_X1 rfl rfl q321 dX1_atHand_52 (fun v16 rv16 => ?_)
          refine g_iastU (id := 39) FC_ok 15 rfl rfl (by decide +kernel) rv16 dX1_atHand_55 (fun s17 => ?_)
          refine g_aload_n 0 dX1_atHand_56 rfl ?_
          refine g_get (v := vR 50) (ci := 1) (b := 30) (N := 57) 10 rfl rfl (by decide) in_X1 rfl rfl q318 dX1_atHand_57 ?_
          refine g_aload_n 0 dX1_atHand_60 rfl ?_
          refine g_getI (ci := 1) (b := 30) (N := 57) 13 rfl rfl rfl (by decide) in_X1 rfl rfl q321 dX1_atHand_61 (fun v18 rv18 => ?_)
          refine g_iload_n 1 dX1_atHand_64 rfl ?_
          refine g_iastU (id := 40) FC_ok 16 rfl rfl (by decide +kernel) ra1 dX1_atHand_65 (fun s19 => ?_)
          refine g_aload_n 0 dX1_atHand_66 rfl ?_
          refine g_get (v := vR 51) (ci := 1) (b := 30) (N := 57) 11 rfl rfl (by decide) in_X1 rfl rfl q319 dX1_atHand_67 ?_
          refine g_aload_n 0 dX1_atHand_70 rfl ?_
          refine g_getI (ci := 1) (b := 30) (N := 57) 13 rfl rfl rfl (by decide) in_X1 rfl rfl q321 dX1_atHand_71 (fun v20 rv20 => ?_)
          refine g_aload_n 0 dX1_atHand_74 rfl ?_
          refine g_getI (ci := 1) (b := 30) (N := 57) 13 rfl rfl rfl (by decide) in_X1 rfl rfl q321 dX1_atHand_75 (fun v21 rv21 => ?_)
          refine g_iastU (id := 41) FC_ok 17 rfl rfl (by decide +kernel) rv21 dX1_atHand_78 (fun s22 => ?_)
          refine g_aload_n 0 dX1_atHand_79 rfl ?_
          refine g_dup rfl dX1_atHand_80 ?_
          refine g_getI (ci := 1) (b := 30) (N := 57) 13 rfl rfl rfl (by decide) in_X1 rfl rfl q321 dX1_atHand_81 (fun v23 rv23 => ?_)
          refine g_iconst dX1_atHand_84 ?_
          refine g_iadd dX1_atHand_85 (fun v24 rv24 => ?_)
          refine g_sIU (ci := 1) (b := 30) (N := 57) FC_ok 13 rfl rfl rfl (by decide) in_X1 tyX1 tyX1_ok nmX1 rfl rfl rfl rfl (by decide +kernel) rv24 q321 dX1_atHand_86 (fun s25 => ?_)
          refine g_aload_n 0 dX1_atHand_89 rfl ?_
          refine g_get (v := vR 0) (ci := 1) (b := 30) (N := 57) 0 rfl rfl (by decide) in_X1 rfl rfl q308 dX1_atHand_90 ?_
          refine g_get (v := vR 10) (ci := 0) (b := 0) (N := 21) 0 rfl rfl (by decide) in_X2 rfl rfl q232 dX1_atHand_93 ?_
          refine g_iload_n 1 dX1_atHand_96 rfl ?_
          refine g_iald (id := 0) 0 rfl rfl dX1_atHand_97 (fun v26 rv26 => ?_)
          refine g_iconst dX1_atHand_98 ?_
          refine g_icmp_ne 138 dX1_atHand_99 (by decide) (fun _ => rv26) (fun _ => (by decide : inR (5))) (fun _ => ?_) (fun _ => ?_)
          · refine g_aload_n 0 dX1_atHand_102 rfl ?_
            refine g_aload_n 0 dX1_atHand_103 rfl ?_
            refine g_get (v := vR 0) (ci := 1) (b := 30) (N := 57) 0 rfl rfl (by decide) in_X1 rfl rfl q308 dX1_atHand_104 ?_
            refine g_iload_n 1 dX1_atHand_107 rfl ?_
            refine g_iconst dX1_atHand_108 ?_
            refine g_cVI (As := [vI a1, vI 0]) (n := 2) (stk := [vR 1]) (ci := 0) (b := 0) (N := 21) (hX2_at a1 0 s25) (by decide +kernel) rfl rfl (lw_V q571 q572 q573 q164 q574) (by decide +kernel) rfl (by decide) hRf hRl (fun _ => (avc ra1 (avc (inR_z (Or.inl rfl)) avn))) (Nat.le_of_ble_eq_true rfl) rfl rfl dX1_atHand_109 (fun v27 s28 rv27 => ?_)
            refine g_cVI (As := [vI v27]) (n := 1) (stk := []) (ci := 1) (b := 30) (N := 57) (hX1_argOf v27 s28) (by decide +kernel) rfl rfl (lw_V q773 q775 qs16 q163 q776) (by decide +kernel) rfl (by decide) hRf hRl (fun _ => (avc rv27 avn)) (Nat.le_of_ble_eq_true rfl) rfl rfl dX1_atHand_112 (fun v29 s30 rv29 => ?_)
            refine g_if_eq 172 dX1_atHand_115 (by decide) (fun _ => rv29) (fun _ => ?_) (fun _ => ?_)
            · exact g_pick [0, 1] rfl (hj6 a1 s30 ra1)
            · refine g_aload_n 0 dX1_atHand_118 rfl ?_
              refine g_aload_n 0 dX1_atHand_119 rfl ?_
              refine g_aload_n 0 dX1_atHand_120 rfl ?_
              refine g_get (v := vR 0) (ci := 1) (b := 30) (N := 57) 0 rfl rfl (by decide) in_X1 rfl rfl q308 dX1_atHand_121 ?_
              refine g_iload_n 1 dX1_atHand_124 rfl ?_
              refine g_iconst dX1_atHand_125 ?_
              refine g_cVI (As := [vI a1, vI 0]) (n := 2) (stk := [vR 1, vR 1]) (ci := 0) (b := 0) (N := 21) (hX2_at a1 0 s30) (by decide +kernel) rfl rfl (lw_V q571 q572 q573 q164 q574) (by decide +kernel) rfl (by decide) hRf hRl (fun _ => (avc ra1 (avc (inR_z (Or.inl rfl)) avn))) (Nat.le_of_ble_eq_true rfl) rfl rfl dX1_atHand_126 (fun v31 s32 rv31 => ?_)
              refine g_cVI (As := [vI v31]) (n := 1) (stk := [vR 1]) (ci := 1) (b := 30) (N := 57) (hX1_argOf v31 s32) (by decide +kernel) rfl rfl (lw_V q773 q775 qs16 q163 q776) (by decide +kernel) rfl (by decide) hRf hRl (fun _ => (avc rv31 avn)) (Nat.le_of_ble_eq_true rfl) rfl rfl dX1_atHand_129 (fun v33 s34 rv33 => ?_)
              refine g_cVV (As := [vI v33]) (n := 1) (stk := []) (ci := 1) (b := 30) (N := 57) (hX1_atHand v33 s34) (by decide +kernel) rfl rfl (lw_V q852 q854 qs27 q163 q855) (by decide +kernel) rfl (by decide) hRf hRl (fun _ => (avc rv33 avn)) (Nat.le_of_ble_eq_true rfl) rfl rfl dX1_atHand_132 (fun v35 s36 => ?_)
              refine g_goto 172 dX1_atHand_135 (by decide) ?_
              exact g_pick [0, 1] rfl (hj6 a1 s36 ra1)
          · refine g_iconst dX1_atHand_138 ?_
            refine g_istore_n (loc' := [(2, vI 0), (0, vR 1), (1, vI a1)]) dX1_atHand_139 (by decide) rfl ?_
            refine g_pick [1, 2, 0] rfl (wX1_atHand_L140 hd hRf hRl hX1_isAtHand hX1_typeOf hX1_hasType hX1_room_2 hX2_at hX1_argOf hX1_atHand _ (fun v38 s37 rv38 => ?_) KF a1 0 s25 ra1 (inR_z (Or.inl rfl)))
            · exact g_pick [0, 1] rfl (hj6 v38 s37 rv38)
    · exact g_vret rfl rfl dX1_atHand_15
  · exact g_vret rfl rfl dX1_atHand_15
end
section
variable {l : Launch} {d : Nat} {call : Nat → List Int → Sg → Option (Int × Sg)}
theorem ctX1_atHand (p0 : Program) (e0 : Env) (s0 : State) (m0 : MethodId) (meth0 : Method) (c0 : Code) (G0 : Gm) (hd : 2 ≤ d) (hX1_isAtHand : ∀ (a1 : Int) (u : Sg), Ct l d FC clA yX1_isAtHand cX1_isAtHand 2 (some .boolean) DX1_isAtHand rvI [vR 1, vI a1] u (call 46 [a1] u)) (hX1_typeOf : ∀ (a1 : Int) (u : Sg), Ct l d FC clA yX1_typeOf cX1_typeOf 3 (some .int) DX1_typeOf rvI [vR 1, vI a1] u (call 47 [a1] u)) (hX1_hasType : ∀ (a1 a2 : Int) (u : Sg), Ct l d FC clA yX1_hasType cX1_hasType 6 (some .boolean) DX1_hasType rvI [vR 1, vI a1, vI a2] u (call 48 [a1, a2] u)) (hX1_room_2 : ∀ (a1 : Int) (u : Sg), Ct l d FC clA yX1_room_2 cX1_room_2 3 none DX1_room_2 rvV [vR 1, vI a1] u (call 43 [a1] u)) (hX2_at : ∀ (a1 a2 : Int) (u : Sg), Ct l d FC clA yX2_at cX2_at 3 (some .int) DX2_at rvI [vR 0, vI a1, vI a2] u (call 98 [a1, a2] u)) (hX1_argOf : ∀ (a1 : Int) (u : Sg), Ct l d FC clA yX1_argOf cX1_argOf 2 (some .int) DX1_argOf rvI [vR 1, vI a1] u (call 30 [a1] u)) (hX1_atHand : ∀ (a1 : Int) (u : Sg), Ct l d FC clA yX1_atHand cX1_atHand 3 none DX1_atHand rvV [vR 1, vI a1] u (call 45 [a1] u)) (a1 : Int) (u : Sg) : Ct l (d + 1) FC clA yX1_atHand cX1_atHand 3 none DX1_atHand rvV [vR 1, vI a1] u (bX1_atHand call a1 u) :=
  Ct_of (by decide) (Nat.le_of_ble_eq_true rfl) (fun p e R s1 m args below meth c G A ad hA hRf hRl => wX1_atHand hd hRf hRl hX1_isAtHand hX1_typeOf hX1_hasType hX1_room_2 hX2_at hX1_argOf hX1_atHand a1 u (hA _ (List.mem_cons_of_mem _ List.mem_cons_self))) p0 e0 s0 m0 meth0 c0 G0
end
/-! RoundCheck.isAtHand(I)Z -/
abbrev JX1_isAtHand : Jm := (cX1_isAtHand, RX1, 2, (some .boolean))
def bX1_isAtHand (call : Nat → List Int → Sg → Option (Int × Sg)) (a1 : Int) (u : Sg) : Option (Int × Sg) := jn (fun (s2 : Sg) => some (0, s2)) fun j1 => un (gL u 42 : Int) fun v3 => if a1 < v3 then (ld u 42 a1 fun v4 => un (gI u 36) fun v5 => if v4 = v5 then (some (1, u)) else (j1 u)) else (j1 u)
section
variable {p : Program} {l : Launch} {e : Env} {R : Room} {s : State} {m : MethodId} {args : Array Value} {below : List Frame} {meth : Method} {c : Code} {G : Gm} {A : Nat → Prop} {ad0 : Nat → Nat} {σ0 : Sg} {d : Nat} {call : Nat → List Int → Sg → Option (Int × Sg)}
theorem wX1_isAtHand (hd : 2 ≤ d) (hRf : d + 1 ≤ R.frames) (hRl : 40 * (d + 1) ≤ R.locals) (a1 : Int) (u : Sg) (ra1 : inR a1) : WG p l e R s m args below meth c JX1_isAtHand DX1_isAtHand G clA A FC ad0 σ0 rvI (bX1_isAtHand call a1 u) u 0 [(0, vR 1), (1, vI a1)] [] := by
  unfold bX1_isAtHand
  refine g_jn (fun j1 => ∀ (s2 : Sg), WG p l e R s m args below meth c JX1_isAtHand DX1_isAtHand G clA A FC ad0 σ0 rvI (j1 s2) s2 26 [] []) (fun s2 => ?_) (fun j1 hj1 => ?_)
  · refine g_iconst dX1_isAtHand_26 ?_
    exact g_zret rfl rfl (fun _ => (Or.inl rfl)) dX1_isAtHand_27
  · refine g_iload_n 1 dX1_isAtHand_0 rfl ?_
    refine g_aload_n 0 dX1_isAtHand_1 rfl ?_
    refine g_get (v := vR 52) (ci := 1) (b := 30) (N := 57) 12 rfl rfl (by decide) in_X1 rfl rfl q320 dX1_isAtHand_2 ?_
    refine g_alenU (id := 42) 18 rfl (Or.inl rfl) dX1_isAtHand_5 (fun v3 rv3 => ?_)
    refine g_icmp_ge 26 dX1_isAtHand_6 (by decide) (fun _ => ra1) (fun _ => rv3) (fun _ => ?_) (fun _ => ?_)
    · refine g_aload_n 0 dX1_isAtHand_9 rfl ?_
      refine g_get (v := vR 52) (ci := 1) (b := 30) (N := 57) 12 rfl rfl (by decide) in_X1 rfl rfl q320 dX1_isAtHand_10 ?_
      refine g_iload_n 1 dX1_isAtHand_13 rfl ?_
      refine g_iald (id := 42) 18 rfl rfl dX1_isAtHand_14 (fun v4 rv4 => ?_)
      refine g_aload_n 0 dX1_isAtHand_15 rfl ?_
      refine g_getI (ci := 1) (b := 30) (N := 57) 6 rfl rfl rfl (by decide) in_X1 rfl rfl q314 dX1_isAtHand_16 (fun v5 rv5 => ?_)
      refine g_icmp_ne 26 dX1_isAtHand_19 (by decide) (fun _ => rv4) (fun _ => rv5) (fun _ => ?_) (fun _ => ?_)
      · refine g_iconst dX1_isAtHand_22 ?_
        refine g_goto 27 dX1_isAtHand_23 (by decide) ?_
        exact g_zret rfl rfl (fun _ => (Or.inr rfl)) dX1_isAtHand_27
      · exact g_pick [] rfl (hj1 u)
    · exact g_pick [] rfl (hj1 u)
end
section
variable {l : Launch} {d : Nat} {call : Nat → List Int → Sg → Option (Int × Sg)}
theorem ctX1_isAtHand (p0 : Program) (e0 : Env) (s0 : State) (m0 : MethodId) (meth0 : Method) (c0 : Code) (G0 : Gm) (hd : 2 ≤ d) (a1 : Int) (u : Sg) : Ct l (d + 1) FC clA yX1_isAtHand cX1_isAtHand 2 (some .boolean) DX1_isAtHand rvI [vR 1, vI a1] u (bX1_isAtHand call a1 u) :=
  Ct_of (by decide) (Nat.le_of_ble_eq_true rfl) (fun p e R s1 m args below meth c G A ad hA hRf hRl => wX1_isAtHand hd hRf hRl a1 u (hA _ (List.mem_cons_of_mem _ List.mem_cons_self))) p0 e0 s0 m0 meth0 c0 G0
end
/-! RoundCheck.typeOf(I)I -/
abbrev JX1_typeOf : Jm := (cX1_typeOf, RX1, 3, (some .int))
def bX1_typeOf (call : Nat → List Int → Sg → Option (Int × Sg)) (a1 : Int) (u : Sg) : Option (Int × Sg) := ld u 0 a1 fun v1 => if v1 = 1 then (ld u 1 a1 fun v2 => ld u 85 v2 fun v3 => some (v3, u)) else (if v1 = 4 then (jn (fun (a1 a2 t1 t2 : Int) (s5 : Sg) => jn (fun (t1 t2 t3 : Int) (s7 : Sg) => cl (call 111 [t1, t2, t3, 0] s7) fun v8 s9 => some (v8, s9)) fun j6 => if a2 ≤ 1 then (j6 t1 t2 0 s5) else (cl (call 98 [a1, 1] s5) fun v10 s11 => j6 t1 t2 v10 s11)) fun j4 => ld u 3 a1 fun v12 => ld u 1 a1 fun v13 => ld u 72 v13 fun v14 => if v12 ≤ 0 then (j4 a1 v12 v14 0 u) else (cl (call 98 [a1, 0] u) fun v15 s16 => j4 a1 v12 v14 v15 s16)) else (cl (call 98 [a1, 0] u) fun v17 s18 => some (v17, s18)))
section
variable {p : Program} {l : Launch} {e : Env} {R : Room} {s : State} {m : MethodId} {args : Array Value} {below : List Frame} {meth : Method} {c : Code} {G : Gm} {A : Nat → Prop} {ad0 : Nat → Nat} {σ0 : Sg} {d : Nat} {call : Nat → List Int → Sg → Option (Int × Sg)}
theorem wX1_typeOf (hd : 2 ≤ d) (hRf : d + 1 ≤ R.frames) (hRl : 40 * (d + 1) ≤ R.locals) (hX2_loci : ∀ (a1 a2 a3 a4 : Int) (u : Sg), Ct l d FC clA yX2_loci cX2_loci 5 (some .int) DX2_loci rvI [vR 0, vI a1, vI a2, vI a3, vI a4] u (call 111 [a1, a2, a3, a4] u)) (hX2_at : ∀ (a1 a2 : Int) (u : Sg), Ct l d FC clA yX2_at cX2_at 3 (some .int) DX2_at rvI [vR 0, vI a1, vI a2] u (call 98 [a1, a2] u)) (a1 : Int) (u : Sg) (ra1 : inR a1) : WG p l e R s m args below meth c JX1_typeOf DX1_typeOf G clA A FC ad0 σ0 rvI (bX1_typeOf call a1 u) u 0 [(0, vR 1), (1, vI a1)] [] := by
  unfold bX1_typeOf
  refine g_aload_n 0 dX1_typeOf_0 rfl ?_
  refine g_get (v := vR 0) (ci := 1) (b := 30) (N := 57) 0 rfl rfl (by decide) in_X1 rfl rfl q308 dX1_typeOf_1 ?_
  refine g_get (v := vR 10) (ci := 0) (b := 0) (N := 21) 0 rfl rfl (by decide) in_X2 rfl rfl q232 dX1_typeOf_4 ?_
  refine g_iload_n 1 dX1_typeOf_7 rfl ?_
  refine g_iald (id := 0) 0 rfl rfl dX1_typeOf_8 (fun v1 rv1 => ?_)
  refine WG.byc (fun e0 => ?_) (fun n0 => ?_)
  · refine g_lsw 36 dX1_typeOf_9 (by decide) (fun _ => rv1) (by rw [e0] <;> rfl) (by decide) ?_
    refine g_aload_n 0 dX1_typeOf_36 rfl ?_
    refine g_get (v := vR 95) (ci := 1) (b := 30) (N := 57) 55 rfl rfl (by decide) in_X1 rfl rfl q363 dX1_typeOf_37 ?_
    refine g_aload_n 0 dX1_typeOf_40 rfl ?_
    refine g_get (v := vR 0) (ci := 1) (b := 30) (N := 57) 0 rfl rfl (by decide) in_X1 rfl rfl q308 dX1_typeOf_41 ?_
    refine g_get (v := vR 11) (ci := 0) (b := 0) (N := 21) 1 rfl rfl (by decide) in_X2 rfl rfl q234 dX1_typeOf_44 ?_
    refine g_iload_n 1 dX1_typeOf_47 rfl ?_
    refine g_iald (id := 1) 1 rfl rfl dX1_typeOf_48 (fun v2 rv2 => ?_)
    refine g_iald (id := 85) 41 rfl rfl dX1_typeOf_49 (fun v3 rv3 => ?_)
    exact g_iret rfl rfl (fun _ => rv3) dX1_typeOf_50
  · skip
    refine WG.byc (fun e1 => ?_) (fun n1 => ?_)
    · refine g_lsw 51 dX1_typeOf_9 (by decide) (fun _ => rv1) (by rw [e1] <;> rfl) (by decide) ?_
      refine g_jn (fun j4 => ∀ (a1 a2 t1 t2 : Int) (s5 : Sg), inR a1 → inR a2 → inR t1 → inR t2 → WG p l e R s m args below meth c JX1_typeOf DX1_typeOf G clA A FC ad0 σ0 rvI (j4 a1 a2 t1 t2 s5) s5 96 [(0, vR 1), (1, vI a1), (2, vI a2)] [vI t2, vI t1, vR 0]) (fun a1 a2 t1 t2 s5 ra1 ra2 rt1 rt2 => ?_) (fun j4 hj4 => ?_)
      · refine g_jn (fun j6 => ∀ (t1 t2 t3 : Int) (s7 : Sg), inR t1 → inR t2 → inR t3 → WG p l e R s m args below meth c JX1_typeOf DX1_typeOf G clA A FC ad0 σ0 rvI (j6 t1 t2 t3 s7) s7 114 [] [vI t3, vI t2, vI t1, vR 0]) (fun t1 t2 t3 s7 rt1 rt2 rt3 => ?_) (fun j6 hj6 => ?_)
        · refine g_iconst dX1_typeOf_114 ?_
          refine g_cVI (As := [vI t1, vI t2, vI t3, vI 0]) (n := 4) (stk := []) (ci := 0) (b := 0) (N := 21) (hX2_loci t1 t2 t3 0 s7) (by decide +kernel) rfl rfl (lw_V q864 q865 q866 q164 q867) (by decide +kernel) rfl (by decide) hRf hRl (fun _ => (avc rt1 (avc rt2 (avc rt3 (avc (inR_z (Or.inl rfl)) avn))))) (Nat.le_of_ble_eq_true rfl) rfl rfl dX1_typeOf_115 (fun v8 s9 rv8 => ?_)
          exact g_iret rfl rfl (fun _ => rv8) dX1_typeOf_118
        · refine g_iload_n 2 dX1_typeOf_96 rfl ?_
          refine g_iconst dX1_typeOf_97 ?_
          refine g_icmp_le 113 dX1_typeOf_98 (by decide) (fun _ => ra2) (fun _ => (inR_z (Or.inr rfl))) (fun _ => ?_) (fun _ => ?_)
          · refine g_iconst dX1_typeOf_113 ?_
            exact g_pick [] rfl (hj6 t1 t2 0 s5 rt1 rt2 (inR_z (Or.inl rfl)))
          · refine g_aload_n 0 dX1_typeOf_101 rfl ?_
            refine g_get (v := vR 0) (ci := 1) (b := 30) (N := 57) 0 rfl rfl (by decide) in_X1 rfl rfl q308 dX1_typeOf_102 ?_
            refine g_iload_n 1 dX1_typeOf_105 rfl ?_
            refine g_iconst dX1_typeOf_106 ?_
            refine g_cVI (As := [vI a1, vI 1]) (n := 2) (stk := [vI t2, vI t1, vR 0]) (ci := 0) (b := 0) (N := 21) (hX2_at a1 1 s5) (by decide +kernel) rfl rfl (lw_V q571 q572 q573 q164 q574) (by decide +kernel) rfl (by decide) hRf hRl (fun _ => (avc ra1 (avc (inR_z (Or.inr rfl)) avn))) (Nat.le_of_ble_eq_true rfl) rfl rfl dX1_typeOf_107 (fun v10 s11 rv10 => ?_)
            refine g_goto 114 dX1_typeOf_110 (by decide) ?_
            exact g_pick [] rfl (hj6 t1 t2 v10 s11 rt1 rt2 rv10)
      · refine g_aload_n 0 dX1_typeOf_51 rfl ?_
        refine g_get (v := vR 0) (ci := 1) (b := 30) (N := 57) 0 rfl rfl (by decide) in_X1 rfl rfl q308 dX1_typeOf_52 ?_
        refine g_get (v := vR 13) (ci := 0) (b := 0) (N := 21) 3 rfl rfl (by decide) in_X2 rfl rfl q237 dX1_typeOf_55 ?_
        refine g_iload_n 1 dX1_typeOf_58 rfl ?_
        refine g_iald (id := 3) 3 rfl rfl dX1_typeOf_59 (fun v12 rv12 => ?_)
        refine g_istore_n (loc' := [(2, vI v12), (0, vR 1), (1, vI a1)]) dX1_typeOf_60 (by decide) rfl ?_
        refine g_aload_n 1 dX1_typeOf_61 rfl ?_
        refine g_get (v := vR 0) (ci := 1) (b := 30) (N := 57) 0 rfl rfl (by decide) in_X1 rfl rfl q308 dX1_typeOf_62 ?_
        refine g_aload_n 1 dX1_typeOf_65 rfl ?_
        refine g_get (v := vR 82) (ci := 1) (b := 30) (N := 57) 42 rfl rfl (by decide) in_X1 rfl rfl q350 dX1_typeOf_66 ?_
        refine g_aload_n 1 dX1_typeOf_69 rfl ?_
        refine g_get (v := vR 0) (ci := 1) (b := 30) (N := 57) 0 rfl rfl (by decide) in_X1 rfl rfl q308 dX1_typeOf_70 ?_
        refine g_get (v := vR 11) (ci := 0) (b := 0) (N := 21) 1 rfl rfl (by decide) in_X2 rfl rfl q234 dX1_typeOf_73 ?_
        refine g_iload_n 2 dX1_typeOf_76 rfl ?_
        refine g_iald (id := 1) 1 rfl rfl dX1_typeOf_77 (fun v13 rv13 => ?_)
        refine g_iald (id := 72) 33 rfl rfl dX1_typeOf_78 (fun v14 rv14 => ?_)
        refine g_iload_n 0 dX1_typeOf_79 rfl ?_
        refine g_if_le 95 dX1_typeOf_80 (by decide) (fun _ => rv12) (fun _ => ?_) (fun _ => ?_)
        · refine g_iconst dX1_typeOf_95 ?_
          exact g_pick [1, 2, 0] rfl (hj4 a1 v12 v14 0 u ra1 rv12 rv14 (inR_z (Or.inl rfl)))
        · refine g_aload_n 1 dX1_typeOf_83 rfl ?_
          refine g_get (v := vR 0) (ci := 1) (b := 30) (N := 57) 0 rfl rfl (by decide) in_X1 rfl rfl q308 dX1_typeOf_84 ?_
          refine g_iload_n 2 dX1_typeOf_87 rfl ?_
          refine g_iconst dX1_typeOf_88 ?_
          refine g_cVI (As := [vI a1, vI 0]) (n := 2) (stk := [vI v14, vR 0]) (ci := 0) (b := 0) (N := 21) (hX2_at a1 0 u) (by decide +kernel) rfl rfl (lw_V q571 q572 q573 q164 q574) (by decide +kernel) rfl (by decide) hRf hRl (fun _ => (avc ra1 (avc (inR_z (Or.inl rfl)) avn))) (Nat.le_of_ble_eq_true rfl) rfl rfl dX1_typeOf_89 (fun v15 s16 rv15 => ?_)
          refine g_goto 96 dX1_typeOf_92 (by decide) ?_
          exact g_pick [1, 2, 0] rfl (hj4 a1 v12 v14 v15 s16 ra1 rv12 rv14 rv15)
    · skip
      refine g_lsw (off := 110) 119 dX1_typeOf_9 (by decide) (fun _ => rv1) (by simp [Op.lookupswitch.offset, Ne.symm n0, Ne.symm n1]) (by decide) ?_
      refine g_aload_n 0 dX1_typeOf_119 rfl ?_
      refine g_get (v := vR 0) (ci := 1) (b := 30) (N := 57) 0 rfl rfl (by decide) in_X1 rfl rfl q308 dX1_typeOf_120 ?_
      refine g_iload_n 1 dX1_typeOf_123 rfl ?_
      refine g_iconst dX1_typeOf_124 ?_
      refine g_cVI (As := [vI a1, vI 0]) (n := 2) (stk := []) (ci := 0) (b := 0) (N := 21) (hX2_at a1 0 u) (by decide +kernel) rfl rfl (lw_V q571 q572 q573 q164 q574) (by decide +kernel) rfl (by decide) hRf hRl (fun _ => (avc ra1 (avc (inR_z (Or.inl rfl)) avn))) (Nat.le_of_ble_eq_true rfl) rfl rfl dX1_typeOf_125 (fun v17 s18 rv17 => ?_)
      exact g_iret rfl rfl (fun _ => rv17) dX1_typeOf_128
end
section
variable {l : Launch} {d : Nat} {call : Nat → List Int → Sg → Option (Int × Sg)}
theorem ctX1_typeOf (p0 : Program) (e0 : Env) (s0 : State) (m0 : MethodId) (meth0 : Method) (c0 : Code) (G0 : Gm) (hd : 2 ≤ d) (hX2_loci : ∀ (a1 a2 a3 a4 : Int) (u : Sg), Ct l d FC clA yX2_loci cX2_loci 5 (some .int) DX2_loci rvI [vR 0, vI a1, vI a2, vI a3, vI a4] u (call 111 [a1, a2, a3, a4] u)) (hX2_at : ∀ (a1 a2 : Int) (u : Sg), Ct l d FC clA yX2_at cX2_at 3 (some .int) DX2_at rvI [vR 0, vI a1, vI a2] u (call 98 [a1, a2] u)) (a1 : Int) (u : Sg) : Ct l (d + 1) FC clA yX1_typeOf cX1_typeOf 3 (some .int) DX1_typeOf rvI [vR 1, vI a1] u (bX1_typeOf call a1 u) :=
  Ct_of (by decide) (Nat.le_of_ble_eq_true rfl) (fun p e R s1 m args below meth c G A ad hA hRf hRl => wX1_typeOf hd hRf hRl hX2_loci hX2_at a1 u (hA _ (List.mem_cons_of_mem _ List.mem_cons_self))) p0 e0 s0 m0 meth0 c0 G0
end
/-! RoundCheck.hasType(II)Z -/
abbrev JX1_hasType : Jm := (cX1_hasType, RX1, 6, (some .boolean))
def bX1_hasType_L46 (call : Nat → List Int → Sg → Option (Int × Sg)) : Nat → Int → Int → Int → Int → Sg → (Int → Int → Int → Sg → Option (Int × Sg)) → Option (Int × Sg)
  | 0, _, _, _, _, _, _ => none
  | n + 1, a1, a3, a4, a5, u, x88 => ld u 3 a4 fun v1 => if a5 < v1 then (cl (call 98 [a4, a5] u) fun v2 s3 => cl (call 50 [a1, v2] s3) fun v4 s5 => if v4 = 0 then (ar (a5 + 1) fun v6 => bX1_hasType_L46 call n a1 a3 a4 v6 s5 x88) else (ar (a5 + 1) fun v7 => bX1_hasType_L46 call n a1 1 a4 v7 s5 x88)) else (x88 a1 a3 a4 u)
def bX1_hasType_L5 (call : Nat → List Int → Sg → Option (Int × Sg)) : Nat → Int → Int → Int → Sg → (Int → Sg → Option (Int × Sg)) → Option (Int × Sg)
  | 0, _, _, _, _, _ => none
  | n + 1, a1, a3, a4, u, x99 => if a4 = 0 then (x99 a3 u) else (un (gI u 45) fun v1 => if v1 = 0 then (jn (fun (a1 a3 a4 : Int) (s3 : Sg) => bX1_hasType_L46 call KF a1 a3 a4 1 s3 (fun v5 v6 v7 s4 => cl (call 51 [v7] s4) fun v8 s9 => bX1_hasType_L5 call n v5 v6 v8 s9 x99)) fun j2 => ld u 1 a4 fun v10 => cl (call 30 [a4] u) fun v11 s12 => cl (call 49 [a1, v10, v11] s12) fun v13 s14 => if v13 = 0 then (j2 a1 a3 a4 s14) else (j2 a1 1 a4 s14)) else (x99 a3 u))
def bX1_hasType (call : Nat → List Int → Sg → Option (Int × Sg)) (a1 a2 : Int) (u : Sg) : Option (Int × Sg) := bX1_hasType_L5 call KF a1 0 a2 u (fun v2 s1 => some (v2, s1))
section
variable {p : Program} {l : Launch} {e : Env} {R : Room} {s : State} {m : MethodId} {args : Array Value} {below : List Frame} {meth : Method} {c : Code} {G : Gm} {A : Nat → Prop} {ad0 : Nat → Nat} {σ0 : Sg} {d : Nat} {call : Nat → List Int → Sg → Option (Int × Sg)}
theorem wX1_hasType_L46 (hd : 2 ≤ d) (hRf : d + 1 ≤ R.frames) (hRl : 40 * (d + 1) ≤ R.locals) (hX2_at : ∀ (a1 a2 : Int) (u : Sg), Ct l d FC clA yX2_at cX2_at 3 (some .int) DX2_at rvI [vR 0, vI a1, vI a2] u (call 98 [a1, a2] u)) (hX1_adjectiveFact : ∀ (a1 a2 : Int) (u : Sg), Ct l d FC clA yX1_adjectiveFact cX1_adjectiveFact 4 (some .boolean) DX1_adjectiveFact rvI [vR 1, vI a1, vI a2] u (call 50 [a1, a2] u)) (hX1_parent : ∀ (a1 : Int) (u : Sg), Ct l d FC clA yX1_parent cX1_parent 2 (some .int) DX1_parent rvI [vR 1, vI a1] u (call 51 [a1] u)) (hX1_argOf : ∀ (a1 : Int) (u : Sg), Ct l d FC clA yX1_argOf cX1_argOf 2 (some .int) DX1_argOf rvI [vR 1, vI a1] u (call 30 [a1] u)) (hX1_hasModeFact : ∀ (a1 a2 a3 : Int) (u : Sg), Ct l d FC clA yX1_hasModeFact cX1_hasModeFact 5 (some .boolean) DX1_hasModeFact rvI [vR 1, vI a1, vI a2, vI a3] u (call 49 [a1, a2, a3] u)) (x88 : Int → Int → Int → Sg → Option (Int × Sg)) (hx88 : ∀ (a1 a3 a4 : Int) (u : Sg), inR a1 → (a3 = 0 ∨ a3 = 1) → inR a4 → WG p l e R s m args below meth c JX1_hasType DX1_hasType G clA A FC ad0 σ0 rvI (x88 a1 a3 a4 u) u 88 [(0, vR 1), (1, vI a1), (3, vI a3), (4, vI a4)] []) : ∀ (n : Nat) (a1 a3 a4 a5 : Int) (u : Sg), inR a1 → (a3 = 0 ∨ a3 = 1) → inR a4 → inR a5 → WG p l e R s m args below meth c JX1_hasType DX1_hasType G clA A FC ad0 σ0 rvI (bX1_hasType_L46 call n a1 a3 a4 a5 u x88) u 46 [(0, vR 1), (1, vI a1), (3, vI a3), (4, vI a4), (5, vI a5)] [] := by
  intro n
  induction n with
  | zero =>
    intro a1 a3 a4 a5 u ra1 za3 ra4 ra5
    exact g_none
  | succ n ih =>
    intro a1 a3 a4 a5 u ra1 za3 ra4 ra5
    rw [bX1_hasType_L46]
    refine g_iload 4 dX1_hasType_46 rfl ?_
    refine g_aload_n 0 dX1_hasType_48 rfl ?_
    refine g_get (v := vR 0) (ci := 1) (b := 30) (N := 57) 0 rfl rfl (by decide) in_X1 rfl rfl q308 dX1_hasType_49 ?_
    refine g_get (v := vR 13) (ci := 0) (b := 0) (N := 21) 3 rfl rfl (by decide) in_X2 rfl rfl q237 dX1_hasType_52 ?_
    refine g_iload 3 dX1_hasType_55 rfl ?_
    refine g_iald (id := 3) 3 rfl rfl dX1_hasType_57 (fun v1 rv1 => ?_)
    refine g_icmp_ge 88 dX1_hasType_58 (by decide) (fun _ => ra5) (fun _ => rv1) (fun _ => ?_) (fun _ => ?_)
    · refine g_aload_n 0 dX1_hasType_61 rfl ?_
      refine g_iload_n 1 dX1_hasType_62 rfl ?_
      refine g_aload_n 0 dX1_hasType_63 rfl ?_
      refine g_get (v := vR 0) (ci := 1) (b := 30) (N := 57) 0 rfl rfl (by decide) in_X1 rfl rfl q308 dX1_hasType_64 ?_
      refine g_iload 3 dX1_hasType_67 rfl ?_
      refine g_iload 4 dX1_hasType_69 rfl ?_
      refine g_cVI (As := [vI a4, vI a5]) (n := 2) (stk := [vI a1, vR 1]) (ci := 0) (b := 0) (N := 21) (hX2_at a4 a5 u) (by decide +kernel) rfl rfl (lw_V q571 q572 q573 q164 q574) (by decide +kernel) rfl (by decide) hRf hRl (fun _ => (avc ra4 (avc ra5 avn))) (Nat.le_of_ble_eq_true rfl) rfl rfl dX1_hasType_71 (fun v2 s3 rv2 => ?_)
      refine g_cVZ (As := [vI a1, vI v2]) (n := 2) (stk := []) (ci := 1) (b := 30) (N := 57) (hX1_adjectiveFact a1 v2 s3) (by decide +kernel) rfl rfl (lw_V q876 q878 qs32 q163 q879) (by decide +kernel) rfl (by decide) hRf hRl (fun _ => (avc ra1 (avc rv2 avn))) (Nat.le_of_ble_eq_true rfl) rfl rfl dX1_hasType_74 (fun v4 s5 zv4 => ?_)
      refine g_if_eq 82 dX1_hasType_77 (by decide) (fun _ => (inR_z zv4)) (fun _ => ?_) (fun _ => ?_)
      · refine g_iinc 4 (loc' := fun v6 => [(5, vI v6), (0, vR 1), (1, vI a1), (3, vI a3), (4, vI a4)]) dX1_hasType_82 rfl (by decide) (fun _ => rfl) (fun v6 rv6 => ?_)
        refine g_goto 46 dX1_hasType_85 (by decide) ?_
        exact g_pick [1, 2, 3, 4, 0] rfl (ih a1 a3 a4 v6 s5 ra1 za3 ra4 rv6)
      · refine g_iconst dX1_hasType_80 ?_
        refine g_istore_n (loc' := [(3, vI 1), (0, vR 1), (1, vI a1), (4, vI a4), (5, vI a5)]) dX1_hasType_81 (by decide) rfl ?_
        refine g_iinc 4 (loc' := fun v7 => [(5, vI v7), (3, vI 1), (0, vR 1), (1, vI a1), (4, vI a4)]) dX1_hasType_82 rfl (by decide) (fun _ => rfl) (fun v7 rv7 => ?_)
        refine g_goto 46 dX1_hasType_85 (by decide) ?_
        exact g_pick [2, 3, 1, 4, 0] rfl (ih a1 1 a4 v7 s5 ra1 (Or.inr rfl) ra4 rv7)
    · exact g_pick [0, 1, 2, 3] rfl (hx88 a1 a3 a4 u ra1 za3 ra4)
theorem wX1_hasType_L5 (hd : 2 ≤ d) (hRf : d + 1 ≤ R.frames) (hRl : 40 * (d + 1) ≤ R.locals) (hX2_at : ∀ (a1 a2 : Int) (u : Sg), Ct l d FC clA yX2_at cX2_at 3 (some .int) DX2_at rvI [vR 0, vI a1, vI a2] u (call 98 [a1, a2] u)) (hX1_adjectiveFact : ∀ (a1 a2 : Int) (u : Sg), Ct l d FC clA yX1_adjectiveFact cX1_adjectiveFact 4 (some .boolean) DX1_adjectiveFact rvI [vR 1, vI a1, vI a2] u (call 50 [a1, a2] u)) (hX1_parent : ∀ (a1 : Int) (u : Sg), Ct l d FC clA yX1_parent cX1_parent 2 (some .int) DX1_parent rvI [vR 1, vI a1] u (call 51 [a1] u)) (hX1_argOf : ∀ (a1 : Int) (u : Sg), Ct l d FC clA yX1_argOf cX1_argOf 2 (some .int) DX1_argOf rvI [vR 1, vI a1] u (call 30 [a1] u)) (hX1_hasModeFact : ∀ (a1 a2 a3 : Int) (u : Sg), Ct l d FC clA yX1_hasModeFact cX1_hasModeFact 5 (some .boolean) DX1_hasModeFact rvI [vR 1, vI a1, vI a2, vI a3] u (call 49 [a1, a2, a3] u)) (x99 : Int → Sg → Option (Int × Sg)) (hx99 : ∀ (a3 : Int) (u : Sg), (a3 = 0 ∨ a3 = 1) → WG p l e R s m args below meth c JX1_hasType DX1_hasType G clA A FC ad0 σ0 rvI (x99 a3 u) u 99 [(3, vI a3)] []) : ∀ (n : Nat) (a1 a3 a4 : Int) (u : Sg), inR a1 → (a3 = 0 ∨ a3 = 1) → inR a4 → WG p l e R s m args below meth c JX1_hasType DX1_hasType G clA A FC ad0 σ0 rvI (bX1_hasType_L5 call n a1 a3 a4 u x99) u 5 [(0, vR 1), (1, vI a1), (3, vI a3), (4, vI a4)] [] := by
  intro n
  induction n with
  | zero =>
    intro a1 a3 a4 u ra1 za3 ra4
    exact g_none
  | succ n ih =>
    intro a1 a3 a4 u ra1 za3 ra4
    rw [bX1_hasType_L5]
    refine g_iload 3 dX1_hasType_5 rfl ?_
    refine g_if_eq 99 dX1_hasType_7 (by decide) (fun _ => ra4) (fun _ => ?_) (fun _ => ?_)
    · exact g_pick [2] rfl (hx99 a3 u za3)
    · refine g_aload_n 0 dX1_hasType_10 rfl ?_
      refine g_getZ (ci := 1) (b := 30) (N := 57) 15 rfl rfl rfl (by decide) in_X1 rfl rfl q323 dX1_hasType_11 (fun v1 zv1 => ?_)
      refine g_if_ne 99 dX1_hasType_14 (by decide) (fun _ => (inR_z zv1)) (fun _ => ?_) (fun _ => ?_)
      · refine g_jn (fun j2 => ∀ (a1 a3 a4 : Int) (s3 : Sg), inR a1 → (a3 = 0 ∨ a3 = 1) → inR a4 → WG p l e R s m args below meth c JX1_hasType DX1_hasType G clA A FC ad0 σ0 rvI (j2 a1 a3 a4 s3) s3 43 [(0, vR 1), (1, vI a1), (3, vI a3), (4, vI a4)] []) (fun a1 a3 a4 s3 ra1 za3 ra4 => ?_) (fun j2 hj2 => ?_)
        · refine g_iconst dX1_hasType_43 ?_
          refine g_istore (loc' := [(5, vI 1), (0, vR 1), (1, vI a1), (3, vI a3), (4, vI a4)]) dX1_hasType_44 (by decide) rfl ?_
          refine g_pick [1, 2, 3, 4, 0] rfl (wX1_hasType_L46 hd hRf hRl hX2_at hX1_adjectiveFact hX1_parent hX1_argOf hX1_hasModeFact _ (fun v5 v6 v7 s4 rv5 zv6 rv7 => ?_) KF a1 a3 a4 1 s3 ra1 za3 ra4 (inR_z (Or.inr rfl)))
          · refine g_aload_n 0 dX1_hasType_88 rfl ?_
            refine g_iload 3 dX1_hasType_89 rfl ?_
            refine g_cVI (As := [vI v7]) (n := 1) (stk := []) (ci := 1) (b := 30) (N := 57) (hX1_parent v7 s4) (by decide +kernel) rfl rfl (lw_V q880 q882 qs33 q163 q883) (by decide +kernel) rfl (by decide) hRf hRl (fun _ => (avc rv7 avn)) (Nat.le_of_ble_eq_true rfl) rfl rfl dX1_hasType_91 (fun v8 s9 rv8 => ?_)
            refine g_istore (loc' := [(4, vI v8), (0, vR 1), (1, vI v5), (3, vI v6)]) dX1_hasType_94 (by decide) rfl ?_
            refine g_goto 5 dX1_hasType_96 (by decide) ?_
            exact g_pick [1, 2, 3, 0] rfl (ih v5 v6 v8 s9 rv5 zv6 rv8)
        · refine g_aload_n 0 dX1_hasType_17 rfl ?_
          refine g_iload_n 1 dX1_hasType_18 rfl ?_
          refine g_aload_n 0 dX1_hasType_19 rfl ?_
          refine g_get (v := vR 0) (ci := 1) (b := 30) (N := 57) 0 rfl rfl (by decide) in_X1 rfl rfl q308 dX1_hasType_20 ?_
          refine g_get (v := vR 11) (ci := 0) (b := 0) (N := 21) 1 rfl rfl (by decide) in_X2 rfl rfl q234 dX1_hasType_23 ?_
          refine g_iload 3 dX1_hasType_26 rfl ?_
          refine g_iald (id := 1) 1 rfl rfl dX1_hasType_28 (fun v10 rv10 => ?_)
          refine g_aload_n 0 dX1_hasType_29 rfl ?_
          refine g_iload 3 dX1_hasType_30 rfl ?_
          refine g_cVI (As := [vI a4]) (n := 1) (stk := [vI v10, vI a1, vR 1]) (ci := 1) (b := 30) (N := 57) (hX1_argOf a4 u) (by decide +kernel) rfl rfl (lw_V q773 q775 qs16 q163 q776) (by decide +kernel) rfl (by decide) hRf hRl (fun _ => (avc ra4 avn)) (Nat.le_of_ble_eq_true rfl) rfl rfl dX1_hasType_32 (fun v11 s12 rv11 => ?_)
          refine g_cVZ (As := [vI a1, vI v10, vI v11]) (n := 3) (stk := []) (ci := 1) (b := 30) (N := 57) (hX1_hasModeFact a1 v10 v11 s12) (by decide +kernel) rfl rfl (lw_V q872 q874 qs31 q163 q875) (by decide +kernel) rfl (by decide) hRf hRl (fun _ => (avc ra1 (avc rv10 (avc rv11 avn)))) (Nat.le_of_ble_eq_true rfl) rfl rfl dX1_hasType_35 (fun v13 s14 zv13 => ?_)
          refine g_if_eq 43 dX1_hasType_38 (by decide) (fun _ => (inR_z zv13)) (fun _ => ?_) (fun _ => ?_)
          · exact g_pick [0, 1, 2, 3] rfl (hj2 a1 a3 a4 s14 ra1 za3 ra4)
          · refine g_iconst dX1_hasType_41 ?_
            refine g_istore_n (loc' := [(3, vI 1), (0, vR 1), (1, vI a1), (4, vI a4)]) dX1_hasType_42 (by decide) rfl ?_
            exact g_pick [1, 2, 0, 3] rfl (hj2 a1 1 a4 s14 ra1 (Or.inr rfl) ra4)
      · exact g_pick [2] rfl (hx99 a3 u za3)
theorem wX1_hasType (hd : 2 ≤ d) (hRf : d + 1 ≤ R.frames) (hRl : 40 * (d + 1) ≤ R.locals) (hX2_at : ∀ (a1 a2 : Int) (u : Sg), Ct l d FC clA yX2_at cX2_at 3 (some .int) DX2_at rvI [vR 0, vI a1, vI a2] u (call 98 [a1, a2] u)) (hX1_adjectiveFact : ∀ (a1 a2 : Int) (u : Sg), Ct l d FC clA yX1_adjectiveFact cX1_adjectiveFact 4 (some .boolean) DX1_adjectiveFact rvI [vR 1, vI a1, vI a2] u (call 50 [a1, a2] u)) (hX1_parent : ∀ (a1 : Int) (u : Sg), Ct l d FC clA yX1_parent cX1_parent 2 (some .int) DX1_parent rvI [vR 1, vI a1] u (call 51 [a1] u)) (hX1_argOf : ∀ (a1 : Int) (u : Sg), Ct l d FC clA yX1_argOf cX1_argOf 2 (some .int) DX1_argOf rvI [vR 1, vI a1] u (call 30 [a1] u)) (hX1_hasModeFact : ∀ (a1 a2 a3 : Int) (u : Sg), Ct l d FC clA yX1_hasModeFact cX1_hasModeFact 5 (some .boolean) DX1_hasModeFact rvI [vR 1, vI a1, vI a2, vI a3] u (call 49 [a1, a2, a3] u)) (a1 a2 : Int) (u : Sg) (ra1 : inR a1) (ra2 : inR a2) : WG p l e R s m args below meth c JX1_hasType DX1_hasType G clA A FC ad0 σ0 rvI (bX1_hasType call a1 a2 u) u 0 [(0, vR 1), (1, vI a1), (2, vI a2)] [] := by
  unfold bX1_hasType
  refine g_iconst dX1_hasType_0 ?_
  refine g_istore_n (loc' := [(3, vI 0), (0, vR 1), (1, vI a1), (2, vI a2)]) dX1_hasType_1 (by decide) rfl ?_
  refine g_iload_n 3 dX1_hasType_2 rfl ?_
  refine g_istore (loc' := [(4, vI a2), (3, vI 0), (0, vR 1), (1, vI a1), (2, vI a2)]) dX1_hasType_3 (by decide) rfl ?_
  refine g_pick [2, 3, 1, 0] rfl (wX1_hasType_L5 hd hRf hRl hX2_at hX1_adjectiveFact hX1_parent hX1_argOf hX1_hasModeFact _ (fun v2 s1 zv2 => ?_) KF a1 0 a2 u ra1 (Or.inl rfl) ra2)
  · refine g_iload_n 0 dX1_hasType_99 rfl ?_
    exact g_zret rfl rfl (fun _ => zv2) dX1_hasType_100
end
section
variable {l : Launch} {d : Nat} {call : Nat → List Int → Sg → Option (Int × Sg)}
theorem ctX1_hasType (p0 : Program) (e0 : Env) (s0 : State) (m0 : MethodId) (meth0 : Method) (c0 : Code) (G0 : Gm) (hd : 2 ≤ d) (hX2_at : ∀ (a1 a2 : Int) (u : Sg), Ct l d FC clA yX2_at cX2_at 3 (some .int) DX2_at rvI [vR 0, vI a1, vI a2] u (call 98 [a1, a2] u)) (hX1_adjectiveFact : ∀ (a1 a2 : Int) (u : Sg), Ct l d FC clA yX1_adjectiveFact cX1_adjectiveFact 4 (some .boolean) DX1_adjectiveFact rvI [vR 1, vI a1, vI a2] u (call 50 [a1, a2] u)) (hX1_parent : ∀ (a1 : Int) (u : Sg), Ct l d FC clA yX1_parent cX1_parent 2 (some .int) DX1_parent rvI [vR 1, vI a1] u (call 51 [a1] u)) (hX1_argOf : ∀ (a1 : Int) (u : Sg), Ct l d FC clA yX1_argOf cX1_argOf 2 (some .int) DX1_argOf rvI [vR 1, vI a1] u (call 30 [a1] u)) (hX1_hasModeFact : ∀ (a1 a2 a3 : Int) (u : Sg), Ct l d FC clA yX1_hasModeFact cX1_hasModeFact 5 (some .boolean) DX1_hasModeFact rvI [vR 1, vI a1, vI a2, vI a3] u (call 49 [a1, a2, a3] u)) (a1 a2 : Int) (u : Sg) : Ct l (d + 1) FC clA yX1_hasType cX1_hasType 6 (some .boolean) DX1_hasType rvI [vR 1, vI a1, vI a2] u (bX1_hasType call a1 a2 u) :=
  Ct_of (by decide) (Nat.le_of_ble_eq_true rfl) (fun p e R s1 m args below meth c G A ad hA hRf hRl => wX1_hasType hd hRf hRl hX2_at hX1_adjectiveFact hX1_parent hX1_argOf hX1_hasModeFact a1 a2 u (hA _ (List.mem_cons_of_mem _ List.mem_cons_self)) (hA _ (List.mem_cons_of_mem _ (List.mem_cons_of_mem _ List.mem_cons_self)))) p0 e0 s0 m0 meth0 c0 G0
end
/-! RoundCheck.hasModeFact(III)Z -/
abbrev JX1_hasModeFact : Jm := (cX1_hasModeFact, RX1, 5, (some .boolean))
def bX1_hasModeFact_L3 (call : Nat → List Int → Sg → Option (Int × Sg)) : Nat → Int → Int → Int → Int → Sg → (Int → Int → Int → Sg → Option (Int × Sg)) → (Sg → Option (Int × Sg)) → Option (Int × Sg)
  | 0, _, _, _, _, _, _, _ => none
  | n + 1, a1, a2, a3, a4, u, x53, x45 => un (gI u 51) fun v1 => if a4 < v1 then (ld u 46 a4 fun v2 => if v2 = a1 then (ld u 47 a4 fun v3 => if v3 = a2 then (ld u 48 a4 fun v4 => if v4 = a3 then (x45 u) else (ar (a4 + 1) fun v5 => bX1_hasModeFact_L3 call n a1 a2 a3 v5 u x53 x45)) else (ar (a4 + 1) fun v6 => bX1_hasModeFact_L3 call n a1 a2 a3 v6 u x53 x45)) else (ar (a4 + 1) fun v7 => bX1_hasModeFact_L3 call n a1 a2 a3 v7 u x53 x45)) else (x53 a1 a2 a3 u)
def bX1_hasModeFact (call : Nat → List Int → Sg → Option (Int × Sg)) (a1 a2 a3 : Int) (u : Sg) : Option (Int × Sg) := bX1_hasModeFact_L3 call KF a1 a2 a3 0 u (fun v2 v3 v4 s1 => jn (fun (a1 a2 a3 : Int) (s6 : Sg) => un (gI s6 51) fun v7 => stA s6 46 v7 a1 fun s8 => un (gI s8 51) fun v9 => stA s8 47 v9 a2 fun s10 => un (gI s10 51) fun v11 => stA s10 48 v11 a3 fun s12 => un (gI s12 51) fun v13 => ar (v13 + 1) fun v14 => un (sI s12 51 v14) fun s15 => if a3 = 0 then (some (1, s15)) else (cl (call 45 [a3] s15) fun v16 s17 => some (1, s17))) fun j5 => un (gI s1 51) fun v18 => un (gL s1 46 : Int) fun v19 => if v18 = v19 then (un (gI s1 51) fun v20 => ar (2 * v20) fun v21 => cpy s1 46 v21 fun s22 => un (gI s22 51) fun v23 => ar (2 * v23) fun v24 => cpy s22 47 v24 fun s25 => un (gI s25 51) fun v26 => ar (2 * v26) fun v27 => cpy s25 48 v27 fun s28 => j5 v2 v3 v4 s28) else (j5 v2 v3 v4 s1)) (fun s29 => some (0, s29))
section
variable {p : Program} {l : Launch} {e : Env} {R : Room} {s : State} {m : MethodId} {args : Array Value} {below : List Frame} {meth : Method} {c : Code} {G : Gm} {A : Nat → Prop} {ad0 : Nat → Nat} {σ0 : Sg} {d : Nat} {call : Nat → List Int → Sg → Option (Int × Sg)}
theorem wX1_hasModeFact_L3 (hd : 2 ≤ d) (hRf : d + 1 ≤ R.frames) (hRl : 40 * (d + 1) ≤ R.locals) (hX1_atHand : ∀ (a1 : Int) (u : Sg), Ct l d FC clA yX1_atHand cX1_atHand 3 none DX1_atHand rvV [vR 1, vI a1] u (call 45 [a1] u)) (x53 : Int → Int → Int → Sg → Option (Int × Sg)) (x45 : Sg → Option (Int × Sg)) (hx53 : ∀ (a1 a2 a3 : Int) (u : Sg), inR a1 → inR a2 → inR a3 → WG p l e R s m args below meth c JX1_hasModeFact DX1_hasModeFact G clA A FC ad0 σ0 rvI (x53 a1 a2 a3 u) u 53 [(0, vR 1), (1, vI a1), (2, vI a2), (3, vI a3)] []) (hx45 : ∀ (u : Sg), WG p l e R s m args below meth c JX1_hasModeFact DX1_hasModeFact G clA A FC ad0 σ0 rvI (x45 u) u 45 [] []) : ∀ (n : Nat) (a1 a2 a3 a4 : Int) (u : Sg), inR a1 → inR a2 → inR a3 → inR a4 → WG p l e R s m args below meth c JX1_hasModeFact DX1_hasModeFact G clA A FC ad0 σ0 rvI (bX1_hasModeFact_L3 call n a1 a2 a3 a4 u x53 x45) u 3 [(0, vR 1), (1, vI a1), (2, vI a2), (3, vI a3), (4, vI a4)] [] := by
  intro n
  induction n with
  | zero =>
    intro a1 a2 a3 a4 u ra1 ra2 ra3 ra4
    exact g_none
  | succ n ih =>
    intro a1 a2 a3 a4 u ra1 ra2 ra3 ra4
    rw [bX1_hasModeFact_L3]
    refine g_iload 4 dX1_hasModeFact_3 rfl ?_
    refine g_aload_n 0 dX1_hasModeFact_5 rfl ?_
    refine g_getI (ci := 1) (b := 30) (N := 57) 21 rfl rfl rfl (by decide) in_X1 rfl rfl q329 dX1_hasModeFact_6 (fun v1 rv1 => ?_)
    refine g_icmp_ge 53 dX1_hasModeFact_9 (by decide) (fun _ => ra4) (fun _ => rv1) (fun _ => ?_) (fun _ => ?_)
    · refine g_aload_n 0 dX1_hasModeFact_12 rfl ?_
      refine g_get (v := vR 56) (ci := 1) (b := 30) (N := 57) 16 rfl rfl (by decide) in_X1 rfl rfl q324 dX1_hasModeFact_13 ?_
      refine g_iload 4 dX1_hasModeFact_16 rfl ?_
      refine g_iald (id := 46) 19 rfl rfl dX1_hasModeFact_18 (fun v2 rv2 => ?_)
      refine g_iload_n 1 dX1_hasModeFact_19 rfl ?_
      refine g_icmp_ne 47 dX1_hasModeFact_20 (by decide) (fun _ => rv2) (fun _ => ra1) (fun _ => ?_) (fun _ => ?_)
      · refine g_aload_n 0 dX1_hasModeFact_23 rfl ?_
        refine g_get (v := vR 57) (ci := 1) (b := 30) (N := 57) 17 rfl rfl (by decide) in_X1 rfl rfl q325 dX1_hasModeFact_24 ?_
        refine g_iload 4 dX1_hasModeFact_27 rfl ?_
        refine g_iald (id := 47) 20 rfl rfl dX1_hasModeFact_29 (fun v3 rv3 => ?_)
        refine g_iload_n 2 dX1_hasModeFact_30 rfl ?_
        refine g_icmp_ne 47 dX1_hasModeFact_31 (by decide) (fun _ => rv3) (fun _ => ra2) (fun _ => ?_) (fun _ => ?_)
        · refine g_aload_n 0 dX1_hasModeFact_34 rfl ?_
          refine g_get (v := vR 58) (ci := 1) (b := 30) (N := 57) 18 rfl rfl (by decide) in_X1 rfl rfl q326 dX1_hasModeFact_35 ?_
          refine g_iload 4 dX1_hasModeFact_38 rfl ?_
          refine g_iald (id := 48) 21 rfl rfl dX1_hasModeFact_40 (fun v4 rv4 => ?_)
          refine g_iload_n 3 dX1_hasModeFact_41 rfl ?_
          refine g_icmp_ne 47 dX1_hasModeFact_42 (by decide) (fun _ => rv4) (fun _ => ra3) (fun _ => ?_) (fun _ => ?_)
          · exact g_pick [] rfl (hx45 u)
          · refine g_iinc 4 (loc' := fun v5 => [(4, vI v5), (0, vR 1), (1, vI a1), (2, vI a2), (3, vI a3)]) dX1_hasModeFact_47 rfl (by decide) (fun _ => rfl) (fun v5 rv5 => ?_)
            refine g_goto 3 dX1_hasModeFact_50 (by decide) ?_
            exact g_pick [1, 2, 3, 4, 0] rfl (ih a1 a2 a3 v5 u ra1 ra2 ra3 rv5)
        · refine g_iinc 4 (loc' := fun v6 => [(4, vI v6), (0, vR 1), (1, vI a1), (2, vI a2), (3, vI a3)]) dX1_hasModeFact_47 rfl (by decide) (fun _ => rfl) (fun v6 rv6 => ?_)
          refine g_goto 3 dX1_hasModeFact_50 (by decide) ?_
          exact g_pick [1, 2, 3, 4, 0] rfl (ih a1 a2 a3 v6 u ra1 ra2 ra3 rv6)
      · refine g_iinc 4 (loc' := fun v7 => [(4, vI v7), (0, vR 1), (1, vI a1), (2, vI a2), (3, vI a3)]) dX1_hasModeFact_47 rfl (by decide) (fun _ => rfl) (fun v7 rv7 => ?_)
        refine g_goto 3 dX1_hasModeFact_50 (by decide) ?_
        exact g_pick [1, 2, 3, 4, 0] rfl (ih a1 a2 a3 v7 u ra1 ra2 ra3 rv7)
    · exact g_pick [0, 1, 2, 3] rfl (hx53 a1 a2 a3 u ra1 ra2 ra3)
theorem wX1_hasModeFact (hd : 2 ≤ d) (hRf : d + 1 ≤ R.frames) (hRl : 40 * (d + 1) ≤ R.locals) (hX1_atHand : ∀ (a1 : Int) (u : Sg), Ct l d FC clA yX1_atHand cX1_atHand 3 none DX1_atHand rvV [vR 1, vI a1] u (call 45 [a1] u)) (a1 a2 a3 : Int) (u : Sg) (ra1 : inR a1) (ra2 : inR a2) (ra3 : inR a3) : WG p l e R s m args below meth c JX1_hasModeFact DX1_hasModeFact G clA A FC ad0 σ0 rvI (bX1_hasModeFact call a1 a2 a3 u) u 0 [(0, vR 1), (1, vI a1), (2, vI a2), (3, vI a3)] [] := by
  unfold bX1_hasModeFact
  refine g_iconst dX1_hasModeFact_0 ?_
  refine g_istore (loc' := [(4, vI 0), (0, vR 1), (1, vI a1), (2, vI a2), (3, vI a3)]) dX1_hasModeFact_1 (by decide) rfl ?_
  refine g_pick [1, 2, 3, 4, 0] rfl (wX1_hasModeFact_L3 hd hRf hRl hX1_atHand _ _ (fun v2 v3 v4 s1 rv2 rv3 rv4 => ?_) (fun s29 => ?_) KF a1 a2 a3 0 u ra1 ra2 ra3 (inR_z (Or.inl rfl)))
  · refine g_jn (fun j5 => ∀ (a1 a2 a3 : Int) (s6 : Sg), inR a1 → inR a2 → inR a3 → WG p l e R s m args below meth c JX1_hasModeFact DX1_hasModeFact G clA A FC ad0 σ0 rvI (j5 a1 a2 a3 s6) s6 116 [(0, vR 1), (1, vI a1), (2, vI a2), (3, vI a3)] []) (fun a1 a2 a3 s6 ra1 ra2 ra3 => ?_) (fun j5 hj5 => ?_)
    · refine g_aload_n 0 dX1_hasModeFact_116 rfl ?_
      refine g_get (v := vR 56) (ci := 1) (b := 30) (N := 57) 16 rfl rfl (by decide) in_X1 rfl rfl q324 dX1_hasModeFact_117 ?_
      refine g_aload_n 0 dX1_hasModeFact_120 rfl ?_
      refine g_getI (ci := 1) (b := 30) (N := 57) 21 rfl rfl rfl (by decide) in_X1 rfl rfl q329 dX1_hasModeFact_121 (fun v7 rv7 => ?_)
      refine g_iload_n 1 dX1_hasModeFact_124 rfl ?_
      refine g_iastU (id := 46) FC_ok 19 rfl rfl (by decide +kernel) ra1 dX1_hasModeFact_125 (fun s8 => ?_)
      refine g_aload_n 0 dX1_hasModeFact_126 rfl ?_
      refine g_get (v := vR 57) (ci := 1) (b := 30) (N := 57) 17 rfl rfl (by decide) in_X1 rfl rfl q325 dX1_hasModeFact_127 ?_
      refine g_aload_n 0 dX1_hasModeFact_130 rfl ?_
      refine g_getI (ci := 1) (b := 30) (N := 57) 21 rfl rfl rfl (by decide) in_X1 rfl rfl q329 dX1_hasModeFact_131 (fun v9 rv9 => ?_)
      refine g_iload_n 2 dX1_hasModeFact_134 rfl ?_
      refine g_iastU (id := 47) FC_ok 20 rfl rfl (by decide +kernel) ra2 dX1_hasModeFact_135 (fun s10 => ?_)
      refine g_aload_n 0 dX1_hasModeFact_136 rfl ?_
      refine g_get (v := vR 58) (ci := 1) (b := 30) (N := 57) 18 rfl rfl (by decide) in_X1 rfl rfl q326 dX1_hasModeFact_137 ?_
      refine g_aload_n 0 dX1_hasModeFact_140 rfl ?_
      refine g_getI (ci := 1) (b := 30) (N := 57) 21 rfl rfl rfl (by decide) in_X1 rfl rfl q329 dX1_hasModeFact_141 (fun v11 rv11 => ?_)
      refine g_iload_n 3 dX1_hasModeFact_144 rfl ?_
      refine g_iastU (id := 48) FC_ok 21 rfl rfl (by decide +kernel) ra3 dX1_hasModeFact_145 (fun s12 => ?_)
      refine g_aload_n 0 dX1_hasModeFact_146 rfl ?_
      refine g_dup rfl dX1_hasModeFact_147 ?_
      refine g_getI (ci := 1) (b := 30) (N := 57) 21 rfl rfl rfl (by decide) in_X1 rfl rfl q329 dX1_hasModeFact_148 (fun v13 rv13 => ?_)
      refine g_iconst dX1_hasModeFact_151 ?_
      refine g_iadd dX1_hasModeFact_152 (fun v14 rv14 => ?_)
      refine g_sIU (ci := 1) (b := 30) (N := 57) FC_ok 21 rfl rfl rfl (by decide) in_X1 tyX1 tyX1_ok nmX1 rfl rfl rfl rfl (by decide +kernel) rv14 q329 dX1_hasModeFact_153 (fun s15 => ?_)
      refine g_iload_n 3 dX1_hasModeFact_156 rfl ?_
      refine g_if_eq 165 dX1_hasModeFact_157 (by decide) (fun _ => ra3) (fun _ => ?_) (fun _ => ?_)
      · refine g_iconst dX1_hasModeFact_165 ?_
        exact g_zret rfl rfl (fun _ => (Or.inr rfl)) dX1_hasModeFact_166
      · refine g_aload_n 0 dX1_hasModeFact_160 rfl ?_
        refine g_iload_n 3 dX1_hasModeFact_161 rfl ?_
        refine g_cVV (As := [vI a3]) (n := 1) (stk := []) (ci := 1) (b := 30) (N := 57) (hX1_atHand a3 s15) (by decide +kernel) rfl rfl (lw_V q852 q854 qs27 q163 q855) (by decide +kernel) rfl (by decide) hRf hRl (fun _ => (avc ra3 avn)) (Nat.le_of_ble_eq_true rfl) rfl rfl dX1_hasModeFact_162 (fun v16 s17 => ?_)
        refine g_iconst dX1_hasModeFact_165 ?_
        exact g_zret rfl rfl (fun _ => (Or.inr rfl)) dX1_hasModeFact_166
    · refine g_aload_n 0 dX1_hasModeFact_53 rfl ?_
      refine g_getI (ci := 1) (b := 30) (N := 57) 21 rfl rfl rfl (by decide) in_X1 rfl rfl q329 dX1_hasModeFact_54 (fun v18 rv18 => ?_)
      refine g_aload_n 0 dX1_hasModeFact_57 rfl ?_
      refine g_get (v := vR 56) (ci := 1) (b := 30) (N := 57) 16 rfl rfl (by decide) in_X1 rfl rfl q324 dX1_hasModeFact_58 ?_
      refine g_alenU (id := 46) 19 rfl (Or.inl rfl) dX1_hasModeFact_61 (fun v19 rv19 => ?_)
      refine g_icmp_ne 116 dX1_hasModeFact_62 (by decide) (fun _ => rv18) (fun _ => rv19) (fun _ => ?_) (fun _ => ?_)
      · refine g_aload_n 0 dX1_hasModeFact_65 rfl ?_
        refine g_aload_n 0 dX1_hasModeFact_66 rfl ?_
        refine g_get (v := vR 56) (ci := 1) (b := 30) (N := 57) 16 rfl rfl (by decide) in_X1 rfl rfl q324 dX1_hasModeFact_67 ?_
        refine g_iconst dX1_hasModeFact_70 ?_
        refine g_aload_n 0 dX1_hasModeFact_71 rfl ?_
        refine g_getI (ci := 1) (b := 30) (N := 57) 21 rfl rfl rfl (by decide) in_X1 rfl rfl q329 dX1_hasModeFact_72 (fun v20 rv20 => ?_)
        refine g_imul dX1_hasModeFact_75 (fun v21 rv21 => ?_)
        refine g_cpy (ci := 1) (b := 30) (N := 57) FC_ok FC_10 rfl 16 19 rfl rfl rfl rfl (by decide) in_X1 tyX1 tyX1_ok nmX1 rfl rfl rfl rfl (by decide +kernel) q666 q324 hRf hRl (Nat.le_of_succ_le hd) (Nat.le_of_ble_eq_true rfl) rfl rfl dX1_hasModeFact_76 dX1_hasModeFact_79 (fun s22 => ?_)
        refine g_aload_n 0 dX1_hasModeFact_82 rfl ?_
        refine g_aload_n 0 dX1_hasModeFact_83 rfl ?_
        refine g_get (v := vR 57) (ci := 1) (b := 30) (N := 57) 17 rfl rfl (by decide) in_X1 rfl rfl q325 dX1_hasModeFact_84 ?_
        refine g_iconst dX1_hasModeFact_87 ?_
        refine g_aload_n 0 dX1_hasModeFact_88 rfl ?_
        refine g_getI (ci := 1) (b := 30) (N := 57) 21 rfl rfl rfl (by decide) in_X1 rfl rfl q329 dX1_hasModeFact_89 (fun v23 rv23 => ?_)
        refine g_imul dX1_hasModeFact_92 (fun v24 rv24 => ?_)
        refine g_cpy (ci := 1) (b := 30) (N := 57) FC_ok FC_10 rfl 17 20 rfl rfl rfl rfl (by decide) in_X1 tyX1 tyX1_ok nmX1 rfl rfl rfl rfl (by decide +kernel) q666 q325 hRf hRl (Nat.le_of_succ_le hd) (Nat.le_of_ble_eq_true rfl) rfl rfl dX1_hasModeFact_93 dX1_hasModeFact_96 (fun s25 => ?_)
        refine g_aload_n 0 dX1_hasModeFact_99 rfl ?_
        refine g_aload_n 0 dX1_hasModeFact_100 rfl ?_
        refine g_get (v := vR 58) (ci := 1) (b := 30) (N := 57) 18 rfl rfl (by decide) in_X1 rfl rfl q326 dX1_hasModeFact_101 ?_
        refine g_iconst dX1_hasModeFact_104 ?_
        refine g_aload_n 0 dX1_hasModeFact_105 rfl ?_
        refine g_getI (ci := 1) (b := 30) (N := 57) 21 rfl rfl rfl (by decide) in_X1 rfl rfl q329 dX1_hasModeFact_106 (fun v26 rv26 => ?_)
        refine g_imul dX1_hasModeFact_109 (fun v27 rv27 => ?_)
        refine g_cpy (ci := 1) (b := 30) (N := 57) FC_ok FC_10 rfl 18 21 rfl rfl rfl rfl (by decide) in_X1 tyX1 tyX1_ok nmX1 rfl rfl rfl rfl (by decide +kernel) q666 q326 hRf hRl (Nat.le_of_succ_le hd) (Nat.le_of_ble_eq_true rfl) rfl rfl dX1_hasModeFact_110 dX1_hasModeFact_113 (fun s28 => ?_)
        exact g_pick [0, 1, 2, 3] rfl (hj5 v2 v3 v4 s28 rv2 rv3 rv4)
      · exact g_pick [0, 1, 2, 3] rfl (hj5 v2 v3 v4 s1 rv2 rv3 rv4)
  · refine g_iconst dX1_hasModeFact_45 ?_
    exact g_zret rfl rfl (fun _ => (Or.inl rfl)) dX1_hasModeFact_46
end
section
variable {l : Launch} {d : Nat} {call : Nat → List Int → Sg → Option (Int × Sg)}
theorem ctX1_hasModeFact (p0 : Program) (e0 : Env) (s0 : State) (m0 : MethodId) (meth0 : Method) (c0 : Code) (G0 : Gm) (hd : 2 ≤ d) (hX1_atHand : ∀ (a1 : Int) (u : Sg), Ct l d FC clA yX1_atHand cX1_atHand 3 none DX1_atHand rvV [vR 1, vI a1] u (call 45 [a1] u)) (a1 a2 a3 : Int) (u : Sg) : Ct l (d + 1) FC clA yX1_hasModeFact cX1_hasModeFact 5 (some .boolean) DX1_hasModeFact rvI [vR 1, vI a1, vI a2, vI a3] u (bX1_hasModeFact call a1 a2 a3 u) :=
  Ct_of (by decide) (Nat.le_of_ble_eq_true rfl) (fun p e R s1 m args below meth c G A ad hA hRf hRl => wX1_hasModeFact hd hRf hRl hX1_atHand a1 a2 a3 u (hA _ (List.mem_cons_of_mem _ List.mem_cons_self)) (hA _ (List.mem_cons_of_mem _ (List.mem_cons_of_mem _ List.mem_cons_self))) (hA _ (List.mem_cons_of_mem _ (List.mem_cons_of_mem _ (List.mem_cons_of_mem _ List.mem_cons_self))))) p0 e0 s0 m0 meth0 c0 G0
end
/-! RoundCheck.adjectiveFact(II)Z -/
abbrev JX1_adjectiveFact : Jm := (cX1_adjectiveFact, RX1, 4, (some .boolean))
def bX1_adjectiveFact_L2 (call : Nat → List Int → Sg → Option (Int × Sg)) : Nat → Int → Int → Int → Sg → (Int → Int → Sg → Option (Int × Sg)) → (Sg → Option (Int × Sg)) → Option (Int × Sg)
  | 0, _, _, _, _, _, _ => none
  | n + 1, a1, a2, a3, u, x38, x30 => un (gI u 52) fun v1 => if a3 < v1 then (ld u 49 a3 fun v2 => if v2 = a1 then (ld u 50 a3 fun v3 => if v3 = a2 then (x30 u) else (ar (a3 + 1) fun v4 => bX1_adjectiveFact_L2 call n a1 a2 v4 u x38 x30)) else (ar (a3 + 1) fun v5 => bX1_adjectiveFact_L2 call n a1 a2 v5 u x38 x30)) else (x38 a1 a2 u)
def bX1_adjectiveFact (call : Nat → List Int → Sg → Option (Int × Sg)) (a1 a2 : Int) (u : Sg) : Option (Int × Sg) := bX1_adjectiveFact_L2 call KF a1 a2 0 u (fun v2 v3 s1 => jn (fun (a1 a2 : Int) (s5 : Sg) => un (gI s5 52) fun v6 => stA s5 49 v6 a1 fun s7 => un (gI s7 52) fun v8 => stA s7 50 v8 a2 fun s9 => un (gI s9 52) fun v10 => ar (v10 + 1) fun v11 => un (sI s9 52 v11) fun s12 => some (1, s12)) fun j4 => un (gI s1 52) fun v13 => un (gL s1 49 : Int) fun v14 => if v13 = v14 then (un (gI s1 52) fun v15 => ar (2 * v15) fun v16 => cpy s1 49 v16 fun s17 => un (gI s17 52) fun v18 => ar (2 * v18) fun v19 => cpy s17 50 v19 fun s20 => j4 v2 v3 s20) else (j4 v2 v3 s1)) (fun s21 => some (0, s21))
section
variable {p : Program} {l : Launch} {e : Env} {R : Room} {s : State} {m : MethodId} {args : Array Value} {below : List Frame} {meth : Method} {c : Code} {G : Gm} {A : Nat → Prop} {ad0 : Nat → Nat} {σ0 : Sg} {d : Nat} {call : Nat → List Int → Sg → Option (Int × Sg)}
theorem wX1_adjectiveFact_L2 (hd : 2 ≤ d) (hRf : d + 1 ≤ R.frames) (hRl : 40 * (d + 1) ≤ R.locals) (x38 : Int → Int → Sg → Option (Int × Sg)) (x30 : Sg → Option (Int × Sg)) (hx38 : ∀ (a1 a2 : Int) (u : Sg), inR a1 → inR a2 → WG p l e R s m args below meth c JX1_adjectiveFact DX1_adjectiveFact G clA A FC ad0 σ0 rvI (x38 a1 a2 u) u 38 [(0, vR 1), (1, vI a1), (2, vI a2)] []) (hx30 : ∀ (u : Sg), WG p l e R s m args below meth c JX1_adjectiveFact DX1_adjectiveFact G clA A FC ad0 σ0 rvI (x30 u) u 30 [] []) : ∀ (n : Nat) (a1 a2 a3 : Int) (u : Sg), inR a1 → inR a2 → inR a3 → WG p l e R s m args below meth c JX1_adjectiveFact DX1_adjectiveFact G clA A FC ad0 σ0 rvI (bX1_adjectiveFact_L2 call n a1 a2 a3 u x38 x30) u 2 [(0, vR 1), (1, vI a1), (2, vI a2), (3, vI a3)] [] := by
  intro n
  induction n with
  | zero =>
    intro a1 a2 a3 u ra1 ra2 ra3
    exact g_none
  | succ n ih =>
    intro a1 a2 a3 u ra1 ra2 ra3
    rw [bX1_adjectiveFact_L2]
    refine g_iload_n 3 dX1_adjectiveFact_2 rfl ?_
    refine g_aload_n 0 dX1_adjectiveFact_3 rfl ?_
    refine g_getI (ci := 1) (b := 30) (N := 57) 22 rfl rfl rfl (by decide) in_X1 rfl rfl q330 dX1_adjectiveFact_4 (fun v1 rv1 => ?_)
    refine g_icmp_ge 38 dX1_adjectiveFact_7 (by decide) (fun _ => ra3) (fun _ => rv1) (fun _ => ?_) (fun _ => ?_)
    · refine g_aload_n 0 dX1_adjectiveFact_10 rfl ?_
      refine g_get (v := vR 59) (ci := 1) (b := 30) (N := 57) 19 rfl rfl (by decide) in_X1 rfl rfl q327 dX1_adjectiveFact_11 ?_
      refine g_iload_n 3 dX1_adjectiveFact_14 rfl ?_
      refine g_iald (id := 49) 22 rfl rfl dX1_adjectiveFact_15 (fun v2 rv2 => ?_)
      refine g_iload_n 1 dX1_adjectiveFact_16 rfl ?_
      refine g_icmp_ne 32 dX1_adjectiveFact_17 (by decide) (fun _ => rv2) (fun _ => ra1) (fun _ => ?_) (fun _ => ?_)
      · refine g_aload_n 0 dX1_adjectiveFact_20 rfl ?_
        refine g_get (v := vR 60) (ci := 1) (b := 30) (N := 57) 20 rfl rfl (by decide) in_X1 rfl rfl q328 dX1_adjectiveFact_21 ?_
        refine g_iload_n 3 dX1_adjectiveFact_24 rfl ?_
        refine g_iald (id := 50) 23 rfl rfl dX1_adjectiveFact_25 (fun v3 rv3 => ?_)
        refine g_iload_n 2 dX1_adjectiveFact_26 rfl ?_
        refine g_icmp_ne 32 dX1_adjectiveFact_27 (by decide) (fun _ => rv3) (fun _ => ra2) (fun _ => ?_) (fun _ => ?_)
        · exact g_pick [] rfl (hx30 u)
        · refine g_iinc 3 (loc' := fun v4 => [(3, vI v4), (0, vR 1), (1, vI a1), (2, vI a2)]) dX1_adjectiveFact_32 rfl (by decide) (fun _ => rfl) (fun v4 rv4 => ?_)
          refine g_goto 2 dX1_adjectiveFact_35 (by decide) ?_
          exact g_pick [1, 2, 3, 0] rfl (ih a1 a2 v4 u ra1 ra2 rv4)
      · refine g_iinc 3 (loc' := fun v5 => [(3, vI v5), (0, vR 1), (1, vI a1), (2, vI a2)]) dX1_adjectiveFact_32 rfl (by decide) (fun _ => rfl) (fun v5 rv5 => ?_)
        refine g_goto 2 dX1_adjectiveFact_35 (by decide) ?_
        exact g_pick [1, 2, 3, 0] rfl (ih a1 a2 v5 u ra1 ra2 rv5)
    · exact g_pick [0, 1, 2] rfl (hx38 a1 a2 u ra1 ra2)
theorem wX1_adjectiveFact (hd : 2 ≤ d) (hRf : d + 1 ≤ R.frames) (hRl : 40 * (d + 1) ≤ R.locals) (a1 a2 : Int) (u : Sg) (ra1 : inR a1) (ra2 : inR a2) : WG p l e R s m args below meth c JX1_adjectiveFact DX1_adjectiveFact G clA A FC ad0 σ0 rvI (bX1_adjectiveFact call a1 a2 u) u 0 [(0, vR 1), (1, vI a1), (2, vI a2)] [] := by
  unfold bX1_adjectiveFact
  refine g_iconst dX1_adjectiveFact_0 ?_
  refine g_istore_n (loc' := [(3, vI 0), (0, vR 1), (1, vI a1), (2, vI a2)]) dX1_adjectiveFact_1 (by decide) rfl ?_
  refine g_pick [1, 2, 3, 0] rfl (wX1_adjectiveFact_L2 hd hRf hRl _ _ (fun v2 v3 s1 rv2 rv3 => ?_) (fun s21 => ?_) KF a1 a2 0 u ra1 ra2 (inR_z (Or.inl rfl)))
  · refine g_jn (fun j4 => ∀ (a1 a2 : Int) (s5 : Sg), inR a1 → inR a2 → WG p l e R s m args below meth c JX1_adjectiveFact DX1_adjectiveFact G clA A FC ad0 σ0 rvI (j4 a1 a2 s5) s5 84 [(0, vR 1), (1, vI a1), (2, vI a2)] []) (fun a1 a2 s5 ra1 ra2 => ?_) (fun j4 hj4 => ?_)
    · refine g_aload_n 0 dX1_adjectiveFact_84 rfl ?_
      refine g_get (v := vR 59) (ci := 1) (b := 30) (N := 57) 19 rfl rfl (by decide) in_X1 rfl rfl q327 dX1_adjectiveFact_85 ?_
      refine g_aload_n 0 dX1_adjectiveFact_88 rfl ?_
      refine g_getI (ci := 1) (b := 30) (N := 57) 22 rfl rfl rfl (by decide) in_X1 rfl rfl q330 dX1_adjectiveFact_89 (fun v6 rv6 => ?_)
      refine g_iload_n 1 dX1_adjectiveFact_92 rfl ?_
      refine g_iastU (id := 49) FC_ok 22 rfl rfl (by decide +kernel) ra1 dX1_adjectiveFact_93 (fun s7 => ?_)
      refine g_aload_n 0 dX1_adjectiveFact_94 rfl ?_
      refine g_get (v := vR 60) (ci := 1) (b := 30) (N := 57) 20 rfl rfl (by decide) in_X1 rfl rfl q328 dX1_adjectiveFact_95 ?_
      refine g_aload_n 0 dX1_adjectiveFact_98 rfl ?_
      refine g_getI (ci := 1) (b := 30) (N := 57) 22 rfl rfl rfl (by decide) in_X1 rfl rfl q330 dX1_adjectiveFact_99 (fun v8 rv8 => ?_)
      refine g_iload_n 2 dX1_adjectiveFact_102 rfl ?_
      refine g_iastU (id := 50) FC_ok 23 rfl rfl (by decide +kernel) ra2 dX1_adjectiveFact_103 (fun s9 => ?_)
      refine g_aload_n 0 dX1_adjectiveFact_104 rfl ?_
      refine g_dup rfl dX1_adjectiveFact_105 ?_
      refine g_getI (ci := 1) (b := 30) (N := 57) 22 rfl rfl rfl (by decide) in_X1 rfl rfl q330 dX1_adjectiveFact_106 (fun v10 rv10 => ?_)
      refine g_iconst dX1_adjectiveFact_109 ?_
      refine g_iadd dX1_adjectiveFact_110 (fun v11 rv11 => ?_)
      refine g_sIU (ci := 1) (b := 30) (N := 57) FC_ok 22 rfl rfl rfl (by decide) in_X1 tyX1 tyX1_ok nmX1 rfl rfl rfl rfl (by decide +kernel) rv11 q330 dX1_adjectiveFact_111 (fun s12 => ?_)
      refine g_iconst dX1_adjectiveFact_114 ?_
      exact g_zret rfl rfl (fun _ => (Or.inr rfl)) dX1_adjectiveFact_115
    · refine g_aload_n 0 dX1_adjectiveFact_38 rfl ?_
      refine g_getI (ci := 1) (b := 30) (N := 57) 22 rfl rfl rfl (by decide) in_X1 rfl rfl q330 dX1_adjectiveFact_39 (fun v13 rv13 => ?_)
      refine g_aload_n 0 dX1_adjectiveFact_42 rfl ?_
      refine g_get (v := vR 59) (ci := 1) (b := 30) (N := 57) 19 rfl rfl (by decide) in_X1 rfl rfl q327 dX1_adjectiveFact_43 ?_
      refine g_alenU (id := 49) 22 rfl (Or.inl rfl) dX1_adjectiveFact_46 (fun v14 rv14 => ?_)
      refine g_icmp_ne 84 dX1_adjectiveFact_47 (by decide) (fun _ => rv13) (fun _ => rv14) (fun _ => ?_) (fun _ => ?_)
      · refine g_aload_n 0 dX1_adjectiveFact_50 rfl ?_
        refine g_aload_n 0 dX1_adjectiveFact_51 rfl ?_
        refine g_get (v := vR 59) (ci := 1) (b := 30) (N := 57) 19 rfl rfl (by decide) in_X1 rfl rfl q327 dX1_adjectiveFact_52 ?_
        refine g_iconst dX1_adjectiveFact_55 ?_
        refine g_aload_n 0 dX1_adjectiveFact_56 rfl ?_
        refine g_getI (ci := 1) (b := 30) (N := 57) 22 rfl rfl rfl (by decide) in_X1 rfl rfl q330 dX1_adjectiveFact_57 (fun v15 rv15 => ?_)
        refine g_imul dX1_adjectiveFact_60 (fun v16 rv16 => ?_)
        refine g_cpy (ci := 1) (b := 30) (N := 57) FC_ok FC_10 rfl 19 22 rfl rfl rfl rfl (by decide) in_X1 tyX1 tyX1_ok nmX1 rfl rfl rfl rfl (by decide +kernel) q666 q327 hRf hRl (Nat.le_of_succ_le hd) (Nat.le_of_ble_eq_true rfl) rfl rfl dX1_adjectiveFact_61 dX1_adjectiveFact_64 (fun s17 => ?_)
        refine g_aload_n 0 dX1_adjectiveFact_67 rfl ?_
        refine g_aload_n 0 dX1_adjectiveFact_68 rfl ?_
        refine g_get (v := vR 60) (ci := 1) (b := 30) (N := 57) 20 rfl rfl (by decide) in_X1 rfl rfl q328 dX1_adjectiveFact_69 ?_
        refine g_iconst dX1_adjectiveFact_72 ?_
        refine g_aload_n 0 dX1_adjectiveFact_73 rfl ?_
        refine g_getI (ci := 1) (b := 30) (N := 57) 22 rfl rfl rfl (by decide) in_X1 rfl rfl q330 dX1_adjectiveFact_74 (fun v18 rv18 => ?_)
        refine g_imul dX1_adjectiveFact_77 (fun v19 rv19 => ?_)
        refine g_cpy (ci := 1) (b := 30) (N := 57) FC_ok FC_10 rfl 20 23 rfl rfl rfl rfl (by decide) in_X1 tyX1 tyX1_ok nmX1 rfl rfl rfl rfl (by decide +kernel) q666 q328 hRf hRl (Nat.le_of_succ_le hd) (Nat.le_of_ble_eq_true rfl) rfl rfl dX1_adjectiveFact_78 dX1_adjectiveFact_81 (fun s20 => ?_)
        exact g_pick [0, 1, 2] rfl (hj4 v2 v3 s20 rv2 rv3)
      · exact g_pick [0, 1, 2] rfl (hj4 v2 v3 s1 rv2 rv3)
  · refine g_iconst dX1_adjectiveFact_30 ?_
    exact g_zret rfl rfl (fun _ => (Or.inl rfl)) dX1_adjectiveFact_31
end
section
variable {l : Launch} {d : Nat} {call : Nat → List Int → Sg → Option (Int × Sg)}
theorem ctX1_adjectiveFact (p0 : Program) (e0 : Env) (s0 : State) (m0 : MethodId) (meth0 : Method) (c0 : Code) (G0 : Gm) (hd : 2 ≤ d) (a1 a2 : Int) (u : Sg) : Ct l (d + 1) FC clA yX1_adjectiveFact cX1_adjectiveFact 4 (some .boolean) DX1_adjectiveFact rvI [vR 1, vI a1, vI a2] u (bX1_adjectiveFact call a1 a2 u) :=
  Ct_of (by decide) (Nat.le_of_ble_eq_true rfl) (fun p e R s1 m args below meth c G A ad hA hRf hRl => wX1_adjectiveFact hd hRf hRl a1 a2 u (hA _ (List.mem_cons_of_mem _ List.mem_cons_self)) (hA _ (List.mem_cons_of_mem _ (List.mem_cons_of_mem _ List.mem_cons_self)))) p0 e0 s0 m0 meth0 c0 G0
end
/-! RoundCheck.parent(I)I -/
abbrev JX1_parent : Jm := (cX1_parent, RX1, 2, (some .int))
def bX1_parent (call : Nat → List Int → Sg → Option (Int × Sg)) (a1 : Int) (u : Sg) : Option (Int × Sg) := ld u 1 a1 fun v1 => if v1 = 0 then (some (0, u)) else (ld u 1 a1 fun v2 => ld u 67 v2 fun v3 => cl (call 30 [a1] u) fun v4 s5 => cl (call 111 [v3, v4, 0, 0] s5) fun v6 s7 => some (v6, s7))
section
variable {p : Program} {l : Launch} {e : Env} {R : Room} {s : State} {m : MethodId} {args : Array Value} {below : List Frame} {meth : Method} {c : Code} {G : Gm} {A : Nat → Prop} {ad0 : Nat → Nat} {σ0 : Sg} {d : Nat} {call : Nat → List Int → Sg → Option (Int × Sg)}
theorem wX1_parent (hd : 2 ≤ d) (hRf : d + 1 ≤ R.frames) (hRl : 40 * (d + 1) ≤ R.locals) (hX1_argOf : ∀ (a1 : Int) (u : Sg), Ct l d FC clA yX1_argOf cX1_argOf 2 (some .int) DX1_argOf rvI [vR 1, vI a1] u (call 30 [a1] u)) (hX2_loci : ∀ (a1 a2 a3 a4 : Int) (u : Sg), Ct l d FC clA yX2_loci cX2_loci 5 (some .int) DX2_loci rvI [vR 0, vI a1, vI a2, vI a3, vI a4] u (call 111 [a1, a2, a3, a4] u)) (a1 : Int) (u : Sg) (ra1 : inR a1) : WG p l e R s m args below meth c JX1_parent DX1_parent G clA A FC ad0 σ0 rvI (bX1_parent call a1 u) u 0 [(0, vR 1), (1, vI a1)] [] := by
  unfold bX1_parent
  refine g_aload_n 0 dX1_parent_0 rfl ?_
  refine g_get (v := vR 0) (ci := 1) (b := 30) (N := 57) 0 rfl rfl (by decide) in_X1 rfl rfl q308 dX1_parent_1 ?_
  refine g_get (v := vR 11) (ci := 0) (b := 0) (N := 21) 1 rfl rfl (by decide) in_X2 rfl rfl q234 dX1_parent_4 ?_
  refine g_iload_n 1 dX1_parent_7 rfl ?_
  refine g_iald (id := 1) 1 rfl rfl dX1_parent_8 (fun v1 rv1 => ?_)
  refine g_if_ne 16 dX1_parent_9 (by decide) (fun _ => rv1) (fun _ => ?_) (fun _ => ?_)
  · refine g_iconst dX1_parent_12 ?_
    refine g_goto 44 dX1_parent_13 (by decide) ?_
    exact g_iret rfl rfl (fun _ => (inR_z (Or.inl rfl))) dX1_parent_44
  · refine g_aload_n 0 dX1_parent_16 rfl ?_
    refine g_get (v := vR 0) (ci := 1) (b := 30) (N := 57) 0 rfl rfl (by decide) in_X1 rfl rfl q308 dX1_parent_17 ?_
    refine g_aload_n 0 dX1_parent_20 rfl ?_
    refine g_get (v := vR 77) (ci := 1) (b := 30) (N := 57) 37 rfl rfl (by decide) in_X1 rfl rfl q345 dX1_parent_21 ?_
    refine g_aload_n 0 dX1_parent_24 rfl ?_
    refine g_get (v := vR 0) (ci := 1) (b := 30) (N := 57) 0 rfl rfl (by decide) in_X1 rfl rfl q308 dX1_parent_25 ?_
    refine g_get (v := vR 11) (ci := 0) (b := 0) (N := 21) 1 rfl rfl (by decide) in_X2 rfl rfl q234 dX1_parent_28 ?_
    refine g_iload_n 1 dX1_parent_31 rfl ?_
    refine g_iald (id := 1) 1 rfl rfl dX1_parent_32 (fun v2 rv2 => ?_)
    refine g_iald (id := 67) 30 rfl rfl dX1_parent_33 (fun v3 rv3 => ?_)
    refine g_aload_n 0 dX1_parent_34 rfl ?_
    refine g_iload_n 1 dX1_parent_35 rfl ?_
    refine g_cVI (As := [vI a1]) (n := 1) (stk := [vI v3, vR 0]) (ci := 1) (b := 30) (N := 57) (hX1_argOf a1 u) (by decide +kernel) rfl rfl (lw_V q773 q775 qs16 q163 q776) (by decide +kernel) rfl (by decide) hRf hRl (fun _ => (avc ra1 avn)) (Nat.le_of_ble_eq_true rfl) rfl rfl dX1_parent_36 (fun v4 s5 rv4 => ?_)
    refine g_iconst dX1_parent_39 ?_
    refine g_iconst dX1_parent_40 ?_
    refine g_cVI (As := [vI v3, vI v4, vI 0, vI 0]) (n := 4) (stk := []) (ci := 0) (b := 0) (N := 21) (hX2_loci v3 v4 0 0 s5) (by decide +kernel) rfl rfl (lw_V q864 q865 q866 q164 q867) (by decide +kernel) rfl (by decide) hRf hRl (fun _ => (avc rv3 (avc rv4 (avc (inR_z (Or.inl rfl)) (avc (inR_z (Or.inl rfl)) avn))))) (Nat.le_of_ble_eq_true rfl) rfl rfl dX1_parent_41 (fun v6 s7 rv6 => ?_)
    exact g_iret rfl rfl (fun _ => rv6) dX1_parent_44
end
section
variable {l : Launch} {d : Nat} {call : Nat → List Int → Sg → Option (Int × Sg)}
theorem ctX1_parent (p0 : Program) (e0 : Env) (s0 : State) (m0 : MethodId) (meth0 : Method) (c0 : Code) (G0 : Gm) (hd : 2 ≤ d) (hX1_argOf : ∀ (a1 : Int) (u : Sg), Ct l d FC clA yX1_argOf cX1_argOf 2 (some .int) DX1_argOf rvI [vR 1, vI a1] u (call 30 [a1] u)) (hX2_loci : ∀ (a1 a2 a3 a4 : Int) (u : Sg), Ct l d FC clA yX2_loci cX2_loci 5 (some .int) DX2_loci rvI [vR 0, vI a1, vI a2, vI a3, vI a4] u (call 111 [a1, a2, a3, a4] u)) (a1 : Int) (u : Sg) : Ct l (d + 1) FC clA yX1_parent cX1_parent 2 (some .int) DX1_parent rvI [vR 1, vI a1] u (bX1_parent call a1 u) :=
  Ct_of (by decide) (Nat.le_of_ble_eq_true rfl) (fun p e R s1 m args below meth c G A ad hA hRf hRl => wX1_parent hd hRf hRl hX1_argOf hX2_loci a1 u (hA _ (List.mem_cons_of_mem _ List.mem_cons_self))) p0 e0 s0 m0 meth0 c0 G0
end
/-! RoundCheck.firstsOf()I -/
abbrev JX1_firstsOf : Jm := (cX1_firstsOf, RX1, 5, (some .int))
def bX1_firstsOf_L4 (call : Nat → List Int → Sg → Option (Int × Sg)) : Nat → Int → Int → Sg → (Int → Sg → Option (Int × Sg)) → Option (Int × Sg)
  | 0, _, _, _, _ => none
  | n + 1, a1, a2, u, x77 => un (gI u 43) fun v1 => if a2 < v1 then (ld u 40 a2 fun v2 => cl (call 53 [v2] u) fun v3 s4 => if v3 = 0 then (ar (a2 + 1) fun v5 => bX1_firstsOf_L4 call n a1 v5 s4 x77) else (ld s4 40 a1 fun v6 => stA s4 40 a1 v2 fun s7 => stA s7 40 a2 v6 fun s8 => stA s8 39 v2 a1 fun s9 => stA s9 39 v6 a2 fun s10 => ar (a1 + 1) fun v11 => ar (a2 + 1) fun v12 => bX1_firstsOf_L4 call n v11 v12 s10 x77)) else (x77 a1 u)
def bX1_firstsOf (call : Nat → List Int → Sg → Option (Int × Sg)) (u : Sg) : Option (Int × Sg) := bX1_firstsOf_L4 call KF 0 0 u (fun v2 s1 => some (v2, s1))
section
variable {p : Program} {l : Launch} {e : Env} {R : Room} {s : State} {m : MethodId} {args : Array Value} {below : List Frame} {meth : Method} {c : Code} {G : Gm} {A : Nat → Prop} {ad0 : Nat → Nat} {σ0 : Sg} {d : Nat} {call : Nat → List Int → Sg → Option (Int × Sg)}
theorem wX1_firstsOf_L4 (hd : 2 ≤ d) (hRf : d + 1 ≤ R.frames) (hRl : 40 * (d + 1) ≤ R.locals) (hX1_stands : ∀ (a1 : Int) (u : Sg), Ct l d FC clA yX1_stands cX1_stands 3 (some .boolean) DX1_stands rvI [vR 1, vI a1] u (call 53 [a1] u)) (x77 : Int → Sg → Option (Int × Sg)) (hx77 : ∀ (a1 : Int) (u : Sg), inR a1 → WG p l e R s m args below meth c JX1_firstsOf DX1_firstsOf G clA A FC ad0 σ0 rvI (x77 a1 u) u 77 [(1, vI a1)] []) : ∀ (n : Nat) (a1 a2 : Int) (u : Sg), inR a1 → inR a2 → WG p l e R s m args below meth c JX1_firstsOf DX1_firstsOf G clA A FC ad0 σ0 rvI (bX1_firstsOf_L4 call n a1 a2 u x77) u 4 [(0, vR 1), (1, vI a1), (2, vI a2)] [] := by
  intro n
  induction n with
  | zero =>
    intro a1 a2 u ra1 ra2
    exact g_none
  | succ n ih =>
    intro a1 a2 u ra1 ra2
    rw [bX1_firstsOf_L4]
    refine g_iload_n 2 dX1_firstsOf_4 rfl ?_
    refine g_aload_n 0 dX1_firstsOf_5 rfl ?_
    refine g_getI (ci := 1) (b := 30) (N := 57) 13 rfl rfl rfl (by decide) in_X1 rfl rfl q321 dX1_firstsOf_6 (fun v1 rv1 => ?_)
    refine g_icmp_ge 77 dX1_firstsOf_9 (by decide) (fun _ => ra2) (fun _ => rv1) (fun _ => ?_) (fun _ => ?_)
    · refine g_aload_n 0 dX1_firstsOf_12 rfl ?_
      refine g_get (v := vR 50) (ci := 1) (b := 30) (N := 57) 10 rfl rfl (by decide) in_X1 rfl rfl q318 dX1_firstsOf_13 ?_
      refine g_iload_n 2 dX1_firstsOf_16 rfl ?_
      refine g_iald (id := 40) 16 rfl rfl dX1_firstsOf_17 (fun v2 rv2 => ?_)
      refine g_istore_n (loc' := [(3, vI v2), (0, vR 1), (1, vI a1), (2, vI a2)]) dX1_firstsOf_18 (by decide) rfl ?_
      refine g_aload_n 1 dX1_firstsOf_19 rfl ?_
      refine g_iload_n 0 dX1_firstsOf_20 rfl ?_
      refine g_cVZ (As := [vI v2]) (n := 1) (stk := []) (ci := 1) (b := 30) (N := 57) (hX1_stands v2 u) (by decide +kernel) rfl rfl (lw_V q888 q890 qs35 q163 q891) (by decide +kernel) rfl (by decide) hRf hRl (fun _ => (avc rv2 avn)) (Nat.le_of_ble_eq_true rfl) rfl rfl dX1_firstsOf_21 (fun v3 s4 zv3 => ?_)
      refine g_if_ne 30 dX1_firstsOf_24 (by decide) (fun _ => (inR_z zv3)) (fun _ => ?_) (fun _ => ?_)
      · refine g_goto 71 dX1_firstsOf_27 (by decide) ?_
        refine g_iinc 3 (loc' := fun v5 => [(2, vI v5), (3, vI v2), (0, vR 1), (1, vI a1)]) dX1_firstsOf_71 rfl (by decide) (fun _ => rfl) (fun v5 rv5 => ?_)
        refine g_goto 4 dX1_firstsOf_74 (by decide) ?_
        exact g_pick [2, 3, 0] rfl (ih a1 v5 s4 ra1 rv5)
      · refine g_aload_n 1 dX1_firstsOf_30 rfl ?_
        refine g_get (v := vR 50) (ci := 1) (b := 30) (N := 57) 10 rfl rfl (by decide) in_X1 rfl rfl q318 dX1_firstsOf_31 ?_
        refine g_iload_n 2 dX1_firstsOf_34 rfl ?_
        refine g_iald (id := 40) 16 rfl rfl dX1_firstsOf_35 (fun v6 rv6 => ?_)
        refine g_istore (loc' := [(4, vI v6), (3, vI v2), (0, vR 1), (1, vI a1), (2, vI a2)]) dX1_firstsOf_36 (by decide) rfl ?_
        refine g_aload_n 2 dX1_firstsOf_38 rfl ?_
        refine g_get (v := vR 50) (ci := 1) (b := 30) (N := 57) 10 rfl rfl (by decide) in_X1 rfl rfl q318 dX1_firstsOf_39 ?_
        refine g_iload_n 3 dX1_firstsOf_42 rfl ?_
        refine g_iload_n 1 dX1_firstsOf_43 rfl ?_
        refine g_iastU (id := 40) FC_ok 16 rfl rfl (by decide +kernel) rv2 dX1_firstsOf_44 (fun s7 => ?_)
        refine g_aload_n 2 dX1_firstsOf_45 rfl ?_
        refine g_get (v := vR 50) (ci := 1) (b := 30) (N := 57) 10 rfl rfl (by decide) in_X1 rfl rfl q318 dX1_firstsOf_46 ?_
        refine g_iload_n 4 dX1_firstsOf_49 rfl ?_
        refine g_iload 0 dX1_firstsOf_50 rfl ?_
        refine g_iastU (id := 40) FC_ok 16 rfl rfl (by decide +kernel) rv6 dX1_firstsOf_52 (fun s8 => ?_)
        refine g_aload_n 2 dX1_firstsOf_53 rfl ?_
        refine g_get (v := vR 49) (ci := 1) (b := 30) (N := 57) 9 rfl rfl (by decide) in_X1 rfl rfl q317 dX1_firstsOf_54 ?_
        refine g_iload_n 1 dX1_firstsOf_57 rfl ?_
        refine g_iload_n 3 dX1_firstsOf_58 rfl ?_
        refine g_iastU (id := 39) FC_ok 15 rfl rfl (by decide +kernel) ra1 dX1_firstsOf_59 (fun s9 => ?_)
        refine g_aload_n 2 dX1_firstsOf_60 rfl ?_
        refine g_get (v := vR 49) (ci := 1) (b := 30) (N := 57) 9 rfl rfl (by decide) in_X1 rfl rfl q317 dX1_firstsOf_61 ?_
        refine g_iload 0 dX1_firstsOf_64 rfl ?_
        refine g_iload_n 4 dX1_firstsOf_66 rfl ?_
        refine g_iastU (id := 39) FC_ok 15 rfl rfl (by decide +kernel) ra2 dX1_firstsOf_67 (fun s10 => ?_)
        refine g_iinc 3 (loc' := fun v11 => [(1, vI v11), (4, vI v6), (3, vI v2), (0, vR 1), (2, vI a2)]) dX1_firstsOf_68 rfl (by decide) (fun _ => rfl) (fun v11 rv11 => ?_)
        refine g_iinc 4 (loc' := fun v12 => [(2, vI v12), (1, vI v11), (4, vI v6), (3, vI v2), (0, vR 1)]) dX1_firstsOf_71 rfl (by decide) (fun _ => rfl) (fun v12 rv12 => ?_)
        refine g_goto 4 dX1_firstsOf_74 (by decide) ?_
        exact g_pick [4, 1, 0] rfl (ih v11 v12 s10 rv11 rv12)
    · exact g_pick [1] rfl (hx77 a1 u ra1)
theorem wX1_firstsOf (hd : 2 ≤ d) (hRf : d + 1 ≤ R.frames) (hRl : 40 * (d + 1) ≤ R.locals) (hX1_stands : ∀ (a1 : Int) (u : Sg), Ct l d FC clA yX1_stands cX1_stands 3 (some .boolean) DX1_stands rvI [vR 1, vI a1] u (call 53 [a1] u)) (u : Sg) : WG p l e R s m args below meth c JX1_firstsOf DX1_firstsOf G clA A FC ad0 σ0 rvI (bX1_firstsOf call u) u 0 [(0, vR 1)] [] := by
  unfold bX1_firstsOf
  refine g_iconst dX1_firstsOf_0 ?_
  refine g_istore_n (loc' := [(1, vI 0), (0, vR 1)]) dX1_firstsOf_1 (by decide) rfl ?_
  refine g_iconst dX1_firstsOf_2 ?_
  refine g_istore_n (loc' := [(2, vI 0), (1, vI 0), (0, vR 1)]) dX1_firstsOf_3 (by decide) rfl ?_
  refine g_pick [2, 1, 0] rfl (wX1_firstsOf_L4 hd hRf hRl hX1_stands _ (fun v2 s1 rv2 => ?_) KF 0 0 u (inR_z (Or.inl rfl)) (inR_z (Or.inl rfl)))
  · refine g_iload_n 0 dX1_firstsOf_77 rfl ?_
    exact g_iret rfl rfl (fun _ => rv2) dX1_firstsOf_78
end
section
variable {l : Launch} {d : Nat} {call : Nat → List Int → Sg → Option (Int × Sg)}
theorem ctX1_firstsOf (p0 : Program) (e0 : Env) (s0 : State) (m0 : MethodId) (meth0 : Method) (c0 : Code) (G0 : Gm) (hd : 2 ≤ d) (hX1_stands : ∀ (a1 : Int) (u : Sg), Ct l d FC clA yX1_stands cX1_stands 3 (some .boolean) DX1_stands rvI [vR 1, vI a1] u (call 53 [a1] u)) (u : Sg) : Ct l (d + 1) FC clA yX1_firstsOf cX1_firstsOf 5 (some .int) DX1_firstsOf rvI [vR 1] u (bX1_firstsOf call u) :=
  Ct_of (by decide) (Nat.le_of_ble_eq_true rfl) (fun p e R s1 m args below meth c G A ad hA hRf hRl => wX1_firstsOf hd hRf hRl hX1_stands u) p0 e0 s0 m0 meth0 c0 G0
end
/-! RoundCheck.stands(I)Z -/
abbrev JX1_stands : Jm := (cX1_stands, RX1, 3, (some .boolean))
def bX1_stands_L2 (call : Nat → List Int → Sg → Option (Int × Sg)) : Nat → Int → Int → Sg → (Sg → Option (Int × Sg)) → (Sg → Option (Int × Sg)) → Option (Int × Sg)
  | 0, _, _, _, _, _ => none
  | n + 1, a1, a2, u, x35, x27 => un (gI u 35) fun v1 => if a2 < v1 then (ld u 34 a2 fun v2 => cl (call 112 [v2, a1] u) fun v3 s4 => if v3 = 0 then (ar (a2 + 1) fun v5 => bX1_stands_L2 call n a1 v5 s4 x35 x27) else (x27 s4)) else (x35 u)
def bX1_stands (call : Nat → List Int → Sg → Option (Int × Sg)) (a1 : Int) (u : Sg) : Option (Int × Sg) := bX1_stands_L2 call KF a1 0 u (fun s1 => some (0, s1)) (fun s2 => some (1, s2))
section
variable {p : Program} {l : Launch} {e : Env} {R : Room} {s : State} {m : MethodId} {args : Array Value} {below : List Frame} {meth : Method} {c : Code} {G : Gm} {A : Nat → Prop} {ad0 : Nat → Nat} {σ0 : Sg} {d : Nat} {call : Nat → List Int → Sg → Option (Int × Sg)}
theorem wX1_stands_L2 (hd : 2 ≤ d) (hRf : d + 1 ≤ R.frames) (hRl : 40 * (d + 1) ≤ R.locals) (hX2_has : ∀ (a1 a2 : Int) (u : Sg), Ct l d FC clA yX2_has cX2_has 5 (some .boolean) DX2_has rvI [vR 0, vI a1, vI a2] u (call 112 [a1, a2] u)) (x35 : Sg → Option (Int × Sg)) (x27 : Sg → Option (Int × Sg)) (hx35 : ∀ (u : Sg), WG p l e R s m args below meth c JX1_stands DX1_stands G clA A FC ad0 σ0 rvI (x35 u) u 35 [] []) (hx27 : ∀ (u : Sg), WG p l e R s m args below meth c JX1_stands DX1_stands G clA A FC ad0 σ0 rvI (x27 u) u 27 [] []) : ∀ (n : Nat) (a1 a2 : Int) (u : Sg), inR a1 → inR a2 → WG p l e R s m args below meth c JX1_stands DX1_stands G clA A FC ad0 σ0 rvI (bX1_stands_L2 call n a1 a2 u x35 x27) u 2 [(0, vR 1), (1, vI a1), (2, vI a2)] [] := by
  intro n
  induction n with
  | zero =>
    intro a1 a2 u ra1 ra2
    exact g_none
  | succ n ih =>
    intro a1 a2 u ra1 ra2
    rw [bX1_stands_L2]
    refine g_iload_n 2 dX1_stands_2 rfl ?_
    refine g_aload_n 0 dX1_stands_3 rfl ?_
    refine g_getI (ci := 1) (b := 30) (N := 57) 5 rfl rfl rfl (by decide) in_X1 rfl rfl q313 dX1_stands_4 (fun v1 rv1 => ?_)
    refine g_icmp_ge 35 dX1_stands_7 (by decide) (fun _ => ra2) (fun _ => rv1) (fun _ => ?_) (fun _ => ?_)
    · refine g_aload_n 0 dX1_stands_10 rfl ?_
      refine g_get (v := vR 0) (ci := 1) (b := 30) (N := 57) 0 rfl rfl (by decide) in_X1 rfl rfl q308 dX1_stands_11 ?_
      refine g_aload_n 0 dX1_stands_14 rfl ?_
      refine g_get (v := vR 44) (ci := 1) (b := 30) (N := 57) 4 rfl rfl (by decide) in_X1 rfl rfl q312 dX1_stands_15 ?_
      refine g_iload_n 2 dX1_stands_18 rfl ?_
      refine g_iald (id := 34) 12 rfl rfl dX1_stands_19 (fun v2 rv2 => ?_)
      refine g_iload_n 1 dX1_stands_20 rfl ?_
      refine g_cVZ (As := [vI v2, vI a1]) (n := 2) (stk := []) (ci := 0) (b := 0) (N := 21) (hX2_has v2 a1 u) (by decide +kernel) rfl rfl (lw_V q892 q893 q894 q164 q895) (by decide +kernel) rfl (by decide) hRf hRl (fun _ => (avc rv2 (avc ra1 avn))) (Nat.le_of_ble_eq_true rfl) rfl rfl dX1_stands_21 (fun v3 s4 zv3 => ?_)
      refine g_if_eq 29 dX1_stands_24 (by decide) (fun _ => (inR_z zv3)) (fun _ => ?_) (fun _ => ?_)
      · refine g_iinc 2 (loc' := fun v5 => [(2, vI v5), (0, vR 1), (1, vI a1)]) dX1_stands_29 rfl (by decide) (fun _ => rfl) (fun v5 rv5 => ?_)
        refine g_goto 2 dX1_stands_32 (by decide) ?_
        exact g_pick [1, 2, 0] rfl (ih a1 v5 s4 ra1 rv5)
      · exact g_pick [] rfl (hx27 s4)
    · exact g_pick [] rfl (hx35 u)
theorem wX1_stands (hd : 2 ≤ d) (hRf : d + 1 ≤ R.frames) (hRl : 40 * (d + 1) ≤ R.locals) (hX2_has : ∀ (a1 a2 : Int) (u : Sg), Ct l d FC clA yX2_has cX2_has 5 (some .boolean) DX2_has rvI [vR 0, vI a1, vI a2] u (call 112 [a1, a2] u)) (a1 : Int) (u : Sg) (ra1 : inR a1) : WG p l e R s m args below meth c JX1_stands DX1_stands G clA A FC ad0 σ0 rvI (bX1_stands call a1 u) u 0 [(0, vR 1), (1, vI a1)] [] := by
  unfold bX1_stands
  refine g_iconst dX1_stands_0 ?_
  refine g_istore_n (loc' := [(2, vI 0), (0, vR 1), (1, vI a1)]) dX1_stands_1 (by decide) rfl ?_
  refine g_pick [1, 2, 0] rfl (wX1_stands_L2 hd hRf hRl hX2_has _ _ (fun s1 => ?_) (fun s2 => ?_) KF a1 0 u ra1 (inR_z (Or.inl rfl)))
  · refine g_iconst dX1_stands_35 ?_
    exact g_zret rfl rfl (fun _ => (Or.inl rfl)) dX1_stands_36
  · refine g_iconst dX1_stands_27 ?_
    exact g_zret rfl rfl (fun _ => (Or.inr rfl)) dX1_stands_28
end
section
variable {l : Launch} {d : Nat} {call : Nat → List Int → Sg → Option (Int × Sg)}
theorem ctX1_stands (p0 : Program) (e0 : Env) (s0 : State) (m0 : MethodId) (meth0 : Method) (c0 : Code) (G0 : Gm) (hd : 2 ≤ d) (hX2_has : ∀ (a1 a2 : Int) (u : Sg), Ct l d FC clA yX2_has cX2_has 5 (some .boolean) DX2_has rvI [vR 0, vI a1, vI a2] u (call 112 [a1, a2] u)) (a1 : Int) (u : Sg) : Ct l (d + 1) FC clA yX1_stands cX1_stands 3 (some .boolean) DX1_stands rvI [vR 1, vI a1] u (bX1_stands call a1 u) :=
  Ct_of (by decide) (Nat.le_of_ble_eq_true rfl) (fun p e R s1 m args below meth c G A ad hA hRf hRl => wX1_stands hd hRf hRl hX2_has a1 u (hA _ (List.mem_cons_of_mem _ List.mem_cons_self))) p0 e0 s0 m0 meth0 c0 G0
end
/-! RoundCheck.close()V -/
abbrev JX1_close : Jm := (cX1_close, RX1, 6, none)
def bX1_close_L17 (call : Nat → List Int → Sg → Option (Int × Sg)) : Nat → Int → Int → Sg → (Int → Sg → Option (Int × Sg)) → Option (Int × Sg)
  | 0, _, _, _, _ => none
  | n + 1, a1, a2, u, x245 => un (gI u 35) fun v1 => if a2 < v1 then (un (gI u 45) fun v2 => if v2 = 0 then (jn (fun (a1 a2 a3 t0 : Int) (s4 : Sg) => jn (fun (a1 a2 a3 a4 : Int) (s6 : Sg) => ld s6 0 a4 fun v7 => if v7 = 13 then (jn (fun (a2 t0 t2 t3 t4 : Int) (s9 : Sg) => ar (t3 + t4) fun v10 => cl (call 50 [t2, v10] s9) fun v11 s12 => un (o_or t0 v11) fun v13 => ar (a2 + 1) fun v14 => bX1_close_L17 call n v13 v14 s12 x245) fun j8 => cl (call 98 [a4, 0] s6) fun v15 s16 => ld s16 1 a4 fun v17 => ar (2 * v17) fun v18 => if a4 = a3 then (j8 a2 a1 v15 v18 0 s16) else (j8 a2 a1 v15 v18 1 s16)) else (ld s6 0 a4 fun v19 => if v19 = 14 then (if a4 = a3 then (ld s6 1 a3 fun v20 => cl (call 98 [a3, 0] s6) fun v21 s22 => cl (call 57 [v20, v21] s22) fun v23 s24 => cl (call 98 [a3, 1] s24) fun v25 s26 => cl (call 48 [v25, v23] s26) fun v27 s28 => un (o_or a1 v27) fun v29 => ar (a2 + 1) fun v30 => bX1_close_L17 call n v29 v30 s28 x245) else (ar (a2 + 1) fun v31 => bX1_close_L17 call n a1 v31 s6 x245)) else (ar (a2 + 1) fun v32 => bX1_close_L17 call n a1 v32 s6 x245))) fun j5 => ld s4 0 t0 fun v33 => if v33 = 10 then (if t0 = a3 then (cl (call 98 [a3, 0] s4) fun v34 s35 => cl (call 98 [a3, 1] s35) fun v36 s37 => cl (call 55 [v34, v36] s37) fun v38 s39 => un (o_or a1 v38) fun v40 => ar (a2 + 1) fun v41 => bX1_close_L17 call n v40 v41 s39 x245) else (j5 a1 a2 a3 t0 s4)) else (j5 a1 a2 a3 t0 s4)) fun j3 => ld u 34 a2 fun v42 => ld u 0 v42 fun v43 => if v43 = 16 then (cl (call 98 [v42, 0] u) fun v44 s45 => j3 a1 a2 v42 v44 s45) else (j3 a1 a2 v42 v42 u)) else (x245 a1 u)) else (x245 a1 u)
def bX1_close_L257 (call : Nat → List Int → Sg → Option (Int × Sg)) : Nat → Int → Int → Int → Sg → (Int → Int → Sg → Option (Int × Sg)) → Option (Int × Sg)
  | 0, _, _, _, _, _ => none
  | n + 1, a1, a2, a3, u, x319 => if a3 < a2 then (cl (call 56 [a2] u) fun v1 s2 => cl (call 56 [a3] s2) fun v3 s4 => if v1 = v3 then (ar (a3 + 1) fun v5 => bX1_close_L257 call n a1 a2 v5 s4 x319) else (ld s4 40 a2 fun v6 => ld s4 40 a3 fun v7 => cl (call 58 [v6, v7] s4) fun v8 s9 => if v8 = 0 then (ar (a3 + 1) fun v10 => bX1_close_L257 call n a1 a2 v10 s9 x319) else (ld s9 40 a2 fun v11 => ld s9 40 a3 fun v12 => cl (call 55 [v11, v12] s9) fun v13 s14 => un (o_or a1 v13) fun v15 => ar (a3 + 1) fun v16 => bX1_close_L257 call n v15 a2 v16 s14 x319))) else (x319 a1 a2 u)
def bX1_close_L247 (call : Nat → List Int → Sg → Option (Int × Sg)) : Nat → Int → Int → Sg → (Int → Sg → Option (Int × Sg)) → Option (Int × Sg)
  | 0, _, _, _, _ => none
  | n + 1, a1, a2, u, x325 => un (gI u 43) fun v1 => if a2 < v1 then (bX1_close_L257 call KF a1 a2 0 u (fun v3 v4 s2 => ar (v4 + 1) fun v5 => bX1_close_L247 call n v3 v5 s2 x325)) else (x325 a1 u)
def bX1_close_L327 (call : Nat → List Int → Sg → Option (Int × Sg)) : Nat → Int → Int → Sg → (Int → Sg → Option (Int × Sg)) → Option (Int × Sg)
  | 0, _, _, _, _ => none
  | n + 1, a1, a2, u, x361 => un (gI u 43) fun v1 => if a2 < v1 then (un (gI u 45) fun v2 => if v2 = 0 then (ld u 40 a2 fun v3 => cl (call 60 [v3] u) fun v4 s5 => un (o_or a1 v4) fun v6 => ar (a2 + 1) fun v7 => bX1_close_L327 call n v6 v7 s5 x361) else (x361 a1 u)) else (x361 a1 u)
def bX1_close_L363 (call : Nat → List Int → Sg → Option (Int × Sg)) : Nat → Int → Int → Sg → (Int → Sg → Option (Int × Sg)) → Option (Int × Sg)
  | 0, _, _, _, _ => none
  | n + 1, a1, a2, u, x401 => un (gI u 81) fun v1 => if a2 < v1 then (un (gI u 45) fun v2 => if v2 = 0 then (ld u 76 a2 fun v3 => if v3 = 0 then (cl (call 64 [a2] u) fun v4 s5 => un (o_or a1 v4) fun v6 => ar (a2 + 1) fun v7 => bX1_close_L363 call n v6 v7 s5 x401) else (ar (a2 + 1) fun v8 => bX1_close_L363 call n a1 v8 u x401)) else (x401 a1 u)) else (x401 a1 u)
def bX1_close_L2 (call : Nat → List Int → Sg → Option (Int × Sg)) : Nat → Int → Sg → (Sg → Option (Int × Sg)) → Option (Int × Sg)
  | 0, _, _, _ => none
  | n + 1, a1, u, x404 => if a1 = 0 then (x404 u) else (un (gI u 45) fun v1 => if v1 = 0 then (bX1_close_L17 call KF 0 0 u (fun v3 s2 => bX1_close_L247 call KF v3 0 s2 (fun v5 s4 => bX1_close_L327 call KF v5 0 s4 (fun v7 s6 => bX1_close_L363 call KF v7 0 s6 (fun v9 s8 => bX1_close_L2 call n v9 s8 x404))))) else (x404 u))
def bX1_close (call : Nat → List Int → Sg → Option (Int × Sg)) (u : Sg) : Option (Int × Sg) := bX1_close_L2 call KF 1 u (fun s1 => some (0, s1))
section
variable {p : Program} {l : Launch} {e : Env} {R : Room} {s : State} {m : MethodId} {args : Array Value} {below : List Frame} {meth : Method} {c : Code} {G : Gm} {A : Nat → Prop} {ad0 : Nat → Nat} {σ0 : Sg} {d : Nat} {call : Nat → List Int → Sg → Option (Int × Sg)}
theorem wX1_close_L17 (hd : 2 ≤ d) (hRf : d + 1 ≤ R.frames) (hRl : 40 * (d + 1) ≤ R.locals) (hX1_adjectiveFact : ∀ (a1 a2 : Int) (u : Sg), Ct l d FC clA yX1_adjectiveFact cX1_adjectiveFact 4 (some .boolean) DX1_adjectiveFact rvI [vR 1, vI a1, vI a2] u (call 50 [a1, a2] u)) (hX2_at : ∀ (a1 a2 : Int) (u : Sg), Ct l d FC clA yX2_at cX2_at 3 (some .int) DX2_at rvI [vR 0, vI a1, vI a2] u (call 98 [a1, a2] u)) (hX1_plain : ∀ (a1 a2 : Int) (u : Sg), Ct l d FC clA yX1_plain cX1_plain 4 (some .int) DX1_plain rvI [vR 1, vI a1, vI a2] u (call 57 [a1, a2] u)) (hX1_hasType : ∀ (a1 a2 : Int) (u : Sg), Ct l d FC clA yX1_hasType cX1_hasType 6 (some .boolean) DX1_hasType rvI [vR 1, vI a1, vI a2] u (call 48 [a1, a2] u)) (hX1_join_2 : ∀ (a1 a2 : Int) (u : Sg), Ct l d FC clA yX1_join_2 cX1_join_2 5 (some .boolean) DX1_join_2 rvI [vR 1, vI a1, vI a2] u (call 55 [a1, a2] u)) (hX1_root : ∀ (a1 : Int) (u : Sg), Ct l d FC clA yX1_root cX1_root 3 (some .int) DX1_root rvI [vR 1, vI a1] u (call 56 [a1] u)) (hX1_alikeTerms : ∀ (a1 a2 : Int) (u : Sg), Ct l d FC clA yX1_alikeTerms cX1_alikeTerms 7 (some .boolean) DX1_alikeTerms rvI [vR 1, vI a1, vI a2] u (call 58 [a1, a2] u)) (hX1_closeTerm : ∀ (a1 : Int) (u : Sg), Ct l d FC clA yX1_closeTerm cX1_closeTerm 10 (some .boolean) DX1_closeTerm rvI [vR 1, vI a1] u (call 60 [a1] u)) (hX1_closeClasses : ∀ (a1 : Int) (u : Sg), Ct l d FC clA yX1_closeClasses cX1_closeClasses 8 (some .boolean) DX1_closeClasses rvI [vR 1, vI a1] u (call 64 [a1] u)) (x245 : Int → Sg → Option (Int × Sg)) (hx245 : ∀ (a1 : Int) (u : Sg), (a1 = 0 ∨ a1 = 1) → WG p l e R s m args below meth c JX1_close DX1_close G clA A FC ad0 σ0 rvV (x245 a1 u) u 245 [(0, vR 1), (1, vI a1)] []) : ∀ (n : Nat) (a1 a2 : Int) (u : Sg), (a1 = 0 ∨ a1 = 1) → inR a2 → WG p l e R s m args below meth c JX1_close DX1_close G clA A FC ad0 σ0 rvV (bX1_close_L17 call n a1 a2 u x245) u 17 [(0, vR 1), (1, vI a1), (2, vI a2)] [] := by
  intro n
  induction n with
  | zero =>
    intro a1 a2 u za1 ra2
    exact g_none
  | succ n ih =>
    intro a1 a2 u za1 ra2
    rw [bX1_close_L17]
    refine g_iload_n 2 dX1_close_17 rfl ?_
    refine g_aload_n 0 dX1_close_18 rfl ?_
    refine g_getI (ci := 1) (b := 30) (N := 57) 5 rfl rfl rfl (by decide) in_X1 rfl rfl q313 dX1_close_19 (fun v1 rv1 => ?_)
    refine g_icmp_ge 245 dX1_close_22 (by decide) (fun _ => ra2) (fun _ => rv1) (fun _ => ?_) (fun _ => ?_)
    · refine g_aload_n 0 dX1_close_25 rfl ?_
      refine g_getZ (ci := 1) (b := 30) (N := 57) 15 rfl rfl rfl (by decide) in_X1 rfl rfl q323 dX1_close_26 (fun v2 zv2 => ?_)
      refine g_if_ne 245 dX1_close_29 (by decide) (fun _ => (inR_z zv2)) (fun _ => ?_) (fun _ => ?_)
      · refine g_jn (fun j3 => ∀ (a1 a2 a3 t0 : Int) (s4 : Sg), (a1 = 0 ∨ a1 = 1) → inR a2 → inR a3 → inR t0 → WG p l e R s m args below meth c JX1_close DX1_close G clA A FC ad0 σ0 rvV (j3 a1 a2 a3 t0 s4) s4 66 [(0, vR 1), (1, vI a1), (2, vI a2), (3, vI a3)] [vI t0]) (fun a1 a2 a3 t0 s4 za1 ra2 ra3 rt0 => ?_) (fun j3 hj3 => ?_)
        · refine g_jn (fun j5 => ∀ (a1 a2 a3 a4 : Int) (s6 : Sg), (a1 = 0 ∨ a1 = 1) → inR a2 → inR a3 → inR a4 → WG p l e R s m args below meth c JX1_close DX1_close G clA A FC ad0 σ0 rvV (j5 a1 a2 a3 a4 s6) s6 117 [(0, vR 1), (1, vI a1), (2, vI a2), (3, vI a3), (4, vI a4)] []) (fun a1 a2 a3 a4 s6 za1 ra2 ra3 ra4 => ?_) (fun j5 hj5 => ?_)
          · refine g_aload_n 0 dX1_close_117 rfl ?_
            refine g_get (v := vR 0) (ci := 1) (b := 30) (N := 57) 0 rfl rfl (by decide) in_X1 rfl rfl q308 dX1_close_118 ?_
            refine g_get (v := vR 10) (ci := 0) (b := 0) (N := 21) 0 rfl rfl (by decide) in_X2 rfl rfl q232 dX1_close_121 ?_
            refine g_iload 4 dX1_close_124 rfl ?_
            refine g_iald (id := 0) 0 rfl rfl dX1_close_126 (fun v7 rv7 => ?_)
            refine g_bipush (by decide +kernel) dX1_close_127 ?_
            refine g_icmp_ne 176 dX1_close_129 (by decide) (fun _ => rv7) (fun _ => (by decide : inR (13))) (fun _ => ?_) (fun _ => ?_)
            · refine g_jn (fun j8 => ∀ (a2 t0 t2 t3 t4 : Int) (s9 : Sg), inR a2 → (t0 = 0 ∨ t0 = 1) → inR t2 → inR t3 → (t4 = 0 ∨ t4 = 1) → WG p l e R s m args below meth c JX1_close DX1_close G clA A FC ad0 σ0 rvV (j8 a2 t0 t2 t3 t4 s9) s9 167 [(0, vR 1), (2, vI a2)] [vI t4, vI t3, vI t2, vR 1, vI t0]) (fun a2 t0 t2 t3 t4 s9 ra2 zt0 rt2 rt3 zt4 => ?_) (fun j8 hj8 => ?_)
              · refine g_iadd dX1_close_167 (fun v10 rv10 => ?_)
                refine g_cVZ (As := [vI t2, vI v10]) (n := 2) (stk := [vI t0]) (ci := 1) (b := 30) (N := 57) (hX1_adjectiveFact t2 v10 s9) (by decide +kernel) rfl rfl (lw_V q876 q878 qs32 q163 q879) (by decide +kernel) rfl (by decide) hRf hRl (fun _ => (avc rt2 (avc rv10 avn))) (Nat.le_of_ble_eq_true rfl) rfl rfl dX1_close_168 (fun v11 s12 zv11 => ?_)
                refine g_iorZ zt0 zv11 dX1_close_171 (fun v13 zv13 => ?_)
                refine g_istore_n (loc' := [(1, vI v13), (0, vR 1), (2, vI a2)]) dX1_close_172 (by decide) rfl ?_
                refine g_goto 239 dX1_close_173 (by decide) ?_
                refine g_iinc 2 (loc' := fun v14 => [(2, vI v14), (1, vI v13), (0, vR 1)]) dX1_close_239 rfl (by decide) (fun _ => rfl) (fun v14 rv14 => ?_)
                refine g_goto 17 dX1_close_242 (by decide) ?_
                exact g_pick [2, 1, 0] rfl (ih v13 v14 s12 zv13 rv14)
              · refine g_iload_n 1 dX1_close_132 rfl ?_
                refine g_aload_n 0 dX1_close_133 rfl ?_
                refine g_aload_n 0 dX1_close_134 rfl ?_
                refine g_get (v := vR 0) (ci := 1) (b := 30) (N := 57) 0 rfl rfl (by decide) in_X1 rfl rfl q308 dX1_close_135 ?_
                refine g_iload 4 dX1_close_138 rfl ?_
                refine g_iconst dX1_close_140 ?_
                refine g_cVI (As := [vI a4, vI 0]) (n := 2) (stk := [vR 1, vI a1]) (ci := 0) (b := 0) (N := 21) (hX2_at a4 0 s6) (by decide +kernel) rfl rfl (lw_V q571 q572 q573 q164 q574) (by decide +kernel) rfl (by decide) hRf hRl (fun _ => (avc ra4 (avc (inR_z (Or.inl rfl)) avn))) (Nat.le_of_ble_eq_true rfl) rfl rfl dX1_close_141 (fun v15 s16 rv15 => ?_)
                refine g_iconst dX1_close_144 ?_
                refine g_aload_n 0 dX1_close_145 rfl ?_
                refine g_get (v := vR 0) (ci := 1) (b := 30) (N := 57) 0 rfl rfl (by decide) in_X1 rfl rfl q308 dX1_close_146 ?_
                refine g_get (v := vR 11) (ci := 0) (b := 0) (N := 21) 1 rfl rfl (by decide) in_X2 rfl rfl q234 dX1_close_149 ?_
                refine g_iload 4 dX1_close_152 rfl ?_
                refine g_iald (id := 1) 1 rfl rfl dX1_close_154 (fun v17 rv17 => ?_)
                refine g_imul dX1_close_155 (fun v18 rv18 => ?_)
                refine g_iload 4 dX1_close_156 rfl ?_
                refine g_iload_n 3 dX1_close_158 rfl ?_
                refine g_icmp_ne 166 dX1_close_159 (by decide) (fun _ => ra4) (fun _ => ra3) (fun _ => ?_) (fun _ => ?_)
                · refine g_iconst dX1_close_162 ?_
                  refine g_goto 167 dX1_close_163 (by decide) ?_
                  exact g_pick [0, 2] rfl (hj8 a2 a1 v15 v18 0 s16 ra2 za1 rv15 rv18 (Or.inl rfl))
                · refine g_iconst dX1_close_166 ?_
                  exact g_pick [0, 2] rfl (hj8 a2 a1 v15 v18 1 s16 ra2 za1 rv15 rv18 (Or.inr rfl))
            · refine g_aload_n 0 dX1_close_176 rfl ?_
              refine g_get (v := vR 0) (ci := 1) (b := 30) (N := 57) 0 rfl rfl (by decide) in_X1 rfl rfl q308 dX1_close_177 ?_
              refine g_get (v := vR 10) (ci := 0) (b := 0) (N := 21) 0 rfl rfl (by decide) in_X2 rfl rfl q232 dX1_close_180 ?_
              refine g_iload 4 dX1_close_183 rfl ?_
              refine g_iald (id := 0) 0 rfl rfl dX1_close_185 (fun v19 rv19 => ?_)
              refine g_bipush (by decide +kernel) dX1_close_186 ?_
              refine g_icmp_ne 239 dX1_close_188 (by decide) (fun _ => rv19) (fun _ => (by decide : inR (14))) (fun _ => ?_) (fun _ => ?_)
              · refine g_iload 4 dX1_close_191 rfl ?_
                refine g_iload_n 3 dX1_close_193 rfl ?_
                refine g_icmp_ne 239 dX1_close_194 (by decide) (fun _ => ra4) (fun _ => ra3) (fun _ => ?_) (fun _ => ?_)
                · refine g_aload_n 0 dX1_close_197 rfl ?_
                  refine g_aload_n 0 dX1_close_198 rfl ?_
                  refine g_get (v := vR 0) (ci := 1) (b := 30) (N := 57) 0 rfl rfl (by decide) in_X1 rfl rfl q308 dX1_close_199 ?_
                  refine g_get (v := vR 11) (ci := 0) (b := 0) (N := 21) 1 rfl rfl (by decide) in_X2 rfl rfl q234 dX1_close_202 ?_
                  refine g_iload_n 3 dX1_close_205 rfl ?_
                  refine g_iald (id := 1) 1 rfl rfl dX1_close_206 (fun v20 rv20 => ?_)
                  refine g_aload_n 0 dX1_close_207 rfl ?_
                  refine g_get (v := vR 0) (ci := 1) (b := 30) (N := 57) 0 rfl rfl (by decide) in_X1 rfl rfl q308 dX1_close_208 ?_
                  refine g_iload_n 3 dX1_close_211 rfl ?_
                  refine g_iconst dX1_close_212 ?_
                  refine g_cVI (As := [vI a3, vI 0]) (n := 2) (stk := [vI v20, vR 1]) (ci := 0) (b := 0) (N := 21) (hX2_at a3 0 s6) (by decide +kernel) rfl rfl (lw_V q571 q572 q573 q164 q574) (by decide +kernel) rfl (by decide) hRf hRl (fun _ => (avc ra3 (avc (inR_z (Or.inl rfl)) avn))) (Nat.le_of_ble_eq_true rfl) rfl rfl dX1_close_213 (fun v21 s22 rv21 => ?_)
                  refine g_cVI (As := [vI v20, vI v21]) (n := 2) (stk := []) (ci := 1) (b := 30) (N := 57) (hX1_plain v20 v21 s22) (by decide +kernel) rfl rfl (lw_V q910 q912 qs39 q163 q913) (by decide +kernel) rfl (by decide) hRf hRl (fun _ => (avc rv20 (avc rv21 avn))) (Nat.le_of_ble_eq_true rfl) rfl rfl dX1_close_216 (fun v23 s24 rv23 => ?_)
                  refine g_istore (loc' := [(5, vI v23), (0, vR 1), (1, vI a1), (2, vI a2), (3, vI a3), (4, vI a4)]) dX1_close_219 (by decide) rfl ?_
                  refine g_iload_n 2 dX1_close_221 rfl ?_
                  refine g_aload_n 1 dX1_close_222 rfl ?_
                  refine g_aload_n 1 dX1_close_223 rfl ?_
                  refine g_get (v := vR 0) (ci := 1) (b := 30) (N := 57) 0 rfl rfl (by decide) in_X1 rfl rfl q308 dX1_close_224 ?_
                  refine g_iload_n 4 dX1_close_227 rfl ?_
                  refine g_iconst dX1_close_228 ?_
                  refine g_cVI (As := [vI a3, vI 1]) (n := 2) (stk := [vR 1, vI a1]) (ci := 0) (b := 0) (N := 21) (hX2_at a3 1 s24) (by decide +kernel) rfl rfl (lw_V q571 q572 q573 q164 q574) (by decide +kernel) rfl (by decide) hRf hRl (fun _ => (avc ra3 (avc (inR_z (Or.inr rfl)) avn))) (Nat.le_of_ble_eq_true rfl) rfl rfl dX1_close_229 (fun v25 s26 rv25 => ?_)
                  refine g_iload 0 dX1_close_232 rfl ?_
                  refine g_cVZ (As := [vI v25, vI v23]) (n := 2) (stk := [vI a1]) (ci := 1) (b := 30) (N := 57) (hX1_hasType v25 v23 s26) (by decide +kernel) rfl rfl (lw_V q868 q870 qs30 q163 q871) (by decide +kernel) rfl (by decide) hRf hRl (fun _ => (avc rv25 (avc rv23 avn))) (Nat.le_of_ble_eq_true rfl) rfl rfl dX1_close_234 (fun v27 s28 zv27 => ?_)
                  refine g_iorZ za1 zv27 dX1_close_237 (fun v29 zv29 => ?_)
                  refine g_istore_n (loc' := [(1, vI v29), (5, vI v23), (0, vR 1), (2, vI a2), (3, vI a3), (4, vI a4)]) dX1_close_238 (by decide) rfl ?_
                  refine g_iinc 3 (loc' := fun v30 => [(2, vI v30), (1, vI v29), (5, vI v23), (0, vR 1), (3, vI a3), (4, vI a4)]) dX1_close_239 rfl (by decide) (fun _ => rfl) (fun v30 rv30 => ?_)
                  refine g_goto 17 dX1_close_242 (by decide) ?_
                  exact g_pick [3, 1, 0] rfl (ih v29 v30 s28 zv29 rv30)
                · refine g_iinc 2 (loc' := fun v31 => [(2, vI v31), (0, vR 1), (1, vI a1), (3, vI a3), (4, vI a4)]) dX1_close_239 rfl (by decide) (fun _ => rfl) (fun v31 rv31 => ?_)
                  refine g_goto 17 dX1_close_242 (by decide) ?_
                  exact g_pick [1, 2, 0] rfl (ih a1 v31 s6 za1 rv31)
              · refine g_iinc 2 (loc' := fun v32 => [(2, vI v32), (0, vR 1), (1, vI a1), (3, vI a3), (4, vI a4)]) dX1_close_239 rfl (by decide) (fun _ => rfl) (fun v32 rv32 => ?_)
                refine g_goto 17 dX1_close_242 (by decide) ?_
                exact g_pick [1, 2, 0] rfl (ih a1 v32 s6 za1 rv32)
          · refine g_istore (loc' := [(4, vI t0), (0, vR 1), (1, vI a1), (2, vI a2), (3, vI a3)]) dX1_close_66 (by decide) rfl ?_
            refine g_aload_n 1 dX1_close_68 rfl ?_
            refine g_get (v := vR 0) (ci := 1) (b := 30) (N := 57) 0 rfl rfl (by decide) in_X1 rfl rfl q308 dX1_close_69 ?_
            refine g_get (v := vR 10) (ci := 0) (b := 0) (N := 21) 0 rfl rfl (by decide) in_X2 rfl rfl q232 dX1_close_72 ?_
            refine g_iload 0 dX1_close_75 rfl ?_
            refine g_iald (id := 0) 0 rfl rfl dX1_close_77 (fun v33 rv33 => ?_)
            refine g_bipush (by decide +kernel) dX1_close_78 ?_
            refine g_icmp_ne 117 dX1_close_80 (by decide) (fun _ => rv33) (fun _ => (by decide : inR (10))) (fun _ => ?_) (fun _ => ?_)
            · refine g_iload 0 dX1_close_83 rfl ?_
              refine g_iload_n 4 dX1_close_85 rfl ?_
              refine g_icmp_ne 117 dX1_close_86 (by decide) (fun _ => rt0) (fun _ => ra3) (fun _ => ?_) (fun _ => ?_)
              · refine g_iload_n 2 dX1_close_89 rfl ?_
                refine g_aload_n 1 dX1_close_90 rfl ?_
                refine g_aload_n 1 dX1_close_91 rfl ?_
                refine g_get (v := vR 0) (ci := 1) (b := 30) (N := 57) 0 rfl rfl (by decide) in_X1 rfl rfl q308 dX1_close_92 ?_
                refine g_iload_n 4 dX1_close_95 rfl ?_
                refine g_iconst dX1_close_96 ?_
                refine g_cVI (As := [vI a3, vI 0]) (n := 2) (stk := [vR 1, vI a1]) (ci := 0) (b := 0) (N := 21) (hX2_at a3 0 s4) (by decide +kernel) rfl rfl (lw_V q571 q572 q573 q164 q574) (by decide +kernel) rfl (by decide) hRf hRl (fun _ => (avc ra3 (avc (inR_z (Or.inl rfl)) avn))) (Nat.le_of_ble_eq_true rfl) rfl rfl dX1_close_97 (fun v34 s35 rv34 => ?_)
                refine g_aload_n 1 dX1_close_100 rfl ?_
                refine g_get (v := vR 0) (ci := 1) (b := 30) (N := 57) 0 rfl rfl (by decide) in_X1 rfl rfl q308 dX1_close_101 ?_
                refine g_iload_n 4 dX1_close_104 rfl ?_
                refine g_iconst dX1_close_105 ?_
                refine g_cVI (As := [vI a3, vI 1]) (n := 2) (stk := [vI v34, vR 1, vI a1]) (ci := 0) (b := 0) (N := 21) (hX2_at a3 1 s35) (by decide +kernel) rfl rfl (lw_V q571 q572 q573 q164 q574) (by decide +kernel) rfl (by decide) hRf hRl (fun _ => (avc ra3 (avc (inR_z (Or.inr rfl)) avn))) (Nat.le_of_ble_eq_true rfl) rfl rfl dX1_close_106 (fun v36 s37 rv36 => ?_)
                refine g_cVZ (As := [vI v34, vI v36]) (n := 2) (stk := [vI a1]) (ci := 1) (b := 30) (N := 57) (hX1_join_2 v34 v36 s37) (by decide +kernel) rfl rfl (lw_V q901 q903 qs37 q163 q904) (by decide +kernel) rfl (by decide) hRf hRl (fun _ => (avc rv34 (avc rv36 avn))) (Nat.le_of_ble_eq_true rfl) rfl rfl dX1_close_109 (fun v38 s39 zv38 => ?_)
                refine g_iorZ za1 zv38 dX1_close_112 (fun v40 zv40 => ?_)
                refine g_istore_n (loc' := [(1, vI v40), (4, vI t0), (0, vR 1), (2, vI a2), (3, vI a3)]) dX1_close_113 (by decide) rfl ?_
                refine g_goto 239 dX1_close_114 (by decide) ?_
                refine g_iinc 3 (loc' := fun v41 => [(2, vI v41), (1, vI v40), (4, vI t0), (0, vR 1), (3, vI a3)]) dX1_close_239 rfl (by decide) (fun _ => rfl) (fun v41 rv41 => ?_)
                refine g_goto 17 dX1_close_242 (by decide) ?_
                exact g_pick [3, 1, 0] rfl (ih v40 v41 s39 zv40 rv41)
              · exact g_pick [1, 2, 3, 4, 0] rfl (hj5 a1 a2 a3 t0 s4 za1 ra2 ra3 rt0)
            · exact g_pick [1, 2, 3, 4, 0] rfl (hj5 a1 a2 a3 t0 s4 za1 ra2 ra3 rt0)
        · refine g_aload_n 0 dX1_close_32 rfl ?_
          refine g_get (v := vR 44) (ci := 1) (b := 30) (N := 57) 4 rfl rfl (by decide) in_X1 rfl rfl q312 dX1_close_33 ?_
          refine g_iload_n 2 dX1_close_36 rfl ?_
          refine g_iald (id := 34) 12 rfl rfl dX1_close_37 (fun v42 rv42 => ?_)
          refine g_istore_n (loc' := [(3, vI v42), (0, vR 1), (1, vI a1), (2, vI a2)]) dX1_close_38 (by decide) rfl ?_
          refine g_aload_n 1 dX1_close_39 rfl ?_
          refine g_get (v := vR 0) (ci := 1) (b := 30) (N := 57) 0 rfl rfl (by decide) in_X1 rfl rfl q308 dX1_close_40 ?_
          refine g_get (v := vR 10) (ci := 0) (b := 0) (N := 21) 0 rfl rfl (by decide) in_X2 rfl rfl q232 dX1_close_43 ?_
          refine g_iload_n 0 dX1_close_46 rfl ?_
          refine g_iald (id := 0) 0 rfl rfl dX1_close_47 (fun v43 rv43 => ?_)
          refine g_bipush (by decide +kernel) dX1_close_48 ?_
          refine g_icmp_ne 65 dX1_close_50 (by decide) (fun _ => rv43) (fun _ => (by decide : inR (16))) (fun _ => ?_) (fun _ => ?_)
          · refine g_aload_n 1 dX1_close_53 rfl ?_
            refine g_get (v := vR 0) (ci := 1) (b := 30) (N := 57) 0 rfl rfl (by decide) in_X1 rfl rfl q308 dX1_close_54 ?_
            refine g_iload_n 0 dX1_close_57 rfl ?_
            refine g_iconst dX1_close_58 ?_
            refine g_cVI (As := [vI v42, vI 0]) (n := 2) (stk := []) (ci := 0) (b := 0) (N := 21) (hX2_at v42 0 u) (by decide +kernel) rfl rfl (lw_V q571 q572 q573 q164 q574) (by decide +kernel) rfl (by decide) hRf hRl (fun _ => (avc rv42 (avc (inR_z (Or.inl rfl)) avn))) (Nat.le_of_ble_eq_true rfl) rfl rfl dX1_close_59 (fun v44 s45 rv44 => ?_)
            refine g_goto 66 dX1_close_62 (by decide) ?_
            exact g_pick [1, 2, 3, 0] rfl (hj3 a1 a2 v42 v44 s45 za1 ra2 rv42 rv44)
          · refine g_iload_n 0 dX1_close_65 rfl ?_
            exact g_pick [1, 2, 3, 0] rfl (hj3 a1 a2 v42 v42 u za1 ra2 rv42 rv42)
      · exact g_pick [0, 1] rfl (hx245 a1 u za1)
    · exact g_pick [0, 1] rfl (hx245 a1 u za1)
theorem wX1_close_L257 (hd : 2 ≤ d) (hRf : d + 1 ≤ R.frames) (hRl : 40 * (d + 1) ≤ R.locals) (hX1_adjectiveFact : ∀ (a1 a2 : Int) (u : Sg), Ct l d FC clA yX1_adjectiveFact cX1_adjectiveFact 4 (some .boolean) DX1_adjectiveFact rvI [vR 1, vI a1, vI a2] u (call 50 [a1, a2] u)) (hX2_at : ∀ (a1 a2 : Int) (u : Sg), Ct l d FC clA yX2_at cX2_at 3 (some .int) DX2_at rvI [vR 0, vI a1, vI a2] u (call 98 [a1, a2] u)) (hX1_plain : ∀ (a1 a2 : Int) (u : Sg), Ct l d FC clA yX1_plain cX1_plain 4 (some .int) DX1_plain rvI [vR 1, vI a1, vI a2] u (call 57 [a1, a2] u)) (hX1_hasType : ∀ (a1 a2 : Int) (u : Sg), Ct l d FC clA yX1_hasType cX1_hasType 6 (some .boolean) DX1_hasType rvI [vR 1, vI a1, vI a2] u (call 48 [a1, a2] u)) (hX1_join_2 : ∀ (a1 a2 : Int) (u : Sg), Ct l d FC clA yX1_join_2 cX1_join_2 5 (some .boolean) DX1_join_2 rvI [vR 1, vI a1, vI a2] u (call 55 [a1, a2] u)) (hX1_root : ∀ (a1 : Int) (u : Sg), Ct l d FC clA yX1_root cX1_root 3 (some .int) DX1_root rvI [vR 1, vI a1] u (call 56 [a1] u)) (hX1_alikeTerms : ∀ (a1 a2 : Int) (u : Sg), Ct l d FC clA yX1_alikeTerms cX1_alikeTerms 7 (some .boolean) DX1_alikeTerms rvI [vR 1, vI a1, vI a2] u (call 58 [a1, a2] u)) (hX1_closeTerm : ∀ (a1 : Int) (u : Sg), Ct l d FC clA yX1_closeTerm cX1_closeTerm 10 (some .boolean) DX1_closeTerm rvI [vR 1, vI a1] u (call 60 [a1] u)) (hX1_closeClasses : ∀ (a1 : Int) (u : Sg), Ct l d FC clA yX1_closeClasses cX1_closeClasses 8 (some .boolean) DX1_closeClasses rvI [vR 1, vI a1] u (call 64 [a1] u)) (x319 : Int → Int → Sg → Option (Int × Sg)) (hx319 : ∀ (a1 a2 : Int) (u : Sg), (a1 = 0 ∨ a1 = 1) → inR a2 → WG p l e R s m args below meth c JX1_close DX1_close G clA A FC ad0 σ0 rvV (x319 a1 a2 u) u 319 [(0, vR 1), (1, vI a1), (2, vI a2)] []) : ∀ (n : Nat) (a1 a2 a3 : Int) (u : Sg), (a1 = 0 ∨ a1 = 1) → inR a2 → inR a3 → WG p l e R s m args below meth c JX1_close DX1_close G clA A FC ad0 σ0 rvV (bX1_close_L257 call n a1 a2 a3 u x319) u 257 [(0, vR 1), (1, vI a1), (2, vI a2), (3, vI a3)] [] := by
  intro n
  induction n with
  | zero =>
    intro a1 a2 a3 u za1 ra2 ra3
    exact g_none
  | succ n ih =>
    intro a1 a2 a3 u za1 ra2 ra3
    rw [bX1_close_L257]
    refine g_iload_n 3 dX1_close_257 rfl ?_
    refine g_iload_n 2 dX1_close_258 rfl ?_
    refine g_icmp_ge 319 dX1_close_259 (by decide) (fun _ => ra3) (fun _ => ra2) (fun _ => ?_) (fun _ => ?_)
    · refine g_aload_n 0 dX1_close_262 rfl ?_
      refine g_iload_n 2 dX1_close_263 rfl ?_
      refine g_cVI (As := [vI a2]) (n := 1) (stk := []) (ci := 1) (b := 30) (N := 57) (hX1_root a2 u) (by decide +kernel) rfl rfl (lw_V q905 q907 qs38 q163 q908) (by decide +kernel) rfl (by decide) hRf hRl (fun _ => (avc ra2 avn)) (Nat.le_of_ble_eq_true rfl) rfl rfl dX1_close_264 (fun v1 s2 rv1 => ?_)
      refine g_aload_n 0 dX1_close_267 rfl ?_
      refine g_iload_n 3 dX1_close_268 rfl ?_
      refine g_cVI (As := [vI a3]) (n := 1) (stk := [vI v1]) (ci := 1) (b := 30) (N := 57) (hX1_root a3 s2) (by decide +kernel) rfl rfl (lw_V q905 q907 qs38 q163 q908) (by decide +kernel) rfl (by decide) hRf hRl (fun _ => (avc ra3 avn)) (Nat.le_of_ble_eq_true rfl) rfl rfl dX1_close_269 (fun v3 s4 rv3 => ?_)
      refine g_icmp_eq 313 dX1_close_272 (by decide) (fun _ => rv1) (fun _ => rv3) (fun _ => ?_) (fun _ => ?_)
      · refine g_iinc 3 (loc' := fun v5 => [(3, vI v5), (0, vR 1), (1, vI a1), (2, vI a2)]) dX1_close_313 rfl (by decide) (fun _ => rfl) (fun v5 rv5 => ?_)
        refine g_goto 257 dX1_close_316 (by decide) ?_
        exact g_pick [1, 2, 3, 0] rfl (ih a1 a2 v5 s4 za1 ra2 rv5)
      · refine g_aload_n 0 dX1_close_275 rfl ?_
        refine g_aload_n 0 dX1_close_276 rfl ?_
        refine g_get (v := vR 50) (ci := 1) (b := 30) (N := 57) 10 rfl rfl (by decide) in_X1 rfl rfl q318 dX1_close_277 ?_
        refine g_iload_n 2 dX1_close_280 rfl ?_
        refine g_iald (id := 40) 16 rfl rfl dX1_close_281 (fun v6 rv6 => ?_)
        refine g_aload_n 0 dX1_close_282 rfl ?_
        refine g_get (v := vR 50) (ci := 1) (b := 30) (N := 57) 10 rfl rfl (by decide) in_X1 rfl rfl q318 dX1_close_283 ?_
        refine g_iload_n 3 dX1_close_286 rfl ?_
        refine g_iald (id := 40) 16 rfl rfl dX1_close_287 (fun v7 rv7 => ?_)
        refine g_cVZ (As := [vI v6, vI v7]) (n := 2) (stk := []) (ci := 1) (b := 30) (N := 57) (hX1_alikeTerms v6 v7 s4) (by decide +kernel) rfl rfl (lw_V q914 q916 qs40 q163 q917) (by decide +kernel) rfl (by decide) hRf hRl (fun _ => (avc rv6 (avc rv7 avn))) (Nat.le_of_ble_eq_true rfl) rfl rfl dX1_close_288 (fun v8 s9 zv8 => ?_)
        refine g_if_eq 313 dX1_close_291 (by decide) (fun _ => (inR_z zv8)) (fun _ => ?_) (fun _ => ?_)
        · refine g_iinc 3 (loc' := fun v10 => [(3, vI v10), (0, vR 1), (1, vI a1), (2, vI a2)]) dX1_close_313 rfl (by decide) (fun _ => rfl) (fun v10 rv10 => ?_)
          refine g_goto 257 dX1_close_316 (by decide) ?_
          exact g_pick [1, 2, 3, 0] rfl (ih a1 a2 v10 s9 za1 ra2 rv10)
        · refine g_iload_n 1 dX1_close_294 rfl ?_
          refine g_aload_n 0 dX1_close_295 rfl ?_
          refine g_aload_n 0 dX1_close_296 rfl ?_
          refine g_get (v := vR 50) (ci := 1) (b := 30) (N := 57) 10 rfl rfl (by decide) in_X1 rfl rfl q318 dX1_close_297 ?_
          refine g_iload_n 2 dX1_close_300 rfl ?_
          refine g_iald (id := 40) 16 rfl rfl dX1_close_301 (fun v11 rv11 => ?_)
          refine g_aload_n 0 dX1_close_302 rfl ?_
          refine g_get (v := vR 50) (ci := 1) (b := 30) (N := 57) 10 rfl rfl (by decide) in_X1 rfl rfl q318 dX1_close_303 ?_
          refine g_iload_n 3 dX1_close_306 rfl ?_
          refine g_iald (id := 40) 16 rfl rfl dX1_close_307 (fun v12 rv12 => ?_)
          refine g_cVZ (As := [vI v11, vI v12]) (n := 2) (stk := [vI a1]) (ci := 1) (b := 30) (N := 57) (hX1_join_2 v11 v12 s9) (by decide +kernel) rfl rfl (lw_V q901 q903 qs37 q163 q904) (by decide +kernel) rfl (by decide) hRf hRl (fun _ => (avc rv11 (avc rv12 avn))) (Nat.le_of_ble_eq_true rfl) rfl rfl dX1_close_308 (fun v13 s14 zv13 => ?_)
          refine g_iorZ za1 zv13 dX1_close_311 (fun v15 zv15 => ?_)
          refine g_istore_n (loc' := [(1, vI v15), (0, vR 1), (2, vI a2), (3, vI a3)]) dX1_close_312 (by decide) rfl ?_
          refine g_iinc 3 (loc' := fun v16 => [(3, vI v16), (1, vI v15), (0, vR 1), (2, vI a2)]) dX1_close_313 rfl (by decide) (fun _ => rfl) (fun v16 rv16 => ?_)
          refine g_goto 257 dX1_close_316 (by decide) ?_
          exact g_pick [2, 1, 3, 0] rfl (ih v15 a2 v16 s14 zv15 ra2 rv16)
    · exact g_pick [0, 1, 2] rfl (hx319 a1 a2 u za1 ra2)
theorem wX1_close_L247 (hd : 2 ≤ d) (hRf : d + 1 ≤ R.frames) (hRl : 40 * (d + 1) ≤ R.locals) (hX1_adjectiveFact : ∀ (a1 a2 : Int) (u : Sg), Ct l d FC clA yX1_adjectiveFact cX1_adjectiveFact 4 (some .boolean) DX1_adjectiveFact rvI [vR 1, vI a1, vI a2] u (call 50 [a1, a2] u)) (hX2_at : ∀ (a1 a2 : Int) (u : Sg), Ct l d FC clA yX2_at cX2_at 3 (some .int) DX2_at rvI [vR 0, vI a1, vI a2] u (call 98 [a1, a2] u)) (hX1_plain : ∀ (a1 a2 : Int) (u : Sg), Ct l d FC clA yX1_plain cX1_plain 4 (some .int) DX1_plain rvI [vR 1, vI a1, vI a2] u (call 57 [a1, a2] u)) (hX1_hasType : ∀ (a1 a2 : Int) (u : Sg), Ct l d FC clA yX1_hasType cX1_hasType 6 (some .boolean) DX1_hasType rvI [vR 1, vI a1, vI a2] u (call 48 [a1, a2] u)) (hX1_join_2 : ∀ (a1 a2 : Int) (u : Sg), Ct l d FC clA yX1_join_2 cX1_join_2 5 (some .boolean) DX1_join_2 rvI [vR 1, vI a1, vI a2] u (call 55 [a1, a2] u)) (hX1_root : ∀ (a1 : Int) (u : Sg), Ct l d FC clA yX1_root cX1_root 3 (some .int) DX1_root rvI [vR 1, vI a1] u (call 56 [a1] u)) (hX1_alikeTerms : ∀ (a1 a2 : Int) (u : Sg), Ct l d FC clA yX1_alikeTerms cX1_alikeTerms 7 (some .boolean) DX1_alikeTerms rvI [vR 1, vI a1, vI a2] u (call 58 [a1, a2] u)) (hX1_closeTerm : ∀ (a1 : Int) (u : Sg), Ct l d FC clA yX1_closeTerm cX1_closeTerm 10 (some .boolean) DX1_closeTerm rvI [vR 1, vI a1] u (call 60 [a1] u)) (hX1_closeClasses : ∀ (a1 : Int) (u : Sg), Ct l d FC clA yX1_closeClasses cX1_closeClasses 8 (some .boolean) DX1_closeClasses rvI [vR 1, vI a1] u (call 64 [a1] u)) (x325 : Int → Sg → Option (Int × Sg)) (hx325 : ∀ (a1 : Int) (u : Sg), (a1 = 0 ∨ a1 = 1) → WG p l e R s m args below meth c JX1_close DX1_close G clA A FC ad0 σ0 rvV (x325 a1 u) u 325 [(0, vR 1), (1, vI a1)] []) : ∀ (n : Nat) (a1 a2 : Int) (u : Sg), (a1 = 0 ∨ a1 = 1) → inR a2 → WG p l e R s m args below meth c JX1_close DX1_close G clA A FC ad0 σ0 rvV (bX1_close_L247 call n a1 a2 u x325) u 247 [(0, vR 1), (1, vI a1), (2, vI a2)] [] := by
  intro n
  induction n with
  | zero =>
    intro a1 a2 u za1 ra2
    exact g_none
  | succ n ih =>
    intro a1 a2 u za1 ra2
    rw [bX1_close_L247]
    refine g_iload_n 2 dX1_close_247 rfl ?_
    refine g_aload_n 0 dX1_close_248 rfl ?_
    refine g_getI (ci := 1) (b := 30) (N := 57) 13 rfl rfl rfl (by decide) in_X1 rfl rfl q321 dX1_close_249 (fun v1 rv1 => ?_)
    refine g_icmp_ge 325 dX1_close_252 (by decide) (fun _ => ra2) (fun _ => rv1) (fun _ => ?_) (fun _ => ?_)
    · refine g_iconst dX1_close_255 ?_
      refine g_istore_n (loc' := [(3, vI 0), (0, vR 1), (1, vI a1), (2, vI a2)]) dX1_close_256 (by decide) rfl ?_
      refine g_pick [1, 2, 3, 0] rfl (wX1_close_L257 hd hRf hRl hX1_adjectiveFact hX2_at hX1_plain hX1_hasType hX1_join_2 hX1_root hX1_alikeTerms hX1_closeTerm hX1_closeClasses _ (fun v3 v4 s2 zv3 rv4 => ?_) KF a1 a2 0 u za1 ra2 (inR_z (Or.inl rfl)))
      · refine g_iinc 2 (loc' := fun v5 => [(2, vI v5), (0, vR 1), (1, vI v3)]) dX1_close_319 rfl (by decide) (fun _ => rfl) (fun v5 rv5 => ?_)
        refine g_goto 247 dX1_close_322 (by decide) ?_
        exact g_pick [1, 2, 0] rfl (ih v3 v5 s2 zv3 rv5)
    · exact g_pick [0, 1] rfl (hx325 a1 u za1)
theorem wX1_close_L327 (hd : 2 ≤ d) (hRf : d + 1 ≤ R.frames) (hRl : 40 * (d + 1) ≤ R.locals) (hX1_adjectiveFact : ∀ (a1 a2 : Int) (u : Sg), Ct l d FC clA yX1_adjectiveFact cX1_adjectiveFact 4 (some .boolean) DX1_adjectiveFact rvI [vR 1, vI a1, vI a2] u (call 50 [a1, a2] u)) (hX2_at : ∀ (a1 a2 : Int) (u : Sg), Ct l d FC clA yX2_at cX2_at 3 (some .int) DX2_at rvI [vR 0, vI a1, vI a2] u (call 98 [a1, a2] u)) (hX1_plain : ∀ (a1 a2 : Int) (u : Sg), Ct l d FC clA yX1_plain cX1_plain 4 (some .int) DX1_plain rvI [vR 1, vI a1, vI a2] u (call 57 [a1, a2] u)) (hX1_hasType : ∀ (a1 a2 : Int) (u : Sg), Ct l d FC clA yX1_hasType cX1_hasType 6 (some .boolean) DX1_hasType rvI [vR 1, vI a1, vI a2] u (call 48 [a1, a2] u)) (hX1_join_2 : ∀ (a1 a2 : Int) (u : Sg), Ct l d FC clA yX1_join_2 cX1_join_2 5 (some .boolean) DX1_join_2 rvI [vR 1, vI a1, vI a2] u (call 55 [a1, a2] u)) (hX1_root : ∀ (a1 : Int) (u : Sg), Ct l d FC clA yX1_root cX1_root 3 (some .int) DX1_root rvI [vR 1, vI a1] u (call 56 [a1] u)) (hX1_alikeTerms : ∀ (a1 a2 : Int) (u : Sg), Ct l d FC clA yX1_alikeTerms cX1_alikeTerms 7 (some .boolean) DX1_alikeTerms rvI [vR 1, vI a1, vI a2] u (call 58 [a1, a2] u)) (hX1_closeTerm : ∀ (a1 : Int) (u : Sg), Ct l d FC clA yX1_closeTerm cX1_closeTerm 10 (some .boolean) DX1_closeTerm rvI [vR 1, vI a1] u (call 60 [a1] u)) (hX1_closeClasses : ∀ (a1 : Int) (u : Sg), Ct l d FC clA yX1_closeClasses cX1_closeClasses 8 (some .boolean) DX1_closeClasses rvI [vR 1, vI a1] u (call 64 [a1] u)) (x361 : Int → Sg → Option (Int × Sg)) (hx361 : ∀ (a1 : Int) (u : Sg), (a1 = 0 ∨ a1 = 1) → WG p l e R s m args below meth c JX1_close DX1_close G clA A FC ad0 σ0 rvV (x361 a1 u) u 361 [(0, vR 1), (1, vI a1)] []) : ∀ (n : Nat) (a1 a2 : Int) (u : Sg), (a1 = 0 ∨ a1 = 1) → inR a2 → WG p l e R s m args below meth c JX1_close DX1_close G clA A FC ad0 σ0 rvV (bX1_close_L327 call n a1 a2 u x361) u 327 [(0, vR 1), (1, vI a1), (2, vI a2)] [] := by
  intro n
  induction n with
  | zero =>
    intro a1 a2 u za1 ra2
    exact g_none
  | succ n ih =>
    intro a1 a2 u za1 ra2
    rw [bX1_close_L327]
    refine g_iload_n 2 dX1_close_327 rfl ?_
    refine g_aload_n 0 dX1_close_328 rfl ?_
    refine g_getI (ci := 1) (b := 30) (N := 57) 13 rfl rfl rfl (by decide) in_X1 rfl rfl q321 dX1_close_329 (fun v1 rv1 => ?_)
    refine g_icmp_ge 361 dX1_close_332 (by decide) (fun _ => ra2) (fun _ => rv1) (fun _ => ?_) (fun _ => ?_)
    · refine g_aload_n 0 dX1_close_335 rfl ?_
      refine g_getZ (ci := 1) (b := 30) (N := 57) 15 rfl rfl rfl (by decide) in_X1 rfl rfl q323 dX1_close_336 (fun v2 zv2 => ?_)
      refine g_if_ne 361 dX1_close_339 (by decide) (fun _ => (inR_z zv2)) (fun _ => ?_) (fun _ => ?_)
      · refine g_iload_n 1 dX1_close_342 rfl ?_
        refine g_aload_n 0 dX1_close_343 rfl ?_
        refine g_aload_n 0 dX1_close_344 rfl ?_
        refine g_get (v := vR 50) (ci := 1) (b := 30) (N := 57) 10 rfl rfl (by decide) in_X1 rfl rfl q318 dX1_close_345 ?_
        refine g_iload_n 2 dX1_close_348 rfl ?_
        refine g_iald (id := 40) 16 rfl rfl dX1_close_349 (fun v3 rv3 => ?_)
        refine g_cVZ (As := [vI v3]) (n := 1) (stk := [vI a1]) (ci := 1) (b := 30) (N := 57) (hX1_closeTerm v3 u) (by decide +kernel) rfl rfl (lw_V q922 q924 qs42 q163 q925) (by decide +kernel) rfl (by decide) hRf hRl (fun _ => (avc rv3 avn)) (Nat.le_of_ble_eq_true rfl) rfl rfl dX1_close_350 (fun v4 s5 zv4 => ?_)
        refine g_iorZ za1 zv4 dX1_close_353 (fun v6 zv6 => ?_)
        refine g_istore_n (loc' := [(1, vI v6), (0, vR 1), (2, vI a2)]) dX1_close_354 (by decide) rfl ?_
        refine g_iinc 2 (loc' := fun v7 => [(2, vI v7), (1, vI v6), (0, vR 1)]) dX1_close_355 rfl (by decide) (fun _ => rfl) (fun v7 rv7 => ?_)
        refine g_goto 327 dX1_close_358 (by decide) ?_
        exact g_pick [2, 1, 0] rfl (ih v6 v7 s5 zv6 rv7)
      · exact g_pick [0, 1] rfl (hx361 a1 u za1)
    · exact g_pick [0, 1] rfl (hx361 a1 u za1)
theorem wX1_close_L363 (hd : 2 ≤ d) (hRf : d + 1 ≤ R.frames) (hRl : 40 * (d + 1) ≤ R.locals) (hX1_adjectiveFact : ∀ (a1 a2 : Int) (u : Sg), Ct l d FC clA yX1_adjectiveFact cX1_adjectiveFact 4 (some .boolean) DX1_adjectiveFact rvI [vR 1, vI a1, vI a2] u (call 50 [a1, a2] u)) (hX2_at : ∀ (a1 a2 : Int) (u : Sg), Ct l d FC clA yX2_at cX2_at 3 (some .int) DX2_at rvI [vR 0, vI a1, vI a2] u (call 98 [a1, a2] u)) (hX1_plain : ∀ (a1 a2 : Int) (u : Sg), Ct l d FC clA yX1_plain cX1_plain 4 (some .int) DX1_plain rvI [vR 1, vI a1, vI a2] u (call 57 [a1, a2] u)) (hX1_hasType : ∀ (a1 a2 : Int) (u : Sg), Ct l d FC clA yX1_hasType cX1_hasType 6 (some .boolean) DX1_hasType rvI [vR 1, vI a1, vI a2] u (call 48 [a1, a2] u)) (hX1_join_2 : ∀ (a1 a2 : Int) (u : Sg), Ct l d FC clA yX1_join_2 cX1_join_2 5 (some .boolean) DX1_join_2 rvI [vR 1, vI a1, vI a2] u (call 55 [a1, a2] u)) (hX1_root : ∀ (a1 : Int) (u : Sg), Ct l d FC clA yX1_root cX1_root 3 (some .int) DX1_root rvI [vR 1, vI a1] u (call 56 [a1] u)) (hX1_alikeTerms : ∀ (a1 a2 : Int) (u : Sg), Ct l d FC clA yX1_alikeTerms cX1_alikeTerms 7 (some .boolean) DX1_alikeTerms rvI [vR 1, vI a1, vI a2] u (call 58 [a1, a2] u)) (hX1_closeTerm : ∀ (a1 : Int) (u : Sg), Ct l d FC clA yX1_closeTerm cX1_closeTerm 10 (some .boolean) DX1_closeTerm rvI [vR 1, vI a1] u (call 60 [a1] u)) (hX1_closeClasses : ∀ (a1 : Int) (u : Sg), Ct l d FC clA yX1_closeClasses cX1_closeClasses 8 (some .boolean) DX1_closeClasses rvI [vR 1, vI a1] u (call 64 [a1] u)) (x401 : Int → Sg → Option (Int × Sg)) (hx401 : ∀ (a1 : Int) (u : Sg), (a1 = 0 ∨ a1 = 1) → WG p l e R s m args below meth c JX1_close DX1_close G clA A FC ad0 σ0 rvV (x401 a1 u) u 401 [(0, vR 1), (1, vI a1)] []) : ∀ (n : Nat) (a1 a2 : Int) (u : Sg), (a1 = 0 ∨ a1 = 1) → inR a2 → WG p l e R s m args below meth c JX1_close DX1_close G clA A FC ad0 σ0 rvV (bX1_close_L363 call n a1 a2 u x401) u 363 [(0, vR 1), (1, vI a1), (2, vI a2)] [] := by
  intro n
  induction n with
  | zero =>
    intro a1 a2 u za1 ra2
    exact g_none
  | succ n ih =>
    intro a1 a2 u za1 ra2
    rw [bX1_close_L363]
    refine g_iload_n 2 dX1_close_363 rfl ?_
    refine g_aload_n 0 dX1_close_364 rfl ?_
    refine g_getI (ci := 1) (b := 30) (N := 57) 51 rfl rfl rfl (by decide) in_X1 rfl rfl q359 dX1_close_365 (fun v1 rv1 => ?_)
    refine g_icmp_ge 401 dX1_close_368 (by decide) (fun _ => ra2) (fun _ => rv1) (fun _ => ?_) (fun _ => ?_)
    · refine g_aload_n 0 dX1_close_371 rfl ?_
      refine g_getZ (ci := 1) (b := 30) (N := 57) 15 rfl rfl rfl (by decide) in_X1 rfl rfl q323 dX1_close_372 (fun v2 zv2 => ?_)
      refine g_if_ne 401 dX1_close_375 (by decide) (fun _ => (inR_z zv2)) (fun _ => ?_) (fun _ => ?_)
      · refine g_aload_n 0 dX1_close_378 rfl ?_
        refine g_get (v := vR 86) (ci := 1) (b := 30) (N := 57) 46 rfl rfl (by decide) in_X1 rfl rfl q354 dX1_close_379 ?_
        refine g_iload_n 2 dX1_close_382 rfl ?_
        refine g_iald (id := 76) 35 rfl rfl dX1_close_383 (fun v3 rv3 => ?_)
        refine g_if_ne 395 dX1_close_384 (by decide) (fun _ => rv3) (fun _ => ?_) (fun _ => ?_)
        · refine g_iload_n 1 dX1_close_387 rfl ?_
          refine g_aload_n 0 dX1_close_388 rfl ?_
          refine g_iload_n 2 dX1_close_389 rfl ?_
          refine g_cVZ (As := [vI a2]) (n := 1) (stk := [vI a1]) (ci := 1) (b := 30) (N := 57) (hX1_closeClasses a2 u) (by decide +kernel) rfl rfl (lw_V q938 q940 qs46 q163 q941) (by decide +kernel) rfl (by decide) hRf hRl (fun _ => (avc ra2 avn)) (Nat.le_of_ble_eq_true rfl) rfl rfl dX1_close_390 (fun v4 s5 zv4 => ?_)
          refine g_iorZ za1 zv4 dX1_close_393 (fun v6 zv6 => ?_)
          refine g_istore_n (loc' := [(1, vI v6), (0, vR 1), (2, vI a2)]) dX1_close_394 (by decide) rfl ?_
          refine g_iinc 2 (loc' := fun v7 => [(2, vI v7), (1, vI v6), (0, vR 1)]) dX1_close_395 rfl (by decide) (fun _ => rfl) (fun v7 rv7 => ?_)
          refine g_goto 363 dX1_close_398 (by decide) ?_
          exact g_pick [2, 1, 0] rfl (ih v6 v7 s5 zv6 rv7)
        · refine g_iinc 2 (loc' := fun v8 => [(2, vI v8), (0, vR 1), (1, vI a1)]) dX1_close_395 rfl (by decide) (fun _ => rfl) (fun v8 rv8 => ?_)
          refine g_goto 363 dX1_close_398 (by decide) ?_
          exact g_pick [1, 2, 0] rfl (ih a1 v8 u za1 rv8)
      · exact g_pick [0, 1] rfl (hx401 a1 u za1)
    · exact g_pick [0, 1] rfl (hx401 a1 u za1)
theorem wX1_close_L2 (hd : 2 ≤ d) (hRf : d + 1 ≤ R.frames) (hRl : 40 * (d + 1) ≤ R.locals) (hX1_adjectiveFact : ∀ (a1 a2 : Int) (u : Sg), Ct l d FC clA yX1_adjectiveFact cX1_adjectiveFact 4 (some .boolean) DX1_adjectiveFact rvI [vR 1, vI a1, vI a2] u (call 50 [a1, a2] u)) (hX2_at : ∀ (a1 a2 : Int) (u : Sg), Ct l d FC clA yX2_at cX2_at 3 (some .int) DX2_at rvI [vR 0, vI a1, vI a2] u (call 98 [a1, a2] u)) (hX1_plain : ∀ (a1 a2 : Int) (u : Sg), Ct l d FC clA yX1_plain cX1_plain 4 (some .int) DX1_plain rvI [vR 1, vI a1, vI a2] u (call 57 [a1, a2] u)) (hX1_hasType : ∀ (a1 a2 : Int) (u : Sg), Ct l d FC clA yX1_hasType cX1_hasType 6 (some .boolean) DX1_hasType rvI [vR 1, vI a1, vI a2] u (call 48 [a1, a2] u)) (hX1_join_2 : ∀ (a1 a2 : Int) (u : Sg), Ct l d FC clA yX1_join_2 cX1_join_2 5 (some .boolean) DX1_join_2 rvI [vR 1, vI a1, vI a2] u (call 55 [a1, a2] u)) (hX1_root : ∀ (a1 : Int) (u : Sg), Ct l d FC clA yX1_root cX1_root 3 (some .int) DX1_root rvI [vR 1, vI a1] u (call 56 [a1] u)) (hX1_alikeTerms : ∀ (a1 a2 : Int) (u : Sg), Ct l d FC clA yX1_alikeTerms cX1_alikeTerms 7 (some .boolean) DX1_alikeTerms rvI [vR 1, vI a1, vI a2] u (call 58 [a1, a2] u)) (hX1_closeTerm : ∀ (a1 : Int) (u : Sg), Ct l d FC clA yX1_closeTerm cX1_closeTerm 10 (some .boolean) DX1_closeTerm rvI [vR 1, vI a1] u (call 60 [a1] u)) (hX1_closeClasses : ∀ (a1 : Int) (u : Sg), Ct l d FC clA yX1_closeClasses cX1_closeClasses 8 (some .boolean) DX1_closeClasses rvI [vR 1, vI a1] u (call 64 [a1] u)) (x404 : Sg → Option (Int × Sg)) (hx404 : ∀ (u : Sg), WG p l e R s m args below meth c JX1_close DX1_close G clA A FC ad0 σ0 rvV (x404 u) u 404 [] []) : ∀ (n : Nat) (a1 : Int) (u : Sg), (a1 = 0 ∨ a1 = 1) → WG p l e R s m args below meth c JX1_close DX1_close G clA A FC ad0 σ0 rvV (bX1_close_L2 call n a1 u x404) u 2 [(0, vR 1), (1, vI a1)] [] := by
  intro n
  induction n with
  | zero =>
    intro a1 u za1
    exact g_none
  | succ n ih =>
    intro a1 u za1
    rw [bX1_close_L2]
    refine g_iload_n 1 dX1_close_2 rfl ?_
    refine g_if_eq 404 dX1_close_3 (by decide) (fun _ => (inR_z za1)) (fun _ => ?_) (fun _ => ?_)
    · exact g_pick [] rfl (hx404 u)
    · refine g_aload_n 0 dX1_close_6 rfl ?_
      refine g_getZ (ci := 1) (b := 30) (N := 57) 15 rfl rfl rfl (by decide) in_X1 rfl rfl q323 dX1_close_7 (fun v1 zv1 => ?_)
      refine g_if_ne 404 dX1_close_10 (by decide) (fun _ => (inR_z zv1)) (fun _ => ?_) (fun _ => ?_)
      · refine g_iconst dX1_close_13 ?_
        refine g_istore_n (loc' := [(1, vI 0), (0, vR 1)]) dX1_close_14 (by decide) rfl ?_
        refine g_iconst dX1_close_15 ?_
        refine g_istore_n (loc' := [(2, vI 0), (1, vI 0), (0, vR 1)]) dX1_close_16 (by decide) rfl ?_
        refine g_pick [2, 1, 0] rfl (wX1_close_L17 hd hRf hRl hX1_adjectiveFact hX2_at hX1_plain hX1_hasType hX1_join_2 hX1_root hX1_alikeTerms hX1_closeTerm hX1_closeClasses _ (fun v3 s2 zv3 => ?_) KF 0 0 u (Or.inl rfl) (inR_z (Or.inl rfl)))
        · refine g_iconst dX1_close_245 ?_
          refine g_istore_n (loc' := [(2, vI 0), (0, vR 1), (1, vI v3)]) dX1_close_246 (by decide) rfl ?_
          refine g_pick [1, 2, 0] rfl (wX1_close_L247 hd hRf hRl hX1_adjectiveFact hX2_at hX1_plain hX1_hasType hX1_join_2 hX1_root hX1_alikeTerms hX1_closeTerm hX1_closeClasses _ (fun v5 s4 zv5 => ?_) KF v3 0 s2 zv3 (inR_z (Or.inl rfl)))
          · refine g_iconst dX1_close_325 ?_
            refine g_istore_n (loc' := [(2, vI 0), (0, vR 1), (1, vI v5)]) dX1_close_326 (by decide) rfl ?_
            refine g_pick [1, 2, 0] rfl (wX1_close_L327 hd hRf hRl hX1_adjectiveFact hX2_at hX1_plain hX1_hasType hX1_join_2 hX1_root hX1_alikeTerms hX1_closeTerm hX1_closeClasses _ (fun v7 s6 zv7 => ?_) KF v5 0 s4 zv5 (inR_z (Or.inl rfl)))
            · refine g_iconst dX1_close_361 ?_
              refine g_istore_n (loc' := [(2, vI 0), (0, vR 1), (1, vI v7)]) dX1_close_362 (by decide) rfl ?_
              refine g_pick [1, 2, 0] rfl (wX1_close_L363 hd hRf hRl hX1_adjectiveFact hX2_at hX1_plain hX1_hasType hX1_join_2 hX1_root hX1_alikeTerms hX1_closeTerm hX1_closeClasses _ (fun v9 s8 zv9 => ?_) KF v7 0 s6 zv7 (inR_z (Or.inl rfl)))
              · refine g_goto 2 dX1_close_401 (by decide) ?_
                exact g_pick [0, 1] rfl (ih v9 s8 zv9)
      · exact g_pick [] rfl (hx404 u)
theorem wX1_close (hd : 2 ≤ d) (hRf : d + 1 ≤ R.frames) (hRl : 40 * (d + 1) ≤ R.locals) (hX1_adjectiveFact : ∀ (a1 a2 : Int) (u : Sg), Ct l d FC clA yX1_adjectiveFact cX1_adjectiveFact 4 (some .boolean) DX1_adjectiveFact rvI [vR 1, vI a1, vI a2] u (call 50 [a1, a2] u)) (hX2_at : ∀ (a1 a2 : Int) (u : Sg), Ct l d FC clA yX2_at cX2_at 3 (some .int) DX2_at rvI [vR 0, vI a1, vI a2] u (call 98 [a1, a2] u)) (hX1_plain : ∀ (a1 a2 : Int) (u : Sg), Ct l d FC clA yX1_plain cX1_plain 4 (some .int) DX1_plain rvI [vR 1, vI a1, vI a2] u (call 57 [a1, a2] u)) (hX1_hasType : ∀ (a1 a2 : Int) (u : Sg), Ct l d FC clA yX1_hasType cX1_hasType 6 (some .boolean) DX1_hasType rvI [vR 1, vI a1, vI a2] u (call 48 [a1, a2] u)) (hX1_join_2 : ∀ (a1 a2 : Int) (u : Sg), Ct l d FC clA yX1_join_2 cX1_join_2 5 (some .boolean) DX1_join_2 rvI [vR 1, vI a1, vI a2] u (call 55 [a1, a2] u)) (hX1_root : ∀ (a1 : Int) (u : Sg), Ct l d FC clA yX1_root cX1_root 3 (some .int) DX1_root rvI [vR 1, vI a1] u (call 56 [a1] u)) (hX1_alikeTerms : ∀ (a1 a2 : Int) (u : Sg), Ct l d FC clA yX1_alikeTerms cX1_alikeTerms 7 (some .boolean) DX1_alikeTerms rvI [vR 1, vI a1, vI a2] u (call 58 [a1, a2] u)) (hX1_closeTerm : ∀ (a1 : Int) (u : Sg), Ct l d FC clA yX1_closeTerm cX1_closeTerm 10 (some .boolean) DX1_closeTerm rvI [vR 1, vI a1] u (call 60 [a1] u)) (hX1_closeClasses : ∀ (a1 : Int) (u : Sg), Ct l d FC clA yX1_closeClasses cX1_closeClasses 8 (some .boolean) DX1_closeClasses rvI [vR 1, vI a1] u (call 64 [a1] u)) (u : Sg) : WG p l e R s m args below meth c JX1_close DX1_close G clA A FC ad0 σ0 rvV (bX1_close call u) u 0 [(0, vR 1)] [] := by
  unfold bX1_close
  refine g_iconst dX1_close_0 ?_
  refine g_istore_n (loc' := [(1, vI 1), (0, vR 1)]) dX1_close_1 (by decide) rfl ?_
  refine g_pick [1, 0] rfl (wX1_close_L2 hd hRf hRl hX1_adjectiveFact hX2_at hX1_plain hX1_hasType hX1_join_2 hX1_root hX1_alikeTerms hX1_closeTerm hX1_closeClasses _ (fun s1 => ?_) KF 1 u (Or.inr rfl))
  · exact g_vret rfl rfl dX1_close_404
end
section
variable {l : Launch} {d : Nat} {call : Nat → List Int → Sg → Option (Int × Sg)}
theorem ctX1_close (p0 : Program) (e0 : Env) (s0 : State) (m0 : MethodId) (meth0 : Method) (c0 : Code) (G0 : Gm) (hd : 2 ≤ d) (hX1_adjectiveFact : ∀ (a1 a2 : Int) (u : Sg), Ct l d FC clA yX1_adjectiveFact cX1_adjectiveFact 4 (some .boolean) DX1_adjectiveFact rvI [vR 1, vI a1, vI a2] u (call 50 [a1, a2] u)) (hX2_at : ∀ (a1 a2 : Int) (u : Sg), Ct l d FC clA yX2_at cX2_at 3 (some .int) DX2_at rvI [vR 0, vI a1, vI a2] u (call 98 [a1, a2] u)) (hX1_plain : ∀ (a1 a2 : Int) (u : Sg), Ct l d FC clA yX1_plain cX1_plain 4 (some .int) DX1_plain rvI [vR 1, vI a1, vI a2] u (call 57 [a1, a2] u)) (hX1_hasType : ∀ (a1 a2 : Int) (u : Sg), Ct l d FC clA yX1_hasType cX1_hasType 6 (some .boolean) DX1_hasType rvI [vR 1, vI a1, vI a2] u (call 48 [a1, a2] u)) (hX1_join_2 : ∀ (a1 a2 : Int) (u : Sg), Ct l d FC clA yX1_join_2 cX1_join_2 5 (some .boolean) DX1_join_2 rvI [vR 1, vI a1, vI a2] u (call 55 [a1, a2] u)) (hX1_root : ∀ (a1 : Int) (u : Sg), Ct l d FC clA yX1_root cX1_root 3 (some .int) DX1_root rvI [vR 1, vI a1] u (call 56 [a1] u)) (hX1_alikeTerms : ∀ (a1 a2 : Int) (u : Sg), Ct l d FC clA yX1_alikeTerms cX1_alikeTerms 7 (some .boolean) DX1_alikeTerms rvI [vR 1, vI a1, vI a2] u (call 58 [a1, a2] u)) (hX1_closeTerm : ∀ (a1 : Int) (u : Sg), Ct l d FC clA yX1_closeTerm cX1_closeTerm 10 (some .boolean) DX1_closeTerm rvI [vR 1, vI a1] u (call 60 [a1] u)) (hX1_closeClasses : ∀ (a1 : Int) (u : Sg), Ct l d FC clA yX1_closeClasses cX1_closeClasses 8 (some .boolean) DX1_closeClasses rvI [vR 1, vI a1] u (call 64 [a1] u)) (u : Sg) : Ct l (d + 1) FC clA yX1_close cX1_close 6 none DX1_close rvV [vR 1] u (bX1_close call u) :=
  Ct_of (by decide) (Nat.le_of_ble_eq_true rfl) (fun p e R s1 m args below meth c G A ad hA hRf hRl => wX1_close hd hRf hRl hX1_adjectiveFact hX2_at hX1_plain hX1_hasType hX1_join_2 hX1_root hX1_alikeTerms hX1_closeTerm hX1_closeClasses u) p0 e0 s0 m0 meth0 c0 G0
end
