theorem rvX_1 {b : Bool} : rvX b (exB + ((1 : Nat) : Int)) = .inr 1 := rfl
theorem rvX_2 {b : Bool} : rvX b (exB + ((2 : Nat) : Int)) = .inr 2 := rfl
/-! RoundCheck.need(Z)V, which may throw -/
section
variable {p : Program} {l : Launch} {e : Env} {R : Room} {s : State} {m : MethodId} {args : Array Value} {below : List Frame} {meth : Method} {c : Code} {G : Gm} {A : Nat → Prop} {ad0 : Nat → Nat} {σ0 : Sg} {d : Nat} {call : Nat → List Int → Sg → Option (Int × Sg)}
theorem wX1_need (hd : 7 ≤ d) (hlt : LT l) (hRf : d + 1 ≤ R.frames) (hRl : 40 * (d + 1) ≤ R.locals) (a0 : Int) (u : Sg) (ra0 : inR a0) : WGx p l e R s m args below meth c JX1_need DX1_need G clA A FC ad0 σ0 (rvX false) (bX1_need call a0 u) u 0 [(0, vI a0)] [] := by
  unfold bX1_need
  refine gx_gd (fun za0 => ?_)
  refine gx_iload_n 0 dX1_need_0 rfl ?_
  refine gx_if_ne 12 dX1_need_1 (by decide) (fun _ => (inR_z za0)) (fun _ => ?_) (fun _ => ?_)
  · exact gx_thrK (k := 1) (i1 := 431) (i2 := 433) rfl rfl (by decide +kernel) thrA1 q505 q506 q172 rvX_1 (by decide +kernel) hlt hRf hRl hd (Nat.le_of_ble_eq_true rfl) dX1_need_4 dX1_need_7 dX1_need_8 dX1_need_11
  · exact gx_vretX rfl dX1_need_12
end
section
variable {l : Launch} {d : Nat} {call : Nat → List Int → Sg → Option (Int × Sg)}
theorem ctX1_need (p0 : Program) (e0 : Env) (s0 : State) (m0 : MethodId) (meth0 : Method) (c0 : Code) (G0 : Gm) (hd : 7 ≤ d) (hlt : LT l) (a0 : Int) (u : Sg) : CtX l (d + 1) FC clA yX1_need cX1_need 1 none DX1_need (rvX false) [vI a0] u (bX1_need call a0 u) :=
  CtX_of (by decide) (Nat.le_of_ble_eq_true rfl) (fun p e R s1 m args below meth c G A ad hA hRf hRl => wX1_need hd hlt hRf hRl a0 u (hA _ List.mem_cons_self)) p0 e0 s0 m0 meth0 c0 G0
end
/-! RoundCheck.room(Z)V, which may throw -/
section
variable {p : Program} {l : Launch} {e : Env} {R : Room} {s : State} {m : MethodId} {args : Array Value} {below : List Frame} {meth : Method} {c : Code} {G : Gm} {A : Nat → Prop} {ad0 : Nat → Nat} {σ0 : Sg} {d : Nat} {call : Nat → List Int → Sg → Option (Int × Sg)}
theorem wX1_room (hd : 7 ≤ d) (hlt : LT l) (hRf : d + 1 ≤ R.frames) (hRl : 40 * (d + 1) ≤ R.locals) (a0 : Int) (u : Sg) (ra0 : inR a0) : WGx p l e R s m args below meth c JX1_room DX1_room G clA A FC ad0 σ0 (rvX false) (bX1_room call a0 u) u 0 [(0, vI a0)] [] := by
  unfold bX1_room
  refine gx_gd (fun za0 => ?_)
  refine gx_iload_n 0 dX1_room_0 rfl ?_
  refine gx_if_ne 12 dX1_room_1 (by decide) (fun _ => (inR_z za0)) (fun _ => ?_) (fun _ => ?_)
  · exact gx_thrK (k := 2) (i1 := 434) (i2 := 436) rfl rfl (by decide +kernel) thrA2 q579 q580 q173 rvX_2 (by decide +kernel) hlt hRf hRl hd (Nat.le_of_ble_eq_true rfl) dX1_room_4 dX1_room_7 dX1_room_8 dX1_room_11
  · exact gx_vretX rfl dX1_room_12
end
section
variable {l : Launch} {d : Nat} {call : Nat → List Int → Sg → Option (Int × Sg)}
theorem ctX1_room (p0 : Program) (e0 : Env) (s0 : State) (m0 : MethodId) (meth0 : Method) (c0 : Code) (G0 : Gm) (hd : 7 ≤ d) (hlt : LT l) (a0 : Int) (u : Sg) : CtX l (d + 1) FC clA yX1_room cX1_room 1 none DX1_room (rvX false) [vI a0] u (bX1_room call a0 u) :=
  CtX_of (by decide) (Nat.le_of_ble_eq_true rfl) (fun p e R s1 m args below meth c G A ad hA hRf hRl => wX1_room hd hlt hRf hRl a0 u (hA _ List.mem_cons_self)) p0 e0 s0 m0 meth0 c0 G0
end
/-! RoundCheck.keep(III)I, which may throw -/
section
variable {p : Program} {l : Launch} {e : Env} {R : Room} {s : State} {m : MethodId} {args : Array Value} {below : List Frame} {meth : Method} {c : Code} {G : Gm} {A : Nat → Prop} {ad0 : Nat → Nat} {σ0 : Sg} {d : Nat} {call : Nat → List Int → Sg → Option (Int × Sg)}
theorem wX1_keep (hd : 7 ≤ d) (hlt : LT l) (hRf : d + 1 ≤ R.frames) (hRl : 40 * (d + 1) ≤ R.locals) (hX2_forget : ∀ (a1 a2 : Int) (u : Sg), Ct l d FC clA yX2_forget cX2_forget 5 none DX2_forget rvV [vR 0, vI a1, vI a2] u (call 99 [a1, a2] u)) (a1 a2 a3 : Int) (u : Sg) (ra1 : inR a1) (ra2 : inR a2) (ra3 : inR a3) : WGx p l e R s m args below meth c JX1_keep DX1_keep G clA A FC ad0 σ0 (rvX true) (bX1_keep call a1 a2 a3 u) u 0 [(0, vR 1), (1, vI a1), (2, vI a2), (3, vI a3)] [] := by
  unfold bX1_keep
  refine gx_jn (fun j1 => ∀ (a2 a3 : Int) (s2 : Sg), inR a2 → inR a3 → WGx p l e R s m args below meth c JX1_keep DX1_keep G clA A FC ad0 σ0 (rvX true) (j1 a2 a3 s2) s2 25 [(0, vR 1), (2, vI a2), (3, vI a3)] []) (fun a2 a3 s2 ra2 ra3 => ?_) (fun j1 hj1 => ?_)
  · refine gx_aload_n 0 dX1_keep_25 rfl ?_
    refine gx_get (v := vR 0) (ci := 1) (b := 30) (N := 57) 0 rfl rfl (by decide) in_X1 rfl rfl q308 dX1_keep_26 ?_
    refine gx_iload_n 1 dX1_keep_29 rfl ?_
    refine gx_iload_n 2 dX1_keep_30 rfl ?_
    refine gx_cVV (As := [vI a2, vI a3]) (n := 2) (stk := []) (ci := 0) (b := 0) (N := 21) (hX2_forget a2 a3 s2) (by decide +kernel) rfl rfl (lw_V q647 q648 q649 q164 q650) (by decide +kernel) rfl (by decide) hRf hRl (fun _ => (avc ra2 (avc ra3 avn))) (Nat.le_of_ble_eq_true rfl) rfl rfl dX1_keep_31 (fun v3 s4 => ?_)
    refine gx_aload_n 0 dX1_keep_34 rfl ?_
    refine gx_dup rfl dX1_keep_35 ?_
    refine gx_getI (ci := 1) (b := 30) (N := 57) 3 rfl rfl rfl (by decide) in_X1 rfl rfl q311 dX1_keep_36 (fun v5 rv5 => ?_)
    refine gx_iconst dX1_keep_39 ?_
    refine gx_iadd dX1_keep_40 (fun v6 rv6 => ?_)
    refine gx_sIU (ci := 1) (b := 30) (N := 57) FC_ok 3 rfl rfl rfl (by decide) in_X1 tyX1 tyX1_ok nmX1 rfl rfl rfl rfl (by decide +kernel) rv6 q311 dX1_keep_41 (fun s7 => ?_)
    exact gx_thrK (k := 2) (i1 := 434) (i2 := 436) rfl rfl (by decide +kernel) thrA2 q579 q580 q173 rvX_2 (by decide +kernel) hlt hRf hRl hd (Nat.le_of_ble_eq_true rfl) dX1_keep_44 dX1_keep_47 dX1_keep_48 dX1_keep_51
  · refine gx_aload_n 0 dX1_keep_0 rfl ?_
    refine gx_getI (ci := 1) (b := 30) (N := 57) 36 rfl rfl rfl (by decide) in_X1 rfl rfl q344 dX1_keep_1 (fun v8 rv8 => ?_)
    refine gx_sipush (by decide +kernel) dX1_keep_4 ?_
    refine gx_icmp_eq 25 dX1_keep_7 (by decide) (fun _ => rv8) (fun _ => (by decide : inR (400))) (fun _ => ?_) (fun _ => ?_)
    · exact gx_pick [0, 2, 3] rfl (hj1 a2 a3 u ra2 ra3)
    · refine gx_aload_n 0 dX1_keep_10 rfl ?_
      refine gx_get (v := vR 0) (ci := 1) (b := 30) (N := 57) 0 rfl rfl (by decide) in_X1 rfl rfl q308 dX1_keep_11 ?_
      refine gx_get (v := vR 14) (ci := 0) (b := 0) (N := 21) 4 rfl rfl (by decide) in_X2 rfl rfl q239 dX1_keep_14 ?_
      refine gx_iload_n 1 dX1_keep_17 rfl ?_
      refine gx_iald (id := 4) 4 rfl rfl dX1_keep_18 (fun v9 rv9 => ?_)
      refine gx_sipush (by decide +kernel) dX1_keep_19 ?_
      refine gx_icmp_le 52 dX1_keep_22 (by decide) (fun _ => rv9) (fun _ => (by decide : inR (200))) (fun _ => ?_) (fun _ => ?_)
      · refine gx_aload_n 0 dX1_keep_52 rfl ?_
        refine gx_get (v := vR 75) (ci := 1) (b := 30) (N := 57) 35 rfl rfl (by decide) in_X1 rfl rfl q343 dX1_keep_53 ?_
        refine gx_aload_n 0 dX1_keep_56 rfl ?_
        refine gx_getI (ci := 1) (b := 30) (N := 57) 36 rfl rfl rfl (by decide) in_X1 rfl rfl q344 dX1_keep_57 (fun v10 rv10 => ?_)
        refine gx_iload_n 1 dX1_keep_60 rfl ?_
        refine gx_iastU (id := 65) FC_ok 29 rfl rfl (by decide +kernel) ra1 dX1_keep_61 (fun s11 => ?_)
        refine gx_aload_n 0 dX1_keep_62 rfl ?_
        refine gx_dup rfl dX1_keep_63 ?_
        refine gx_getI (ci := 1) (b := 30) (N := 57) 36 rfl rfl rfl (by decide) in_X1 rfl rfl q344 dX1_keep_64 (fun v12 rv12 => ?_)
        refine gx_iconst dX1_keep_67 ?_
        refine gx_iadd dX1_keep_68 (fun v13 rv13 => ?_)
        refine gx_sIU (ci := 1) (b := 30) (N := 57) FC_ok 36 rfl rfl rfl (by decide) in_X1 tyX1 tyX1_ok nmX1 rfl rfl rfl rfl (by decide +kernel) rv13 q344 dX1_keep_69 (fun s14 => ?_)
        refine gx_aload_n 0 dX1_keep_72 rfl ?_
        refine gx_getI (ci := 1) (b := 30) (N := 57) 36 rfl rfl rfl (by decide) in_X1 rfl rfl q344 dX1_keep_73 (fun v15 rv15 => ?_)
        refine gx_iconst dX1_keep_76 ?_
        refine gx_isub dX1_keep_77 (fun v16 rv16 => ?_)
        exact gx_iretX rfl (fun _ => rv16) dX1_keep_78
      · exact gx_pick [0, 2, 3] rfl (hj1 a2 a3 u ra2 ra3)
end
section
variable {l : Launch} {d : Nat} {call : Nat → List Int → Sg → Option (Int × Sg)}
theorem ctX1_keep (p0 : Program) (e0 : Env) (s0 : State) (m0 : MethodId) (meth0 : Method) (c0 : Code) (G0 : Gm) (hd : 7 ≤ d) (hlt : LT l) (hX2_forget : ∀ (a1 a2 : Int) (u : Sg), Ct l d FC clA yX2_forget cX2_forget 5 none DX2_forget rvV [vR 0, vI a1, vI a2] u (call 99 [a1, a2] u)) (a1 a2 a3 : Int) (u : Sg) : CtX l (d + 1) FC clA yX1_keep cX1_keep 4 (some .int) DX1_keep (rvX true) [vR 1, vI a1, vI a2, vI a3] u (bX1_keep call a1 a2 a3 u) :=
  CtX_of (by decide) (Nat.le_of_ble_eq_true rfl) (fun p e R s1 m args below meth c G A ad hA hRf hRl => wX1_keep hd hlt hRf hRl hX2_forget a1 a2 a3 u (hA _ (List.mem_cons_of_mem _ List.mem_cons_self)) (hA _ (List.mem_cons_of_mem _ (List.mem_cons_of_mem _ List.mem_cons_self))) (hA _ (List.mem_cons_of_mem _ (List.mem_cons_of_mem _ (List.mem_cons_of_mem _ List.mem_cons_self))))) p0 e0 s0 m0 meth0 c0 G0
end
/-! RoundCheck.count(I)I, which may throw -/
section
variable {p : Program} {l : Launch} {e : Env} {R : Room} {s : State} {m : MethodId} {args : Array Value} {below : List Frame} {meth : Method} {c : Code} {G : Gm} {A : Nat → Prop} {ad0 : Nat → Nat} {σ0 : Sg} {d : Nat} {call : Nat → List Int → Sg → Option (Int × Sg)}
theorem wX1_count (hd : 7 ≤ d) (hlt : LT l) (hRf : d + 1 ≤ R.frames) (hRl : 40 * (d + 1) ≤ R.locals) (a1 : Int) (u : Sg) (ra1 : inR a1) : WGx p l e R s m args below meth c JX1_count DX1_count G clA A FC ad0 σ0 (rvX true) (bX1_count call a1 u) u 0 [(0, vR 1), (1, vI a1)] [] := by
  unfold bX1_count
  refine gx_iload_n 1 dX1_count_0 rfl ?_
  refine WGx.byc (fun e0 => ?_) (fun n0 => ?_)
  · refine gx_tswIn 48 0 dX1_count_1 (by decide) rfl (by decide) e0 ?_
    refine gx_aload_n 0 dX1_count_48 rfl ?_
    refine gx_getI (ci := 1) (b := 30) (N := 57) 36 rfl rfl rfl (by decide) in_X1 rfl rfl q344 dX1_count_49 (fun v1 rv1 => ?_)
    exact gx_iretX rfl (fun _ => rv1) dX1_count_52
  · skip
    refine WGx.byc (fun e1 => ?_) (fun n1 => ?_)
    · refine gx_tswIn 53 1 dX1_count_1 (by decide) rfl (by decide) e1 ?_
      refine gx_aload_n 0 dX1_count_53 rfl ?_
      refine gx_getI (ci := 1) (b := 30) (N := 57) 39 rfl rfl rfl (by decide) in_X1 rfl rfl q347 dX1_count_54 (fun v2 rv2 => ?_)
      exact gx_iretX rfl (fun _ => rv2) dX1_count_57
    · skip
      refine WGx.byc (fun e2 => ?_) (fun n2 => ?_)
      · refine gx_tswIn 58 2 dX1_count_1 (by decide) rfl (by decide) e2 ?_
        refine gx_aload_n 0 dX1_count_58 rfl ?_
        refine gx_getI (ci := 1) (b := 30) (N := 57) 40 rfl rfl rfl (by decide) in_X1 rfl rfl q348 dX1_count_59 (fun v3 rv3 => ?_)
        exact gx_iretX rfl (fun _ => rv3) dX1_count_62
      · skip
        refine WGx.byc (fun e3 => ?_) (fun n3 => ?_)
        · refine gx_tswIn 63 3 dX1_count_1 (by decide) rfl (by decide) e3 ?_
          refine gx_aload_n 0 dX1_count_63 rfl ?_
          refine gx_getI (ci := 1) (b := 30) (N := 57) 44 rfl rfl rfl (by decide) in_X1 rfl rfl q352 dX1_count_64 (fun v4 rv4 => ?_)
          exact gx_iretX rfl (fun _ => rv4) dX1_count_67
        · skip
          refine WGx.byc (fun e4 => ?_) (fun n4 => ?_)
          · refine gx_tswIn 68 4 dX1_count_1 (by decide) rfl (by decide) e4 ?_
            refine gx_aload_n 0 dX1_count_68 rfl ?_
            refine gx_getI (ci := 1) (b := 30) (N := 57) 45 rfl rfl rfl (by decide) in_X1 rfl rfl q353 dX1_count_69 (fun v5 rv5 => ?_)
            exact gx_iretX rfl (fun _ => rv5) dX1_count_72
          · skip
            refine WGx.byc (fun e5 => ?_) (fun n5 => ?_)
            · refine gx_tswIn 73 5 dX1_count_1 (by decide) rfl (by decide) e5 ?_
              refine gx_aload_n 0 dX1_count_73 rfl ?_
              refine gx_getI (ci := 1) (b := 30) (N := 57) 51 rfl rfl rfl (by decide) in_X1 rfl rfl q359 dX1_count_74 (fun v6 rv6 => ?_)
              exact gx_iretX rfl (fun _ => rv6) dX1_count_77
            · skip
              refine WGx.byc (fun e6 => ?_) (fun n6 => ?_)
              · refine gx_tswIn 78 6 dX1_count_1 (by decide) rfl (by decide) e6 ?_
                refine gx_aload_n 0 dX1_count_78 rfl ?_
                refine gx_getI (ci := 1) (b := 30) (N := 57) 53 rfl rfl rfl (by decide) in_X1 rfl rfl q361 dX1_count_79 (fun v7 rv7 => ?_)
                exact gx_iretX rfl (fun _ => rv7) dX1_count_82
              · skip
                refine WGx.byc (fun e7 => ?_) (fun n7 => ?_)
                · refine gx_tswIn 83 7 dX1_count_1 (by decide) rfl (by decide) e7 ?_
                  refine gx_aload_n 0 dX1_count_83 rfl ?_
                  refine gx_getI (ci := 1) (b := 30) (N := 57) 54 rfl rfl rfl (by decide) in_X1 rfl rfl q362 dX1_count_84 (fun v8 rv8 => ?_)
                  exact gx_iretX rfl (fun _ => rv8) dX1_count_87
                · skip
                  refine gx_tswOut 88 dX1_count_1 (fun _ => ra1) (by omega) (by decide) ?_
                  exact gx_thrK (k := 1) (i1 := 431) (i2 := 433) rfl rfl (by decide +kernel) thrA1 q505 q506 q172 rvX_1 (by decide +kernel) hlt hRf hRl hd (Nat.le_of_ble_eq_true rfl) dX1_count_88 dX1_count_91 dX1_count_92 dX1_count_95
end
section
variable {l : Launch} {d : Nat} {call : Nat → List Int → Sg → Option (Int × Sg)}
theorem ctX1_count (p0 : Program) (e0 : Env) (s0 : State) (m0 : MethodId) (meth0 : Method) (c0 : Code) (G0 : Gm) (hd : 7 ≤ d) (hlt : LT l) (a1 : Int) (u : Sg) : CtX l (d + 1) FC clA yX1_count cX1_count 2 (some .int) DX1_count (rvX true) [vR 1, vI a1] u (bX1_count call a1 u) :=
  CtX_of (by decide) (Nat.le_of_ble_eq_true rfl) (fun p e R s1 m args below meth c G A ad hA hRf hRl => wX1_count hd hlt hRf hRl a1 u (hA _ (List.mem_cons_of_mem _ List.mem_cons_self))) p0 e0 s0 m0 meth0 c0 G0
end
/-! RoundCheck.formOf(I)I, which may throw -/
section
variable {p : Program} {l : Launch} {e : Env} {R : Room} {s : State} {m : MethodId} {args : Array Value} {below : List Frame} {meth : Method} {c : Code} {G : Gm} {A : Nat → Prop} {ad0 : Nat → Nat} {σ0 : Sg} {d : Nat} {call : Nat → List Int → Sg → Option (Int × Sg)}
theorem wX1_formOf (hd : 7 ≤ d) (hlt : LT l) (hRf : d + 1 ≤ R.frames) (hRl : 40 * (d + 1) ≤ R.locals) (hX1_need : ∀ (a1 : Int) (u : Sg), CtX l d FC clA yX1_need cX1_need 1 none DX1_need (rvX false) [vI a1] u (call 4 [a1] u)) (a1 : Int) (u : Sg) (ra1 : inR a1) : WGx p l e R s m args below meth c JX1_formOf DX1_formOf G clA A FC ad0 σ0 (rvX true) (bX1_formOf call a1 u) u 0 [(0, vR 1), (1, vI a1)] [] := by
  unfold bX1_formOf
  refine gx_jn (fun j1 => ∀ (a1 t0 : Int) (s2 : Sg), inR a1 → (t0 = 0 ∨ t0 = 1) → WGx p l e R s m args below meth c JX1_formOf DX1_formOf G clA A FC ad0 σ0 (rvX true) (j1 a1 t0 s2) s2 17 [(0, vR 1), (1, vI a1)] [vI t0]) (fun a1 t0 s2 ra1 zt0 => ?_) (fun j1 hj1 => ?_)
  · refine gx_xSV (As := [vI t0]) (n := 1) (stk := []) (hX1_need t0 s2) (by decide +kernel) (lw_S q502 q503 q163 q504) (by decide +kernel) rfl (by decide) hRf hRl (fun _ => (avc (inR_z zt0) avn)) (Nat.le_of_ble_eq_true rfl) rfl rfl dX1_formOf_17 (fun v3 s4 => ?_)
    refine gx_aload_n 0 dX1_formOf_20 rfl ?_
    refine gx_get (v := vR 75) (ci := 1) (b := 30) (N := 57) 35 rfl rfl (by decide) in_X1 rfl rfl q343 dX1_formOf_21 ?_
    refine gx_iload_n 1 dX1_formOf_24 rfl ?_
    refine gx_iald (id := 65) 29 rfl rfl dX1_formOf_25 (fun v5 rv5 => ?_)
    exact gx_iretX rfl (fun _ => rv5) dX1_formOf_26
  · refine gx_jn (fun j6 => ∀ (a1 : Int) (s7 : Sg), inR a1 → WGx p l e R s m args below meth c JX1_formOf DX1_formOf G clA A FC ad0 σ0 (rvX true) (j6 a1 s7) s7 16 [(0, vR 1), (1, vI a1)] []) (fun a1 s7 ra1 => ?_) (fun j6 hj6 => ?_)
    · refine gx_iconst dX1_formOf_16 ?_
      exact gx_pick [0, 1] rfl (hj1 a1 0 s7 ra1 (Or.inl rfl))
    · refine gx_iload_n 1 dX1_formOf_0 rfl ?_
      refine gx_if_lt 16 dX1_formOf_1 (by decide) (fun _ => ra1) (fun _ => ?_) (fun _ => ?_)
      · exact gx_pick [0, 1] rfl (hj6 a1 u ra1)
      · refine gx_iload_n 1 dX1_formOf_4 rfl ?_
        refine gx_aload_n 0 dX1_formOf_5 rfl ?_
        refine gx_getI (ci := 1) (b := 30) (N := 57) 36 rfl rfl rfl (by decide) in_X1 rfl rfl q344 dX1_formOf_6 (fun v8 rv8 => ?_)
        refine gx_icmp_ge 16 dX1_formOf_9 (by decide) (fun _ => ra1) (fun _ => rv8) (fun _ => ?_) (fun _ => ?_)
        · refine gx_iconst dX1_formOf_12 ?_
          refine gx_goto 17 dX1_formOf_13 (by decide) ?_
          exact gx_pick [0, 1] rfl (hj1 a1 1 u ra1 (Or.inr rfl))
        · exact gx_pick [0, 1] rfl (hj6 a1 u ra1)
end
section
variable {l : Launch} {d : Nat} {call : Nat → List Int → Sg → Option (Int × Sg)}
theorem ctX1_formOf (p0 : Program) (e0 : Env) (s0 : State) (m0 : MethodId) (meth0 : Method) (c0 : Code) (G0 : Gm) (hd : 7 ≤ d) (hlt : LT l) (hX1_need : ∀ (a1 : Int) (u : Sg), CtX l d FC clA yX1_need cX1_need 1 none DX1_need (rvX false) [vI a1] u (call 4 [a1] u)) (a1 : Int) (u : Sg) : CtX l (d + 1) FC clA yX1_formOf cX1_formOf 2 (some .int) DX1_formOf (rvX true) [vR 1, vI a1] u (bX1_formOf call a1 u) :=
  CtX_of (by decide) (Nat.le_of_ble_eq_true rfl) (fun p e R s1 m args below meth c G A ad hA hRf hRl => wX1_formOf hd hlt hRf hRl hX1_need a1 u (hA _ (List.mem_cons_of_mem _ List.mem_cons_self))) p0 e0 s0 m0 meth0 c0 G0
end
/-! RoundCheck.attribute()I, which may throw -/
section
variable {p : Program} {l : Launch} {e : Env} {R : Room} {s : State} {m : MethodId} {args : Array Value} {below : List Frame} {meth : Method} {c : Code} {G : Gm} {A : Nat → Prop} {ad0 : Nat → Nat} {σ0 : Sg} {d : Nat} {call : Nat → List Int → Sg → Option (Int × Sg)}
theorem wX1_attribute (hd : 7 ≤ d) (hlt : LT l) (hRf : d + 1 ≤ R.frames) (hRl : 40 * (d + 1) ≤ R.locals) (hX1_room : ∀ (a1 : Int) (u : Sg), CtX l d FC clA yX1_room cX1_room 1 none DX1_room (rvX false) [vI a1] u (call 6 [a1] u)) (u : Sg) : WGx p l e R s m args below meth c JX1_attribute DX1_attribute G clA A FC ad0 σ0 (rvX true) (bX1_attribute call u) u 0 [(0, vR 1)] [] := by
  unfold bX1_attribute
  refine gx_jn (fun j1 => ∀ (t0 : Int) (s2 : Sg), (t0 = 0 ∨ t0 = 1) → WGx p l e R s m args below meth c JX1_attribute DX1_attribute G clA A FC ad0 σ0 (rvX true) (j1 t0 s2) s2 14 [(0, vR 1)] [vI t0]) (fun t0 s2 zt0 => ?_) (fun j1 hj1 => ?_)
  · refine gx_xSV (As := [vI t0]) (n := 1) (stk := []) (hX1_room t0 s2) (by decide +kernel) (lw_S q576 q577 q163 q578) (by decide +kernel) rfl (by decide) hRf hRl (fun _ => (avc (inR_z zt0) avn)) (Nat.le_of_ble_eq_true rfl) rfl rfl dX1_attribute_14 (fun v3 s4 => ?_)
    refine gx_aload_n 0 dX1_attribute_17 rfl ?_
    refine gx_dup rfl dX1_attribute_18 ?_
    refine gx_getI (ci := 1) (b := 30) (N := 57) 40 rfl rfl rfl (by decide) in_X1 rfl rfl q348 dX1_attribute_19 (fun v5 rv5 => ?_)
    refine gx_iconst dX1_attribute_22 ?_
    refine gx_iadd dX1_attribute_23 (fun v6 rv6 => ?_)
    refine gx_sIU (ci := 1) (b := 30) (N := 57) FC_ok 40 rfl rfl rfl (by decide) in_X1 tyX1 tyX1_ok nmX1 rfl rfl rfl rfl (by decide +kernel) rv6 q348 dX1_attribute_24 (fun s7 => ?_)
    refine gx_aload_n 0 dX1_attribute_27 rfl ?_
    refine gx_getI (ci := 1) (b := 30) (N := 57) 40 rfl rfl rfl (by decide) in_X1 rfl rfl q348 dX1_attribute_28 (fun v8 rv8 => ?_)
    refine gx_iconst dX1_attribute_31 ?_
    refine gx_isub dX1_attribute_32 (fun v9 rv9 => ?_)
    exact gx_iretX rfl (fun _ => rv9) dX1_attribute_33
  · refine gx_aload_n 0 dX1_attribute_0 rfl ?_
    refine gx_getI (ci := 1) (b := 30) (N := 57) 40 rfl rfl rfl (by decide) in_X1 rfl rfl q348 dX1_attribute_1 (fun v10 rv10 => ?_)
    refine gx_bipush (by decide +kernel) dX1_attribute_4 ?_
    refine gx_icmp_ge 13 dX1_attribute_6 (by decide) (fun _ => rv10) (fun _ => (by decide : inR (15))) (fun _ => ?_) (fun _ => ?_)
    · refine gx_iconst dX1_attribute_9 ?_
      refine gx_goto 14 dX1_attribute_10 (by decide) ?_
      exact gx_pick [0] rfl (hj1 1 u (Or.inr rfl))
    · refine gx_iconst dX1_attribute_13 ?_
      exact gx_pick [0] rfl (hj1 0 u (Or.inl rfl))
end
section
variable {l : Launch} {d : Nat} {call : Nat → List Int → Sg → Option (Int × Sg)}
theorem ctX1_attribute (p0 : Program) (e0 : Env) (s0 : State) (m0 : MethodId) (meth0 : Method) (c0 : Code) (G0 : Gm) (hd : 7 ≤ d) (hlt : LT l) (hX1_room : ∀ (a1 : Int) (u : Sg), CtX l d FC clA yX1_room cX1_room 1 none DX1_room (rvX false) [vI a1] u (call 6 [a1] u)) (u : Sg) : CtX l (d + 1) FC clA yX1_attribute cX1_attribute 1 (some .int) DX1_attribute (rvX true) [vR 1] u (bX1_attribute call u) :=
  CtX_of (by decide) (Nat.le_of_ble_eq_true rfl) (fun p e R s1 m args below meth c G A ad hA hRf hRl => wX1_attribute hd hlt hRf hRl hX1_room u) p0 e0 s0 m0 meth0 c0 G0
end
/-! RoundCheck.predicate(I)I, which may throw -/
section
variable {p : Program} {l : Launch} {e : Env} {R : Room} {s : State} {m : MethodId} {args : Array Value} {below : List Frame} {meth : Method} {c : Code} {G : Gm} {A : Nat → Prop} {ad0 : Nat → Nat} {σ0 : Sg} {d : Nat} {call : Nat → List Int → Sg → Option (Int × Sg)}
theorem wX1_predicate (hd : 7 ≤ d) (hlt : LT l) (hRf : d + 1 ≤ R.frames) (hRl : 40 * (d + 1) ≤ R.locals) (hX1_room : ∀ (a1 : Int) (u : Sg), CtX l d FC clA yX1_room cX1_room 1 none DX1_room (rvX false) [vI a1] u (call 6 [a1] u)) (hX1_need : ∀ (a1 : Int) (u : Sg), CtX l d FC clA yX1_need cX1_need 1 none DX1_need (rvX false) [vI a1] u (call 4 [a1] u)) (a1 : Int) (u : Sg) (ra1 : inR a1) : WGx p l e R s m args below meth c JX1_predicate DX1_predicate G clA A FC ad0 σ0 (rvX true) (bX1_predicate call a1 u) u 0 [(0, vR 1), (1, vI a1)] [] := by
  unfold bX1_predicate
  refine gx_jn (fun j1 => ∀ (a1 t0 : Int) (s2 : Sg), inR a1 → (t0 = 0 ∨ t0 = 1) → WGx p l e R s m args below meth c JX1_predicate DX1_predicate G clA A FC ad0 σ0 (rvX true) (j1 a1 t0 s2) s2 14 [(0, vR 1), (1, vI a1)] [vI t0]) (fun a1 t0 s2 ra1 zt0 => ?_) (fun j1 hj1 => ?_)
  · refine gx_jn (fun j3 => ∀ (a1 t0 : Int) (s4 : Sg), inR a1 → (t0 = 0 ∨ t0 = 1) → WGx p l e R s m args below meth c JX1_predicate DX1_predicate G clA A FC ad0 σ0 (rvX true) (j3 a1 t0 s4) s4 31 [(0, vR 1), (1, vI a1)] [vI t0]) (fun a1 t0 s4 ra1 zt0 => ?_) (fun j3 hj3 => ?_)
    · refine gx_xSV (As := [vI t0]) (n := 1) (stk := []) (hX1_room t0 s4) (by decide +kernel) (lw_S q576 q577 q163 q578) (by decide +kernel) rfl (by decide) hRf hRl (fun _ => (avc (inR_z zt0) avn)) (Nat.le_of_ble_eq_true rfl) rfl rfl dX1_predicate_31 (fun v5 s6 => ?_)
      refine gx_aload_n 0 dX1_predicate_34 rfl ?_
      refine gx_get (v := vR 83) (ci := 1) (b := 30) (N := 57) 43 rfl rfl (by decide) in_X1 rfl rfl q351 dX1_predicate_35 ?_
      refine gx_aload_n 0 dX1_predicate_38 rfl ?_
      refine gx_getI (ci := 1) (b := 30) (N := 57) 45 rfl rfl rfl (by decide) in_X1 rfl rfl q353 dX1_predicate_39 (fun v7 rv7 => ?_)
      refine gx_iload_n 1 dX1_predicate_42 rfl ?_
      refine gx_iastU (id := 73) FC_ok 34 rfl rfl (by decide +kernel) ra1 dX1_predicate_43 (fun s8 => ?_)
      refine gx_aload_n 0 dX1_predicate_44 rfl ?_
      refine gx_dup rfl dX1_predicate_45 ?_
      refine gx_getI (ci := 1) (b := 30) (N := 57) 45 rfl rfl rfl (by decide) in_X1 rfl rfl q353 dX1_predicate_46 (fun v9 rv9 => ?_)
      refine gx_iconst dX1_predicate_49 ?_
      refine gx_iadd dX1_predicate_50 (fun v10 rv10 => ?_)
      refine gx_sIU (ci := 1) (b := 30) (N := 57) FC_ok 45 rfl rfl rfl (by decide) in_X1 tyX1 tyX1_ok nmX1 rfl rfl rfl rfl (by decide +kernel) rv10 q353 dX1_predicate_51 (fun s11 => ?_)
      refine gx_aload_n 0 dX1_predicate_54 rfl ?_
      refine gx_getI (ci := 1) (b := 30) (N := 57) 45 rfl rfl rfl (by decide) in_X1 rfl rfl q353 dX1_predicate_55 (fun v12 rv12 => ?_)
      refine gx_iconst dX1_predicate_58 ?_
      refine gx_isub dX1_predicate_59 (fun v13 rv13 => ?_)
      exact gx_iretX rfl (fun _ => rv13) dX1_predicate_60
    · refine gx_xSV (As := [vI t0]) (n := 1) (stk := []) (hX1_need t0 s2) (by decide +kernel) (lw_S q502 q503 q163 q504) (by decide +kernel) rfl (by decide) hRf hRl (fun _ => (avc (inR_z zt0) avn)) (Nat.le_of_ble_eq_true rfl) rfl rfl dX1_predicate_14 (fun v14 s15 => ?_)
      refine gx_aload_n 0 dX1_predicate_17 rfl ?_
      refine gx_getI (ci := 1) (b := 30) (N := 57) 45 rfl rfl rfl (by decide) in_X1 rfl rfl q353 dX1_predicate_18 (fun v16 rv16 => ?_)
      refine gx_bipush (by decide +kernel) dX1_predicate_21 ?_
      refine gx_icmp_ge 30 dX1_predicate_23 (by decide) (fun _ => rv16) (fun _ => (by decide : inR (10))) (fun _ => ?_) (fun _ => ?_)
      · refine gx_iconst dX1_predicate_26 ?_
        refine gx_goto 31 dX1_predicate_27 (by decide) ?_
        exact gx_pick [0, 1] rfl (hj3 a1 1 s15 ra1 (Or.inr rfl))
      · refine gx_iconst dX1_predicate_30 ?_
        exact gx_pick [0, 1] rfl (hj3 a1 0 s15 ra1 (Or.inl rfl))
  · refine gx_jn (fun j17 => ∀ (a1 : Int) (s18 : Sg), inR a1 → WGx p l e R s m args below meth c JX1_predicate DX1_predicate G clA A FC ad0 σ0 (rvX true) (j17 a1 s18) s18 13 [(0, vR 1), (1, vI a1)] []) (fun a1 s18 ra1 => ?_) (fun j17 hj17 => ?_)
    · refine gx_iconst dX1_predicate_13 ?_
      exact gx_pick [0, 1] rfl (hj1 a1 0 s18 ra1 (Or.inl rfl))
    · refine gx_iload_n 1 dX1_predicate_0 rfl ?_
      refine gx_if_lt 13 dX1_predicate_1 (by decide) (fun _ => ra1) (fun _ => ?_) (fun _ => ?_)
      · exact gx_pick [0, 1] rfl (hj17 a1 u ra1)
      · refine gx_iload_n 1 dX1_predicate_4 rfl ?_
        refine gx_iconst dX1_predicate_5 ?_
        refine gx_icmp_gt 13 dX1_predicate_6 (by decide) (fun _ => ra1) (fun _ => (by decide : inR (2))) (fun _ => ?_) (fun _ => ?_)
        · refine gx_iconst dX1_predicate_9 ?_
          refine gx_goto 14 dX1_predicate_10 (by decide) ?_
          exact gx_pick [0, 1] rfl (hj1 a1 1 u ra1 (Or.inr rfl))
        · exact gx_pick [0, 1] rfl (hj17 a1 u ra1)
end
section
variable {l : Launch} {d : Nat} {call : Nat → List Int → Sg → Option (Int × Sg)}
theorem ctX1_predicate (p0 : Program) (e0 : Env) (s0 : State) (m0 : MethodId) (meth0 : Method) (c0 : Code) (G0 : Gm) (hd : 7 ≤ d) (hlt : LT l) (hX1_room : ∀ (a1 : Int) (u : Sg), CtX l d FC clA yX1_room cX1_room 1 none DX1_room (rvX false) [vI a1] u (call 6 [a1] u)) (hX1_need : ∀ (a1 : Int) (u : Sg), CtX l d FC clA yX1_need cX1_need 1 none DX1_need (rvX false) [vI a1] u (call 4 [a1] u)) (a1 : Int) (u : Sg) : CtX l (d + 1) FC clA yX1_predicate cX1_predicate 2 (some .int) DX1_predicate (rvX true) [vR 1, vI a1] u (bX1_predicate call a1 u) :=
  CtX_of (by decide) (Nat.le_of_ble_eq_true rfl) (fun p e R s1 m args below meth c G A ad hA hRf hRl => wX1_predicate hd hlt hRf hRl hX1_room hX1_need a1 u (hA _ (List.mem_cons_of_mem _ List.mem_cons_self))) p0 e0 s0 m0 meth0 c0 G0
end
/-! RoundCheck.isSet(I)V, which may throw -/
section
variable {p : Program} {l : Launch} {e : Env} {R : Room} {s : State} {m : MethodId} {args : Array Value} {below : List Frame} {meth : Method} {c : Code} {G : Gm} {A : Nat → Prop} {ad0 : Nat → Nat} {σ0 : Sg} {d : Nat} {call : Nat → List Int → Sg → Option (Int × Sg)}
theorem wX1_isSet (hd : 7 ≤ d) (hlt : LT l) (hRf : d + 1 ≤ R.frames) (hRl : 40 * (d + 1) ≤ R.locals) (hX1_need : ∀ (a1 : Int) (u : Sg), CtX l d FC clA yX1_need cX1_need 1 none DX1_need (rvX false) [vI a1] u (call 4 [a1] u)) (a1 : Int) (u : Sg) (ra1 : inR a1) : WGx p l e R s m args below meth c JX1_isSet DX1_isSet G clA A FC ad0 σ0 (rvX false) (bX1_isSet call a1 u) u 0 [(0, vR 1), (1, vI a1)] [] := by
  unfold bX1_isSet
  refine gx_jn (fun j1 => ∀ (t0 : Int) (s2 : Sg), (t0 = 0 ∨ t0 = 1) → WGx p l e R s m args below meth c JX1_isSet DX1_isSet G clA A FC ad0 σ0 (rvX false) (j1 t0 s2) s2 20 [] [vI t0]) (fun t0 s2 zt0 => ?_) (fun j1 hj1 => ?_)
  · refine gx_xSV (As := [vI t0]) (n := 1) (stk := []) (hX1_need t0 s2) (by decide +kernel) (lw_S q502 q503 q163 q504) (by decide +kernel) rfl (by decide) hRf hRl (fun _ => (avc (inR_z zt0) avn)) (Nat.le_of_ble_eq_true rfl) rfl rfl dX1_isSet_20 (fun v3 s4 => ?_)
    exact gx_vretX rfl dX1_isSet_23
  · refine gx_jn (fun j5 => ∀ (s6 : Sg), WGx p l e R s m args below meth c JX1_isSet DX1_isSet G clA A FC ad0 σ0 (rvX false) (j5 s6) s6 19 [] []) (fun s6 => ?_) (fun j5 hj5 => ?_)
    · refine gx_iconst dX1_isSet_19 ?_
      exact gx_pick [] rfl (hj1 0 s6 (Or.inl rfl))
    · refine gx_iload_n 1 dX1_isSet_0 rfl ?_
      refine gx_if_lt 19 dX1_isSet_1 (by decide) (fun _ => ra1) (fun _ => ?_) (fun _ => ?_)
      · exact gx_pick [] rfl (hj5 u)
      · refine gx_iload_n 1 dX1_isSet_4 rfl ?_
        refine gx_iconst dX1_isSet_5 ?_
        refine gx_aload_n 0 dX1_isSet_6 rfl ?_
        refine gx_getI (ci := 1) (b := 30) (N := 57) 40 rfl rfl rfl (by decide) in_X1 rfl rfl q348 dX1_isSet_7 (fun v7 rv7 => ?_)
        refine gx_imul dX1_isSet_10 (fun v8 rv8 => ?_)
        refine gx_iushrU dX1_isSet_11 (fun v9 rv9 => ?_)
        refine gx_if_ne 19 dX1_isSet_12 (by decide) (fun _ => rv9) (fun _ => ?_) (fun _ => ?_)
        · refine gx_iconst dX1_isSet_15 ?_
          refine gx_goto 20 dX1_isSet_16 (by decide) ?_
          exact gx_pick [] rfl (hj1 1 u (Or.inr rfl))
        · exact gx_pick [] rfl (hj5 u)
end
section
variable {l : Launch} {d : Nat} {call : Nat → List Int → Sg → Option (Int × Sg)}
theorem ctX1_isSet (p0 : Program) (e0 : Env) (s0 : State) (m0 : MethodId) (meth0 : Method) (c0 : Code) (G0 : Gm) (hd : 7 ≤ d) (hlt : LT l) (hX1_need : ∀ (a1 : Int) (u : Sg), CtX l d FC clA yX1_need cX1_need 1 none DX1_need (rvX false) [vI a1] u (call 4 [a1] u)) (a1 : Int) (u : Sg) : CtX l (d + 1) FC clA yX1_isSet cX1_isSet 2 none DX1_isSet (rvX false) [vR 1, vI a1] u (bX1_isSet call a1 u) :=
  CtX_of (by decide) (Nat.le_of_ble_eq_true rfl) (fun p e R s1 m args below meth c G A ad hA hRf hRl => wX1_isSet hd hlt hRf hRl hX1_need a1 u (hA _ (List.mem_cons_of_mem _ List.mem_cons_self))) p0 e0 s0 m0 meth0 c0 G0
end
/-! RoundCheck.closed(I)I, which may throw -/
section
variable {p : Program} {l : Launch} {e : Env} {R : Room} {s : State} {m : MethodId} {args : Array Value} {below : List Frame} {meth : Method} {c : Code} {G : Gm} {A : Nat → Prop} {ad0 : Nat → Nat} {σ0 : Sg} {d : Nat} {call : Nat → List Int → Sg → Option (Int × Sg)}
theorem wX1_closed (hd : 7 ≤ d) (hlt : LT l) (hRf : d + 1 ≤ R.frames) (hRl : 40 * (d + 1) ≤ R.locals) (hX1_need : ∀ (a1 : Int) (u : Sg), CtX l d FC clA yX1_need cX1_need 1 none DX1_need (rvX false) [vI a1] u (call 4 [a1] u)) (hX1_loci : ∀ (a1 : Int) (u : Sg), Ct l d FC clA yX1_loci cX1_loci 5 (some .int) DX1_loci rvI [vR 1, vI a1] u (call 5 [a1] u)) (a1 : Int) (u : Sg) (ra1 : inR a1) : WGx p l e R s m args below meth c JX1_closed DX1_closed G clA A FC ad0 σ0 (rvX true) (bX1_closed call a1 u) u 0 [(0, vR 1), (1, vI a1)] [] := by
  unfold bX1_closed
  refine gx_jn (fun j1 => ∀ (a1 t0 : Int) (s2 : Sg), inR a1 → (t0 = 0 ∨ t0 = 1) → WGx p l e R s m args below meth c JX1_closed DX1_closed G clA A FC ad0 σ0 (rvX true) (j1 a1 t0 s2) s2 13 [(1, vI a1)] [vI t0]) (fun a1 t0 s2 ra1 zt0 => ?_) (fun j1 hj1 => ?_)
  · refine gx_xSV (As := [vI t0]) (n := 1) (stk := []) (hX1_need t0 s2) (by decide +kernel) (lw_S q502 q503 q163 q504) (by decide +kernel) rfl (by decide) hRf hRl (fun _ => (avc (inR_z zt0) avn)) (Nat.le_of_ble_eq_true rfl) rfl rfl dX1_closed_13 (fun v3 s4 => ?_)
    refine gx_iload_n 0 dX1_closed_16 rfl ?_
    exact gx_iretX rfl (fun _ => ra1) dX1_closed_17
  · refine gx_aload_n 0 dX1_closed_0 rfl ?_
    refine gx_iload_n 1 dX1_closed_1 rfl ?_
    refine gx_cVI (As := [vI a1]) (n := 1) (stk := []) (ci := 1) (b := 30) (N := 57) (hX1_loci a1 u) (by decide +kernel) rfl rfl (lw_V q567 q569 qs4 q163 q570) (by decide +kernel) rfl (by decide) hRf hRl (fun _ => (avc ra1 avn)) (Nat.le_of_ble_eq_true rfl) rfl rfl dX1_closed_2 (fun v5 s6 rv5 => ?_)
    refine gx_if_ge 12 dX1_closed_5 (by decide) (fun _ => rv5) (fun _ => ?_) (fun _ => ?_)
    · refine gx_iconst dX1_closed_8 ?_
      refine gx_goto 13 dX1_closed_9 (by decide) ?_
      exact gx_pick [1] rfl (hj1 a1 1 s6 ra1 (Or.inr rfl))
    · refine gx_iconst dX1_closed_12 ?_
      exact gx_pick [1] rfl (hj1 a1 0 s6 ra1 (Or.inl rfl))
end
section
variable {l : Launch} {d : Nat} {call : Nat → List Int → Sg → Option (Int × Sg)}
theorem ctX1_closed (p0 : Program) (e0 : Env) (s0 : State) (m0 : MethodId) (meth0 : Method) (c0 : Code) (G0 : Gm) (hd : 7 ≤ d) (hlt : LT l) (hX1_need : ∀ (a1 : Int) (u : Sg), CtX l d FC clA yX1_need cX1_need 1 none DX1_need (rvX false) [vI a1] u (call 4 [a1] u)) (hX1_loci : ∀ (a1 : Int) (u : Sg), Ct l d FC clA yX1_loci cX1_loci 5 (some .int) DX1_loci rvI [vR 1, vI a1] u (call 5 [a1] u)) (a1 : Int) (u : Sg) : CtX l (d + 1) FC clA yX1_closed cX1_closed 2 (some .int) DX1_closed (rvX true) [vR 1, vI a1] u (bX1_closed call a1 u) :=
  CtX_of (by decide) (Nat.le_of_ble_eq_true rfl) (fun p e R s1 m args below meth c G A ad hA hRf hRl => wX1_closed hd hlt hRf hRl hX1_need hX1_loci a1 u (hA _ (List.mem_cons_of_mem _ List.mem_cons_self))) p0 e0 s0 m0 meth0 c0 G0
end
/-! RoundCheck.locus(I)I, which may throw -/
section
variable {p : Program} {l : Launch} {e : Env} {R : Room} {s : State} {m : MethodId} {args : Array Value} {below : List Frame} {meth : Method} {c : Code} {G : Gm} {A : Nat → Prop} {ad0 : Nat → Nat} {σ0 : Sg} {d : Nat} {call : Nat → List Int → Sg → Option (Int × Sg)}
theorem wX1_locus (hd : 7 ≤ d) (hlt : LT l) (hRf : d + 1 ≤ R.frames) (hRl : 40 * (d + 1) ≤ R.locals) (hX1_need : ∀ (a1 : Int) (u : Sg), CtX l d FC clA yX1_need cX1_need 1 none DX1_need (rvX false) [vI a1] u (call 4 [a1] u)) (hX2_make : ∀ (a1 a2 a3 : Int) (u : Sg), Ct l d FC clA yX2_make cX2_make 13 (some .int) DX2_make rvI [vR 0, vI a1, vI a2, vI a3] u (call 94 [a1, a2, a3] u)) (hX1_keep : ∀ (a1 a2 a3 : Int) (u : Sg), CtX l d FC clA yX1_keep cX1_keep 4 (some .int) DX1_keep (rvX true) [vR 1, vI a1, vI a2, vI a3] u (call 16 [a1, a2, a3] u)) (a1 : Int) (u : Sg) (ra1 : inR a1) : WGx p l e R s m args below meth c JX1_locus DX1_locus G clA A FC ad0 σ0 (rvX true) (bX1_locus call a1 u) u 0 [(0, vR 1), (1, vI a1)] [] := by
  unfold bX1_locus
  refine gx_jn (fun j1 => ∀ (a1 t0 : Int) (s2 : Sg), inR a1 → (t0 = 0 ∨ t0 = 1) → WGx p l e R s m args below meth c JX1_locus DX1_locus G clA A FC ad0 σ0 (rvX true) (j1 a1 t0 s2) s2 14 [(0, vR 1), (1, vI a1)] [vI t0]) (fun a1 t0 s2 ra1 zt0 => ?_) (fun j1 hj1 => ?_)
  · refine gx_xSV (As := [vI t0]) (n := 1) (stk := []) (hX1_need t0 s2) (by decide +kernel) (lw_S q502 q503 q163 q504) (by decide +kernel) rfl (by decide) hRf hRl (fun _ => (avc (inR_z zt0) avn)) (Nat.le_of_ble_eq_true rfl) rfl rfl dX1_locus_14 (fun v3 s4 => ?_)
    refine gx_aload_n 0 dX1_locus_17 rfl ?_
    refine gx_get (v := vR 0) (ci := 1) (b := 30) (N := 57) 0 rfl rfl (by decide) in_X1 rfl rfl q308 dX1_locus_18 ?_
    refine gx_getI (ci := 0) (b := 0) (N := 21) 9 rfl rfl rfl (by decide) in_X2 rfl rfl q246 dX1_locus_21 (fun v5 rv5 => ?_)
    refine gx_istore_n (loc' := [(2, vI v5), (0, vR 1), (1, vI a1)]) dX1_locus_24 (by decide) rfl ?_
    refine gx_aload_n 1 dX1_locus_25 rfl ?_
    refine gx_get (v := vR 0) (ci := 1) (b := 30) (N := 57) 0 rfl rfl (by decide) in_X1 rfl rfl q308 dX1_locus_26 ?_
    refine gx_getI (ci := 0) (b := 0) (N := 21) 10 rfl rfl rfl (by decide) in_X2 rfl rfl q248 dX1_locus_29 (fun v6 rv6 => ?_)
    refine gx_istore_n (loc' := [(3, vI v6), (2, vI v5), (0, vR 1), (1, vI a1)]) dX1_locus_32 (by decide) rfl ?_
    refine gx_aload_n 2 dX1_locus_33 rfl ?_
    refine gx_aload_n 2 dX1_locus_34 rfl ?_
    refine gx_get (v := vR 0) (ci := 1) (b := 30) (N := 57) 0 rfl rfl (by decide) in_X1 rfl rfl q308 dX1_locus_35 ?_
    refine gx_iconst dX1_locus_38 ?_
    refine gx_iload_n 3 dX1_locus_39 rfl ?_
    refine gx_aload_n 2 dX1_locus_40 rfl ?_
    refine gx_get (v := vR 0) (ci := 1) (b := 30) (N := 57) 0 rfl rfl (by decide) in_X1 rfl rfl q308 dX1_locus_41 ?_
    refine gx_getI (ci := 0) (b := 0) (N := 21) 12 rfl rfl rfl (by decide) in_X2 rfl rfl q251 dX1_locus_44 (fun v7 rv7 => ?_)
    refine gx_cVI (As := [vI 3, vI a1, vI v7]) (n := 3) (stk := [vR 1]) (ci := 0) (b := 0) (N := 21) (hX2_make 3 a1 v7 s4) (by decide +kernel) rfl rfl (lw_V q642 q192 q193 q164 q194) (by decide +kernel) rfl (by decide) hRf hRl (fun _ => (avc (by decide : inR (3)) (avc ra1 (avc rv7 avn)))) (Nat.le_of_ble_eq_true rfl) rfl rfl dX1_locus_47 (fun v8 s9 rv8 => ?_)
    refine gx_iload_n 1 dX1_locus_50 rfl ?_
    refine gx_iload_n 0 dX1_locus_51 rfl ?_
    refine gx_xVI (As := [vI v8, vI v5, vI v6]) (n := 3) (stk := []) (ci := 1) (b := 30) (N := 57) (hX1_keep v8 v5 v6 s9) (by decide +kernel) rfl rfl (lw_V q643 q645 qs9 q163 q646) (by decide +kernel) rfl (by decide) hRf hRl (fun _ => (avc rv8 (avc rv5 (avc rv6 avn)))) (Nat.le_of_ble_eq_true rfl) rfl rfl dX1_locus_52 (fun v10 s11 rv10 => ?_)
    exact gx_iretX rfl (fun _ => rv10) dX1_locus_55
  · refine gx_jn (fun j12 => ∀ (a1 : Int) (s13 : Sg), inR a1 → WGx p l e R s m args below meth c JX1_locus DX1_locus G clA A FC ad0 σ0 (rvX true) (j12 a1 s13) s13 9 [(0, vR 1), (1, vI a1)] []) (fun a1 s13 ra1 => ?_) (fun j12 hj12 => ?_)
    · refine gx_iconst dX1_locus_9 ?_
      refine gx_goto 14 dX1_locus_10 (by decide) ?_
      exact gx_pick [0, 1] rfl (hj1 a1 1 s13 ra1 (Or.inr rfl))
    · refine gx_iload_n 1 dX1_locus_0 rfl ?_
      refine gx_if_eq 9 dX1_locus_1 (by decide) (fun _ => ra1) (fun _ => ?_) (fun _ => ?_)
      · exact gx_pick [0, 1] rfl (hj12 a1 u ra1)
      · refine gx_iload_n 1 dX1_locus_4 rfl ?_
        refine gx_iconst dX1_locus_5 ?_
        refine gx_icmp_ne 13 dX1_locus_6 (by decide) (fun _ => ra1) (fun _ => (inR_z (Or.inr rfl))) (fun _ => ?_) (fun _ => ?_)
        · exact gx_pick [0, 1] rfl (hj12 a1 u ra1)
        · refine gx_iconst dX1_locus_13 ?_
          exact gx_pick [0, 1] rfl (hj1 a1 0 u ra1 (Or.inl rfl))
end
section
variable {l : Launch} {d : Nat} {call : Nat → List Int → Sg → Option (Int × Sg)}
theorem ctX1_locus (p0 : Program) (e0 : Env) (s0 : State) (m0 : MethodId) (meth0 : Method) (c0 : Code) (G0 : Gm) (hd : 7 ≤ d) (hlt : LT l) (hX1_need : ∀ (a1 : Int) (u : Sg), CtX l d FC clA yX1_need cX1_need 1 none DX1_need (rvX false) [vI a1] u (call 4 [a1] u)) (hX2_make : ∀ (a1 a2 a3 : Int) (u : Sg), Ct l d FC clA yX2_make cX2_make 13 (some .int) DX2_make rvI [vR 0, vI a1, vI a2, vI a3] u (call 94 [a1, a2, a3] u)) (hX1_keep : ∀ (a1 a2 a3 : Int) (u : Sg), CtX l d FC clA yX1_keep cX1_keep 4 (some .int) DX1_keep (rvX true) [vR 1, vI a1, vI a2, vI a3] u (call 16 [a1, a2, a3] u)) (a1 : Int) (u : Sg) : CtX l (d + 1) FC clA yX1_locus cX1_locus 4 (some .int) DX1_locus (rvX true) [vR 1, vI a1] u (bX1_locus call a1 u) :=
  CtX_of (by decide) (Nat.le_of_ble_eq_true rfl) (fun p e R s1 m args below meth c G A ad hA hRf hRl => wX1_locus hd hlt hRf hRl hX1_need hX2_make hX1_keep a1 u (hA _ (List.mem_cons_of_mem _ List.mem_cons_self))) p0 e0 s0 m0 meth0 c0 G0
end
/-! RoundCheck.register(IIIII)I, which may throw -/
section
variable {p : Program} {l : Launch} {e : Env} {R : Room} {s : State} {m : MethodId} {args : Array Value} {below : List Frame} {meth : Method} {c : Code} {G : Gm} {A : Nat → Prop} {ad0 : Nat → Nat} {σ0 : Sg} {d : Nat} {call : Nat → List Int → Sg → Option (Int × Sg)}
theorem wX1_register (hd : 7 ≤ d) (hlt : LT l) (hRf : d + 1 ≤ R.frames) (hRl : 40 * (d + 1) ≤ R.locals) (hX1_room : ∀ (a1 : Int) (u : Sg), CtX l d FC clA yX1_room cX1_room 1 none DX1_room (rvX false) [vI a1] u (call 6 [a1] u)) (a1 a2 a3 a4 a5 : Int) (u : Sg) (ra1 : inR a1) (ra2 : inR a2) (ra3 : inR a3) (ra4 : inR a4) (ra5 : inR a5) : WGx p l e R s m args below meth c JX1_register DX1_register G clA A FC ad0 σ0 (rvX true) (bX1_register call a1 a2 a3 a4 a5 u) u 0 [(0, vR 1), (1, vI a1), (2, vI a2), (3, vI a3), (4, vI a4), (5, vI a5)] [] := by
  unfold bX1_register
  refine gx_jn (fun j1 => ∀ (a1 a2 a3 a4 a5 t0 : Int) (s2 : Sg), inR a1 → inR a2 → inR a3 → inR a4 → inR a5 → (t0 = 0 ∨ t0 = 1) → WGx p l e R s m args below meth c JX1_register DX1_register G clA A FC ad0 σ0 (rvX true) (j1 a1 a2 a3 a4 a5 t0 s2) s2 14 [(0, vR 1), (1, vI a1), (2, vI a2), (3, vI a3), (4, vI a4), (5, vI a5)] [vI t0]) (fun a1 a2 a3 a4 a5 t0 s2 ra1 ra2 ra3 ra4 ra5 zt0 => ?_) (fun j1 hj1 => ?_)
  · refine gx_xSV (As := [vI t0]) (n := 1) (stk := []) (hX1_room t0 s2) (by decide +kernel) (lw_S q576 q577 q163 q578) (by decide +kernel) rfl (by decide) hRf hRl (fun _ => (avc (inR_z zt0) avn)) (Nat.le_of_ble_eq_true rfl) rfl rfl dX1_register_14 (fun v3 s4 => ?_)
    refine gx_aload_n 0 dX1_register_17 rfl ?_
    refine gx_get (v := vR 86) (ci := 1) (b := 30) (N := 57) 46 rfl rfl (by decide) in_X1 rfl rfl q354 dX1_register_18 ?_
    refine gx_aload_n 0 dX1_register_21 rfl ?_
    refine gx_getI (ci := 1) (b := 30) (N := 57) 51 rfl rfl rfl (by decide) in_X1 rfl rfl q359 dX1_register_22 (fun v5 rv5 => ?_)
    refine gx_iload_n 1 dX1_register_25 rfl ?_
    refine gx_iastU (id := 76) FC_ok 35 rfl rfl (by decide +kernel) ra1 dX1_register_26 (fun s6 => ?_)
    refine gx_aload_n 0 dX1_register_27 rfl ?_
    refine gx_get (v := vR 87) (ci := 1) (b := 30) (N := 57) 47 rfl rfl (by decide) in_X1 rfl rfl q355 dX1_register_28 ?_
    refine gx_aload_n 0 dX1_register_31 rfl ?_
    refine gx_getI (ci := 1) (b := 30) (N := 57) 51 rfl rfl rfl (by decide) in_X1 rfl rfl q359 dX1_register_32 (fun v7 rv7 => ?_)
    refine gx_iload_n 2 dX1_register_35 rfl ?_
    refine gx_iastU (id := 77) FC_ok 36 rfl rfl (by decide +kernel) ra2 dX1_register_36 (fun s8 => ?_)
    refine gx_aload_n 0 dX1_register_37 rfl ?_
    refine gx_get (v := vR 88) (ci := 1) (b := 30) (N := 57) 48 rfl rfl (by decide) in_X1 rfl rfl q356 dX1_register_38 ?_
    refine gx_aload_n 0 dX1_register_41 rfl ?_
    refine gx_getI (ci := 1) (b := 30) (N := 57) 51 rfl rfl rfl (by decide) in_X1 rfl rfl q359 dX1_register_42 (fun v9 rv9 => ?_)
    refine gx_iload_n 3 dX1_register_45 rfl ?_
    refine gx_iastU (id := 78) FC_ok 37 rfl rfl (by decide +kernel) ra3 dX1_register_46 (fun s10 => ?_)
    refine gx_aload_n 0 dX1_register_47 rfl ?_
    refine gx_get (v := vR 89) (ci := 1) (b := 30) (N := 57) 49 rfl rfl (by decide) in_X1 rfl rfl q357 dX1_register_48 ?_
    refine gx_aload_n 0 dX1_register_51 rfl ?_
    refine gx_getI (ci := 1) (b := 30) (N := 57) 51 rfl rfl rfl (by decide) in_X1 rfl rfl q359 dX1_register_52 (fun v11 rv11 => ?_)
    refine gx_iload 4 dX1_register_55 rfl ?_
    refine gx_iastU (id := 79) FC_ok 38 rfl rfl (by decide +kernel) ra4 dX1_register_57 (fun s12 => ?_)
    refine gx_aload_n 0 dX1_register_58 rfl ?_
    refine gx_get (v := vR 90) (ci := 1) (b := 30) (N := 57) 50 rfl rfl (by decide) in_X1 rfl rfl q358 dX1_register_59 ?_
    refine gx_aload_n 0 dX1_register_62 rfl ?_
    refine gx_getI (ci := 1) (b := 30) (N := 57) 51 rfl rfl rfl (by decide) in_X1 rfl rfl q359 dX1_register_63 (fun v13 rv13 => ?_)
    refine gx_iload 5 dX1_register_66 rfl ?_
    refine gx_iastU (id := 80) FC_ok 39 rfl rfl (by decide +kernel) ra5 dX1_register_68 (fun s14 => ?_)
    refine gx_aload_n 0 dX1_register_69 rfl ?_
    refine gx_dup rfl dX1_register_70 ?_
    refine gx_getI (ci := 1) (b := 30) (N := 57) 51 rfl rfl rfl (by decide) in_X1 rfl rfl q359 dX1_register_71 (fun v15 rv15 => ?_)
    refine gx_iconst dX1_register_74 ?_
    refine gx_iadd dX1_register_75 (fun v16 rv16 => ?_)
    refine gx_sIU (ci := 1) (b := 30) (N := 57) FC_ok 51 rfl rfl rfl (by decide) in_X1 tyX1 tyX1_ok nmX1 rfl rfl rfl rfl (by decide +kernel) rv16 q359 dX1_register_76 (fun s17 => ?_)
    refine gx_aload_n 0 dX1_register_79 rfl ?_
    refine gx_dup rfl dX1_register_80 ?_
    refine gx_getI (ci := 1) (b := 30) (N := 57) 3 rfl rfl rfl (by decide) in_X1 rfl rfl q311 dX1_register_81 (fun v18 rv18 => ?_)
    refine gx_iconst dX1_register_84 ?_
    refine gx_iadd dX1_register_85 (fun v19 rv19 => ?_)
    refine gx_sIU (ci := 1) (b := 30) (N := 57) FC_ok 3 rfl rfl rfl (by decide) in_X1 tyX1 tyX1_ok nmX1 rfl rfl rfl rfl (by decide +kernel) rv19 q311 dX1_register_86 (fun s20 => ?_)
    refine gx_aload_n 0 dX1_register_89 rfl ?_
    refine gx_getI (ci := 1) (b := 30) (N := 57) 51 rfl rfl rfl (by decide) in_X1 rfl rfl q359 dX1_register_90 (fun v21 rv21 => ?_)
    refine gx_iconst dX1_register_93 ?_
    refine gx_isub dX1_register_94 (fun v22 rv22 => ?_)
    exact gx_iretX rfl (fun _ => rv22) dX1_register_95
  · refine gx_aload_n 0 dX1_register_0 rfl ?_
    refine gx_getI (ci := 1) (b := 30) (N := 57) 51 rfl rfl rfl (by decide) in_X1 rfl rfl q359 dX1_register_1 (fun v23 rv23 => ?_)
    refine gx_bipush (by decide +kernel) dX1_register_4 ?_
    refine gx_icmp_ge 13 dX1_register_6 (by decide) (fun _ => rv23) (fun _ => (by decide : inR (30))) (fun _ => ?_) (fun _ => ?_)
    · refine gx_iconst dX1_register_9 ?_
      refine gx_goto 14 dX1_register_10 (by decide) ?_
      exact gx_pick [0, 1, 2, 3, 4, 5] rfl (hj1 a1 a2 a3 a4 a5 1 u ra1 ra2 ra3 ra4 ra5 (Or.inr rfl))
    · refine gx_iconst dX1_register_13 ?_
      exact gx_pick [0, 1, 2, 3, 4, 5] rfl (hj1 a1 a2 a3 a4 a5 0 u ra1 ra2 ra3 ra4 ra5 (Or.inl rfl))
end
section
variable {l : Launch} {d : Nat} {call : Nat → List Int → Sg → Option (Int × Sg)}
theorem ctX1_register (p0 : Program) (e0 : Env) (s0 : State) (m0 : MethodId) (meth0 : Method) (c0 : Code) (G0 : Gm) (hd : 7 ≤ d) (hlt : LT l) (hX1_room : ∀ (a1 : Int) (u : Sg), CtX l d FC clA yX1_room cX1_room 1 none DX1_room (rvX false) [vI a1] u (call 6 [a1] u)) (a1 a2 a3 a4 a5 : Int) (u : Sg) : CtX l (d + 1) FC clA yX1_register cX1_register 6 (some .int) DX1_register (rvX true) [vR 1, vI a1, vI a2, vI a3, vI a4, vI a5] u (bX1_register call a1 a2 a3 a4 a5 u) :=
  CtX_of (by decide) (Nat.le_of_ble_eq_true rfl) (fun p e R s1 m args below meth c G A ad hA hRf hRl => wX1_register hd hlt hRf hRl hX1_room a1 a2 a3 a4 a5 u (hA _ (List.mem_cons_of_mem _ List.mem_cons_self)) (hA _ (List.mem_cons_of_mem _ (List.mem_cons_of_mem _ List.mem_cons_self))) (hA _ (List.mem_cons_of_mem _ (List.mem_cons_of_mem _ (List.mem_cons_of_mem _ List.mem_cons_self)))) (hA _ (List.mem_cons_of_mem _ (List.mem_cons_of_mem _ (List.mem_cons_of_mem _ (List.mem_cons_of_mem _ List.mem_cons_self))))) (hA _ (List.mem_cons_of_mem _ (List.mem_cons_of_mem _ (List.mem_cons_of_mem _ (List.mem_cons_of_mem _ (List.mem_cons_of_mem _ List.mem_cons_self))))))) p0 e0 s0 m0 meth0 c0 G0
end
/-! RoundCheck.typeOfNumber(I)I, which may throw -/
section
variable {p : Program} {l : Launch} {e : Env} {R : Room} {s : State} {m : MethodId} {args : Array Value} {below : List Frame} {meth : Method} {c : Code} {G : Gm} {A : Nat → Prop} {ad0 : Nat → Nat} {σ0 : Sg} {d : Nat} {call : Nat → List Int → Sg → Option (Int × Sg)}
theorem wX1_typeOfNumber (hd : 7 ≤ d) (hlt : LT l) (hRf : d + 1 ≤ R.frames) (hRl : 40 * (d + 1) ≤ R.locals) (hX1_need : ∀ (a1 : Int) (u : Sg), CtX l d FC clA yX1_need cX1_need 1 none DX1_need (rvX false) [vI a1] u (call 4 [a1] u)) (hX1_formOf : ∀ (a1 : Int) (u : Sg), CtX l d FC clA yX1_formOf cX1_formOf 2 (some .int) DX1_formOf (rvX true) [vR 1, vI a1] u (call 3 [a1] u)) (a1 : Int) (u : Sg) (ra1 : inR a1) : WGx p l e R s m args below meth c JX1_typeOfNumber DX1_typeOfNumber G clA A FC ad0 σ0 (rvX true) (bX1_typeOfNumber call a1 u) u 0 [(0, vR 1), (1, vI a1)] [] := by
  unfold bX1_typeOfNumber
  refine gx_jn (fun j1 => ∀ (a2 t0 : Int) (s2 : Sg), inR a2 → (t0 = 0 ∨ t0 = 1) → WGx p l e R s m args below meth c JX1_typeOfNumber DX1_typeOfNumber G clA A FC ad0 σ0 (rvX true) (j1 a2 t0 s2) s2 25 [(2, vI a2)] [vI t0]) (fun a2 t0 s2 ra2 zt0 => ?_) (fun j1 hj1 => ?_)
  · refine gx_xSV (As := [vI t0]) (n := 1) (stk := []) (hX1_need t0 s2) (by decide +kernel) (lw_S q502 q503 q163 q504) (by decide +kernel) rfl (by decide) hRf hRl (fun _ => (avc (inR_z zt0) avn)) (Nat.le_of_ble_eq_true rfl) rfl rfl dX1_typeOfNumber_25 (fun v3 s4 => ?_)
    refine gx_iload_n 0 dX1_typeOfNumber_28 rfl ?_
    exact gx_iretX rfl (fun _ => ra2) dX1_typeOfNumber_29
  · refine gx_aload_n 0 dX1_typeOfNumber_0 rfl ?_
    refine gx_iload_n 1 dX1_typeOfNumber_1 rfl ?_
    refine gx_xVI (As := [vI a1]) (n := 1) (stk := []) (ci := 1) (b := 30) (N := 57) (hX1_formOf a1 u) (by decide +kernel) rfl rfl (lw_V q498 q500 qs2 q163 q501) (by decide +kernel) rfl (by decide) hRf hRl (fun _ => (avc ra1 avn)) (Nat.le_of_ble_eq_true rfl) rfl rfl dX1_typeOfNumber_2 (fun v5 s6 rv5 => ?_)
    refine gx_istore_n (loc' := [(2, vI v5), (0, vR 1), (1, vI a1)]) dX1_typeOfNumber_5 (by decide) rfl ?_
    refine gx_aload_n 1 dX1_typeOfNumber_6 rfl ?_
    refine gx_get (v := vR 0) (ci := 1) (b := 30) (N := 57) 0 rfl rfl (by decide) in_X1 rfl rfl q308 dX1_typeOfNumber_7 ?_
    refine gx_get (v := vR 10) (ci := 0) (b := 0) (N := 21) 0 rfl rfl (by decide) in_X2 rfl rfl q232 dX1_typeOfNumber_10 ?_
    refine gx_iload_n 0 dX1_typeOfNumber_13 rfl ?_
    refine gx_iald (id := 0) 0 rfl rfl dX1_typeOfNumber_14 (fun v7 rv7 => ?_)
    refine gx_bipush (by decide +kernel) dX1_typeOfNumber_15 ?_
    refine gx_icmp_ne 24 dX1_typeOfNumber_17 (by decide) (fun _ => rv7) (fun _ => (by decide : inR (8))) (fun _ => ?_) (fun _ => ?_)
    · refine gx_iconst dX1_typeOfNumber_20 ?_
      refine gx_goto 25 dX1_typeOfNumber_21 (by decide) ?_
      exact gx_pick [0] rfl (hj1 v5 1 s6 rv5 (Or.inr rfl))
    · refine gx_iconst dX1_typeOfNumber_24 ?_
      exact gx_pick [0] rfl (hj1 v5 0 s6 rv5 (Or.inl rfl))
end
section
variable {l : Launch} {d : Nat} {call : Nat → List Int → Sg → Option (Int × Sg)}
theorem ctX1_typeOfNumber (p0 : Program) (e0 : Env) (s0 : State) (m0 : MethodId) (meth0 : Method) (c0 : Code) (G0 : Gm) (hd : 7 ≤ d) (hlt : LT l) (hX1_need : ∀ (a1 : Int) (u : Sg), CtX l d FC clA yX1_need cX1_need 1 none DX1_need (rvX false) [vI a1] u (call 4 [a1] u)) (hX1_formOf : ∀ (a1 : Int) (u : Sg), CtX l d FC clA yX1_formOf cX1_formOf 2 (some .int) DX1_formOf (rvX true) [vR 1, vI a1] u (call 3 [a1] u)) (a1 : Int) (u : Sg) : CtX l (d + 1) FC clA yX1_typeOfNumber cX1_typeOfNumber 3 (some .int) DX1_typeOfNumber (rvX true) [vR 1, vI a1] u (bX1_typeOfNumber call a1 u) :=
  CtX_of (by decide) (Nat.le_of_ble_eq_true rfl) (fun p e R s1 m args below meth c G A ad hA hRf hRl => wX1_typeOfNumber hd hlt hRf hRl hX1_need hX1_formOf a1 u (hA _ (List.mem_cons_of_mem _ List.mem_cons_self))) p0 e0 s0 m0 meth0 c0 G0
end
/-! RoundCheck.termOf(I)I, which may throw -/
section
variable {p : Program} {l : Launch} {e : Env} {R : Room} {s : State} {m : MethodId} {args : Array Value} {below : List Frame} {meth : Method} {c : Code} {G : Gm} {A : Nat → Prop} {ad0 : Nat → Nat} {σ0 : Sg} {d : Nat} {call : Nat → List Int → Sg → Option (Int × Sg)}
theorem wX1_termOf (hd : 7 ≤ d) (hlt : LT l) (hRf : d + 1 ≤ R.frames) (hRl : 40 * (d + 1) ≤ R.locals) (hX1_formOf : ∀ (a1 : Int) (u : Sg), CtX l d FC clA yX1_formOf cX1_formOf 2 (some .int) DX1_formOf (rvX true) [vR 1, vI a1] u (call 3 [a1] u)) (hX1_isTerm : ∀ (a1 : Int) (u : Sg), Ct l d FC clA yX1_isTerm cX1_isTerm 1 (some .boolean) DX1_isTerm rvI [vI a1] u (call 12 [a1] u)) (hX1_need : ∀ (a1 : Int) (u : Sg), CtX l d FC clA yX1_need cX1_need 1 none DX1_need (rvX false) [vI a1] u (call 4 [a1] u)) (a1 : Int) (u : Sg) (ra1 : inR a1) : WGx p l e R s m args below meth c JX1_termOf DX1_termOf G clA A FC ad0 σ0 (rvX true) (bX1_termOf call a1 u) u 0 [(0, vR 1), (1, vI a1)] [] := by
  unfold bX1_termOf
  refine gx_aload_n 0 dX1_termOf_0 rfl ?_
  refine gx_iload_n 1 dX1_termOf_1 rfl ?_
  refine gx_xVI (As := [vI a1]) (n := 1) (stk := []) (ci := 1) (b := 30) (N := 57) (hX1_formOf a1 u) (by decide +kernel) rfl rfl (lw_V q498 q500 qs2 q163 q501) (by decide +kernel) rfl (by decide) hRf hRl (fun _ => (avc ra1 avn)) (Nat.le_of_ble_eq_true rfl) rfl rfl dX1_termOf_2 (fun v1 s2 rv1 => ?_)
  refine gx_istore_n (loc' := [(2, vI v1), (0, vR 1), (1, vI a1)]) dX1_termOf_5 (by decide) rfl ?_
  refine gx_aload_n 1 dX1_termOf_6 rfl ?_
  refine gx_get (v := vR 0) (ci := 1) (b := 30) (N := 57) 0 rfl rfl (by decide) in_X1 rfl rfl q308 dX1_termOf_7 ?_
  refine gx_get (v := vR 10) (ci := 0) (b := 0) (N := 21) 0 rfl rfl (by decide) in_X2 rfl rfl q232 dX1_termOf_10 ?_
  refine gx_iload_n 0 dX1_termOf_13 rfl ?_
  refine gx_iald (id := 0) 0 rfl rfl dX1_termOf_14 (fun v3 rv3 => ?_)
  refine gx_cSZ (As := [vI v3]) (n := 1) (stk := []) (hX1_isTerm v3 s2) (by decide +kernel) (lw_S q626 q627 q163 q628) (by decide +kernel) rfl (by decide) hRf hRl (fun _ => (avc rv3 avn)) (Nat.le_of_ble_eq_true rfl) rfl rfl dX1_termOf_15 (fun v4 s5 zv4 => ?_)
  refine gx_xSV (As := [vI v4]) (n := 1) (stk := []) (hX1_need v4 s5) (by decide +kernel) (lw_S q502 q503 q163 q504) (by decide +kernel) rfl (by decide) hRf hRl (fun _ => (avc (inR_z zv4) avn)) (Nat.le_of_ble_eq_true rfl) rfl rfl dX1_termOf_18 (fun v6 s7 => ?_)
  refine gx_iload_n 0 dX1_termOf_21 rfl ?_
  exact gx_iretX rfl (fun _ => rv1) dX1_termOf_22
end
section
variable {l : Launch} {d : Nat} {call : Nat → List Int → Sg → Option (Int × Sg)}
theorem ctX1_termOf (p0 : Program) (e0 : Env) (s0 : State) (m0 : MethodId) (meth0 : Method) (c0 : Code) (G0 : Gm) (hd : 7 ≤ d) (hlt : LT l) (hX1_formOf : ∀ (a1 : Int) (u : Sg), CtX l d FC clA yX1_formOf cX1_formOf 2 (some .int) DX1_formOf (rvX true) [vR 1, vI a1] u (call 3 [a1] u)) (hX1_isTerm : ∀ (a1 : Int) (u : Sg), Ct l d FC clA yX1_isTerm cX1_isTerm 1 (some .boolean) DX1_isTerm rvI [vI a1] u (call 12 [a1] u)) (hX1_need : ∀ (a1 : Int) (u : Sg), CtX l d FC clA yX1_need cX1_need 1 none DX1_need (rvX false) [vI a1] u (call 4 [a1] u)) (a1 : Int) (u : Sg) : CtX l (d + 1) FC clA yX1_termOf cX1_termOf 3 (some .int) DX1_termOf (rvX true) [vR 1, vI a1] u (bX1_termOf call a1 u) :=
  CtX_of (by decide) (Nat.le_of_ble_eq_true rfl) (fun p e R s1 m args below meth c G A ad hA hRf hRl => wX1_termOf hd hlt hRf hRl hX1_formOf hX1_isTerm hX1_need a1 u (hA _ (List.mem_cons_of_mem _ List.mem_cons_self))) p0 e0 s0 m0 meth0 c0 G0
end
/-! RoundCheck.formulaOf(I)I, which may throw -/
section
variable {p : Program} {l : Launch} {e : Env} {R : Room} {s : State} {m : MethodId} {args : Array Value} {below : List Frame} {meth : Method} {c : Code} {G : Gm} {A : Nat → Prop} {ad0 : Nat → Nat} {σ0 : Sg} {d : Nat} {call : Nat → List Int → Sg → Option (Int × Sg)}
theorem wX1_formulaOf (hd : 7 ≤ d) (hlt : LT l) (hRf : d + 1 ≤ R.frames) (hRl : 40 * (d + 1) ≤ R.locals) (hX1_need : ∀ (a1 : Int) (u : Sg), CtX l d FC clA yX1_need cX1_need 1 none DX1_need (rvX false) [vI a1] u (call 4 [a1] u)) (hX1_formOf : ∀ (a1 : Int) (u : Sg), CtX l d FC clA yX1_formOf cX1_formOf 2 (some .int) DX1_formOf (rvX true) [vR 1, vI a1] u (call 3 [a1] u)) (a1 : Int) (u : Sg) (ra1 : inR a1) : WGx p l e R s m args below meth c JX1_formulaOf DX1_formulaOf G clA A FC ad0 σ0 (rvX true) (bX1_formulaOf call a1 u) u 0 [(0, vR 1), (1, vI a1)] [] := by
  unfold bX1_formulaOf
  refine gx_jn (fun j1 => ∀ (a2 t0 : Int) (s2 : Sg), inR a2 → (t0 = 0 ∨ t0 = 1) → WGx p l e R s m args below meth c JX1_formulaOf DX1_formulaOf G clA A FC ad0 σ0 (rvX true) (j1 a2 t0 s2) s2 25 [(2, vI a2)] [vI t0]) (fun a2 t0 s2 ra2 zt0 => ?_) (fun j1 hj1 => ?_)
  · refine gx_xSV (As := [vI t0]) (n := 1) (stk := []) (hX1_need t0 s2) (by decide +kernel) (lw_S q502 q503 q163 q504) (by decide +kernel) rfl (by decide) hRf hRl (fun _ => (avc (inR_z zt0) avn)) (Nat.le_of_ble_eq_true rfl) rfl rfl dX1_formulaOf_25 (fun v3 s4 => ?_)
    refine gx_iload_n 0 dX1_formulaOf_28 rfl ?_
    exact gx_iretX rfl (fun _ => ra2) dX1_formulaOf_29
  · refine gx_aload_n 0 dX1_formulaOf_0 rfl ?_
    refine gx_iload_n 1 dX1_formulaOf_1 rfl ?_
    refine gx_xVI (As := [vI a1]) (n := 1) (stk := []) (ci := 1) (b := 30) (N := 57) (hX1_formOf a1 u) (by decide +kernel) rfl rfl (lw_V q498 q500 qs2 q163 q501) (by decide +kernel) rfl (by decide) hRf hRl (fun _ => (avc ra1 avn)) (Nat.le_of_ble_eq_true rfl) rfl rfl dX1_formulaOf_2 (fun v5 s6 rv5 => ?_)
    refine gx_istore_n (loc' := [(2, vI v5), (0, vR 1), (1, vI a1)]) dX1_formulaOf_5 (by decide) rfl ?_
    refine gx_aload_n 1 dX1_formulaOf_6 rfl ?_
    refine gx_get (v := vR 0) (ci := 1) (b := 30) (N := 57) 0 rfl rfl (by decide) in_X1 rfl rfl q308 dX1_formulaOf_7 ?_
    refine gx_get (v := vR 10) (ci := 0) (b := 0) (N := 21) 0 rfl rfl (by decide) in_X2 rfl rfl q232 dX1_formulaOf_10 ?_
    refine gx_iload_n 0 dX1_formulaOf_13 rfl ?_
    refine gx_iald (id := 0) 0 rfl rfl dX1_formulaOf_14 (fun v7 rv7 => ?_)
    refine gx_bipush (by decide +kernel) dX1_formulaOf_15 ?_
    refine gx_icmp_le 24 dX1_formulaOf_17 (by decide) (fun _ => rv7) (fun _ => (by decide : inR (8))) (fun _ => ?_) (fun _ => ?_)
    · refine gx_iconst dX1_formulaOf_24 ?_
      exact gx_pick [0] rfl (hj1 v5 0 s6 rv5 (Or.inl rfl))
    · refine gx_iconst dX1_formulaOf_20 ?_
      refine gx_goto 25 dX1_formulaOf_21 (by decide) ?_
      exact gx_pick [0] rfl (hj1 v5 1 s6 rv5 (Or.inr rfl))
end
section
variable {l : Launch} {d : Nat} {call : Nat → List Int → Sg → Option (Int × Sg)}
theorem ctX1_formulaOf (p0 : Program) (e0 : Env) (s0 : State) (m0 : MethodId) (meth0 : Method) (c0 : Code) (G0 : Gm) (hd : 7 ≤ d) (hlt : LT l) (hX1_need : ∀ (a1 : Int) (u : Sg), CtX l d FC clA yX1_need cX1_need 1 none DX1_need (rvX false) [vI a1] u (call 4 [a1] u)) (hX1_formOf : ∀ (a1 : Int) (u : Sg), CtX l d FC clA yX1_formOf cX1_formOf 2 (some .int) DX1_formOf (rvX true) [vR 1, vI a1] u (call 3 [a1] u)) (a1 : Int) (u : Sg) : CtX l (d + 1) FC clA yX1_formulaOf cX1_formulaOf 3 (some .int) DX1_formulaOf (rvX true) [vR 1, vI a1] u (bX1_formulaOf call a1 u) :=
  CtX_of (by decide) (Nat.le_of_ble_eq_true rfl) (fun p e R s1 m args below meth c G A ad hA hRf hRl => wX1_formulaOf hd hlt hRf hRl hX1_need hX1_formOf a1 u (hA _ (List.mem_cons_of_mem _ List.mem_cons_self))) p0 e0 s0 m0 meth0 c0 G0
end
/-! RoundCheck.alike(II)Z, which may throw -/
section
variable {p : Program} {l : Launch} {e : Env} {R : Room} {s : State} {m : MethodId} {args : Array Value} {below : List Frame} {meth : Method} {c : Code} {G : Gm} {A : Nat → Prop} {ad0 : Nat → Nat} {σ0 : Sg} {d : Nat} {call : Nat → List Int → Sg → Option (Int × Sg)}
theorem wX1_alike (hd : 7 ≤ d) (hlt : LT l) (hRf : d + 1 ≤ R.frames) (hRl : 40 * (d + 1) ≤ R.locals) (hX1_formOf : ∀ (a1 : Int) (u : Sg), CtX l d FC clA yX1_formOf cX1_formOf 2 (some .int) DX1_formOf (rvX true) [vR 1, vI a1] u (call 3 [a1] u)) (a1 a2 : Int) (u : Sg) (ra1 : inR a1) (ra2 : inR a2) : WGx p l e R s m args below meth c JX1_alike DX1_alike G clA A FC ad0 σ0 (rvX true) (bX1_alike call a1 a2 u) u 0 [(0, vR 1), (1, vI a1), (2, vI a2)] [] := by
  unfold bX1_alike
  refine gx_aload_n 0 dX1_alike_0 rfl ?_
  refine gx_iload_n 1 dX1_alike_1 rfl ?_
  refine gx_xVI (As := [vI a1]) (n := 1) (stk := []) (ci := 1) (b := 30) (N := 57) (hX1_formOf a1 u) (by decide +kernel) rfl rfl (lw_V q498 q500 qs2 q163 q501) (by decide +kernel) rfl (by decide) hRf hRl (fun _ => (avc ra1 avn)) (Nat.le_of_ble_eq_true rfl) rfl rfl dX1_alike_2 (fun v1 s2 rv1 => ?_)
  refine gx_istore_n (loc' := [(3, vI v1), (0, vR 1), (1, vI a1), (2, vI a2)]) dX1_alike_5 (by decide) rfl ?_
  refine gx_iload_n 0 dX1_alike_6 rfl ?_
  refine gx_aload_n 1 dX1_alike_7 rfl ?_
  refine gx_iload_n 3 dX1_alike_8 rfl ?_
  refine gx_xVI (As := [vI a2]) (n := 1) (stk := [vI v1]) (ci := 1) (b := 30) (N := 57) (hX1_formOf a2 s2) (by decide +kernel) rfl rfl (lw_V q498 q500 qs2 q163 q501) (by decide +kernel) rfl (by decide) hRf hRl (fun _ => (avc ra2 avn)) (Nat.le_of_ble_eq_true rfl) rfl rfl dX1_alike_9 (fun v3 s4 rv3 => ?_)
  refine gx_icmp_ne 19 dX1_alike_12 (by decide) (fun _ => rv1) (fun _ => rv3) (fun _ => ?_) (fun _ => ?_)
  · refine gx_iconst dX1_alike_15 ?_
    refine gx_goto 20 dX1_alike_16 (by decide) ?_
    exact gx_zretX rfl (fun _ => (Or.inr rfl)) dX1_alike_20
  · refine gx_iconst dX1_alike_19 ?_
    exact gx_zretX rfl (fun _ => (Or.inl rfl)) dX1_alike_20
end
section
variable {l : Launch} {d : Nat} {call : Nat → List Int → Sg → Option (Int × Sg)}
theorem ctX1_alike (p0 : Program) (e0 : Env) (s0 : State) (m0 : MethodId) (meth0 : Method) (c0 : Code) (G0 : Gm) (hd : 7 ≤ d) (hlt : LT l) (hX1_formOf : ∀ (a1 : Int) (u : Sg), CtX l d FC clA yX1_formOf cX1_formOf 2 (some .int) DX1_formOf (rvX true) [vR 1, vI a1] u (call 3 [a1] u)) (a1 a2 : Int) (u : Sg) : CtX l (d + 1) FC clA yX1_alike cX1_alike 4 (some .boolean) DX1_alike (rvX true) [vR 1, vI a1, vI a2] u (bX1_alike call a1 a2 u) :=
  CtX_of (by decide) (Nat.le_of_ble_eq_true rfl) (fun p e R s1 m args below meth c G A ad hA hRf hRl => wX1_alike hd hlt hRf hRl hX1_formOf a1 a2 u (hA _ (List.mem_cons_of_mem _ List.mem_cons_self)) (hA _ (List.mem_cons_of_mem _ (List.mem_cons_of_mem _ List.mem_cons_self)))) p0 e0 s0 m0 meth0 c0 G0
end
/-! RoundCheck.about(II)I, which may throw -/
section
variable {p : Program} {l : Launch} {e : Env} {R : Room} {s : State} {m : MethodId} {args : Array Value} {below : List Frame} {meth : Method} {c : Code} {G : Gm} {A : Nat → Prop} {ad0 : Nat → Nat} {σ0 : Sg} {d : Nat} {call : Nat → List Int → Sg → Option (Int × Sg)}
theorem wX1_about (hd : 7 ≤ d) (hlt : LT l) (hRf : d + 1 ≤ R.frames) (hRl : 40 * (d + 1) ≤ R.locals) (hX2_partsOf : ∀ (a1 : Int) (u : Sg), Ct l d FC clA yX2_partsOf cX2_partsOf 2 (some .int) DX2_partsOf rvI [vR 0, vI a1] u (call 114 [a1] u)) (hX1_casesOf : ∀ (a1 a2 : Int) (u : Sg), Ct l d FC clA yX1_casesOf cX1_casesOf 7 (some .int) DX1_casesOf rvI [vR 1, vI a1, vI a2] u (call 37 [a1, a2] u)) (hX1_need : ∀ (a1 : Int) (u : Sg), CtX l d FC clA yX1_need cX1_need 1 none DX1_need (rvX false) [vI a1] u (call 4 [a1] u)) (hX1_isTerm : ∀ (a1 : Int) (u : Sg), Ct l d FC clA yX1_isTerm cX1_isTerm 1 (some .boolean) DX1_isTerm rvI [vI a1] u (call 12 [a1] u)) (hX1_formOf : ∀ (a1 : Int) (u : Sg), CtX l d FC clA yX1_formOf cX1_formOf 2 (some .int) DX1_formOf (rvX true) [vR 1, vI a1] u (call 3 [a1] u)) (a1 a2 : Int) (u : Sg) (ra1 : inR a1) (ra2 : inR a2) : WGx p l e R s m args below meth c JX1_about DX1_about G clA A FC ad0 σ0 (rvX true) (bX1_about call a1 a2 u) u 0 [(0, vR 1), (1, vI a1), (2, vI a2)] [] := by
  unfold bX1_about
  refine gx_jn (fun j1 => ∀ (a2 a3 t0 : Int) (s2 : Sg), inR a2 → inR a3 → (t0 = 0 ∨ t0 = 1) → WGx p l e R s m args below meth c JX1_about DX1_about G clA A FC ad0 σ0 (rvX true) (j1 a2 a3 t0 s2) s2 20 [(0, vR 1), (2, vI a2), (3, vI a3)] [vI t0]) (fun a2 a3 t0 s2 ra2 ra3 zt0 => ?_) (fun j1 hj1 => ?_)
  · refine gx_jn (fun j3 => ∀ (a2 a3 t0 : Int) (s4 : Sg), inR a2 → inR a3 → inR t0 → WGx p l e R s m args below meth c JX1_about DX1_about G clA A FC ad0 σ0 (rvX true) (j3 a2 a3 t0 s4) s4 61 [(0, vR 1), (2, vI a2), (3, vI a3)] [vI t0]) (fun a2 a3 t0 s4 ra2 ra3 rt0 => ?_) (fun j3 hj3 => ?_)
    · refine gx_istore (loc' := [(4, vI t0), (0, vR 1), (2, vI a2), (3, vI a3)]) dX1_about_61 (by decide) rfl ?_
      refine gx_iload_n 2 dX1_about_63 rfl ?_
      refine WGx.byc (fun e0 => ?_) (fun n0 => ?_)
      · refine gx_tswIn 92 0 dX1_about_64 (by decide) rfl (by decide) e0 ?_
        refine gx_iload 0 dX1_about_92 rfl ?_
        exact gx_iretX rfl (fun _ => rt0) dX1_about_94
      · skip
        refine WGx.byc (fun e1 => ?_) (fun n1 => ?_)
        · refine gx_tswIn 95 1 dX1_about_64 (by decide) rfl (by decide) e1 ?_
          refine gx_aload_n 1 dX1_about_95 rfl ?_
          refine gx_get (v := vR 0) (ci := 1) (b := 30) (N := 57) 0 rfl rfl (by decide) in_X1 rfl rfl q308 dX1_about_96 ?_
          refine gx_get (v := vR 14) (ci := 0) (b := 0) (N := 21) 4 rfl rfl (by decide) in_X2 rfl rfl q239 dX1_about_99 ?_
          refine gx_iload_n 3 dX1_about_102 rfl ?_
          refine gx_iald (id := 4) 4 rfl rfl dX1_about_103 (fun v5 rv5 => ?_)
          exact gx_iretX rfl (fun _ => rv5) dX1_about_104
        · skip
          refine WGx.byc (fun e2 => ?_) (fun n2 => ?_)
          · refine gx_tswIn 105 2 dX1_about_64 (by decide) rfl (by decide) e2 ?_
            refine gx_iload 0 dX1_about_105 rfl ?_
            refine gx_iconst dX1_about_107 ?_
            refine gx_icmp_ge 115 dX1_about_108 (by decide) (fun _ => rt0) (fun _ => (by decide : inR (2))) (fun _ => ?_) (fun _ => ?_)
            · refine gx_iconst dX1_about_111 ?_
              refine gx_goto 123 dX1_about_112 (by decide) ?_
              exact gx_iretX rfl (fun _ => (inR_z (Or.inl rfl))) dX1_about_123
            · refine gx_aload_n 1 dX1_about_115 rfl ?_
              refine gx_get (v := vR 0) (ci := 1) (b := 30) (N := 57) 0 rfl rfl (by decide) in_X1 rfl rfl q308 dX1_about_116 ?_
              refine gx_iload_n 3 dX1_about_119 rfl ?_
              refine gx_cVI (As := [vI a3]) (n := 1) (stk := []) (ci := 0) (b := 0) (N := 21) (hX2_partsOf a3 s4) (by decide +kernel) rfl rfl (lw_V q1070 q1071 q1072 q164 q1073) (by decide +kernel) rfl (by decide) hRf hRl (fun _ => (avc ra3 avn)) (Nat.le_of_ble_eq_true rfl) rfl rfl dX1_about_120 (fun v6 s7 rv6 => ?_)
              exact gx_iretX rfl (fun _ => rv6) dX1_about_123
          · skip
            refine gx_tswOut 124 dX1_about_64 (fun _ => ra2) (by omega) (by decide) ?_
            refine gx_iload 0 dX1_about_124 rfl ?_
            refine gx_iconst dX1_about_126 ?_
            refine gx_icmp_ge 134 dX1_about_127 (by decide) (fun _ => rt0) (fun _ => (by decide : inR (2))) (fun _ => ?_) (fun _ => ?_)
            · refine gx_iconst dX1_about_130 ?_
              refine gx_goto 140 dX1_about_131 (by decide) ?_
              exact gx_iretX rfl (fun _ => (inR_z (Or.inl rfl))) dX1_about_140
            · refine gx_aload_n 1 dX1_about_134 rfl ?_
              refine gx_iload_n 3 dX1_about_135 rfl ?_
              refine gx_iconst dX1_about_136 ?_
              refine gx_cVI (As := [vI a3, vI 0]) (n := 2) (stk := []) (ci := 1) (b := 30) (N := 57) (hX1_casesOf a3 0 s4) (by decide +kernel) rfl rfl (lw_V q814 q816 qs19 q163 q817) (by decide +kernel) rfl (by decide) hRf hRl (fun _ => (avc ra3 (avc (inR_z (Or.inl rfl)) avn))) (Nat.le_of_ble_eq_true rfl) rfl rfl dX1_about_137 (fun v8 s9 rv8 => ?_)
              exact gx_iretX rfl (fun _ => rv8) dX1_about_140
    · refine gx_xSV (As := [vI t0]) (n := 1) (stk := []) (hX1_need t0 s2) (by decide +kernel) (lw_S q502 q503 q163 q504) (by decide +kernel) rfl (by decide) hRf hRl (fun _ => (avc (inR_z zt0) avn)) (Nat.le_of_ble_eq_true rfl) rfl rfl dX1_about_20 (fun v10 s11 => ?_)
      refine gx_aload_n 0 dX1_about_23 rfl ?_
      refine gx_get (v := vR 0) (ci := 1) (b := 30) (N := 57) 0 rfl rfl (by decide) in_X1 rfl rfl q308 dX1_about_24 ?_
      refine gx_get (v := vR 10) (ci := 0) (b := 0) (N := 21) 0 rfl rfl (by decide) in_X2 rfl rfl q232 dX1_about_27 ?_
      refine gx_iload_n 2 dX1_about_30 rfl ?_
      refine gx_iald (id := 0) 0 rfl rfl dX1_about_31 (fun v12 rv12 => ?_)
      refine gx_cSZ (As := [vI v12]) (n := 1) (stk := []) (hX1_isTerm v12 s11) (by decide +kernel) (lw_S q626 q627 q163 q628) (by decide +kernel) rfl (by decide) hRf hRl (fun _ => (avc rv12 avn)) (Nat.le_of_ble_eq_true rfl) rfl rfl dX1_about_32 (fun v13 s14 zv13 => ?_)
      refine gx_if_eq 42 dX1_about_35 (by decide) (fun _ => (inR_z zv13)) (fun _ => ?_) (fun _ => ?_)
      · refine gx_aload_n 0 dX1_about_42 rfl ?_
        refine gx_get (v := vR 0) (ci := 1) (b := 30) (N := 57) 0 rfl rfl (by decide) in_X1 rfl rfl q308 dX1_about_43 ?_
        refine gx_get (v := vR 10) (ci := 0) (b := 0) (N := 21) 0 rfl rfl (by decide) in_X2 rfl rfl q232 dX1_about_46 ?_
        refine gx_iload_n 2 dX1_about_49 rfl ?_
        refine gx_iald (id := 0) 0 rfl rfl dX1_about_50 (fun v15 rv15 => ?_)
        refine gx_bipush (by decide +kernel) dX1_about_51 ?_
        refine gx_icmp_ne 60 dX1_about_53 (by decide) (fun _ => rv15) (fun _ => (by decide : inR (8))) (fun _ => ?_) (fun _ => ?_)
        · refine gx_iconst dX1_about_56 ?_
          refine gx_goto 61 dX1_about_57 (by decide) ?_
          exact gx_pick [0, 1, 2] rfl (hj3 a2 a3 1 s14 ra2 ra3 (inR_z (Or.inr rfl)))
        · refine gx_iconst dX1_about_60 ?_
          exact gx_pick [0, 1, 2] rfl (hj3 a2 a3 2 s14 ra2 ra3 (by decide : inR (2)))
      · refine gx_iconst dX1_about_38 ?_
        refine gx_goto 61 dX1_about_39 (by decide) ?_
        exact gx_pick [0, 1, 2] rfl (hj3 a2 a3 0 s14 ra2 ra3 (inR_z (Or.inl rfl)))
  · refine gx_jn (fun j16 => ∀ (a2 a3 : Int) (s17 : Sg), inR a2 → inR a3 → WGx p l e R s m args below meth c JX1_about DX1_about G clA A FC ad0 σ0 (rvX true) (j16 a2 a3 s17) s17 19 [(0, vR 1), (2, vI a2), (3, vI a3)] []) (fun a2 a3 s17 ra2 ra3 => ?_) (fun j16 hj16 => ?_)
    · refine gx_iconst dX1_about_19 ?_
      exact gx_pick [0, 1, 2] rfl (hj1 a2 a3 0 s17 ra2 ra3 (Or.inl rfl))
    · refine gx_aload_n 0 dX1_about_0 rfl ?_
      refine gx_iload_n 1 dX1_about_1 rfl ?_
      refine gx_xVI (As := [vI a1]) (n := 1) (stk := []) (ci := 1) (b := 30) (N := 57) (hX1_formOf a1 u) (by decide +kernel) rfl rfl (lw_V q498 q500 qs2 q163 q501) (by decide +kernel) rfl (by decide) hRf hRl (fun _ => (avc ra1 avn)) (Nat.le_of_ble_eq_true rfl) rfl rfl dX1_about_2 (fun v18 s19 rv18 => ?_)
      refine gx_istore_n (loc' := [(3, vI v18), (0, vR 1), (1, vI a1), (2, vI a2)]) dX1_about_5 (by decide) rfl ?_
      refine gx_iload_n 3 dX1_about_6 rfl ?_
      refine gx_if_lt 19 dX1_about_7 (by decide) (fun _ => ra2) (fun _ => ?_) (fun _ => ?_)
      · exact gx_pick [1, 3, 0] rfl (hj16 a2 v18 s19 ra2 rv18)
      · refine gx_iload_n 3 dX1_about_10 rfl ?_
        refine gx_iconst dX1_about_11 ?_
        refine gx_icmp_gt 19 dX1_about_12 (by decide) (fun _ => ra2) (fun _ => (by decide : inR (3))) (fun _ => ?_) (fun _ => ?_)
        · refine gx_iconst dX1_about_15 ?_
          refine gx_goto 20 dX1_about_16 (by decide) ?_
          exact gx_pick [1, 3, 0] rfl (hj1 a2 v18 1 s19 ra2 rv18 (Or.inr rfl))
        · exact gx_pick [1, 3, 0] rfl (hj16 a2 v18 s19 ra2 rv18)
end
section
variable {l : Launch} {d : Nat} {call : Nat → List Int → Sg → Option (Int × Sg)}
theorem ctX1_about (p0 : Program) (e0 : Env) (s0 : State) (m0 : MethodId) (meth0 : Method) (c0 : Code) (G0 : Gm) (hd : 7 ≤ d) (hlt : LT l) (hX2_partsOf : ∀ (a1 : Int) (u : Sg), Ct l d FC clA yX2_partsOf cX2_partsOf 2 (some .int) DX2_partsOf rvI [vR 0, vI a1] u (call 114 [a1] u)) (hX1_casesOf : ∀ (a1 a2 : Int) (u : Sg), Ct l d FC clA yX1_casesOf cX1_casesOf 7 (some .int) DX1_casesOf rvI [vR 1, vI a1, vI a2] u (call 37 [a1, a2] u)) (hX1_need : ∀ (a1 : Int) (u : Sg), CtX l d FC clA yX1_need cX1_need 1 none DX1_need (rvX false) [vI a1] u (call 4 [a1] u)) (hX1_isTerm : ∀ (a1 : Int) (u : Sg), Ct l d FC clA yX1_isTerm cX1_isTerm 1 (some .boolean) DX1_isTerm rvI [vI a1] u (call 12 [a1] u)) (hX1_formOf : ∀ (a1 : Int) (u : Sg), CtX l d FC clA yX1_formOf cX1_formOf 2 (some .int) DX1_formOf (rvX true) [vR 1, vI a1] u (call 3 [a1] u)) (a1 a2 : Int) (u : Sg) : CtX l (d + 1) FC clA yX1_about cX1_about 5 (some .int) DX1_about (rvX true) [vR 1, vI a1, vI a2] u (bX1_about call a1 a2 u) :=
  CtX_of (by decide) (Nat.le_of_ble_eq_true rfl) (fun p e R s1 m args below meth c G A ad hA hRf hRl => wX1_about hd hlt hRf hRl hX2_partsOf hX1_casesOf hX1_need hX1_isTerm hX1_formOf a1 a2 u (hA _ (List.mem_cons_of_mem _ List.mem_cons_self)) (hA _ (List.mem_cons_of_mem _ (List.mem_cons_of_mem _ List.mem_cons_self)))) p0 e0 s0 m0 meth0 c0 G0
end
/-! RoundCheck.mode(IZ)I, which may throw -/
section
variable {p : Program} {l : Launch} {e : Env} {R : Room} {s : State} {m : MethodId} {args : Array Value} {below : List Frame} {meth : Method} {c : Code} {G : Gm} {A : Nat → Prop} {ad0 : Nat → Nat} {σ0 : Sg} {d : Nat} {call : Nat → List Int → Sg → Option (Int × Sg)}
theorem wX1_mode (hd : 7 ≤ d) (hlt : LT l) (hRf : d + 1 ≤ R.frames) (hRl : 40 * (d + 1) ≤ R.locals) (hX1_room : ∀ (a1 : Int) (u : Sg), CtX l d FC clA yX1_room cX1_room 1 none DX1_room (rvX false) [vI a1] u (call 6 [a1] u)) (hX1_need : ∀ (a1 : Int) (u : Sg), CtX l d FC clA yX1_need cX1_need 1 none DX1_need (rvX false) [vI a1] u (call 4 [a1] u)) (hX1_typeOfNumber : ∀ (a1 : Int) (u : Sg), CtX l d FC clA yX1_typeOfNumber cX1_typeOfNumber 3 (some .int) DX1_typeOfNumber (rvX true) [vR 1, vI a1] u (call 2 [a1] u)) (hX1_loci : ∀ (a1 : Int) (u : Sg), Ct l d FC clA yX1_loci cX1_loci 5 (some .int) DX1_loci rvI [vR 1, vI a1] u (call 5 [a1] u)) (a1 a2 : Int) (u : Sg) (ra1 : inR a1) (ra2 : inR a2) : WGx p l e R s m args below meth c JX1_mode DX1_mode G clA A FC ad0 σ0 (rvX true) (bX1_mode call a1 a2 u) u 0 [(0, vR 1), (1, vI a1), (2, vI a2)] [] := by
  unfold bX1_mode
  refine gx_gd (fun za2 => ?_)
  refine gx_jn (fun j1 => ∀ (a2 a3 t0 t1 : Int) (s2 : Sg), (a2 = 0 ∨ a2 = 1) → inR a3 → inR t0 → (t1 = 0 ∨ t1 = 1) → WGx p l e R s m args below meth c JX1_mode DX1_mode G clA A FC ad0 σ0 (rvX true) (j1 a2 a3 t0 t1 s2) s2 20 [(0, vR 1), (2, vI a2), (3, vI a3)] [vI t1, vI t0]) (fun a2 a3 t0 t1 s2 za2 ra3 rt0 zt1 => ?_) (fun j1 hj1 => ?_)
  · refine gx_jn (fun j3 => ∀ (a2 a3 t0 : Int) (s4 : Sg), (a2 = 0 ∨ a2 = 1) → inR a3 → (t0 = 0 ∨ t0 = 1) → WGx p l e R s m args below meth c JX1_mode DX1_mode G clA A FC ad0 σ0 (rvX true) (j3 a2 a3 t0 s4) s4 28 [(0, vR 1), (2, vI a2), (3, vI a3)] [vI t0]) (fun a2 a3 t0 s4 za2 ra3 zt0 => ?_) (fun j3 hj3 => ?_)
    · refine gx_jn (fun j5 => ∀ (a2 a3 t0 : Int) (s6 : Sg), (a2 = 0 ∨ a2 = 1) → inR a3 → (t0 = 0 ∨ t0 = 1) → WGx p l e R s m args below meth c JX1_mode DX1_mode G clA A FC ad0 σ0 (rvX true) (j5 a2 a3 t0 s6) s6 45 [(0, vR 1), (2, vI a2), (3, vI a3)] [vI t0]) (fun a2 a3 t0 s6 za2 ra3 zt0 => ?_) (fun j5 hj5 => ?_)
      · refine gx_xSV (As := [vI t0]) (n := 1) (stk := []) (hX1_room t0 s6) (by decide +kernel) (lw_S q576 q577 q163 q578) (by decide +kernel) rfl (by decide) hRf hRl (fun _ => (avc (inR_z zt0) avn)) (Nat.le_of_ble_eq_true rfl) rfl rfl dX1_mode_45 (fun v7 s8 => ?_)
        refine gx_aload_n 0 dX1_mode_48 rfl ?_
        refine gx_get (v := vR 77) (ci := 1) (b := 30) (N := 57) 37 rfl rfl (by decide) in_X1 rfl rfl q345 dX1_mode_49 ?_
        refine gx_aload_n 0 dX1_mode_52 rfl ?_
        refine gx_getI (ci := 1) (b := 30) (N := 57) 39 rfl rfl rfl (by decide) in_X1 rfl rfl q347 dX1_mode_53 (fun v9 rv9 => ?_)
        refine gx_iload_n 2 dX1_mode_56 rfl ?_
        refine gx_iastU (id := 67) FC_ok 30 rfl rfl (by decide +kernel) ra3 dX1_mode_57 (fun s10 => ?_)
        refine gx_aload_n 0 dX1_mode_58 rfl ?_
        refine gx_get (v := vR 78) (ci := 1) (b := 30) (N := 57) 38 rfl rfl (by decide) in_X1 rfl rfl q346 dX1_mode_59 ?_
        refine gx_aload_n 0 dX1_mode_62 rfl ?_
        refine gx_getI (ci := 1) (b := 30) (N := 57) 39 rfl rfl rfl (by decide) in_X1 rfl rfl q347 dX1_mode_63 (fun v11 rv11 => ?_)
        refine gx_iload_n 1 dX1_mode_66 rfl ?_
        refine gx_zastU (id := 68) FC_ok 31 rfl rfl (by decide +kernel) za2 dX1_mode_67 (fun s12 => ?_)
        refine gx_aload_n 0 dX1_mode_68 rfl ?_
        refine gx_dup rfl dX1_mode_69 ?_
        refine gx_getI (ci := 1) (b := 30) (N := 57) 39 rfl rfl rfl (by decide) in_X1 rfl rfl q347 dX1_mode_70 (fun v13 rv13 => ?_)
        refine gx_iconst dX1_mode_73 ?_
        refine gx_iadd dX1_mode_74 (fun v14 rv14 => ?_)
        refine gx_sIU (ci := 1) (b := 30) (N := 57) FC_ok 39 rfl rfl rfl (by decide) in_X1 tyX1 tyX1_ok nmX1 rfl rfl rfl rfl (by decide +kernel) rv14 q347 dX1_mode_75 (fun s15 => ?_)
        refine gx_aload_n 0 dX1_mode_78 rfl ?_
        refine gx_getI (ci := 1) (b := 30) (N := 57) 39 rfl rfl rfl (by decide) in_X1 rfl rfl q347 dX1_mode_79 (fun v16 rv16 => ?_)
        refine gx_iconst dX1_mode_82 ?_
        refine gx_isub dX1_mode_83 (fun v17 rv17 => ?_)
        exact gx_iretX rfl (fun _ => rv17) dX1_mode_84
      · refine gx_xSV (As := [vI t0]) (n := 1) (stk := []) (hX1_need t0 s4) (by decide +kernel) (lw_S q502 q503 q163 q504) (by decide +kernel) rfl (by decide) hRf hRl (fun _ => (avc (inR_z zt0) avn)) (Nat.le_of_ble_eq_true rfl) rfl rfl dX1_mode_28 (fun v18 s19 => ?_)
        refine gx_aload_n 0 dX1_mode_31 rfl ?_
        refine gx_getI (ci := 1) (b := 30) (N := 57) 39 rfl rfl rfl (by decide) in_X1 rfl rfl q347 dX1_mode_32 (fun v20 rv20 => ?_)
        refine gx_bipush (by decide +kernel) dX1_mode_35 ?_
        refine gx_icmp_ge 44 dX1_mode_37 (by decide) (fun _ => rv20) (fun _ => (by decide : inR (20))) (fun _ => ?_) (fun _ => ?_)
        · refine gx_iconst dX1_mode_40 ?_
          refine gx_goto 45 dX1_mode_41 (by decide) ?_
          exact gx_pick [0, 1, 2] rfl (hj5 a2 a3 1 s19 za2 ra3 (Or.inr rfl))
        · refine gx_iconst dX1_mode_44 ?_
          exact gx_pick [0, 1, 2] rfl (hj5 a2 a3 0 s19 za2 ra3 (Or.inl rfl))
    · refine gx_icmp_ge 27 dX1_mode_20 (by decide) (fun _ => rt0) (fun _ => (inR_z zt1)) (fun _ => ?_) (fun _ => ?_)
      · refine gx_iconst dX1_mode_23 ?_
        refine gx_goto 28 dX1_mode_24 (by decide) ?_
        exact gx_pick [0, 1, 2] rfl (hj3 a2 a3 1 s2 za2 ra3 (Or.inr rfl))
      · refine gx_iconst dX1_mode_27 ?_
        exact gx_pick [0, 1, 2] rfl (hj3 a2 a3 0 s2 za2 ra3 (Or.inl rfl))
  · refine gx_aload_n 0 dX1_mode_0 rfl ?_
    refine gx_iload_n 1 dX1_mode_1 rfl ?_
    refine gx_xVI (As := [vI a1]) (n := 1) (stk := []) (ci := 1) (b := 30) (N := 57) (hX1_typeOfNumber a1 u) (by decide +kernel) rfl rfl (lw_V q494 q496 qs1 q163 q497) (by decide +kernel) rfl (by decide) hRf hRl (fun _ => (avc ra1 avn)) (Nat.le_of_ble_eq_true rfl) rfl rfl dX1_mode_2 (fun v21 s22 rv21 => ?_)
    refine gx_istore_n (loc' := [(3, vI v21), (0, vR 1), (1, vI a1), (2, vI a2)]) dX1_mode_5 (by decide) rfl ?_
    refine gx_aload_n 1 dX1_mode_6 rfl ?_
    refine gx_iload_n 0 dX1_mode_7 rfl ?_
    refine gx_cVI (As := [vI v21]) (n := 1) (stk := []) (ci := 1) (b := 30) (N := 57) (hX1_loci v21 s22) (by decide +kernel) rfl rfl (lw_V q567 q569 qs4 q163 q570) (by decide +kernel) rfl (by decide) hRf hRl (fun _ => (avc rv21 avn)) (Nat.le_of_ble_eq_true rfl) rfl rfl dX1_mode_8 (fun v23 s24 rv23 => ?_)
    refine gx_iload_n 3 dX1_mode_11 rfl ?_
    refine gx_if_eq 19 dX1_mode_12 (by decide) (fun _ => (inR_z za2)) (fun _ => ?_) (fun _ => ?_)
    · refine gx_iconst dX1_mode_19 ?_
      exact gx_pick [1, 3, 0] rfl (hj1 a2 v21 v23 0 s24 za2 rv21 rv23 (Or.inl rfl))
    · refine gx_iconst dX1_mode_15 ?_
      refine gx_goto 20 dX1_mode_16 (by decide) ?_
      exact gx_pick [1, 3, 0] rfl (hj1 a2 v21 v23 1 s24 za2 rv21 rv23 (Or.inr rfl))
end
section
variable {l : Launch} {d : Nat} {call : Nat → List Int → Sg → Option (Int × Sg)}
theorem ctX1_mode (p0 : Program) (e0 : Env) (s0 : State) (m0 : MethodId) (meth0 : Method) (c0 : Code) (G0 : Gm) (hd : 7 ≤ d) (hlt : LT l) (hX1_room : ∀ (a1 : Int) (u : Sg), CtX l d FC clA yX1_room cX1_room 1 none DX1_room (rvX false) [vI a1] u (call 6 [a1] u)) (hX1_need : ∀ (a1 : Int) (u : Sg), CtX l d FC clA yX1_need cX1_need 1 none DX1_need (rvX false) [vI a1] u (call 4 [a1] u)) (hX1_typeOfNumber : ∀ (a1 : Int) (u : Sg), CtX l d FC clA yX1_typeOfNumber cX1_typeOfNumber 3 (some .int) DX1_typeOfNumber (rvX true) [vR 1, vI a1] u (call 2 [a1] u)) (hX1_loci : ∀ (a1 : Int) (u : Sg), Ct l d FC clA yX1_loci cX1_loci 5 (some .int) DX1_loci rvI [vR 1, vI a1] u (call 5 [a1] u)) (a1 a2 : Int) (u : Sg) : CtX l (d + 1) FC clA yX1_mode cX1_mode 4 (some .int) DX1_mode (rvX true) [vR 1, vI a1, vI a2] u (bX1_mode call a1 a2 u) :=
  CtX_of (by decide) (Nat.le_of_ble_eq_true rfl) (fun p e R s1 m args below meth c G A ad hA hRf hRl => wX1_mode hd hlt hRf hRl hX1_room hX1_need hX1_typeOfNumber hX1_loci a1 a2 u (hA _ (List.mem_cons_of_mem _ List.mem_cons_self)) (hA _ (List.mem_cons_of_mem _ (List.mem_cons_of_mem _ List.mem_cons_self)))) p0 e0 s0 m0 meth0 c0 G0
end
/-! RoundCheck.functor(II)I, which may throw -/
section
variable {p : Program} {l : Launch} {e : Env} {R : Room} {s : State} {m : MethodId} {args : Array Value} {below : List Frame} {meth : Method} {c : Code} {G : Gm} {A : Nat → Prop} {ad0 : Nat → Nat} {σ0 : Sg} {d : Nat} {call : Nat → List Int → Sg → Option (Int × Sg)}
theorem wX1_functor (hd : 7 ≤ d) (hlt : LT l) (hRf : d + 1 ≤ R.frames) (hRl : 40 * (d + 1) ≤ R.locals) (hX1_room : ∀ (a1 : Int) (u : Sg), CtX l d FC clA yX1_room cX1_room 1 none DX1_room (rvX false) [vI a1] u (call 6 [a1] u)) (hX1_need : ∀ (a1 : Int) (u : Sg), CtX l d FC clA yX1_need cX1_need 1 none DX1_need (rvX false) [vI a1] u (call 4 [a1] u)) (hX1_typeOfNumber : ∀ (a1 : Int) (u : Sg), CtX l d FC clA yX1_typeOfNumber cX1_typeOfNumber 3 (some .int) DX1_typeOfNumber (rvX true) [vR 1, vI a1] u (call 2 [a1] u)) (hX1_loci : ∀ (a1 : Int) (u : Sg), Ct l d FC clA yX1_loci cX1_loci 5 (some .int) DX1_loci rvI [vR 1, vI a1] u (call 5 [a1] u)) (a1 a2 : Int) (u : Sg) (ra1 : inR a1) (ra2 : inR a2) : WGx p l e R s m args below meth c JX1_functor DX1_functor G clA A FC ad0 σ0 (rvX true) (bX1_functor call a1 a2 u) u 0 [(0, vR 1), (1, vI a1), (2, vI a2)] [] := by
  unfold bX1_functor
  refine gx_jn (fun j1 => ∀ (a1 a2 t0 : Int) (s2 : Sg), inR a1 → inR a2 → (t0 = 0 ∨ t0 = 1) → WGx p l e R s m args below meth c JX1_functor DX1_functor G clA A FC ad0 σ0 (rvX true) (j1 a1 a2 t0 s2) s2 14 [(0, vR 1), (1, vI a1), (2, vI a2)] [vI t0]) (fun a1 a2 t0 s2 ra1 ra2 zt0 => ?_) (fun j1 hj1 => ?_)
  · refine gx_jn (fun j3 => ∀ (a1 a3 t0 : Int) (s4 : Sg), inR a1 → inR a3 → (t0 = 0 ∨ t0 = 1) → WGx p l e R s m args below meth c JX1_functor DX1_functor G clA A FC ad0 σ0 (rvX true) (j3 a1 a3 t0 s4) s4 37 [(0, vR 1), (1, vI a1), (3, vI a3)] [vI t0]) (fun a1 a3 t0 s4 ra1 ra3 zt0 => ?_) (fun j3 hj3 => ?_)
    · refine gx_jn (fun j5 => ∀ (a1 a3 t0 : Int) (s6 : Sg), inR a1 → inR a3 → (t0 = 0 ∨ t0 = 1) → WGx p l e R s m args below meth c JX1_functor DX1_functor G clA A FC ad0 σ0 (rvX true) (j5 a1 a3 t0 s6) s6 54 [(0, vR 1), (1, vI a1), (3, vI a3)] [vI t0]) (fun a1 a3 t0 s6 ra1 ra3 zt0 => ?_) (fun j5 hj5 => ?_)
      · refine gx_xSV (As := [vI t0]) (n := 1) (stk := []) (hX1_room t0 s6) (by decide +kernel) (lw_S q576 q577 q163 q578) (by decide +kernel) rfl (by decide) hRf hRl (fun _ => (avc (inR_z zt0) avn)) (Nat.le_of_ble_eq_true rfl) rfl rfl dX1_functor_54 (fun v7 s8 => ?_)
        refine gx_aload_n 0 dX1_functor_57 rfl ?_
        refine gx_get (v := vR 81) (ci := 1) (b := 30) (N := 57) 41 rfl rfl (by decide) in_X1 rfl rfl q349 dX1_functor_58 ?_
        refine gx_aload_n 0 dX1_functor_61 rfl ?_
        refine gx_getI (ci := 1) (b := 30) (N := 57) 44 rfl rfl rfl (by decide) in_X1 rfl rfl q352 dX1_functor_62 (fun v9 rv9 => ?_)
        refine gx_iload_n 1 dX1_functor_65 rfl ?_
        refine gx_iastU (id := 71) FC_ok 32 rfl rfl (by decide +kernel) ra1 dX1_functor_66 (fun s10 => ?_)
        refine gx_aload_n 0 dX1_functor_67 rfl ?_
        refine gx_get (v := vR 82) (ci := 1) (b := 30) (N := 57) 42 rfl rfl (by decide) in_X1 rfl rfl q350 dX1_functor_68 ?_
        refine gx_aload_n 0 dX1_functor_71 rfl ?_
        refine gx_getI (ci := 1) (b := 30) (N := 57) 44 rfl rfl rfl (by decide) in_X1 rfl rfl q352 dX1_functor_72 (fun v11 rv11 => ?_)
        refine gx_iload_n 2 dX1_functor_75 rfl ?_
        refine gx_iastU (id := 72) FC_ok 33 rfl rfl (by decide +kernel) ra3 dX1_functor_76 (fun s12 => ?_)
        refine gx_aload_n 0 dX1_functor_77 rfl ?_
        refine gx_dup rfl dX1_functor_78 ?_
        refine gx_getI (ci := 1) (b := 30) (N := 57) 44 rfl rfl rfl (by decide) in_X1 rfl rfl q352 dX1_functor_79 (fun v13 rv13 => ?_)
        refine gx_iconst dX1_functor_82 ?_
        refine gx_iadd dX1_functor_83 (fun v14 rv14 => ?_)
        refine gx_sIU (ci := 1) (b := 30) (N := 57) FC_ok 44 rfl rfl rfl (by decide) in_X1 tyX1 tyX1_ok nmX1 rfl rfl rfl rfl (by decide +kernel) rv14 q352 dX1_functor_84 (fun s15 => ?_)
        refine gx_aload_n 0 dX1_functor_87 rfl ?_
        refine gx_getI (ci := 1) (b := 30) (N := 57) 44 rfl rfl rfl (by decide) in_X1 rfl rfl q352 dX1_functor_88 (fun v16 rv16 => ?_)
        refine gx_iconst dX1_functor_91 ?_
        refine gx_isub dX1_functor_92 (fun v17 rv17 => ?_)
        exact gx_iretX rfl (fun _ => rv17) dX1_functor_93
      · refine gx_xSV (As := [vI t0]) (n := 1) (stk := []) (hX1_need t0 s4) (by decide +kernel) (lw_S q502 q503 q163 q504) (by decide +kernel) rfl (by decide) hRf hRl (fun _ => (avc (inR_z zt0) avn)) (Nat.le_of_ble_eq_true rfl) rfl rfl dX1_functor_37 (fun v18 s19 => ?_)
        refine gx_aload_n 0 dX1_functor_40 rfl ?_
        refine gx_getI (ci := 1) (b := 30) (N := 57) 44 rfl rfl rfl (by decide) in_X1 rfl rfl q352 dX1_functor_41 (fun v20 rv20 => ?_)
        refine gx_bipush (by decide +kernel) dX1_functor_44 ?_
        refine gx_icmp_ge 53 dX1_functor_46 (by decide) (fun _ => rv20) (fun _ => (by decide : inR (30))) (fun _ => ?_) (fun _ => ?_)
        · refine gx_iconst dX1_functor_49 ?_
          refine gx_goto 54 dX1_functor_50 (by decide) ?_
          exact gx_pick [0, 1, 2] rfl (hj5 a1 a3 1 s19 ra1 ra3 (Or.inr rfl))
        · refine gx_iconst dX1_functor_53 ?_
          exact gx_pick [0, 1, 2] rfl (hj5 a1 a3 0 s19 ra1 ra3 (Or.inl rfl))
    · refine gx_xSV (As := [vI t0]) (n := 1) (stk := []) (hX1_need t0 s2) (by decide +kernel) (lw_S q502 q503 q163 q504) (by decide +kernel) rfl (by decide) hRf hRl (fun _ => (avc (inR_z zt0) avn)) (Nat.le_of_ble_eq_true rfl) rfl rfl dX1_functor_14 (fun v21 s22 => ?_)
      refine gx_aload_n 0 dX1_functor_17 rfl ?_
      refine gx_iload_n 2 dX1_functor_18 rfl ?_
      refine gx_xVI (As := [vI a2]) (n := 1) (stk := []) (ci := 1) (b := 30) (N := 57) (hX1_typeOfNumber a2 s22) (by decide +kernel) rfl rfl (lw_V q494 q496 qs1 q163 q497) (by decide +kernel) rfl (by decide) hRf hRl (fun _ => (avc ra2 avn)) (Nat.le_of_ble_eq_true rfl) rfl rfl dX1_functor_19 (fun v23 s24 rv23 => ?_)
      refine gx_istore_n (loc' := [(3, vI v23), (0, vR 1), (1, vI a1), (2, vI a2)]) dX1_functor_22 (by decide) rfl ?_
      refine gx_aload_n 1 dX1_functor_23 rfl ?_
      refine gx_iload_n 0 dX1_functor_24 rfl ?_
      refine gx_cVI (As := [vI v23]) (n := 1) (stk := []) (ci := 1) (b := 30) (N := 57) (hX1_loci v23 s24) (by decide +kernel) rfl rfl (lw_V q567 q569 qs4 q163 q570) (by decide +kernel) rfl (by decide) hRf hRl (fun _ => (avc rv23 avn)) (Nat.le_of_ble_eq_true rfl) rfl rfl dX1_functor_25 (fun v25 s26 rv25 => ?_)
      refine gx_iload_n 2 dX1_functor_28 rfl ?_
      refine gx_icmp_ge 36 dX1_functor_29 (by decide) (fun _ => rv25) (fun _ => ra1) (fun _ => ?_) (fun _ => ?_)
      · refine gx_iconst dX1_functor_32 ?_
        refine gx_goto 37 dX1_functor_33 (by decide) ?_
        exact gx_pick [1, 2, 0] rfl (hj3 a1 v23 1 s26 ra1 rv23 (Or.inr rfl))
      · refine gx_iconst dX1_functor_36 ?_
        exact gx_pick [1, 2, 0] rfl (hj3 a1 v23 0 s26 ra1 rv23 (Or.inl rfl))
  · refine gx_jn (fun j27 => ∀ (a1 a2 : Int) (s28 : Sg), inR a1 → inR a2 → WGx p l e R s m args below meth c JX1_functor DX1_functor G clA A FC ad0 σ0 (rvX true) (j27 a1 a2 s28) s28 13 [(0, vR 1), (1, vI a1), (2, vI a2)] []) (fun a1 a2 s28 ra1 ra2 => ?_) (fun j27 hj27 => ?_)
    · refine gx_iconst dX1_functor_13 ?_
      exact gx_pick [0, 1, 2] rfl (hj1 a1 a2 0 s28 ra1 ra2 (Or.inl rfl))
    · refine gx_iload_n 1 dX1_functor_0 rfl ?_
      refine gx_if_lt 13 dX1_functor_1 (by decide) (fun _ => ra1) (fun _ => ?_) (fun _ => ?_)
      · exact gx_pick [0, 1, 2] rfl (hj27 a1 a2 u ra1 ra2)
      · refine gx_iload_n 1 dX1_functor_4 rfl ?_
        refine gx_iconst dX1_functor_5 ?_
        refine gx_icmp_gt 13 dX1_functor_6 (by decide) (fun _ => ra1) (fun _ => (by decide : inR (2))) (fun _ => ?_) (fun _ => ?_)
        · refine gx_iconst dX1_functor_9 ?_
          refine gx_goto 14 dX1_functor_10 (by decide) ?_
          exact gx_pick [0, 1, 2] rfl (hj1 a1 a2 1 u ra1 ra2 (Or.inr rfl))
        · exact gx_pick [0, 1, 2] rfl (hj27 a1 a2 u ra1 ra2)
end
section
variable {l : Launch} {d : Nat} {call : Nat → List Int → Sg → Option (Int × Sg)}
theorem ctX1_functor (p0 : Program) (e0 : Env) (s0 : State) (m0 : MethodId) (meth0 : Method) (c0 : Code) (G0 : Gm) (hd : 7 ≤ d) (hlt : LT l) (hX1_room : ∀ (a1 : Int) (u : Sg), CtX l d FC clA yX1_room cX1_room 1 none DX1_room (rvX false) [vI a1] u (call 6 [a1] u)) (hX1_need : ∀ (a1 : Int) (u : Sg), CtX l d FC clA yX1_need cX1_need 1 none DX1_need (rvX false) [vI a1] u (call 4 [a1] u)) (hX1_typeOfNumber : ∀ (a1 : Int) (u : Sg), CtX l d FC clA yX1_typeOfNumber cX1_typeOfNumber 3 (some .int) DX1_typeOfNumber (rvX true) [vR 1, vI a1] u (call 2 [a1] u)) (hX1_loci : ∀ (a1 : Int) (u : Sg), Ct l d FC clA yX1_loci cX1_loci 5 (some .int) DX1_loci rvI [vR 1, vI a1] u (call 5 [a1] u)) (a1 a2 : Int) (u : Sg) : CtX l (d + 1) FC clA yX1_functor cX1_functor 4 (some .int) DX1_functor (rvX true) [vR 1, vI a1, vI a2] u (bX1_functor call a1 a2 u) :=
  CtX_of (by decide) (Nat.le_of_ble_eq_true rfl) (fun p e R s1 m args below meth c G A ad hA hRf hRl => wX1_functor hd hlt hRf hRl hX1_room hX1_need hX1_typeOfNumber hX1_loci a1 a2 u (hA _ (List.mem_cons_of_mem _ List.mem_cons_self)) (hA _ (List.mem_cons_of_mem _ (List.mem_cons_of_mem _ List.mem_cons_self)))) p0 e0 s0 m0 meth0 c0 G0
end
/-! RoundCheck.type(III)I, which may throw -/
section
variable {p : Program} {l : Launch} {e : Env} {R : Room} {s : State} {m : MethodId} {args : Array Value} {below : List Frame} {meth : Method} {c : Code} {G : Gm} {A : Nat → Prop} {ad0 : Nat → Nat} {σ0 : Sg} {d : Nat} {call : Nat → List Int → Sg → Option (Int × Sg)}
theorem wX1_type (hd : 7 ≤ d) (hlt : LT l) (hRf : d + 1 ≤ R.frames) (hRl : 40 * (d + 1) ≤ R.locals) (hX1_isSet : ∀ (a1 : Int) (u : Sg), CtX l d FC clA yX1_isSet cX1_isSet 2 none DX1_isSet (rvX false) [vR 1, vI a1] u (call 13 [a1] u)) (hX1_withSet : ∀ (a1 a2 a3 : Int) (u : Sg), Ct l d FC clA yX1_withSet cX1_withSet 6 (some .int) DX1_withSet rvI [vR 1, vI a1, vI a2, vI a3] u (call 14 [a1, a2, a3] u)) (hX1_keep : ∀ (a1 a2 a3 : Int) (u : Sg), CtX l d FC clA yX1_keep cX1_keep 4 (some .int) DX1_keep (rvX true) [vR 1, vI a1, vI a2, vI a3] u (call 16 [a1, a2, a3] u)) (hX1_need : ∀ (a1 : Int) (u : Sg), CtX l d FC clA yX1_need cX1_need 1 none DX1_need (rvX false) [vI a1] u (call 4 [a1] u)) (hX1_termOf : ∀ (a1 : Int) (u : Sg), CtX l d FC clA yX1_termOf cX1_termOf 3 (some .int) DX1_termOf (rvX true) [vR 1, vI a1] u (call 11 [a1] u)) (a1 a2 a3 : Int) (u : Sg) (ra1 : inR a1) (ra2 : inR a2) (ra3 : inR a3) : WGx p l e R s m args below meth c JX1_type DX1_type G clA A FC ad0 σ0 (rvX true) (bX1_type call a1 a2 a3 u) u 0 [(0, vR 1), (1, vI a1), (2, vI a2), (3, vI a3)] [] := by
  unfold bX1_type
  refine gx_jn (fun j1 => ∀ (a1 a2 a3 t0 : Int) (s2 : Sg), inR a1 → inR a2 → inR a3 → (t0 = 0 ∨ t0 = 1) → WGx p l e R s m args below meth c JX1_type DX1_type G clA A FC ad0 σ0 (rvX true) (j1 a1 a2 a3 t0 s2) s2 17 [(0, vR 1), (1, vI a1), (2, vI a2), (3, vI a3)] [vI t0]) (fun a1 a2 a3 t0 s2 ra1 ra2 ra3 zt0 => ?_) (fun j1 hj1 => ?_)
  · refine gx_jn (fun j3 => ∀ (a1 a2 a3 t0 t1 : Int) (s4 : Sg), inR a1 → inR a2 → inR a3 → (t0 = 0 ∨ t0 = 1) → (t1 = 0 ∨ t1 = 1) → WGx p l e R s m args below meth c JX1_type DX1_type G clA A FC ad0 σ0 (rvX true) (j3 a1 a2 a3 t0 t1 s4) s4 36 [(0, vR 1), (1, vI a1), (2, vI a2), (3, vI a3)] [vI t1, vI t0]) (fun a1 a2 a3 t0 t1 s4 ra1 ra2 ra3 zt0 zt1 => ?_) (fun j3 hj3 => ?_)
    · refine gx_jn (fun j5 => ∀ (a1 a2 a3 t0 : Int) (s6 : Sg), inR a1 → inR a2 → inR a3 → (t0 = 0 ∨ t0 = 1) → WGx p l e R s m args below meth c JX1_type DX1_type G clA A FC ad0 σ0 (rvX true) (j5 a1 a2 a3 t0 s6) s6 44 [(0, vR 1), (1, vI a1), (2, vI a2), (3, vI a3)] [vI t0]) (fun a1 a2 a3 t0 s6 ra1 ra2 ra3 zt0 => ?_) (fun j5 hj5 => ?_)
      · refine gx_jn (fun j7 => ∀ (a1 a3 t0 : Int) (s8 : Sg), inR a1 → inR a3 → inR t0 → WGx p l e R s m args below meth c JX1_type DX1_type G clA A FC ad0 σ0 (rvX true) (j7 a1 a3 t0 s8) s8 61 [(0, vR 1), (1, vI a1), (3, vI a3)] [vI t0]) (fun a1 a3 t0 s8 ra1 ra3 rt0 => ?_) (fun j7 hj7 => ?_)
        · refine gx_istore (loc' := [(4, vI t0), (0, vR 1), (1, vI a1), (3, vI a3)]) dX1_type_61 (by decide) rfl ?_
          refine gx_aload_n 1 dX1_type_63 rfl ?_
          refine gx_iload_n 3 dX1_type_64 rfl ?_
          refine gx_xVV (As := [vI a3]) (n := 1) (stk := []) (ci := 1) (b := 30) (N := 57) (hX1_isSet a3 s8) (by decide +kernel) rfl rfl (lw_V q629 q631 qs6 q163 q632) (by decide +kernel) rfl (by decide) hRf hRl (fun _ => (avc ra3 avn)) (Nat.le_of_ble_eq_true rfl) rfl rfl dX1_type_65 (fun v9 s10 => ?_)
          refine gx_aload_n 1 dX1_type_68 rfl ?_
          refine gx_get (v := vR 0) (ci := 1) (b := 30) (N := 57) 0 rfl rfl (by decide) in_X1 rfl rfl q308 dX1_type_69 ?_
          refine gx_getI (ci := 0) (b := 0) (N := 21) 9 rfl rfl rfl (by decide) in_X2 rfl rfl q246 dX1_type_72 (fun v11 rv11 => ?_)
          refine gx_istore (loc' := [(5, vI v11), (4, vI t0), (0, vR 1), (1, vI a1), (3, vI a3)]) dX1_type_75 (by decide) rfl ?_
          refine gx_aload_n 2 dX1_type_77 rfl ?_
          refine gx_get (v := vR 0) (ci := 1) (b := 30) (N := 57) 0 rfl rfl (by decide) in_X1 rfl rfl q308 dX1_type_78 ?_
          refine gx_getI (ci := 0) (b := 0) (N := 21) 10 rfl rfl rfl (by decide) in_X2 rfl rfl q248 dX1_type_81 (fun v12 rv12 => ?_)
          refine gx_istore (loc' := [(6, vI v12), (5, vI v11), (4, vI t0), (0, vR 1), (1, vI a1), (3, vI a3)]) dX1_type_84 (by decide) rfl ?_
          refine gx_aload_n 3 dX1_type_86 rfl ?_
          refine gx_aload_n 3 dX1_type_87 rfl ?_
          refine gx_iload_n 4 dX1_type_88 rfl ?_
          refine gx_iload 2 dX1_type_89 rfl ?_
          refine gx_iload_n 5 dX1_type_91 rfl ?_
          refine gx_cVI (As := [vI a1, vI t0, vI a3]) (n := 3) (stk := [vR 1]) (ci := 1) (b := 30) (N := 57) (hX1_withSet a1 t0 a3 s10) (by decide +kernel) rfl rfl (lw_V q633 q635 qs7 q163 q636) (by decide +kernel) rfl (by decide) hRf hRl (fun _ => (avc ra1 (avc rt0 (avc ra3 avn)))) (Nat.le_of_ble_eq_true rfl) rfl rfl dX1_type_92 (fun v13 s14 rv13 => ?_)
          refine gx_iload 1 dX1_type_95 rfl ?_
          refine gx_iload 0 dX1_type_97 rfl ?_
          refine gx_xVI (As := [vI v13, vI v11, vI v12]) (n := 3) (stk := []) (ci := 1) (b := 30) (N := 57) (hX1_keep v13 v11 v12 s14) (by decide +kernel) rfl rfl (lw_V q643 q645 qs9 q163 q646) (by decide +kernel) rfl (by decide) hRf hRl (fun _ => (avc rv13 (avc rv11 (avc rv12 avn)))) (Nat.le_of_ble_eq_true rfl) rfl rfl dX1_type_99 (fun v15 s16 rv15 => ?_)
          exact gx_iretX rfl (fun _ => rv15) dX1_type_102
        · refine gx_xSV (As := [vI t0]) (n := 1) (stk := []) (hX1_need t0 s6) (by decide +kernel) (lw_S q502 q503 q163 q504) (by decide +kernel) rfl (by decide) hRf hRl (fun _ => (avc (inR_z zt0) avn)) (Nat.le_of_ble_eq_true rfl) rfl rfl dX1_type_44 (fun v17 s18 => ?_)
          refine gx_iload_n 2 dX1_type_47 rfl ?_
          refine gx_iconst dX1_type_48 ?_
          refine gx_icmp_ne 56 dX1_type_49 (by decide) (fun _ => ra2) (fun _ => (by decide : inR (-1))) (fun _ => ?_) (fun _ => ?_)
          · refine gx_iconst dX1_type_52 ?_
            refine gx_goto 61 dX1_type_53 (by decide) ?_
            exact gx_pick [0, 1, 3] rfl (hj7 a1 a3 0 s18 ra1 ra3 (inR_z (Or.inl rfl)))
          · refine gx_aload_n 0 dX1_type_56 rfl ?_
            refine gx_iload_n 2 dX1_type_57 rfl ?_
            refine gx_xVI (As := [vI a2]) (n := 1) (stk := []) (ci := 1) (b := 30) (N := 57) (hX1_termOf a2 s18) (by decide +kernel) rfl rfl (lw_V q622 q624 qs5 q163 q625) (by decide +kernel) rfl (by decide) hRf hRl (fun _ => (avc ra2 avn)) (Nat.le_of_ble_eq_true rfl) rfl rfl dX1_type_58 (fun v19 s20 rv19 => ?_)
            exact gx_pick [0, 1, 3] rfl (hj7 a1 a3 v19 s20 ra1 ra3 rv19)
      · refine gx_icmp_ne 43 dX1_type_36 (by decide) (fun _ => (inR_z zt0)) (fun _ => (inR_z zt1)) (fun _ => ?_) (fun _ => ?_)
        · refine gx_iconst dX1_type_39 ?_
          refine gx_goto 44 dX1_type_40 (by decide) ?_
          exact gx_pick [0, 1, 2, 3] rfl (hj5 a1 a2 a3 1 s4 ra1 ra2 ra3 (Or.inr rfl))
        · refine gx_iconst dX1_type_43 ?_
          exact gx_pick [0, 1, 2, 3] rfl (hj5 a1 a2 a3 0 s4 ra1 ra2 ra3 (Or.inl rfl))
    · refine gx_xSV (As := [vI t0]) (n := 1) (stk := []) (hX1_need t0 s2) (by decide +kernel) (lw_S q502 q503 q163 q504) (by decide +kernel) rfl (by decide) hRf hRl (fun _ => (avc (inR_z zt0) avn)) (Nat.le_of_ble_eq_true rfl) rfl rfl dX1_type_17 (fun v21 s22 => ?_)
      refine gx_aload_n 0 dX1_type_20 rfl ?_
      refine gx_get (v := vR 78) (ci := 1) (b := 30) (N := 57) 38 rfl rfl (by decide) in_X1 rfl rfl q346 dX1_type_21 ?_
      refine gx_iload_n 1 dX1_type_24 rfl ?_
      refine gx_zald (id := 68) 31 rfl rfl dX1_type_25 (fun v23 zv23 => ?_)
      refine gx_iload_n 2 dX1_type_26 rfl ?_
      refine gx_iconst dX1_type_27 ?_
      refine gx_icmp_eq 35 dX1_type_28 (by decide) (fun _ => ra2) (fun _ => (by decide : inR (-1))) (fun _ => ?_) (fun _ => ?_)
      · refine gx_iconst dX1_type_35 ?_
        exact gx_pick [0, 1, 2, 3] rfl (hj3 a1 a2 a3 v23 0 s22 ra1 ra2 ra3 zv23 (Or.inl rfl))
      · refine gx_iconst dX1_type_31 ?_
        refine gx_goto 36 dX1_type_32 (by decide) ?_
        exact gx_pick [0, 1, 2, 3] rfl (hj3 a1 a2 a3 v23 1 s22 ra1 ra2 ra3 zv23 (Or.inr rfl))
  · refine gx_jn (fun j24 => ∀ (a1 a2 a3 : Int) (s25 : Sg), inR a1 → inR a2 → inR a3 → WGx p l e R s m args below meth c JX1_type DX1_type G clA A FC ad0 σ0 (rvX true) (j24 a1 a2 a3 s25) s25 16 [(0, vR 1), (1, vI a1), (2, vI a2), (3, vI a3)] []) (fun a1 a2 a3 s25 ra1 ra2 ra3 => ?_) (fun j24 hj24 => ?_)
    · refine gx_iconst dX1_type_16 ?_
      exact gx_pick [0, 1, 2, 3] rfl (hj1 a1 a2 a3 0 s25 ra1 ra2 ra3 (Or.inl rfl))
    · refine gx_iload_n 1 dX1_type_0 rfl ?_
      refine gx_if_lt 16 dX1_type_1 (by decide) (fun _ => ra1) (fun _ => ?_) (fun _ => ?_)
      · exact gx_pick [0, 1, 2, 3] rfl (hj24 a1 a2 a3 u ra1 ra2 ra3)
      · refine gx_iload_n 1 dX1_type_4 rfl ?_
        refine gx_aload_n 0 dX1_type_5 rfl ?_
        refine gx_getI (ci := 1) (b := 30) (N := 57) 39 rfl rfl rfl (by decide) in_X1 rfl rfl q347 dX1_type_6 (fun v26 rv26 => ?_)
        refine gx_icmp_ge 16 dX1_type_9 (by decide) (fun _ => ra1) (fun _ => rv26) (fun _ => ?_) (fun _ => ?_)
        · refine gx_iconst dX1_type_12 ?_
          refine gx_goto 17 dX1_type_13 (by decide) ?_
          exact gx_pick [0, 1, 2, 3] rfl (hj1 a1 a2 a3 1 u ra1 ra2 ra3 (Or.inr rfl))
        · exact gx_pick [0, 1, 2, 3] rfl (hj24 a1 a2 a3 u ra1 ra2 ra3)
end
section
variable {l : Launch} {d : Nat} {call : Nat → List Int → Sg → Option (Int × Sg)}
theorem ctX1_type (p0 : Program) (e0 : Env) (s0 : State) (m0 : MethodId) (meth0 : Method) (c0 : Code) (G0 : Gm) (hd : 7 ≤ d) (hlt : LT l) (hX1_isSet : ∀ (a1 : Int) (u : Sg), CtX l d FC clA yX1_isSet cX1_isSet 2 none DX1_isSet (rvX false) [vR 1, vI a1] u (call 13 [a1] u)) (hX1_withSet : ∀ (a1 a2 a3 : Int) (u : Sg), Ct l d FC clA yX1_withSet cX1_withSet 6 (some .int) DX1_withSet rvI [vR 1, vI a1, vI a2, vI a3] u (call 14 [a1, a2, a3] u)) (hX1_keep : ∀ (a1 a2 a3 : Int) (u : Sg), CtX l d FC clA yX1_keep cX1_keep 4 (some .int) DX1_keep (rvX true) [vR 1, vI a1, vI a2, vI a3] u (call 16 [a1, a2, a3] u)) (hX1_need : ∀ (a1 : Int) (u : Sg), CtX l d FC clA yX1_need cX1_need 1 none DX1_need (rvX false) [vI a1] u (call 4 [a1] u)) (hX1_termOf : ∀ (a1 : Int) (u : Sg), CtX l d FC clA yX1_termOf cX1_termOf 3 (some .int) DX1_termOf (rvX true) [vR 1, vI a1] u (call 11 [a1] u)) (a1 a2 a3 : Int) (u : Sg) : CtX l (d + 1) FC clA yX1_type cX1_type 7 (some .int) DX1_type (rvX true) [vR 1, vI a1, vI a2, vI a3] u (bX1_type call a1 a2 a3 u) :=
  CtX_of (by decide) (Nat.le_of_ble_eq_true rfl) (fun p e R s1 m args below meth c G A ad hA hRf hRl => wX1_type hd hlt hRf hRl hX1_isSet hX1_withSet hX1_keep hX1_need hX1_termOf a1 a2 a3 u (hA _ (List.mem_cons_of_mem _ List.mem_cons_self)) (hA _ (List.mem_cons_of_mem _ (List.mem_cons_of_mem _ List.mem_cons_self))) (hA _ (List.mem_cons_of_mem _ (List.mem_cons_of_mem _ (List.mem_cons_of_mem _ List.mem_cons_self))))) p0 e0 s0 m0 meth0 c0 G0
end
/-! RoundCheck.constant(I)I, which may throw -/
section
variable {p : Program} {l : Launch} {e : Env} {R : Room} {s : State} {m : MethodId} {args : Array Value} {below : List Frame} {meth : Method} {c : Code} {G : Gm} {A : Nat → Prop} {ad0 : Nat → Nat} {σ0 : Sg} {d : Nat} {call : Nat → List Int → Sg → Option (Int × Sg)}
theorem wX1_constant (hd : 7 ≤ d) (hlt : LT l) (hRf : d + 1 ≤ R.frames) (hRl : 40 * (d + 1) ≤ R.locals) (hX1_room : ∀ (a1 : Int) (u : Sg), CtX l d FC clA yX1_room cX1_room 1 none DX1_room (rvX false) [vI a1] u (call 6 [a1] u)) (hX1_newOne : ∀ (a1 : Int) (u : Sg), Ct l d FC clA yX1_newOne cX1_newOne 2 (some .int) DX1_newOne rvI [vR 1, vI a1] u (call 19 [a1] u)) (hX1_keep : ∀ (a1 a2 a3 : Int) (u : Sg), CtX l d FC clA yX1_keep cX1_keep 4 (some .int) DX1_keep (rvX true) [vR 1, vI a1, vI a2, vI a3] u (call 16 [a1, a2, a3] u)) (hX1_typeOfNumber : ∀ (a1 : Int) (u : Sg), CtX l d FC clA yX1_typeOfNumber cX1_typeOfNumber 3 (some .int) DX1_typeOfNumber (rvX true) [vR 1, vI a1] u (call 2 [a1] u)) (hX1_closed : ∀ (a1 : Int) (u : Sg), CtX l d FC clA yX1_closed cX1_closed 2 (some .int) DX1_closed (rvX true) [vR 1, vI a1] u (call 18 [a1] u)) (a1 : Int) (u : Sg) (ra1 : inR a1) : WGx p l e R s m args below meth c JX1_constant DX1_constant G clA A FC ad0 σ0 (rvX true) (bX1_constant call a1 u) u 0 [(0, vR 1), (1, vI a1)] [] := by
  unfold bX1_constant
  refine gx_jn (fun j1 => ∀ (a2 t0 : Int) (s2 : Sg), inR a2 → (t0 = 0 ∨ t0 = 1) → WGx p l e R s m args below meth c JX1_constant DX1_constant G clA A FC ad0 σ0 (rvX true) (j1 a2 t0 s2) s2 25 [(0, vR 1), (2, vI a2)] [vI t0]) (fun a2 t0 s2 ra2 zt0 => ?_) (fun j1 hj1 => ?_)
  · refine gx_xSV (As := [vI t0]) (n := 1) (stk := []) (hX1_room t0 s2) (by decide +kernel) (lw_S q576 q577 q163 q578) (by decide +kernel) rfl (by decide) hRf hRl (fun _ => (avc (inR_z zt0) avn)) (Nat.le_of_ble_eq_true rfl) rfl rfl dX1_constant_25 (fun v3 s4 => ?_)
    refine gx_aload_n 0 dX1_constant_28 rfl ?_
    refine gx_get (v := vR 0) (ci := 1) (b := 30) (N := 57) 0 rfl rfl (by decide) in_X1 rfl rfl q308 dX1_constant_29 ?_
    refine gx_getI (ci := 0) (b := 0) (N := 21) 9 rfl rfl rfl (by decide) in_X2 rfl rfl q246 dX1_constant_32 (fun v5 rv5 => ?_)
    refine gx_istore_n (loc' := [(3, vI v5), (0, vR 1), (2, vI a2)]) dX1_constant_35 (by decide) rfl ?_
    refine gx_aload_n 1 dX1_constant_36 rfl ?_
    refine gx_get (v := vR 0) (ci := 1) (b := 30) (N := 57) 0 rfl rfl (by decide) in_X1 rfl rfl q308 dX1_constant_37 ?_
    refine gx_getI (ci := 0) (b := 0) (N := 21) 10 rfl rfl rfl (by decide) in_X2 rfl rfl q248 dX1_constant_40 (fun v6 rv6 => ?_)
    refine gx_istore (loc' := [(4, vI v6), (3, vI v5), (0, vR 1), (2, vI a2)]) dX1_constant_43 (by decide) rfl ?_
    refine gx_aload_n 2 dX1_constant_45 rfl ?_
    refine gx_aload_n 2 dX1_constant_46 rfl ?_
    refine gx_iload_n 3 dX1_constant_47 rfl ?_
    refine gx_cVI (As := [vI a2]) (n := 1) (stk := [vR 1]) (ci := 1) (b := 30) (N := 57) (hX1_newOne a2 s4) (by decide +kernel) rfl rfl (lw_V q662 q664 qs11 q163 q665) (by decide +kernel) rfl (by decide) hRf hRl (fun _ => (avc ra2 avn)) (Nat.le_of_ble_eq_true rfl) rfl rfl dX1_constant_48 (fun v7 s8 rv7 => ?_)
    refine gx_iload_n 1 dX1_constant_51 rfl ?_
    refine gx_iload 0 dX1_constant_52 rfl ?_
    refine gx_xVI (As := [vI v7, vI v5, vI v6]) (n := 3) (stk := []) (ci := 1) (b := 30) (N := 57) (hX1_keep v7 v5 v6 s8) (by decide +kernel) rfl rfl (lw_V q643 q645 qs9 q163 q646) (by decide +kernel) rfl (by decide) hRf hRl (fun _ => (avc rv7 (avc rv5 (avc rv6 avn)))) (Nat.le_of_ble_eq_true rfl) rfl rfl dX1_constant_54 (fun v9 s10 rv9 => ?_)
    exact gx_iretX rfl (fun _ => rv9) dX1_constant_57
  · refine gx_aload_n 0 dX1_constant_0 rfl ?_
    refine gx_aload_n 0 dX1_constant_1 rfl ?_
    refine gx_iload_n 1 dX1_constant_2 rfl ?_
    refine gx_xVI (As := [vI a1]) (n := 1) (stk := [vR 1]) (ci := 1) (b := 30) (N := 57) (hX1_typeOfNumber a1 u) (by decide +kernel) rfl rfl (lw_V q494 q496 qs1 q163 q497) (by decide +kernel) rfl (by decide) hRf hRl (fun _ => (avc ra1 avn)) (Nat.le_of_ble_eq_true rfl) rfl rfl dX1_constant_3 (fun v11 s12 rv11 => ?_)
    refine gx_xVI (As := [vI v11]) (n := 1) (stk := []) (ci := 1) (b := 30) (N := 57) (hX1_closed v11 s12) (by decide +kernel) rfl rfl (lw_V q658 q660 qs10 q163 q661) (by decide +kernel) rfl (by decide) hRf hRl (fun _ => (avc rv11 avn)) (Nat.le_of_ble_eq_true rfl) rfl rfl dX1_constant_6 (fun v13 s14 rv13 => ?_)
    refine gx_istore_n (loc' := [(2, vI v13), (0, vR 1), (1, vI a1)]) dX1_constant_9 (by decide) rfl ?_
    refine gx_aload_n 1 dX1_constant_10 rfl ?_
    refine gx_getI (ci := 1) (b := 30) (N := 57) 36 rfl rfl rfl (by decide) in_X1 rfl rfl q344 dX1_constant_11 (fun v15 rv15 => ?_)
    refine gx_sipush (by decide +kernel) dX1_constant_14 ?_
    refine gx_icmp_ge 24 dX1_constant_17 (by decide) (fun _ => rv15) (fun _ => (by decide : inR (400))) (fun _ => ?_) (fun _ => ?_)
    · refine gx_iconst dX1_constant_20 ?_
      refine gx_goto 25 dX1_constant_21 (by decide) ?_
      exact gx_pick [1, 0] rfl (hj1 v13 1 s14 rv13 (Or.inr rfl))
    · refine gx_iconst dX1_constant_24 ?_
      exact gx_pick [1, 0] rfl (hj1 v13 0 s14 rv13 (Or.inl rfl))
end
section
variable {l : Launch} {d : Nat} {call : Nat → List Int → Sg → Option (Int × Sg)}
theorem ctX1_constant (p0 : Program) (e0 : Env) (s0 : State) (m0 : MethodId) (meth0 : Method) (c0 : Code) (G0 : Gm) (hd : 7 ≤ d) (hlt : LT l) (hX1_room : ∀ (a1 : Int) (u : Sg), CtX l d FC clA yX1_room cX1_room 1 none DX1_room (rvX false) [vI a1] u (call 6 [a1] u)) (hX1_newOne : ∀ (a1 : Int) (u : Sg), Ct l d FC clA yX1_newOne cX1_newOne 2 (some .int) DX1_newOne rvI [vR 1, vI a1] u (call 19 [a1] u)) (hX1_keep : ∀ (a1 a2 a3 : Int) (u : Sg), CtX l d FC clA yX1_keep cX1_keep 4 (some .int) DX1_keep (rvX true) [vR 1, vI a1, vI a2, vI a3] u (call 16 [a1, a2, a3] u)) (hX1_typeOfNumber : ∀ (a1 : Int) (u : Sg), CtX l d FC clA yX1_typeOfNumber cX1_typeOfNumber 3 (some .int) DX1_typeOfNumber (rvX true) [vR 1, vI a1] u (call 2 [a1] u)) (hX1_closed : ∀ (a1 : Int) (u : Sg), CtX l d FC clA yX1_closed cX1_closed 2 (some .int) DX1_closed (rvX true) [vR 1, vI a1] u (call 18 [a1] u)) (a1 : Int) (u : Sg) : CtX l (d + 1) FC clA yX1_constant cX1_constant 5 (some .int) DX1_constant (rvX true) [vR 1, vI a1] u (bX1_constant call a1 u) :=
  CtX_of (by decide) (Nat.le_of_ble_eq_true rfl) (fun p e R s1 m args below meth c G A ad hA hRf hRl => wX1_constant hd hlt hRf hRl hX1_room hX1_newOne hX1_keep hX1_typeOfNumber hX1_closed a1 u (hA _ (List.mem_cons_of_mem _ List.mem_cons_self))) p0 e0 s0 m0 meth0 c0 G0
end
/-! RoundCheck.made(IIIII)I, which may throw -/
section
variable {p : Program} {l : Launch} {e : Env} {R : Room} {s : State} {m : MethodId} {args : Array Value} {below : List Frame} {meth : Method} {c : Code} {G : Gm} {A : Nat → Prop} {ad0 : Nat → Nat} {σ0 : Sg} {d : Nat} {call : Nat → List Int → Sg → Option (Int × Sg)}
theorem wX1_made (hd : 7 ≤ d) (hlt : LT l) (hRf : d + 1 ≤ R.frames) (hRl : 40 * (d + 1) ≤ R.locals) (hX2_make : ∀ (a1 a2 a3 : Int) (u : Sg), Ct l d FC clA yX2_make cX2_make 13 (some .int) DX2_make rvI [vR 0, vI a1, vI a2, vI a3] u (call 94 [a1, a2, a3] u)) (hX1_keep : ∀ (a1 a2 a3 : Int) (u : Sg), CtX l d FC clA yX1_keep cX1_keep 4 (some .int) DX1_keep (rvX true) [vR 1, vI a1, vI a2, vI a3] u (call 16 [a1, a2, a3] u)) (hX2_push : ∀ (a1 : Int) (u : Sg), Ct l d FC clA yX2_push cX2_push 2 none DX2_push rvV [vR 0, vI a1] u (call 97 [a1] u)) (hX1_closed : ∀ (a1 : Int) (u : Sg), CtX l d FC clA yX1_closed cX1_closed 2 (some .int) DX1_closed (rvX true) [vR 1, vI a1] u (call 18 [a1] u)) (hX1_termOf : ∀ (a1 : Int) (u : Sg), CtX l d FC clA yX1_termOf cX1_termOf 3 (some .int) DX1_termOf (rvX true) [vR 1, vI a1] u (call 11 [a1] u)) (hX1_need : ∀ (a1 : Int) (u : Sg), CtX l d FC clA yX1_need cX1_need 1 none DX1_need (rvX false) [vI a1] u (call 4 [a1] u)) (a1 a2 a3 a4 a5 : Int) (u : Sg) (ra1 : inR a1) (ra2 : inR a2) (ra3 : inR a3) (ra4 : inR a4) (ra5 : inR a5) : WGx p l e R s m args below meth c JX1_made DX1_made G clA A FC ad0 σ0 (rvX true) (bX1_made call a1 a2 a3 a4 a5 u) u 0 [(0, vR 1), (1, vI a1), (2, vI a2), (3, vI a3), (4, vI a4), (5, vI a5)] [] := by
  unfold bX1_made
  refine gx_jn (fun j1 => ∀ (a1 a2 a3 a4 a5 t0 : Int) (s2 : Sg), inR a1 → inR a2 → inR a3 → inR a4 → inR a5 → (t0 = 0 ∨ t0 = 1) → WGx p l e R s m args below meth c JX1_made DX1_made G clA A FC ad0 σ0 (rvX true) (j1 a1 a2 a3 a4 a5 t0 s2) s2 9 [(0, vR 1), (1, vI a1), (2, vI a2), (3, vI a3), (4, vI a4), (5, vI a5)] [vI t0]) (fun a1 a2 a3 a4 a5 t0 s2 ra1 ra2 ra3 ra4 ra5 zt0 => ?_) (fun j1 hj1 => ?_)
  · refine gx_jn (fun j3 => ∀ (a1 a2 a3 a4 a5 t0 t1 : Int) (s4 : Sg), inR a1 → inR a2 → inR a3 → inR a4 → inR a5 → (t0 = 0 ∨ t0 = 1) → (t1 = 0 ∨ t1 = 1) → WGx p l e R s m args below meth c JX1_made DX1_made G clA A FC ad0 σ0 (rvX true) (j3 a1 a2 a3 a4 a5 t0 t1 s4) s4 20 [(0, vR 1), (1, vI a1), (2, vI a2), (3, vI a3), (4, vI a4), (5, vI a5)] [vI t1, vI t0]) (fun a1 a2 a3 a4 a5 t0 t1 s4 ra1 ra2 ra3 ra4 ra5 zt0 zt1 => ?_) (fun j3 hj3 => ?_)
    · refine gx_jn (fun j5 => ∀ (a1 a2 a3 a4 a5 t0 : Int) (s6 : Sg), inR a1 → inR a2 → inR a3 → inR a4 → inR a5 → (t0 = 0 ∨ t0 = 1) → WGx p l e R s m args below meth c JX1_made DX1_made G clA A FC ad0 σ0 (rvX true) (j5 a1 a2 a3 a4 a5 t0 s6) s6 52 [(0, vR 1), (1, vI a1), (2, vI a2), (3, vI a3), (4, vI a4), (5, vI a5)] [vI t0]) (fun a1 a2 a3 a4 a5 t0 s6 ra1 ra2 ra3 ra4 ra5 zt0 => ?_) (fun j5 hj5 => ?_)
      · refine gx_jn (fun j7 => ∀ (a1 a2 a3 a5 t0 : Int) (s8 : Sg), inR a1 → inR a2 → inR a3 → inR a5 → inR t0 → WGx p l e R s m args below meth c JX1_made DX1_made G clA A FC ad0 σ0 (rvX true) (j7 a1 a2 a3 a5 t0 s8) s8 69 [(0, vR 1), (1, vI a1), (2, vI a2), (3, vI a3), (5, vI a5)] [vI t0]) (fun a1 a2 a3 a5 t0 s8 ra1 ra2 ra3 ra5 rt0 => ?_) (fun j7 hj7 => ?_)
        · refine gx_jn (fun j9 => ∀ (a1 a2 a3 a6 t0 : Int) (s10 : Sg), inR a1 → inR a2 → inR a3 → inR a6 → inR t0 → WGx p l e R s m args below meth c JX1_made DX1_made G clA A FC ad0 σ0 (rvX true) (j9 a1 a2 a3 a6 t0 s10) s10 86 [(0, vR 1), (1, vI a1), (2, vI a2), (3, vI a3), (6, vI a6)] [vI t0]) (fun a1 a2 a3 a6 t0 s10 ra1 ra2 ra3 ra6 rt0 => ?_) (fun j9 hj9 => ?_)
          · refine gx_jn (fun j11 => ∀ (a1 a2 a3 a6 a7 : Int) (s12 : Sg), inR a1 → inR a2 → inR a3 → inR a6 → inR a7 → WGx p l e R s m args below meth c JX1_made DX1_made G clA A FC ad0 σ0 (rvX true) (j11 a1 a2 a3 a6 a7 s12) s12 107 [(0, vR 1), (1, vI a1), (2, vI a2), (3, vI a3), (6, vI a6), (7, vI a7)] []) (fun a1 a2 a3 a6 a7 s12 ra1 ra2 ra3 ra6 ra7 => ?_) (fun j11 hj11 => ?_)
            · refine gx_jn (fun j13 => ∀ (a1 a2 a3 a7 a8 : Int) (s14 : Sg), inR a1 → inR a2 → inR a3 → inR a7 → inR a8 → WGx p l e R s m args below meth c JX1_made DX1_made G clA A FC ad0 σ0 (rvX true) (j13 a1 a2 a3 a7 a8 s14) s14 129 [(0, vR 1), (1, vI a1), (2, vI a2), (3, vI a3), (7, vI a7), (8, vI a8)] []) (fun a1 a2 a3 a7 a8 s14 ra1 ra2 ra3 ra7 ra8 => ?_) (fun j13 hj13 => ?_)
              · refine gx_jn (fun j15 => ∀ (a1 a2 a8 : Int) (s16 : Sg), inR a1 → inR a2 → inR a8 → WGx p l e R s m args below meth c JX1_made DX1_made G clA A FC ad0 σ0 (rvX true) (j15 a1 a2 a8 s16) s16 143 [(0, vR 1), (1, vI a1), (2, vI a2), (8, vI a8)] []) (fun a1 a2 a8 s16 ra1 ra2 ra8 => ?_) (fun j15 hj15 => ?_)
                · refine gx_aload_n 0 dX1_made_143 rfl ?_
                  refine gx_get (v := vR 0) (ci := 1) (b := 30) (N := 57) 0 rfl rfl (by decide) in_X1 rfl rfl q308 dX1_made_144 ?_
                  refine gx_getI (ci := 0) (b := 0) (N := 21) 9 rfl rfl rfl (by decide) in_X2 rfl rfl q246 dX1_made_147 (fun v17 rv17 => ?_)
                  refine gx_istore (loc' := [(9, vI v17), (0, vR 1), (1, vI a1), (2, vI a2), (8, vI a8)]) dX1_made_150 (by decide) rfl ?_
                  refine gx_aload_n 1 dX1_made_152 rfl ?_
                  refine gx_get (v := vR 0) (ci := 1) (b := 30) (N := 57) 0 rfl rfl (by decide) in_X1 rfl rfl q308 dX1_made_153 ?_
                  refine gx_getI (ci := 0) (b := 0) (N := 21) 10 rfl rfl rfl (by decide) in_X2 rfl rfl q248 dX1_made_156 (fun v18 rv18 => ?_)
                  refine gx_istore (loc' := [(10, vI v18), (9, vI v17), (0, vR 1), (1, vI a1), (2, vI a2), (8, vI a8)]) dX1_made_159 (by decide) rfl ?_
                  refine gx_aload_n 2 dX1_made_161 rfl ?_
                  refine gx_aload_n 2 dX1_made_162 rfl ?_
                  refine gx_get (v := vR 0) (ci := 1) (b := 30) (N := 57) 0 rfl rfl (by decide) in_X1 rfl rfl q308 dX1_made_163 ?_
                  refine gx_iload_n 3 dX1_made_166 rfl ?_
                  refine gx_iload_n 4 dX1_made_167 rfl ?_
                  refine gx_iload 5 dX1_made_168 rfl ?_
                  refine gx_cVI (As := [vI a1, vI a2, vI a8]) (n := 3) (stk := [vR 1]) (ci := 0) (b := 0) (N := 21) (hX2_make a1 a2 a8 s16) (by decide +kernel) rfl rfl (lw_V q642 q192 q193 q164 q194) (by decide +kernel) rfl (by decide) hRf hRl (fun _ => (avc ra1 (avc ra2 (avc ra8 avn)))) (Nat.le_of_ble_eq_true rfl) rfl rfl dX1_made_170 (fun v19 s20 rv19 => ?_)
                  refine gx_iload 1 dX1_made_173 rfl ?_
                  refine gx_iload 0 dX1_made_175 rfl ?_
                  refine gx_xVI (As := [vI v19, vI v17, vI v18]) (n := 3) (stk := []) (ci := 1) (b := 30) (N := 57) (hX1_keep v19 v17 v18 s20) (by decide +kernel) rfl rfl (lw_V q643 q645 qs9 q163 q646) (by decide +kernel) rfl (by decide) hRf hRl (fun _ => (avc rv19 (avc rv17 (avc rv18 avn)))) (Nat.le_of_ble_eq_true rfl) rfl rfl dX1_made_177 (fun v21 s22 rv21 => ?_)
                  exact gx_iretX rfl (fun _ => rv21) dX1_made_180
                · refine gx_iload_n 3 dX1_made_129 rfl ?_
                  refine gx_iconst dX1_made_130 ?_
                  refine gx_icmp_le 143 dX1_made_131 (by decide) (fun _ => ra3) (fun _ => (inR_z (Or.inr rfl))) (fun _ => ?_) (fun _ => ?_)
                  · exact gx_pick [0, 1, 2, 5] rfl (hj15 a1 a2 a8 s14 ra1 ra2 ra8)
                  · refine gx_aload_n 0 dX1_made_134 rfl ?_
                    refine gx_get (v := vR 0) (ci := 1) (b := 30) (N := 57) 0 rfl rfl (by decide) in_X1 rfl rfl q308 dX1_made_135 ?_
                    refine gx_iload 4 dX1_made_138 rfl ?_
                    refine gx_cVV (As := [vI a7]) (n := 1) (stk := []) (ci := 0) (b := 0) (N := 21) (hX2_push a7 s14) (by decide +kernel) rfl rfl (lw_V q637 q228 q229 q164 q230) (by decide +kernel) rfl (by decide) hRf hRl (fun _ => (avc ra7 avn)) (Nat.le_of_ble_eq_true rfl) rfl rfl dX1_made_140 (fun v23 s24 => ?_)
                    exact gx_pick [0, 1, 2, 5] rfl (hj15 a1 a2 a8 s24 ra1 ra2 ra8)
              · refine gx_aload_n 0 dX1_made_107 rfl ?_
                refine gx_get (v := vR 0) (ci := 1) (b := 30) (N := 57) 0 rfl rfl (by decide) in_X1 rfl rfl q308 dX1_made_108 ?_
                refine gx_getI (ci := 0) (b := 0) (N := 21) 12 rfl rfl rfl (by decide) in_X2 rfl rfl q251 dX1_made_111 (fun v25 rv25 => ?_)
                refine gx_istore (loc' := [(8, vI v25), (0, vR 1), (1, vI a1), (2, vI a2), (3, vI a3), (6, vI a6), (7, vI a7)]) dX1_made_114 (by decide) rfl ?_
                refine gx_iload_n 4 dX1_made_116 rfl ?_
                refine gx_if_le 129 dX1_made_117 (by decide) (fun _ => ra3) (fun _ => ?_) (fun _ => ?_)
                · exact gx_pick [1, 2, 3, 4, 6, 0] rfl (hj13 a1 a2 a3 a7 v25 s12 ra1 ra2 ra3 ra7 rv25)
                · refine gx_aload_n 1 dX1_made_120 rfl ?_
                  refine gx_get (v := vR 0) (ci := 1) (b := 30) (N := 57) 0 rfl rfl (by decide) in_X1 rfl rfl q308 dX1_made_121 ?_
                  refine gx_iload 5 dX1_made_124 rfl ?_
                  refine gx_cVV (As := [vI a6]) (n := 1) (stk := []) (ci := 0) (b := 0) (N := 21) (hX2_push a6 s12) (by decide +kernel) rfl rfl (lw_V q637 q228 q229 q164 q230) (by decide +kernel) rfl (by decide) hRf hRl (fun _ => (avc ra6 avn)) (Nat.le_of_ble_eq_true rfl) rfl rfl dX1_made_126 (fun v26 s27 => ?_)
                  exact gx_pick [1, 2, 3, 4, 6, 0] rfl (hj13 a1 a2 a3 a7 v25 s27 ra1 ra2 ra3 ra7 rv25)
            · refine gx_istore (loc' := [(7, vI t0), (0, vR 1), (1, vI a1), (2, vI a2), (3, vI a3), (6, vI a6)]) dX1_made_86 (by decide) rfl ?_
              refine gx_iload_n 2 dX1_made_88 rfl ?_
              refine gx_iconst dX1_made_89 ?_
              refine gx_icmp_eq 107 dX1_made_90 (by decide) (fun _ => ra1) (fun _ => (by decide : inR (4))) (fun _ => ?_) (fun _ => ?_)
              · exact gx_pick [1, 2, 3, 4, 5, 0] rfl (hj11 a1 a2 a3 a6 t0 s10 ra1 ra2 ra3 ra6 rt0)
              · refine gx_aload_n 1 dX1_made_93 rfl ?_
                refine gx_iload 5 dX1_made_94 rfl ?_
                refine gx_xVI (As := [vI a6]) (n := 1) (stk := []) (ci := 1) (b := 30) (N := 57) (hX1_closed a6 s10) (by decide +kernel) rfl rfl (lw_V q658 q660 qs10 q163 q661) (by decide +kernel) rfl (by decide) hRf hRl (fun _ => (avc ra6 avn)) (Nat.le_of_ble_eq_true rfl) rfl rfl dX1_made_96 (fun v28 s29 rv28 => ?_)
                refine gx_pop rfl dX1_made_99 ?_
                refine gx_aload_n 1 dX1_made_100 rfl ?_
                refine gx_iload 0 dX1_made_101 rfl ?_
                refine gx_xVI (As := [vI t0]) (n := 1) (stk := []) (ci := 1) (b := 30) (N := 57) (hX1_closed t0 s29) (by decide +kernel) rfl rfl (lw_V q658 q660 qs10 q163 q661) (by decide +kernel) rfl (by decide) hRf hRl (fun _ => (avc rt0 avn)) (Nat.le_of_ble_eq_true rfl) rfl rfl dX1_made_103 (fun v30 s31 rv30 => ?_)
                refine gx_pop rfl dX1_made_106 ?_
                exact gx_pick [1, 2, 3, 4, 5, 0] rfl (hj11 a1 a2 a3 a6 t0 s31 ra1 ra2 ra3 ra6 rt0)
          · refine gx_istore (loc' := [(6, vI t0), (0, vR 1), (1, vI a1), (2, vI a2), (3, vI a3), (5, vI a5)]) dX1_made_69 (by decide) rfl ?_
            refine gx_iload_n 4 dX1_made_71 rfl ?_
            refine gx_iconst dX1_made_72 ?_
            refine gx_icmp_le 85 dX1_made_73 (by decide) (fun _ => ra3) (fun _ => (inR_z (Or.inr rfl))) (fun _ => ?_) (fun _ => ?_)
            · refine gx_iconst dX1_made_85 ?_
              exact gx_pick [1, 2, 3, 4, 0] rfl (hj9 a1 a2 a3 t0 0 s8 ra1 ra2 ra3 rt0 (inR_z (Or.inl rfl)))
            · refine gx_aload_n 1 dX1_made_76 rfl ?_
              refine gx_iload 5 dX1_made_77 rfl ?_
              refine gx_xVI (As := [vI a5]) (n := 1) (stk := []) (ci := 1) (b := 30) (N := 57) (hX1_termOf a5 s8) (by decide +kernel) rfl rfl (lw_V q622 q624 qs5 q163 q625) (by decide +kernel) rfl (by decide) hRf hRl (fun _ => (avc ra5 avn)) (Nat.le_of_ble_eq_true rfl) rfl rfl dX1_made_79 (fun v32 s33 rv32 => ?_)
              refine gx_goto 86 dX1_made_82 (by decide) ?_
              exact gx_pick [1, 2, 3, 4, 0] rfl (hj9 a1 a2 a3 t0 v32 s33 ra1 ra2 ra3 rt0 rv32)
        · refine gx_xSV (As := [vI t0]) (n := 1) (stk := []) (hX1_need t0 s6) (by decide +kernel) (lw_S q502 q503 q163 q504) (by decide +kernel) rfl (by decide) hRf hRl (fun _ => (avc (inR_z zt0) avn)) (Nat.le_of_ble_eq_true rfl) rfl rfl dX1_made_52 (fun v34 s35 => ?_)
          refine gx_iload_n 3 dX1_made_55 rfl ?_
          refine gx_if_le 68 dX1_made_56 (by decide) (fun _ => ra3) (fun _ => ?_) (fun _ => ?_)
          · refine gx_iconst dX1_made_68 ?_
            exact gx_pick [0, 1, 2, 3, 5] rfl (hj7 a1 a2 a3 a5 0 s35 ra1 ra2 ra3 ra5 (inR_z (Or.inl rfl)))
          · refine gx_aload_n 0 dX1_made_59 rfl ?_
            refine gx_iload 4 dX1_made_60 rfl ?_
            refine gx_xVI (As := [vI a4]) (n := 1) (stk := []) (ci := 1) (b := 30) (N := 57) (hX1_termOf a4 s35) (by decide +kernel) rfl rfl (lw_V q622 q624 qs5 q163 q625) (by decide +kernel) rfl (by decide) hRf hRl (fun _ => (avc ra4 avn)) (Nat.le_of_ble_eq_true rfl) rfl rfl dX1_made_62 (fun v36 s37 rv36 => ?_)
            refine gx_goto 69 dX1_made_65 (by decide) ?_
            exact gx_pick [0, 1, 2, 3, 5] rfl (hj7 a1 a2 a3 a5 v36 s37 ra1 ra2 ra3 ra5 rv36)
      · refine gx_jn (fun j38 => ∀ (a1 a2 a3 a4 a5 : Int) (s39 : Sg), inR a1 → inR a2 → inR a3 → inR a4 → inR a5 → WGx p l e R s m args below meth c JX1_made DX1_made G clA A FC ad0 σ0 (rvX true) (j38 a1 a2 a3 a4 a5 s39) s39 51 [(0, vR 1), (1, vI a1), (2, vI a2), (3, vI a3), (4, vI a4), (5, vI a5)] []) (fun a1 a2 a3 a4 a5 s39 ra1 ra2 ra3 ra4 ra5 => ?_) (fun j38 hj38 => ?_)
        · refine gx_iconst dX1_made_51 ?_
          exact gx_pick [0, 1, 2, 3, 4, 5] rfl (hj5 a1 a2 a3 a4 a5 0 s39 ra1 ra2 ra3 ra4 ra5 (Or.inl rfl))
        · refine gx_icmp_ne 51 dX1_made_20 (by decide) (fun _ => (inR_z zt0)) (fun _ => (inR_z zt1)) (fun _ => ?_) (fun _ => ?_)
          · refine gx_jn (fun j40 => ∀ (a1 a2 a3 a4 a5 t0 : Int) (s41 : Sg), inR a1 → inR a2 → inR a3 → inR a4 → inR a5 → (t0 = 0 ∨ t0 = 1) → WGx p l e R s m args below meth c JX1_made DX1_made G clA A FC ad0 σ0 (rvX true) (j40 a1 a2 a3 a4 a5 t0 s41) s41 33 [(0, vR 1), (1, vI a1), (2, vI a2), (3, vI a3), (4, vI a4), (5, vI a5)] [vI t0]) (fun a1 a2 a3 a4 a5 t0 s41 ra1 ra2 ra3 ra4 ra5 zt0 => ?_) (fun j40 hj40 => ?_)
            · refine gx_jn (fun j42 => ∀ (a1 a2 a3 a4 a5 t0 t1 : Int) (s43 : Sg), inR a1 → inR a2 → inR a3 → inR a4 → inR a5 → (t0 = 0 ∨ t0 = 1) → (t1 = 0 ∨ t1 = 1) → WGx p l e R s m args below meth c JX1_made DX1_made G clA A FC ad0 σ0 (rvX true) (j42 a1 a2 a3 a4 a5 t0 t1 s43) s43 44 [(0, vR 1), (1, vI a1), (2, vI a2), (3, vI a3), (4, vI a4), (5, vI a5)] [vI t1, vI t0]) (fun a1 a2 a3 a4 a5 t0 t1 s43 ra1 ra2 ra3 ra4 ra5 zt0 zt1 => ?_) (fun j42 hj42 => ?_)
              · refine gx_icmp_ne 51 dX1_made_44 (by decide) (fun _ => (inR_z zt0)) (fun _ => (inR_z zt1)) (fun _ => ?_) (fun _ => ?_)
                · refine gx_iconst dX1_made_47 ?_
                  refine gx_goto 52 dX1_made_48 (by decide) ?_
                  exact gx_pick [0, 1, 2, 3, 4, 5] rfl (hj5 a1 a2 a3 a4 a5 1 s43 ra1 ra2 ra3 ra4 ra5 (Or.inr rfl))
                · exact gx_pick [0, 1, 2, 3, 4, 5] rfl (hj38 a1 a2 a3 a4 a5 s43 ra1 ra2 ra3 ra4 ra5)
              · refine gx_iload 5 dX1_made_33 rfl ?_
                refine gx_iconst dX1_made_35 ?_
                refine gx_icmp_eq 43 dX1_made_36 (by decide) (fun _ => ra5) (fun _ => (by decide : inR (-1))) (fun _ => ?_) (fun _ => ?_)
                · refine gx_iconst dX1_made_43 ?_
                  exact gx_pick [0, 1, 2, 3, 4, 5] rfl (hj42 a1 a2 a3 a4 a5 t0 0 s41 ra1 ra2 ra3 ra4 ra5 zt0 (Or.inl rfl))
                · refine gx_iconst dX1_made_39 ?_
                  refine gx_goto 44 dX1_made_40 (by decide) ?_
                  exact gx_pick [0, 1, 2, 3, 4, 5] rfl (hj42 a1 a2 a3 a4 a5 t0 1 s41 ra1 ra2 ra3 ra4 ra5 zt0 (Or.inr rfl))
            · refine gx_iload_n 3 dX1_made_23 rfl ?_
              refine gx_iconst dX1_made_24 ?_
              refine gx_icmp_le 32 dX1_made_25 (by decide) (fun _ => ra3) (fun _ => (inR_z (Or.inr rfl))) (fun _ => ?_) (fun _ => ?_)
              · refine gx_iconst dX1_made_32 ?_
                exact gx_pick [0, 1, 2, 3, 4, 5] rfl (hj40 a1 a2 a3 a4 a5 0 s4 ra1 ra2 ra3 ra4 ra5 (Or.inl rfl))
              · refine gx_iconst dX1_made_28 ?_
                refine gx_goto 33 dX1_made_29 (by decide) ?_
                exact gx_pick [0, 1, 2, 3, 4, 5] rfl (hj40 a1 a2 a3 a4 a5 1 s4 ra1 ra2 ra3 ra4 ra5 (Or.inr rfl))
          · exact gx_pick [0, 1, 2, 3, 4, 5] rfl (hj38 a1 a2 a3 a4 a5 s4 ra1 ra2 ra3 ra4 ra5)
    · refine gx_iload 4 dX1_made_9 rfl ?_
      refine gx_iconst dX1_made_11 ?_
      refine gx_icmp_eq 19 dX1_made_12 (by decide) (fun _ => ra4) (fun _ => (by decide : inR (-1))) (fun _ => ?_) (fun _ => ?_)
      · refine gx_iconst dX1_made_19 ?_
        exact gx_pick [0, 1, 2, 3, 4, 5] rfl (hj3 a1 a2 a3 a4 a5 t0 0 s2 ra1 ra2 ra3 ra4 ra5 zt0 (Or.inl rfl))
      · refine gx_iconst dX1_made_15 ?_
        refine gx_goto 20 dX1_made_16 (by decide) ?_
        exact gx_pick [0, 1, 2, 3, 4, 5] rfl (hj3 a1 a2 a3 a4 a5 t0 1 s2 ra1 ra2 ra3 ra4 ra5 zt0 (Or.inr rfl))
  · refine gx_iload_n 3 dX1_made_0 rfl ?_
    refine gx_if_le 8 dX1_made_1 (by decide) (fun _ => ra3) (fun _ => ?_) (fun _ => ?_)
    · refine gx_iconst dX1_made_8 ?_
      exact gx_pick [0, 1, 2, 3, 4, 5] rfl (hj1 a1 a2 a3 a4 a5 0 u ra1 ra2 ra3 ra4 ra5 (Or.inl rfl))
    · refine gx_iconst dX1_made_4 ?_
      refine gx_goto 9 dX1_made_5 (by decide) ?_
      exact gx_pick [0, 1, 2, 3, 4, 5] rfl (hj1 a1 a2 a3 a4 a5 1 u ra1 ra2 ra3 ra4 ra5 (Or.inr rfl))
end
section
variable {l : Launch} {d : Nat} {call : Nat → List Int → Sg → Option (Int × Sg)}
theorem ctX1_made (p0 : Program) (e0 : Env) (s0 : State) (m0 : MethodId) (meth0 : Method) (c0 : Code) (G0 : Gm) (hd : 7 ≤ d) (hlt : LT l) (hX2_make : ∀ (a1 a2 a3 : Int) (u : Sg), Ct l d FC clA yX2_make cX2_make 13 (some .int) DX2_make rvI [vR 0, vI a1, vI a2, vI a3] u (call 94 [a1, a2, a3] u)) (hX1_keep : ∀ (a1 a2 a3 : Int) (u : Sg), CtX l d FC clA yX1_keep cX1_keep 4 (some .int) DX1_keep (rvX true) [vR 1, vI a1, vI a2, vI a3] u (call 16 [a1, a2, a3] u)) (hX2_push : ∀ (a1 : Int) (u : Sg), Ct l d FC clA yX2_push cX2_push 2 none DX2_push rvV [vR 0, vI a1] u (call 97 [a1] u)) (hX1_closed : ∀ (a1 : Int) (u : Sg), CtX l d FC clA yX1_closed cX1_closed 2 (some .int) DX1_closed (rvX true) [vR 1, vI a1] u (call 18 [a1] u)) (hX1_termOf : ∀ (a1 : Int) (u : Sg), CtX l d FC clA yX1_termOf cX1_termOf 3 (some .int) DX1_termOf (rvX true) [vR 1, vI a1] u (call 11 [a1] u)) (hX1_need : ∀ (a1 : Int) (u : Sg), CtX l d FC clA yX1_need cX1_need 1 none DX1_need (rvX false) [vI a1] u (call 4 [a1] u)) (a1 a2 a3 a4 a5 : Int) (u : Sg) : CtX l (d + 1) FC clA yX1_made cX1_made 11 (some .int) DX1_made (rvX true) [vR 1, vI a1, vI a2, vI a3, vI a4, vI a5] u (bX1_made call a1 a2 a3 a4 a5 u) :=
  CtX_of (by decide) (Nat.le_of_ble_eq_true rfl) (fun p e R s1 m args below meth c G A ad hA hRf hRl => wX1_made hd hlt hRf hRl hX2_make hX1_keep hX2_push hX1_closed hX1_termOf hX1_need a1 a2 a3 a4 a5 u (hA _ (List.mem_cons_of_mem _ List.mem_cons_self)) (hA _ (List.mem_cons_of_mem _ (List.mem_cons_of_mem _ List.mem_cons_self))) (hA _ (List.mem_cons_of_mem _ (List.mem_cons_of_mem _ (List.mem_cons_of_mem _ List.mem_cons_self)))) (hA _ (List.mem_cons_of_mem _ (List.mem_cons_of_mem _ (List.mem_cons_of_mem _ (List.mem_cons_of_mem _ List.mem_cons_self))))) (hA _ (List.mem_cons_of_mem _ (List.mem_cons_of_mem _ (List.mem_cons_of_mem _ (List.mem_cons_of_mem _ (List.mem_cons_of_mem _ List.mem_cons_self))))))) p0 e0 s0 m0 meth0 c0 G0
end
/-! RoundCheck.the(I)I, which may throw -/
section
variable {p : Program} {l : Launch} {e : Env} {R : Room} {s : State} {m : MethodId} {args : Array Value} {below : List Frame} {meth : Method} {c : Code} {G : Gm} {A : Nat → Prop} {ad0 : Nat → Nat} {σ0 : Sg} {d : Nat} {call : Nat → List Int → Sg → Option (Int × Sg)}
theorem wX1_the (hd : 7 ≤ d) (hlt : LT l) (hRf : d + 1 ≤ R.frames) (hRl : 40 * (d + 1) ≤ R.locals) (hX1_typeOfNumber : ∀ (a1 : Int) (u : Sg), CtX l d FC clA yX1_typeOfNumber cX1_typeOfNumber 3 (some .int) DX1_typeOfNumber (rvX true) [vR 1, vI a1] u (call 2 [a1] u)) (hX2_make_2 : ∀ (a1 a2 a3 a4 : Int) (u : Sg), Ct l d FC clA yX2_make_2 cX2_make_2 6 (some .int) DX2_make_2 rvI [vR 0, vI a1, vI a2, vI a3, vI a4] u (call 96 [a1, a2, a3, a4] u)) (hX1_keep : ∀ (a1 a2 a3 : Int) (u : Sg), CtX l d FC clA yX1_keep cX1_keep 4 (some .int) DX1_keep (rvX true) [vR 1, vI a1, vI a2, vI a3] u (call 16 [a1, a2, a3] u)) (a1 : Int) (u : Sg) (ra1 : inR a1) : WGx p l e R s m args below meth c JX1_the DX1_the G clA A FC ad0 σ0 (rvX true) (bX1_the call a1 u) u 0 [(0, vR 1), (1, vI a1)] [] := by
  unfold bX1_the
  refine gx_aload_n 0 dX1_the_0 rfl ?_
  refine gx_iload_n 1 dX1_the_1 rfl ?_
  refine gx_xVI (As := [vI a1]) (n := 1) (stk := []) (ci := 1) (b := 30) (N := 57) (hX1_typeOfNumber a1 u) (by decide +kernel) rfl rfl (lw_V q494 q496 qs1 q163 q497) (by decide +kernel) rfl (by decide) hRf hRl (fun _ => (avc ra1 avn)) (Nat.le_of_ble_eq_true rfl) rfl rfl dX1_the_2 (fun v1 s2 rv1 => ?_)
  refine gx_istore_n (loc' := [(2, vI v1), (0, vR 1), (1, vI a1)]) dX1_the_5 (by decide) rfl ?_
  refine gx_aload_n 1 dX1_the_6 rfl ?_
  refine gx_get (v := vR 0) (ci := 1) (b := 30) (N := 57) 0 rfl rfl (by decide) in_X1 rfl rfl q308 dX1_the_7 ?_
  refine gx_getI (ci := 0) (b := 0) (N := 21) 9 rfl rfl rfl (by decide) in_X2 rfl rfl q246 dX1_the_10 (fun v3 rv3 => ?_)
  refine gx_istore_n (loc' := [(3, vI v3), (2, vI v1), (0, vR 1), (1, vI a1)]) dX1_the_13 (by decide) rfl ?_
  refine gx_aload_n 2 dX1_the_14 rfl ?_
  refine gx_get (v := vR 0) (ci := 1) (b := 30) (N := 57) 0 rfl rfl (by decide) in_X1 rfl rfl q308 dX1_the_15 ?_
  refine gx_getI (ci := 0) (b := 0) (N := 21) 10 rfl rfl rfl (by decide) in_X2 rfl rfl q248 dX1_the_18 (fun v4 rv4 => ?_)
  refine gx_istore (loc' := [(4, vI v4), (3, vI v3), (2, vI v1), (0, vR 1), (1, vI a1)]) dX1_the_21 (by decide) rfl ?_
  refine gx_aload_n 3 dX1_the_23 rfl ?_
  refine gx_aload_n 3 dX1_the_24 rfl ?_
  refine gx_get (v := vR 0) (ci := 1) (b := 30) (N := 57) 0 rfl rfl (by decide) in_X1 rfl rfl q308 dX1_the_25 ?_
  refine gx_iconst dX1_the_28 ?_
  refine gx_iconst dX1_the_29 ?_
  refine gx_iconst dX1_the_30 ?_
  refine gx_iload_n 2 dX1_the_31 rfl ?_
  refine gx_cVI (As := [vI 5, vI 0, vI 1, vI v1]) (n := 4) (stk := [vR 1]) (ci := 0) (b := 0) (N := 21) (hX2_make_2 5 0 1 v1 s2) (by decide +kernel) rfl rfl (lw_V q692 q224 q225 q164 q226) (by decide +kernel) rfl (by decide) hRf hRl (fun _ => (avc (by decide : inR (5)) (avc (inR_z (Or.inl rfl)) (avc (inR_z (Or.inr rfl)) (avc rv1 avn))))) (Nat.le_of_ble_eq_true rfl) rfl rfl dX1_the_32 (fun v5 s6 rv5 => ?_)
  refine gx_iload_n 1 dX1_the_35 rfl ?_
  refine gx_iload 0 dX1_the_36 rfl ?_
  refine gx_xVI (As := [vI v5, vI v3, vI v4]) (n := 3) (stk := []) (ci := 1) (b := 30) (N := 57) (hX1_keep v5 v3 v4 s6) (by decide +kernel) rfl rfl (lw_V q643 q645 qs9 q163 q646) (by decide +kernel) rfl (by decide) hRf hRl (fun _ => (avc rv5 (avc rv3 (avc rv4 avn)))) (Nat.le_of_ble_eq_true rfl) rfl rfl dX1_the_38 (fun v7 s8 rv7 => ?_)
  exact gx_iretX rfl (fun _ => rv7) dX1_the_41
end
section
variable {l : Launch} {d : Nat} {call : Nat → List Int → Sg → Option (Int × Sg)}
theorem ctX1_the (p0 : Program) (e0 : Env) (s0 : State) (m0 : MethodId) (meth0 : Method) (c0 : Code) (G0 : Gm) (hd : 7 ≤ d) (hlt : LT l) (hX1_typeOfNumber : ∀ (a1 : Int) (u : Sg), CtX l d FC clA yX1_typeOfNumber cX1_typeOfNumber 3 (some .int) DX1_typeOfNumber (rvX true) [vR 1, vI a1] u (call 2 [a1] u)) (hX2_make_2 : ∀ (a1 a2 a3 a4 : Int) (u : Sg), Ct l d FC clA yX2_make_2 cX2_make_2 6 (some .int) DX2_make_2 rvI [vR 0, vI a1, vI a2, vI a3, vI a4] u (call 96 [a1, a2, a3, a4] u)) (hX1_keep : ∀ (a1 a2 a3 : Int) (u : Sg), CtX l d FC clA yX1_keep cX1_keep 4 (some .int) DX1_keep (rvX true) [vR 1, vI a1, vI a2, vI a3] u (call 16 [a1, a2, a3] u)) (a1 : Int) (u : Sg) : CtX l (d + 1) FC clA yX1_the cX1_the 5 (some .int) DX1_the (rvX true) [vR 1, vI a1] u (bX1_the call a1 u) :=
  CtX_of (by decide) (Nat.le_of_ble_eq_true rfl) (fun p e R s1 m args below meth c G A ad hA hRf hRl => wX1_the hd hlt hRf hRl hX1_typeOfNumber hX2_make_2 hX1_keep a1 u (hA _ (List.mem_cons_of_mem _ List.mem_cons_self))) p0 e0 s0 m0 meth0 c0 G0
end
/-! RoundCheck.join(III)I, which may throw -/
section
variable {p : Program} {l : Launch} {e : Env} {R : Room} {s : State} {m : MethodId} {args : Array Value} {below : List Frame} {meth : Method} {c : Code} {G : Gm} {A : Nat → Prop} {ad0 : Nat → Nat} {σ0 : Sg} {d : Nat} {call : Nat → List Int → Sg → Option (Int × Sg)}
theorem wX1_join (hd : 7 ≤ d) (hlt : LT l) (hRf : d + 1 ≤ R.frames) (hRl : 40 * (d + 1) ≤ R.locals) (hX1_keep : ∀ (a1 a2 a3 : Int) (u : Sg), CtX l d FC clA yX1_keep cX1_keep 4 (some .int) DX1_keep (rvX true) [vR 1, vI a1, vI a2, vI a3] u (call 16 [a1, a2, a3] u)) (hX2_not : ∀ (a1 : Int) (u : Sg), Ct l d FC clA yX2_not cX2_not 2 (some .int) DX2_not rvI [vR 0, vI a1] u (call 102 [a1] u)) (hX2_and : ∀ (a1 a2 : Int) (u : Sg), Ct l d FC clA yX2_and cX2_and 4 (some .int) DX2_and rvI [vR 0, vI a1, vI a2] u (call 103 [a1, a2] u)) (hX1_either : ∀ (a1 a2 : Int) (u : Sg), Ct l d FC clA yX1_either cX1_either 5 (some .int) DX1_either rvI [vR 1, vI a1, vI a2] u (call 27 [a1, a2] u)) (hX2_implies : ∀ (a1 a2 : Int) (u : Sg), Ct l d FC clA yX2_implies cX2_implies 3 (some .int) DX2_implies rvI [vR 0, vI a1, vI a2] u (call 105 [a1, a2] u)) (hX2_iff : ∀ (a1 a2 : Int) (u : Sg), Ct l d FC clA yX2_iff cX2_iff 3 (some .int) DX2_iff rvI [vR 0, vI a1, vI a2] u (call 106 [a1, a2] u)) (hX1_need : ∀ (a1 : Int) (u : Sg), CtX l d FC clA yX1_need cX1_need 1 none DX1_need (rvX false) [vI a1] u (call 4 [a1] u)) (hX1_formulaOf : ∀ (a1 : Int) (u : Sg), CtX l d FC clA yX1_formulaOf cX1_formulaOf 3 (some .int) DX1_formulaOf (rvX true) [vR 1, vI a1] u (call 26 [a1] u)) (a1 a2 a3 : Int) (u : Sg) (ra1 : inR a1) (ra2 : inR a2) (ra3 : inR a3) : WGx p l e R s m args below meth c JX1_join DX1_join G clA A FC ad0 σ0 (rvX true) (bX1_join call a1 a2 a3 u) u 0 [(0, vR 1), (1, vI a1), (2, vI a2), (3, vI a3)] [] := by
  unfold bX1_join
  refine gx_jn (fun j1 => ∀ (a1 a2 a3 t0 : Int) (s2 : Sg), inR a1 → inR a2 → inR a3 → (t0 = 0 ∨ t0 = 1) → WGx p l e R s m args below meth c JX1_join DX1_join G clA A FC ad0 σ0 (rvX true) (j1 a1 a2 a3 t0 s2) s2 36 [(0, vR 1), (1, vI a1), (2, vI a2), (3, vI a3)] [vI t0]) (fun a1 a2 a3 t0 s2 ra1 ra2 ra3 zt0 => ?_) (fun j1 hj1 => ?_)
  · refine gx_jn (fun j3 => ∀ (a1 a4 t0 : Int) (s4 : Sg), inR a1 → inR a4 → inR t0 → WGx p l e R s m args below meth c JX1_join DX1_join G clA A FC ad0 σ0 (rvX true) (j3 a1 a4 t0 s4) s4 59 [(0, vR 1), (1, vI a1), (4, vI a4)] [vI t0]) (fun a1 a4 t0 s4 ra1 ra4 rt0 => ?_) (fun j3 hj3 => ?_)
    · refine gx_jn (fun j5 => ∀ (a6 a7 t0 : Int) (s6 : Sg), inR a6 → inR a7 → inR t0 → WGx p l e R s m args below meth c JX1_join DX1_join G clA A FC ad0 σ0 (rvX true) (j5 a6 a7 t0 s6) s6 160 [(0, vR 1), (6, vI a6), (7, vI a7)] [vI t0]) (fun a6 a7 t0 s6 ra6 ra7 rt0 => ?_) (fun j5 hj5 => ?_)
      · refine gx_istore (loc' := [(8, vI t0), (0, vR 1), (6, vI a6), (7, vI a7)]) dX1_join_160 (by decide) rfl ?_
        refine gx_aload_n 1 dX1_join_162 rfl ?_
        refine gx_iload 0 dX1_join_163 rfl ?_
        refine gx_iload 2 dX1_join_165 rfl ?_
        refine gx_iload 3 dX1_join_167 rfl ?_
        refine gx_xVI (As := [vI t0, vI a6, vI a7]) (n := 3) (stk := []) (ci := 1) (b := 30) (N := 57) (hX1_keep t0 a6 a7 s6) (by decide +kernel) rfl rfl (lw_V q643 q645 qs9 q163 q646) (by decide +kernel) rfl (by decide) hRf hRl (fun _ => (avc rt0 (avc ra6 (avc ra7 avn)))) (Nat.le_of_ble_eq_true rfl) rfl rfl dX1_join_169 (fun v7 s8 rv7 => ?_)
        exact gx_iretX rfl (fun _ => rv7) dX1_join_172
      · refine gx_istore (loc' := [(5, vI t0), (0, vR 1), (1, vI a1), (4, vI a4)]) dX1_join_59 (by decide) rfl ?_
        refine gx_aload_n 1 dX1_join_61 rfl ?_
        refine gx_get (v := vR 0) (ci := 1) (b := 30) (N := 57) 0 rfl rfl (by decide) in_X1 rfl rfl q308 dX1_join_62 ?_
        refine gx_getI (ci := 0) (b := 0) (N := 21) 9 rfl rfl rfl (by decide) in_X2 rfl rfl q246 dX1_join_65 (fun v9 rv9 => ?_)
        refine gx_istore (loc' := [(6, vI v9), (5, vI t0), (0, vR 1), (1, vI a1), (4, vI a4)]) dX1_join_68 (by decide) rfl ?_
        refine gx_aload_n 2 dX1_join_70 rfl ?_
        refine gx_get (v := vR 0) (ci := 1) (b := 30) (N := 57) 0 rfl rfl (by decide) in_X1 rfl rfl q308 dX1_join_71 ?_
        refine gx_getI (ci := 0) (b := 0) (N := 21) 10 rfl rfl rfl (by decide) in_X2 rfl rfl q248 dX1_join_74 (fun v10 rv10 => ?_)
        refine gx_istore (loc' := [(7, vI v10), (6, vI v9), (5, vI t0), (0, vR 1), (1, vI a1), (4, vI a4)]) dX1_join_77 (by decide) rfl ?_
        refine gx_iload_n 4 dX1_join_79 rfl ?_
        refine gx_if_ne 95 dX1_join_80 (by decide) (fun _ => ra1) (fun _ => ?_) (fun _ => ?_)
        · refine gx_aload_n 3 dX1_join_83 rfl ?_
          refine gx_get (v := vR 0) (ci := 1) (b := 30) (N := 57) 0 rfl rfl (by decide) in_X1 rfl rfl q308 dX1_join_84 ?_
          refine gx_iload 5 dX1_join_87 rfl ?_
          refine gx_cVI (As := [vI a4]) (n := 1) (stk := []) (ci := 0) (b := 0) (N := 21) (hX2_not a4 s4) (by decide +kernel) rfl rfl (lw_V q719 q720 q721 q164 q722) (by decide +kernel) rfl (by decide) hRf hRl (fun _ => (avc ra4 avn)) (Nat.le_of_ble_eq_true rfl) rfl rfl dX1_join_89 (fun v11 s12 rv11 => ?_)
          refine gx_goto 160 dX1_join_92 (by decide) ?_
          exact gx_pick [3, 1, 0] rfl (hj5 v9 v10 v11 s12 rv9 rv10 rv11)
        · refine gx_iload_n 4 dX1_join_95 rfl ?_
          refine gx_iconst dX1_join_96 ?_
          refine gx_icmp_ne 114 dX1_join_97 (by decide) (fun _ => ra1) (fun _ => (inR_z (Or.inr rfl))) (fun _ => ?_) (fun _ => ?_)
          · refine gx_aload_n 3 dX1_join_100 rfl ?_
            refine gx_get (v := vR 0) (ci := 1) (b := 30) (N := 57) 0 rfl rfl (by decide) in_X1 rfl rfl q308 dX1_join_101 ?_
            refine gx_iload 5 dX1_join_104 rfl ?_
            refine gx_iload 2 dX1_join_106 rfl ?_
            refine gx_cVI (As := [vI a4, vI t0]) (n := 2) (stk := []) (ci := 0) (b := 0) (N := 21) (hX2_and a4 t0 s4) (by decide +kernel) rfl rfl (lw_V q724 q725 q726 q164 q727) (by decide +kernel) rfl (by decide) hRf hRl (fun _ => (avc ra4 (avc rt0 avn))) (Nat.le_of_ble_eq_true rfl) rfl rfl dX1_join_108 (fun v13 s14 rv13 => ?_)
            refine gx_goto 160 dX1_join_111 (by decide) ?_
            exact gx_pick [3, 1, 0] rfl (hj5 v9 v10 v13 s14 rv9 rv10 rv13)
          · refine gx_iload_n 4 dX1_join_114 rfl ?_
            refine gx_iconst dX1_join_115 ?_
            refine gx_icmp_ne 130 dX1_join_116 (by decide) (fun _ => ra1) (fun _ => (by decide : inR (2))) (fun _ => ?_) (fun _ => ?_)
            · refine gx_aload_n 3 dX1_join_119 rfl ?_
              refine gx_iload 5 dX1_join_120 rfl ?_
              refine gx_iload 2 dX1_join_122 rfl ?_
              refine gx_cVI (As := [vI a4, vI t0]) (n := 2) (stk := []) (ci := 1) (b := 30) (N := 57) (hX1_either a4 t0 s4) (by decide +kernel) rfl rfl (lw_V q732 q734 qs14 q163 q735) (by decide +kernel) rfl (by decide) hRf hRl (fun _ => (avc ra4 (avc rt0 avn))) (Nat.le_of_ble_eq_true rfl) rfl rfl dX1_join_124 (fun v15 s16 rv15 => ?_)
              refine gx_goto 160 dX1_join_127 (by decide) ?_
              exact gx_pick [3, 1, 0] rfl (hj5 v9 v10 v15 s16 rv9 rv10 rv15)
            · refine gx_iload_n 4 dX1_join_130 rfl ?_
              refine gx_iconst dX1_join_131 ?_
              refine gx_icmp_ne 149 dX1_join_132 (by decide) (fun _ => ra1) (fun _ => (by decide : inR (3))) (fun _ => ?_) (fun _ => ?_)
              · refine gx_aload_n 3 dX1_join_135 rfl ?_
                refine gx_get (v := vR 0) (ci := 1) (b := 30) (N := 57) 0 rfl rfl (by decide) in_X1 rfl rfl q308 dX1_join_136 ?_
                refine gx_iload 5 dX1_join_139 rfl ?_
                refine gx_iload 2 dX1_join_141 rfl ?_
                refine gx_cVI (As := [vI a4, vI t0]) (n := 2) (stk := []) (ci := 0) (b := 0) (N := 21) (hX2_implies a4 t0 s4) (by decide +kernel) rfl rfl (lw_V q736 q737 q738 q164 q739) (by decide +kernel) rfl (by decide) hRf hRl (fun _ => (avc ra4 (avc rt0 avn))) (Nat.le_of_ble_eq_true rfl) rfl rfl dX1_join_143 (fun v17 s18 rv17 => ?_)
                refine gx_goto 160 dX1_join_146 (by decide) ?_
                exact gx_pick [3, 1, 0] rfl (hj5 v9 v10 v17 s18 rv9 rv10 rv17)
              · refine gx_aload_n 3 dX1_join_149 rfl ?_
                refine gx_get (v := vR 0) (ci := 1) (b := 30) (N := 57) 0 rfl rfl (by decide) in_X1 rfl rfl q308 dX1_join_150 ?_
                refine gx_iload 5 dX1_join_153 rfl ?_
                refine gx_iload 2 dX1_join_155 rfl ?_
                refine gx_cVI (As := [vI a4, vI t0]) (n := 2) (stk := []) (ci := 0) (b := 0) (N := 21) (hX2_iff a4 t0 s4) (by decide +kernel) rfl rfl (lw_V q742 q743 q744 q164 q745) (by decide +kernel) rfl (by decide) hRf hRl (fun _ => (avc ra4 (avc rt0 avn))) (Nat.le_of_ble_eq_true rfl) rfl rfl dX1_join_157 (fun v19 s20 rv19 => ?_)
                exact gx_pick [3, 1, 0] rfl (hj5 v9 v10 v19 s20 rv9 rv10 rv19)
    · refine gx_xSV (As := [vI t0]) (n := 1) (stk := []) (hX1_need t0 s2) (by decide +kernel) (lw_S q502 q503 q163 q504) (by decide +kernel) rfl (by decide) hRf hRl (fun _ => (avc (inR_z zt0) avn)) (Nat.le_of_ble_eq_true rfl) rfl rfl dX1_join_36 (fun v21 s22 => ?_)
      refine gx_aload_n 0 dX1_join_39 rfl ?_
      refine gx_iload_n 2 dX1_join_40 rfl ?_
      refine gx_xVI (As := [vI a2]) (n := 1) (stk := []) (ci := 1) (b := 30) (N := 57) (hX1_formulaOf a2 s22) (by decide +kernel) rfl rfl (lw_V q715 q717 qs13 q163 q718) (by decide +kernel) rfl (by decide) hRf hRl (fun _ => (avc ra2 avn)) (Nat.le_of_ble_eq_true rfl) rfl rfl dX1_join_41 (fun v23 s24 rv23 => ?_)
      refine gx_istore (loc' := [(4, vI v23), (0, vR 1), (1, vI a1), (2, vI a2), (3, vI a3)]) dX1_join_44 (by decide) rfl ?_
      refine gx_iload_n 2 dX1_join_46 rfl ?_
      refine gx_if_ne 54 dX1_join_47 (by decide) (fun _ => ra1) (fun _ => ?_) (fun _ => ?_)
      · refine gx_iconst dX1_join_50 ?_
        refine gx_goto 59 dX1_join_51 (by decide) ?_
        exact gx_pick [1, 2, 0] rfl (hj3 a1 v23 0 s24 ra1 rv23 (inR_z (Or.inl rfl)))
      · refine gx_aload_n 1 dX1_join_54 rfl ?_
        refine gx_iload_n 4 dX1_join_55 rfl ?_
        refine gx_xVI (As := [vI a3]) (n := 1) (stk := []) (ci := 1) (b := 30) (N := 57) (hX1_formulaOf a3 s24) (by decide +kernel) rfl rfl (lw_V q715 q717 qs13 q163 q718) (by decide +kernel) rfl (by decide) hRf hRl (fun _ => (avc ra3 avn)) (Nat.le_of_ble_eq_true rfl) rfl rfl dX1_join_56 (fun v25 s26 rv25 => ?_)
        exact gx_pick [1, 2, 0] rfl (hj3 a1 v23 v25 s26 ra1 rv23 rv25)
  · refine gx_jn (fun j27 => ∀ (a1 a2 a3 : Int) (s28 : Sg), inR a1 → inR a2 → inR a3 → WGx p l e R s m args below meth c JX1_join DX1_join G clA A FC ad0 σ0 (rvX true) (j27 a1 a2 a3 s28) s28 35 [(0, vR 1), (1, vI a1), (2, vI a2), (3, vI a3)] []) (fun a1 a2 a3 s28 ra1 ra2 ra3 => ?_) (fun j27 hj27 => ?_)
    · refine gx_iconst dX1_join_35 ?_
      exact gx_pick [0, 1, 2, 3] rfl (hj1 a1 a2 a3 0 s28 ra1 ra2 ra3 (Or.inl rfl))
    · refine gx_iload_n 1 dX1_join_0 rfl ?_
      refine gx_if_lt 35 dX1_join_1 (by decide) (fun _ => ra1) (fun _ => ?_) (fun _ => ?_)
      · exact gx_pick [0, 1, 2, 3] rfl (hj27 a1 a2 a3 u ra1 ra2 ra3)
      · refine gx_iload_n 1 dX1_join_4 rfl ?_
        refine gx_iconst dX1_join_5 ?_
        refine gx_icmp_gt 35 dX1_join_6 (by decide) (fun _ => ra1) (fun _ => (by decide : inR (4))) (fun _ => ?_) (fun _ => ?_)
        · refine gx_jn (fun j29 => ∀ (a1 a2 a3 t0 : Int) (s30 : Sg), inR a1 → inR a2 → inR a3 → (t0 = 0 ∨ t0 = 1) → WGx p l e R s m args below meth c JX1_join DX1_join G clA A FC ad0 σ0 (rvX true) (j29 a1 a2 a3 t0 s30) s30 18 [(0, vR 1), (1, vI a1), (2, vI a2), (3, vI a3)] [vI t0]) (fun a1 a2 a3 t0 s30 ra1 ra2 ra3 zt0 => ?_) (fun j29 hj29 => ?_)
          · refine gx_jn (fun j31 => ∀ (a1 a2 a3 t0 t1 : Int) (s32 : Sg), inR a1 → inR a2 → inR a3 → (t0 = 0 ∨ t0 = 1) → (t1 = 0 ∨ t1 = 1) → WGx p l e R s m args below meth c JX1_join DX1_join G clA A FC ad0 σ0 (rvX true) (j31 a1 a2 a3 t0 t1 s32) s32 28 [(0, vR 1), (1, vI a1), (2, vI a2), (3, vI a3)] [vI t1, vI t0]) (fun a1 a2 a3 t0 t1 s32 ra1 ra2 ra3 zt0 zt1 => ?_) (fun j31 hj31 => ?_)
            · refine gx_icmp_ne 35 dX1_join_28 (by decide) (fun _ => (inR_z zt0)) (fun _ => (inR_z zt1)) (fun _ => ?_) (fun _ => ?_)
              · refine gx_iconst dX1_join_31 ?_
                refine gx_goto 36 dX1_join_32 (by decide) ?_
                exact gx_pick [0, 1, 2, 3] rfl (hj1 a1 a2 a3 1 s32 ra1 ra2 ra3 (Or.inr rfl))
              · exact gx_pick [0, 1, 2, 3] rfl (hj27 a1 a2 a3 s32 ra1 ra2 ra3)
            · refine gx_iload_n 3 dX1_join_18 rfl ?_
              refine gx_iconst dX1_join_19 ?_
              refine gx_icmp_ne 27 dX1_join_20 (by decide) (fun _ => ra3) (fun _ => (by decide : inR (-1))) (fun _ => ?_) (fun _ => ?_)
              · refine gx_iconst dX1_join_23 ?_
                refine gx_goto 28 dX1_join_24 (by decide) ?_
                exact gx_pick [0, 1, 2, 3] rfl (hj31 a1 a2 a3 t0 1 s30 ra1 ra2 ra3 zt0 (Or.inr rfl))
              · refine gx_iconst dX1_join_27 ?_
                exact gx_pick [0, 1, 2, 3] rfl (hj31 a1 a2 a3 t0 0 s30 ra1 ra2 ra3 zt0 (Or.inl rfl))
          · refine gx_iload_n 1 dX1_join_9 rfl ?_
            refine gx_if_ne 17 dX1_join_10 (by decide) (fun _ => ra1) (fun _ => ?_) (fun _ => ?_)
            · refine gx_iconst dX1_join_13 ?_
              refine gx_goto 18 dX1_join_14 (by decide) ?_
              exact gx_pick [0, 1, 2, 3] rfl (hj29 a1 a2 a3 1 u ra1 ra2 ra3 (Or.inr rfl))
            · refine gx_iconst dX1_join_17 ?_
              exact gx_pick [0, 1, 2, 3] rfl (hj29 a1 a2 a3 0 u ra1 ra2 ra3 (Or.inl rfl))
        · exact gx_pick [0, 1, 2, 3] rfl (hj27 a1 a2 a3 u ra1 ra2 ra3)
end
section
variable {l : Launch} {d : Nat} {call : Nat → List Int → Sg → Option (Int × Sg)}
theorem ctX1_join (p0 : Program) (e0 : Env) (s0 : State) (m0 : MethodId) (meth0 : Method) (c0 : Code) (G0 : Gm) (hd : 7 ≤ d) (hlt : LT l) (hX1_keep : ∀ (a1 a2 a3 : Int) (u : Sg), CtX l d FC clA yX1_keep cX1_keep 4 (some .int) DX1_keep (rvX true) [vR 1, vI a1, vI a2, vI a3] u (call 16 [a1, a2, a3] u)) (hX2_not : ∀ (a1 : Int) (u : Sg), Ct l d FC clA yX2_not cX2_not 2 (some .int) DX2_not rvI [vR 0, vI a1] u (call 102 [a1] u)) (hX2_and : ∀ (a1 a2 : Int) (u : Sg), Ct l d FC clA yX2_and cX2_and 4 (some .int) DX2_and rvI [vR 0, vI a1, vI a2] u (call 103 [a1, a2] u)) (hX1_either : ∀ (a1 a2 : Int) (u : Sg), Ct l d FC clA yX1_either cX1_either 5 (some .int) DX1_either rvI [vR 1, vI a1, vI a2] u (call 27 [a1, a2] u)) (hX2_implies : ∀ (a1 a2 : Int) (u : Sg), Ct l d FC clA yX2_implies cX2_implies 3 (some .int) DX2_implies rvI [vR 0, vI a1, vI a2] u (call 105 [a1, a2] u)) (hX2_iff : ∀ (a1 a2 : Int) (u : Sg), Ct l d FC clA yX2_iff cX2_iff 3 (some .int) DX2_iff rvI [vR 0, vI a1, vI a2] u (call 106 [a1, a2] u)) (hX1_need : ∀ (a1 : Int) (u : Sg), CtX l d FC clA yX1_need cX1_need 1 none DX1_need (rvX false) [vI a1] u (call 4 [a1] u)) (hX1_formulaOf : ∀ (a1 : Int) (u : Sg), CtX l d FC clA yX1_formulaOf cX1_formulaOf 3 (some .int) DX1_formulaOf (rvX true) [vR 1, vI a1] u (call 26 [a1] u)) (a1 a2 a3 : Int) (u : Sg) : CtX l (d + 1) FC clA yX1_join cX1_join 9 (some .int) DX1_join (rvX true) [vR 1, vI a1, vI a2, vI a3] u (bX1_join call a1 a2 a3 u) :=
  CtX_of (by decide) (Nat.le_of_ble_eq_true rfl) (fun p e R s1 m args below meth c G A ad hA hRf hRl => wX1_join hd hlt hRf hRl hX1_keep hX2_not hX2_and hX1_either hX2_implies hX2_iff hX1_need hX1_formulaOf a1 a2 a3 u (hA _ (List.mem_cons_of_mem _ List.mem_cons_self)) (hA _ (List.mem_cons_of_mem _ (List.mem_cons_of_mem _ List.mem_cons_self))) (hA _ (List.mem_cons_of_mem _ (List.mem_cons_of_mem _ (List.mem_cons_of_mem _ List.mem_cons_self))))) p0 e0 s0 m0 meth0 c0 G0
end
/-! RoundCheck.bind(ZII)I, which may throw -/
section
variable {p : Program} {l : Launch} {e : Env} {R : Room} {s : State} {m : MethodId} {args : Array Value} {below : List Frame} {meth : Method} {c : Code} {G : Gm} {A : Nat → Prop} {ad0 : Nat → Nat} {σ0 : Sg} {d : Nat} {call : Nat → List Int → Sg → Option (Int × Sg)}
theorem wX1_bind (hd : 7 ≤ d) (hlt : LT l) (hRf : d + 1 ≤ R.frames) (hRl : 40 * (d + 1) ≤ R.locals) (hX1_keep : ∀ (a1 a2 a3 : Int) (u : Sg), CtX l d FC clA yX1_keep cX1_keep 4 (some .int) DX1_keep (rvX true) [vR 1, vI a1, vI a2, vI a3] u (call 16 [a1, a2, a3] u)) (hX2_bind : ∀ (a1 a2 : Int) (u : Sg), Ct l d FC clA yX2_bind cX2_bind 3 (some .int) DX2_bind rvI [vR 0, vI a1, vI a2] u (call 107 [a1, a2] u)) (hX2_all : ∀ (a1 a2 : Int) (u : Sg), Ct l d FC clA yX2_all cX2_all 3 (some .int) DX2_all rvI [vR 0, vI a1, vI a2] u (call 109 [a1, a2] u)) (hX2_not : ∀ (a1 : Int) (u : Sg), Ct l d FC clA yX2_not cX2_not 2 (some .int) DX2_not rvI [vR 0, vI a1] u (call 102 [a1] u)) (hX1_need : ∀ (a1 : Int) (u : Sg), CtX l d FC clA yX1_need cX1_need 1 none DX1_need (rvX false) [vI a1] u (call 4 [a1] u)) (hX1_formulaOf : ∀ (a1 : Int) (u : Sg), CtX l d FC clA yX1_formulaOf cX1_formulaOf 3 (some .int) DX1_formulaOf (rvX true) [vR 1, vI a1] u (call 26 [a1] u)) (hX1_termOf : ∀ (a1 : Int) (u : Sg), CtX l d FC clA yX1_termOf cX1_termOf 3 (some .int) DX1_termOf (rvX true) [vR 1, vI a1] u (call 11 [a1] u)) (a1 a2 a3 : Int) (u : Sg) (ra1 : inR a1) (ra2 : inR a2) (ra3 : inR a3) : WGx p l e R s m args below meth c JX1_bind DX1_bind G clA A FC ad0 σ0 (rvX true) (bX1_bind call a1 a2 a3 u) u 0 [(0, vR 1), (1, vI a1), (2, vI a2), (3, vI a3)] [] := by
  unfold bX1_bind
  refine gx_gd (fun za1 => ?_)
  refine gx_jn (fun j1 => ∀ (a1 a3 a4 t0 : Int) (s2 : Sg), (a1 = 0 ∨ a1 = 1) → inR a3 → inR a4 → (t0 = 0 ∨ t0 = 1) → WGx p l e R s m args below meth c JX1_bind DX1_bind G clA A FC ad0 σ0 (rvX true) (j1 a1 a3 a4 t0 s2) s2 26 [(0, vR 1), (1, vI a1), (3, vI a3), (4, vI a4)] [vI t0]) (fun a1 a3 a4 t0 s2 za1 ra3 ra4 zt0 => ?_) (fun j1 hj1 => ?_)
  · refine gx_jn (fun j3 => ∀ (a1 a4 a6 a7 t1 : Int) (s4 : Sg), (a1 = 0 ∨ a1 = 1) → inR a4 → inR a6 → inR a7 → inR t1 → WGx p l e R s m args below meth c JX1_bind DX1_bind G clA A FC ad0 σ0 (rvX true) (j3 a1 a4 a6 a7 t1 s4) s4 76 [(0, vR 1), (1, vI a1), (4, vI a4), (6, vI a6), (7, vI a7)] [vI t1, vR 0]) (fun a1 a4 a6 a7 t1 s4 za1 ra4 ra6 ra7 rt1 => ?_) (fun j3 hj3 => ?_)
    · refine gx_jn (fun j5 => ∀ (a6 a7 t1 : Int) (s6 : Sg), inR a6 → inR a7 → inR t1 → WGx p l e R s m args below meth c JX1_bind DX1_bind G clA A FC ad0 σ0 (rvX true) (j5 a6 a7 t1 s6) s6 128 [(6, vI a6), (7, vI a7)] [vI t1, vR 1]) (fun a6 a7 t1 s6 ra6 ra7 rt1 => ?_) (fun j5 hj5 => ?_)
      · refine gx_iload 0 dX1_bind_128 rfl ?_
        refine gx_iload 1 dX1_bind_130 rfl ?_
        refine gx_xVI (As := [vI t1, vI a6, vI a7]) (n := 3) (stk := []) (ci := 1) (b := 30) (N := 57) (hX1_keep t1 a6 a7 s6) (by decide +kernel) rfl rfl (lw_V q643 q645 qs9 q163 q646) (by decide +kernel) rfl (by decide) hRf hRl (fun _ => (avc rt1 (avc ra6 (avc ra7 avn)))) (Nat.le_of_ble_eq_true rfl) rfl rfl dX1_bind_132 (fun v7 s8 rv7 => ?_)
        exact gx_iretX rfl (fun _ => rv7) dX1_bind_135
      · refine gx_iload 2 dX1_bind_76 rfl ?_
        refine gx_cVI (As := [vI t1, vI a4]) (n := 2) (stk := []) (ci := 0) (b := 0) (N := 21) (hX2_bind t1 a4 s4) (by decide +kernel) rfl rfl (lw_V q754 q755 q756 q164 q757) (by decide +kernel) rfl (by decide) hRf hRl (fun _ => (avc rt1 (avc ra4 avn))) (Nat.le_of_ble_eq_true rfl) rfl rfl dX1_bind_78 (fun v9 s10 rv9 => ?_)
        refine gx_istore (loc' := [(8, vI v9), (0, vR 1), (1, vI a1), (4, vI a4), (6, vI a6), (7, vI a7)]) dX1_bind_81 (by decide) rfl ?_
        refine gx_aload_n 1 dX1_bind_83 rfl ?_
        refine gx_get (v := vR 0) (ci := 1) (b := 30) (N := 57) 0 rfl rfl (by decide) in_X1 rfl rfl q308 dX1_bind_84 ?_
        refine gx_aload_n 1 dX1_bind_87 rfl ?_
        refine gx_get (v := vR 95) (ci := 1) (b := 30) (N := 57) 55 rfl rfl (by decide) in_X1 rfl rfl q363 dX1_bind_88 ?_
        refine gx_aload_n 1 dX1_bind_91 rfl ?_
        refine gx_get (v := vR 0) (ci := 1) (b := 30) (N := 57) 0 rfl rfl (by decide) in_X1 rfl rfl q308 dX1_bind_92 ?_
        refine gx_get (v := vR 11) (ci := 0) (b := 0) (N := 21) 1 rfl rfl (by decide) in_X2 rfl rfl q234 dX1_bind_95 ?_
        refine gx_iload 3 dX1_bind_98 rfl ?_
        refine gx_iald (id := 1) 1 rfl rfl dX1_bind_100 (fun v11 rv11 => ?_)
        refine gx_iald (id := 85) 41 rfl rfl dX1_bind_101 (fun v12 rv12 => ?_)
        refine gx_iload 0 dX1_bind_102 rfl ?_
        refine gx_cVI (As := [vI v12, vI v9]) (n := 2) (stk := []) (ci := 0) (b := 0) (N := 21) (hX2_all v12 v9 s10) (by decide +kernel) rfl rfl (lw_V q762 q763 q764 q164 q765) (by decide +kernel) rfl (by decide) hRf hRl (fun _ => (avc rv12 (avc rv9 avn))) (Nat.le_of_ble_eq_true rfl) rfl rfl dX1_bind_104 (fun v13 s14 rv13 => ?_)
        refine gx_istore (loc' := [(9, vI v13), (8, vI v9), (0, vR 1), (1, vI a1), (4, vI a4), (6, vI a6), (7, vI a7)]) dX1_bind_107 (by decide) rfl ?_
        refine gx_aload_n 2 dX1_bind_109 rfl ?_
        refine gx_iload_n 3 dX1_bind_110 rfl ?_
        refine gx_if_eq 126 dX1_bind_111 (by decide) (fun _ => (inR_z za1)) (fun _ => ?_) (fun _ => ?_)
        · refine gx_iload 0 dX1_bind_126 rfl ?_
          exact gx_pick [5, 6] rfl (hj5 a6 a7 v13 s14 ra6 ra7 rv13)
        · refine gx_aload_n 2 dX1_bind_114 rfl ?_
          refine gx_get (v := vR 0) (ci := 1) (b := 30) (N := 57) 0 rfl rfl (by decide) in_X1 rfl rfl q308 dX1_bind_115 ?_
          refine gx_iload 0 dX1_bind_118 rfl ?_
          refine gx_cVI (As := [vI v13]) (n := 1) (stk := [vR 1]) (ci := 0) (b := 0) (N := 21) (hX2_not v13 s14) (by decide +kernel) rfl rfl (lw_V q719 q720 q721 q164 q722) (by decide +kernel) rfl (by decide) hRf hRl (fun _ => (avc rv13 avn)) (Nat.le_of_ble_eq_true rfl) rfl rfl dX1_bind_120 (fun v15 s16 rv15 => ?_)
          refine gx_goto 128 dX1_bind_123 (by decide) ?_
          exact gx_pick [5, 6] rfl (hj5 a6 a7 v15 s16 ra6 ra7 rv15)
    · refine gx_xSV (As := [vI t0]) (n := 1) (stk := []) (hX1_need t0 s2) (by decide +kernel) (lw_S q502 q503 q163 q504) (by decide +kernel) rfl (by decide) hRf hRl (fun _ => (avc (inR_z zt0) avn)) (Nat.le_of_ble_eq_true rfl) rfl rfl dX1_bind_26 (fun v17 s18 => ?_)
      refine gx_aload_n 0 dX1_bind_29 rfl ?_
      refine gx_iload_n 2 dX1_bind_30 rfl ?_
      refine gx_xVI (As := [vI a3]) (n := 1) (stk := []) (ci := 1) (b := 30) (N := 57) (hX1_formulaOf a3 s18) (by decide +kernel) rfl rfl (lw_V q715 q717 qs13 q163 q718) (by decide +kernel) rfl (by decide) hRf hRl (fun _ => (avc ra3 avn)) (Nat.le_of_ble_eq_true rfl) rfl rfl dX1_bind_31 (fun v19 s20 rv19 => ?_)
      refine gx_istore (loc' := [(5, vI v19), (0, vR 1), (1, vI a1), (3, vI a3), (4, vI a4)]) dX1_bind_34 (by decide) rfl ?_
      refine gx_aload_n 1 dX1_bind_36 rfl ?_
      refine gx_get (v := vR 0) (ci := 1) (b := 30) (N := 57) 0 rfl rfl (by decide) in_X1 rfl rfl q308 dX1_bind_37 ?_
      refine gx_getI (ci := 0) (b := 0) (N := 21) 9 rfl rfl rfl (by decide) in_X2 rfl rfl q246 dX1_bind_40 (fun v21 rv21 => ?_)
      refine gx_istore (loc' := [(6, vI v21), (5, vI v19), (0, vR 1), (1, vI a1), (3, vI a3), (4, vI a4)]) dX1_bind_43 (by decide) rfl ?_
      refine gx_aload_n 2 dX1_bind_45 rfl ?_
      refine gx_get (v := vR 0) (ci := 1) (b := 30) (N := 57) 0 rfl rfl (by decide) in_X1 rfl rfl q308 dX1_bind_46 ?_
      refine gx_getI (ci := 0) (b := 0) (N := 21) 10 rfl rfl rfl (by decide) in_X2 rfl rfl q248 dX1_bind_49 (fun v22 rv22 => ?_)
      refine gx_istore (loc' := [(7, vI v22), (6, vI v21), (5, vI v19), (0, vR 1), (1, vI a1), (3, vI a3), (4, vI a4)]) dX1_bind_52 (by decide) rfl ?_
      refine gx_aload_n 3 dX1_bind_54 rfl ?_
      refine gx_get (v := vR 0) (ci := 1) (b := 30) (N := 57) 0 rfl rfl (by decide) in_X1 rfl rfl q308 dX1_bind_55 ?_
      refine gx_iload_n 4 dX1_bind_58 rfl ?_
      refine gx_if_eq 74 dX1_bind_59 (by decide) (fun _ => (inR_z za1)) (fun _ => ?_) (fun _ => ?_)
      · refine gx_iload 2 dX1_bind_74 rfl ?_
        exact gx_pick [3, 4, 6, 1, 0] rfl (hj3 a1 a4 v21 v22 v19 s20 za1 ra4 rv21 rv22 rv19)
      · refine gx_aload_n 3 dX1_bind_62 rfl ?_
        refine gx_get (v := vR 0) (ci := 1) (b := 30) (N := 57) 0 rfl rfl (by decide) in_X1 rfl rfl q308 dX1_bind_63 ?_
        refine gx_iload 2 dX1_bind_66 rfl ?_
        refine gx_cVI (As := [vI v19]) (n := 1) (stk := [vR 0]) (ci := 0) (b := 0) (N := 21) (hX2_not v19 s20) (by decide +kernel) rfl rfl (lw_V q719 q720 q721 q164 q722) (by decide +kernel) rfl (by decide) hRf hRl (fun _ => (avc rv19 avn)) (Nat.le_of_ble_eq_true rfl) rfl rfl dX1_bind_68 (fun v23 s24 rv23 => ?_)
        refine gx_goto 76 dX1_bind_71 (by decide) ?_
        exact gx_pick [3, 4, 6, 1, 0] rfl (hj3 a1 a4 v21 v22 v23 s24 za1 ra4 rv21 rv22 rv23)
  · refine gx_aload_n 0 dX1_bind_0 rfl ?_
    refine gx_iload_n 2 dX1_bind_1 rfl ?_
    refine gx_xVI (As := [vI a2]) (n := 1) (stk := []) (ci := 1) (b := 30) (N := 57) (hX1_termOf a2 u) (by decide +kernel) rfl rfl (lw_V q622 q624 qs5 q163 q625) (by decide +kernel) rfl (by decide) hRf hRl (fun _ => (avc ra2 avn)) (Nat.le_of_ble_eq_true rfl) rfl rfl dX1_bind_2 (fun v25 s26 rv25 => ?_)
    refine gx_istore (loc' := [(4, vI v25), (0, vR 1), (1, vI a1), (2, vI a2), (3, vI a3)]) dX1_bind_5 (by decide) rfl ?_
    refine gx_aload_n 1 dX1_bind_7 rfl ?_
    refine gx_get (v := vR 0) (ci := 1) (b := 30) (N := 57) 0 rfl rfl (by decide) in_X1 rfl rfl q308 dX1_bind_8 ?_
    refine gx_get (v := vR 10) (ci := 0) (b := 0) (N := 21) 0 rfl rfl (by decide) in_X2 rfl rfl q232 dX1_bind_11 ?_
    refine gx_iload 0 dX1_bind_14 rfl ?_
    refine gx_iald (id := 0) 0 rfl rfl dX1_bind_16 (fun v27 rv27 => ?_)
    refine gx_iconst dX1_bind_17 ?_
    refine gx_icmp_ne 25 dX1_bind_18 (by decide) (fun _ => rv27) (fun _ => (inR_z (Or.inr rfl))) (fun _ => ?_) (fun _ => ?_)
    · refine gx_iconst dX1_bind_21 ?_
      refine gx_goto 26 dX1_bind_22 (by decide) ?_
      exact gx_pick [1, 2, 4, 0] rfl (hj1 a1 a3 v25 1 s26 za1 ra3 rv25 (Or.inr rfl))
    · refine gx_iconst dX1_bind_25 ?_
      exact gx_pick [1, 2, 4, 0] rfl (hj1 a1 a3 v25 0 s26 za1 ra3 rv25 (Or.inl rfl))
end
section
variable {l : Launch} {d : Nat} {call : Nat → List Int → Sg → Option (Int × Sg)}
theorem ctX1_bind (p0 : Program) (e0 : Env) (s0 : State) (m0 : MethodId) (meth0 : Method) (c0 : Code) (G0 : Gm) (hd : 7 ≤ d) (hlt : LT l) (hX1_keep : ∀ (a1 a2 a3 : Int) (u : Sg), CtX l d FC clA yX1_keep cX1_keep 4 (some .int) DX1_keep (rvX true) [vR 1, vI a1, vI a2, vI a3] u (call 16 [a1, a2, a3] u)) (hX2_bind : ∀ (a1 a2 : Int) (u : Sg), Ct l d FC clA yX2_bind cX2_bind 3 (some .int) DX2_bind rvI [vR 0, vI a1, vI a2] u (call 107 [a1, a2] u)) (hX2_all : ∀ (a1 a2 : Int) (u : Sg), Ct l d FC clA yX2_all cX2_all 3 (some .int) DX2_all rvI [vR 0, vI a1, vI a2] u (call 109 [a1, a2] u)) (hX2_not : ∀ (a1 : Int) (u : Sg), Ct l d FC clA yX2_not cX2_not 2 (some .int) DX2_not rvI [vR 0, vI a1] u (call 102 [a1] u)) (hX1_need : ∀ (a1 : Int) (u : Sg), CtX l d FC clA yX1_need cX1_need 1 none DX1_need (rvX false) [vI a1] u (call 4 [a1] u)) (hX1_formulaOf : ∀ (a1 : Int) (u : Sg), CtX l d FC clA yX1_formulaOf cX1_formulaOf 3 (some .int) DX1_formulaOf (rvX true) [vR 1, vI a1] u (call 26 [a1] u)) (hX1_termOf : ∀ (a1 : Int) (u : Sg), CtX l d FC clA yX1_termOf cX1_termOf 3 (some .int) DX1_termOf (rvX true) [vR 1, vI a1] u (call 11 [a1] u)) (a1 a2 a3 : Int) (u : Sg) : CtX l (d + 1) FC clA yX1_bind cX1_bind 10 (some .int) DX1_bind (rvX true) [vR 1, vI a1, vI a2, vI a3] u (bX1_bind call a1 a2 a3 u) :=
  CtX_of (by decide) (Nat.le_of_ble_eq_true rfl) (fun p e R s1 m args below meth c G A ad hA hRf hRl => wX1_bind hd hlt hRf hRl hX1_keep hX2_bind hX2_all hX2_not hX1_need hX1_formulaOf hX1_termOf a1 a2 a3 u (hA _ (List.mem_cons_of_mem _ List.mem_cons_self)) (hA _ (List.mem_cons_of_mem _ (List.mem_cons_of_mem _ List.mem_cons_self))) (hA _ (List.mem_cons_of_mem _ (List.mem_cons_of_mem _ (List.mem_cons_of_mem _ List.mem_cons_self))))) p0 e0 s0 m0 meth0 c0 G0
end
/-! RoundCheck.cluster(III)I, which may throw -/
section
variable {p : Program} {l : Launch} {e : Env} {R : Room} {s : State} {m : MethodId} {args : Array Value} {below : List Frame} {meth : Method} {c : Code} {G : Gm} {A : Nat → Prop} {ad0 : Nat → Nat} {σ0 : Sg} {d : Nat} {call : Nat → List Int → Sg → Option (Int × Sg)}
theorem wX1_cluster (hd : 7 ≤ d) (hlt : LT l) (hRf : d + 1 ≤ R.frames) (hRl : 40 * (d + 1) ≤ R.locals) (hX1_room : ∀ (a1 : Int) (u : Sg), CtX l d FC clA yX1_room cX1_room 1 none DX1_room (rvX false) [vI a1] u (call 6 [a1] u)) (hX1_withSet : ∀ (a1 a2 a3 : Int) (u : Sg), Ct l d FC clA yX1_withSet cX1_withSet 6 (some .int) DX1_withSet rvI [vR 1, vI a1, vI a2, vI a3] u (call 14 [a1, a2, a3] u)) (hX1_register : ∀ (a1 a2 a3 a4 a5 : Int) (u : Sg), CtX l d FC clA yX1_register cX1_register 6 (some .int) DX1_register (rvX true) [vR 1, vI a1, vI a2, vI a3, vI a4, vI a5] u (call 31 [a1, a2, a3, a4, a5] u)) (hX1_isSet : ∀ (a1 : Int) (u : Sg), CtX l d FC clA yX1_isSet cX1_isSet 2 none DX1_isSet (rvX false) [vR 1, vI a1] u (call 13 [a1] u)) (hX1_need : ∀ (a1 : Int) (u : Sg), CtX l d FC clA yX1_need cX1_need 1 none DX1_need (rvX false) [vI a1] u (call 4 [a1] u)) (hX1_typeOfNumber : ∀ (a1 : Int) (u : Sg), CtX l d FC clA yX1_typeOfNumber cX1_typeOfNumber 3 (some .int) DX1_typeOfNumber (rvX true) [vR 1, vI a1] u (call 2 [a1] u)) (hX1_closed : ∀ (a1 : Int) (u : Sg), CtX l d FC clA yX1_closed cX1_closed 2 (some .int) DX1_closed (rvX true) [vR 1, vI a1] u (call 18 [a1] u)) (hX1_argOf : ∀ (a1 : Int) (u : Sg), Ct l d FC clA yX1_argOf cX1_argOf 2 (some .int) DX1_argOf rvI [vR 1, vI a1] u (call 30 [a1] u)) (a1 a2 a3 : Int) (u : Sg) (ra1 : inR a1) (ra2 : inR a2) (ra3 : inR a3) : WGx p l e R s m args below meth c JX1_cluster DX1_cluster G clA A FC ad0 σ0 (rvX true) (bX1_cluster call a1 a2 a3 u) u 0 [(0, vR 1), (1, vI a1), (2, vI a2), (3, vI a3)] [] := by
  unfold bX1_cluster
  refine gx_jn (fun j1 => ∀ (a2 a3 a4 a5 t0 : Int) (s2 : Sg), inR a2 → inR a3 → inR a4 → inR a5 → (t0 = 0 ∨ t0 = 1) → WGx p l e R s m args below meth c JX1_cluster DX1_cluster G clA A FC ad0 σ0 (rvX true) (j1 a2 a3 a4 a5 t0 s2) s2 25 [(0, vR 1), (2, vI a2), (3, vI a3), (4, vI a4), (5, vI a5)] [vI t0]) (fun a2 a3 a4 a5 t0 s2 ra2 ra3 ra4 ra5 zt0 => ?_) (fun j1 hj1 => ?_)
  · refine gx_jn (fun j3 => ∀ (a2 a3 a4 a5 t0 t1 : Int) (s4 : Sg), inR a2 → inR a3 → inR a4 → inR a5 → (t0 = 0 ∨ t0 = 1) → (t1 = 0 ∨ t1 = 1) → WGx p l e R s m args below meth c JX1_cluster DX1_cluster G clA A FC ad0 σ0 (rvX true) (j3 a2 a3 a4 a5 t0 t1 s4) s4 35 [(0, vR 1), (2, vI a2), (3, vI a3), (4, vI a4), (5, vI a5)] [vI t1, vI t0]) (fun a2 a3 a4 a5 t0 t1 s4 ra2 ra3 ra4 ra5 zt0 zt1 => ?_) (fun j3 hj3 => ?_)
    · refine gx_jn (fun j5 => ∀ (a2 a3 a4 t0 : Int) (s6 : Sg), inR a2 → inR a3 → inR a4 → (t0 = 0 ∨ t0 = 1) → WGx p l e R s m args below meth c JX1_cluster DX1_cluster G clA A FC ad0 σ0 (rvX true) (j5 a2 a3 a4 t0 s6) s6 75 [(0, vR 1), (2, vI a2), (3, vI a3), (4, vI a4)] [vI t0]) (fun a2 a3 a4 t0 s6 ra2 ra3 ra4 zt0 => ?_) (fun j5 hj5 => ?_)
      · refine gx_jn (fun j7 => ∀ (a3 a4 t0 : Int) (s8 : Sg), inR a3 → inR a4 → inR t0 → WGx p l e R s m args below meth c JX1_cluster DX1_cluster G clA A FC ad0 σ0 (rvX true) (j7 a3 a4 t0 s8) s8 96 [(0, vR 1), (3, vI a3), (4, vI a4)] [vI t0]) (fun a3 a4 t0 s8 ra3 ra4 rt0 => ?_) (fun j7 hj7 => ?_)
        · refine gx_jn (fun j9 => ∀ (a3 a4 a6 t0 : Int) (s10 : Sg), inR a3 → inR a4 → inR a6 → (t0 = 0 ∨ t0 = 1) → WGx p l e R s m args below meth c JX1_cluster DX1_cluster G clA A FC ad0 σ0 (rvX true) (j9 a3 a4 a6 t0 s10) s10 117 [(0, vR 1), (3, vI a3), (4, vI a4), (6, vI a6)] [vI t0]) (fun a3 a4 a6 t0 s10 ra3 ra4 ra6 zt0 => ?_) (fun j9 hj9 => ?_)
          · refine gx_xSV (As := [vI t0]) (n := 1) (stk := []) (hX1_room t0 s10) (by decide +kernel) (lw_S q576 q577 q163 q578) (by decide +kernel) rfl (by decide) hRf hRl (fun _ => (avc (inR_z zt0) avn)) (Nat.le_of_ble_eq_true rfl) rfl rfl dX1_cluster_117 (fun v11 s12 => ?_)
            refine gx_aload_n 0 dX1_cluster_120 rfl ?_
            refine gx_iconst dX1_cluster_121 ?_
            refine gx_iload 2 dX1_cluster_122 rfl ?_
            refine gx_iload 3 dX1_cluster_124 rfl ?_
            refine gx_iconst dX1_cluster_126 ?_
            refine gx_aload_n 0 dX1_cluster_127 rfl ?_
            refine gx_iconst dX1_cluster_128 ?_
            refine gx_iconst dX1_cluster_129 ?_
            refine gx_iload_n 1 dX1_cluster_130 rfl ?_
            refine gx_cVI (As := [vI 0, vI 0, vI a3]) (n := 3) (stk := [vI 0, vI a6, vI a4, vI 0, vR 1]) (ci := 1) (b := 30) (N := 57) (hX1_withSet 0 0 a3 s12) (by decide +kernel) rfl rfl (lw_V q633 q635 qs7 q163 q636) (by decide +kernel) rfl (by decide) hRf hRl (fun _ => (avc (inR_z (Or.inl rfl)) (avc (inR_z (Or.inl rfl)) (avc ra3 avn)))) (Nat.le_of_ble_eq_true rfl) rfl rfl dX1_cluster_131 (fun v13 s14 rv13 => ?_)
            refine gx_xVI (As := [vI 0, vI a4, vI a6, vI 0, vI v13]) (n := 5) (stk := []) (ci := 1) (b := 30) (N := 57) (hX1_register 0 a4 a6 0 v13 s14) (by decide +kernel) rfl rfl (lw_V q777 q779 qs17 q163 q780) (by decide +kernel) rfl (by decide) hRf hRl (fun _ => (avc (inR_z (Or.inl rfl)) (avc ra4 (avc ra6 (avc (inR_z (Or.inl rfl)) (avc rv13 avn)))))) (Nat.le_of_ble_eq_true rfl) rfl rfl dX1_cluster_134 (fun v15 s16 rv15 => ?_)
            exact gx_iretX rfl (fun _ => rv15) dX1_cluster_137
          · refine gx_istore (loc' := [(6, vI t0), (0, vR 1), (3, vI a3), (4, vI a4)]) dX1_cluster_96 (by decide) rfl ?_
            refine gx_aload_n 1 dX1_cluster_98 rfl ?_
            refine gx_iload_n 2 dX1_cluster_99 rfl ?_
            refine gx_xVV (As := [vI a3]) (n := 1) (stk := []) (ci := 1) (b := 30) (N := 57) (hX1_isSet a3 s8) (by decide +kernel) rfl rfl (lw_V q629 q631 qs6 q163 q632) (by decide +kernel) rfl (by decide) hRf hRl (fun _ => (avc ra3 avn)) (Nat.le_of_ble_eq_true rfl) rfl rfl dX1_cluster_100 (fun v17 s18 => ?_)
            refine gx_aload_n 1 dX1_cluster_103 rfl ?_
            refine gx_getI (ci := 1) (b := 30) (N := 57) 51 rfl rfl rfl (by decide) in_X1 rfl rfl q359 dX1_cluster_104 (fun v19 rv19 => ?_)
            refine gx_bipush (by decide +kernel) dX1_cluster_107 ?_
            refine gx_icmp_ge 116 dX1_cluster_109 (by decide) (fun _ => rv19) (fun _ => (by decide : inR (30))) (fun _ => ?_) (fun _ => ?_)
            · refine gx_iconst dX1_cluster_112 ?_
              refine gx_goto 117 dX1_cluster_113 (by decide) ?_
              exact gx_pick [1, 2, 3, 0] rfl (hj9 a3 a4 t0 1 s18 ra3 ra4 rt0 (Or.inr rfl))
            · refine gx_iconst dX1_cluster_116 ?_
              exact gx_pick [1, 2, 3, 0] rfl (hj9 a3 a4 t0 0 s18 ra3 ra4 rt0 (Or.inl rfl))
        · refine gx_xSV (As := [vI t0]) (n := 1) (stk := []) (hX1_need t0 s6) (by decide +kernel) (lw_S q502 q503 q163 q504) (by decide +kernel) rfl (by decide) hRf hRl (fun _ => (avc (inR_z zt0) avn)) (Nat.le_of_ble_eq_true rfl) rfl rfl dX1_cluster_75 (fun v20 s21 => ?_)
          refine gx_iload_n 1 dX1_cluster_78 rfl ?_
          refine gx_iconst dX1_cluster_79 ?_
          refine gx_icmp_ne 87 dX1_cluster_80 (by decide) (fun _ => ra2) (fun _ => (by decide : inR (-1))) (fun _ => ?_) (fun _ => ?_)
          · refine gx_iconst dX1_cluster_83 ?_
            refine gx_goto 96 dX1_cluster_84 (by decide) ?_
            exact gx_pick [0, 2, 3] rfl (hj7 a3 a4 0 s21 ra3 ra4 (inR_z (Or.inl rfl)))
          · refine gx_aload_n 0 dX1_cluster_87 rfl ?_
            refine gx_aload_n 0 dX1_cluster_88 rfl ?_
            refine gx_iload_n 1 dX1_cluster_89 rfl ?_
            refine gx_xVI (As := [vI a2]) (n := 1) (stk := [vR 1]) (ci := 1) (b := 30) (N := 57) (hX1_typeOfNumber a2 s21) (by decide +kernel) rfl rfl (lw_V q494 q496 qs1 q163 q497) (by decide +kernel) rfl (by decide) hRf hRl (fun _ => (avc ra2 avn)) (Nat.le_of_ble_eq_true rfl) rfl rfl dX1_cluster_90 (fun v22 s23 rv22 => ?_)
            refine gx_xVI (As := [vI v22]) (n := 1) (stk := []) (ci := 1) (b := 30) (N := 57) (hX1_closed v22 s23) (by decide +kernel) rfl rfl (lw_V q658 q660 qs10 q163 q661) (by decide +kernel) rfl (by decide) hRf hRl (fun _ => (avc rv22 avn)) (Nat.le_of_ble_eq_true rfl) rfl rfl dX1_cluster_93 (fun v24 s25 rv24 => ?_)
            exact gx_pick [0, 2, 3] rfl (hj7 a3 a4 v24 s25 ra3 ra4 rv24)
      · refine gx_jn (fun j26 => ∀ (a2 a3 a4 : Int) (s27 : Sg), inR a2 → inR a3 → inR a4 → WGx p l e R s m args below meth c JX1_cluster DX1_cluster G clA A FC ad0 σ0 (rvX true) (j26 a2 a3 a4 s27) s27 74 [(0, vR 1), (2, vI a2), (3, vI a3), (4, vI a4)] []) (fun a2 a3 a4 s27 ra2 ra3 ra4 => ?_) (fun j26 hj26 => ?_)
        · refine gx_iconst dX1_cluster_74 ?_
          exact gx_pick [0, 1, 2, 3] rfl (hj5 a2 a3 a4 0 s27 ra2 ra3 ra4 (Or.inl rfl))
        · refine gx_icmp_ne 74 dX1_cluster_35 (by decide) (fun _ => (inR_z zt0)) (fun _ => (inR_z zt1)) (fun _ => ?_) (fun _ => ?_)
          · refine gx_jn (fun j28 => ∀ (a2 a3 a4 : Int) (s29 : Sg), inR a2 → inR a3 → inR a4 → WGx p l e R s m args below meth c JX1_cluster DX1_cluster G clA A FC ad0 σ0 (rvX true) (j28 a2 a3 a4 s29) s29 70 [(0, vR 1), (2, vI a2), (3, vI a3), (4, vI a4)] []) (fun a2 a3 a4 s29 ra2 ra3 ra4 => ?_) (fun j28 hj28 => ?_)
            · refine gx_iconst dX1_cluster_70 ?_
              refine gx_goto 75 dX1_cluster_71 (by decide) ?_
              exact gx_pick [0, 1, 2, 3] rfl (hj5 a2 a3 a4 1 s29 ra2 ra3 ra4 (Or.inr rfl))
            · refine gx_iload 4 dX1_cluster_38 rfl ?_
              refine gx_if_eq 70 dX1_cluster_40 (by decide) (fun _ => ra5) (fun _ => ?_) (fun _ => ?_)
              · exact gx_pick [0, 1, 2, 3] rfl (hj28 a2 a3 a4 s4 ra2 ra3 ra4)
              · refine gx_aload_n 0 dX1_cluster_43 rfl ?_
                refine gx_get (v := vR 0) (ci := 1) (b := 30) (N := 57) 0 rfl rfl (by decide) in_X1 rfl rfl q308 dX1_cluster_44 ?_
                refine gx_get (v := vR 10) (ci := 0) (b := 0) (N := 21) 0 rfl rfl (by decide) in_X2 rfl rfl q232 dX1_cluster_47 ?_
                refine gx_iload 4 dX1_cluster_50 rfl ?_
                refine gx_iald (id := 0) 0 rfl rfl dX1_cluster_52 (fun v30 rv30 => ?_)
                refine gx_iconst dX1_cluster_53 ?_
                refine gx_icmp_ne 74 dX1_cluster_54 (by decide) (fun _ => rv30) (fun _ => (by decide : inR (3))) (fun _ => ?_) (fun _ => ?_)
                · refine gx_aload_n 0 dX1_cluster_57 rfl ?_
                  refine gx_get (v := vR 0) (ci := 1) (b := 30) (N := 57) 0 rfl rfl (by decide) in_X1 rfl rfl q308 dX1_cluster_58 ?_
                  refine gx_get (v := vR 11) (ci := 0) (b := 0) (N := 21) 1 rfl rfl (by decide) in_X2 rfl rfl q234 dX1_cluster_61 ?_
                  refine gx_iload 4 dX1_cluster_64 rfl ?_
                  refine gx_iald (id := 1) 1 rfl rfl dX1_cluster_66 (fun v31 rv31 => ?_)
                  refine gx_if_ne 74 dX1_cluster_67 (by decide) (fun _ => rv31) (fun _ => ?_) (fun _ => ?_)
                  · exact gx_pick [0, 1, 2, 3] rfl (hj28 a2 a3 a4 s4 ra2 ra3 ra4)
                  · exact gx_pick [0, 1, 2, 3] rfl (hj26 a2 a3 a4 s4 ra2 ra3 ra4)
                · exact gx_pick [0, 1, 2, 3] rfl (hj26 a2 a3 a4 s4 ra2 ra3 ra4)
          · exact gx_pick [0, 1, 2, 3] rfl (hj26 a2 a3 a4 s4 ra2 ra3 ra4)
    · refine gx_iload_n 1 dX1_cluster_25 rfl ?_
      refine gx_iconst dX1_cluster_26 ?_
      refine gx_icmp_ne 34 dX1_cluster_27 (by decide) (fun _ => ra2) (fun _ => (by decide : inR (-1))) (fun _ => ?_) (fun _ => ?_)
      · refine gx_iconst dX1_cluster_30 ?_
        refine gx_goto 35 dX1_cluster_31 (by decide) ?_
        exact gx_pick [0, 1, 2, 3, 4] rfl (hj3 a2 a3 a4 a5 t0 1 s2 ra2 ra3 ra4 ra5 zt0 (Or.inr rfl))
      · refine gx_iconst dX1_cluster_34 ?_
        exact gx_pick [0, 1, 2, 3, 4] rfl (hj3 a2 a3 a4 a5 t0 0 s2 ra2 ra3 ra4 ra5 zt0 (Or.inl rfl))
  · refine gx_aload_n 0 dX1_cluster_0 rfl ?_
    refine gx_iload_n 1 dX1_cluster_1 rfl ?_
    refine gx_xVI (As := [vI a1]) (n := 1) (stk := []) (ci := 1) (b := 30) (N := 57) (hX1_typeOfNumber a1 u) (by decide +kernel) rfl rfl (lw_V q494 q496 qs1 q163 q497) (by decide +kernel) rfl (by decide) hRf hRl (fun _ => (avc ra1 avn)) (Nat.le_of_ble_eq_true rfl) rfl rfl dX1_cluster_2 (fun v32 s33 rv32 => ?_)
    refine gx_istore (loc' := [(4, vI v32), (0, vR 1), (1, vI a1), (2, vI a2), (3, vI a3)]) dX1_cluster_5 (by decide) rfl ?_
    refine gx_aload_n 1 dX1_cluster_7 rfl ?_
    refine gx_iload 0 dX1_cluster_8 rfl ?_
    refine gx_cVI (As := [vI v32]) (n := 1) (stk := []) (ci := 1) (b := 30) (N := 57) (hX1_argOf v32 s33) (by decide +kernel) rfl rfl (lw_V q773 q775 qs16 q163 q776) (by decide +kernel) rfl (by decide) hRf hRl (fun _ => (avc rv32 avn)) (Nat.le_of_ble_eq_true rfl) rfl rfl dX1_cluster_10 (fun v34 s35 rv34 => ?_)
    refine gx_istore (loc' := [(5, vI v34), (4, vI v32), (0, vR 1), (1, vI a1), (2, vI a2), (3, vI a3)]) dX1_cluster_13 (by decide) rfl ?_
    refine gx_iload 0 dX1_cluster_15 rfl ?_
    refine gx_if_ne 24 dX1_cluster_17 (by decide) (fun _ => rv34) (fun _ => ?_) (fun _ => ?_)
    · refine gx_iconst dX1_cluster_20 ?_
      refine gx_goto 25 dX1_cluster_21 (by decide) ?_
      exact gx_pick [2, 4, 5, 1, 0] rfl (hj1 a2 a3 v32 v34 1 s35 ra2 ra3 rv32 rv34 (Or.inr rfl))
    · refine gx_iconst dX1_cluster_24 ?_
      exact gx_pick [2, 4, 5, 1, 0] rfl (hj1 a2 a3 v32 v34 0 s35 ra2 ra3 rv32 rv34 (Or.inl rfl))
end
section
variable {l : Launch} {d : Nat} {call : Nat → List Int → Sg → Option (Int × Sg)}
theorem ctX1_cluster (p0 : Program) (e0 : Env) (s0 : State) (m0 : MethodId) (meth0 : Method) (c0 : Code) (G0 : Gm) (hd : 7 ≤ d) (hlt : LT l) (hX1_room : ∀ (a1 : Int) (u : Sg), CtX l d FC clA yX1_room cX1_room 1 none DX1_room (rvX false) [vI a1] u (call 6 [a1] u)) (hX1_withSet : ∀ (a1 a2 a3 : Int) (u : Sg), Ct l d FC clA yX1_withSet cX1_withSet 6 (some .int) DX1_withSet rvI [vR 1, vI a1, vI a2, vI a3] u (call 14 [a1, a2, a3] u)) (hX1_register : ∀ (a1 a2 a3 a4 a5 : Int) (u : Sg), CtX l d FC clA yX1_register cX1_register 6 (some .int) DX1_register (rvX true) [vR 1, vI a1, vI a2, vI a3, vI a4, vI a5] u (call 31 [a1, a2, a3, a4, a5] u)) (hX1_isSet : ∀ (a1 : Int) (u : Sg), CtX l d FC clA yX1_isSet cX1_isSet 2 none DX1_isSet (rvX false) [vR 1, vI a1] u (call 13 [a1] u)) (hX1_need : ∀ (a1 : Int) (u : Sg), CtX l d FC clA yX1_need cX1_need 1 none DX1_need (rvX false) [vI a1] u (call 4 [a1] u)) (hX1_typeOfNumber : ∀ (a1 : Int) (u : Sg), CtX l d FC clA yX1_typeOfNumber cX1_typeOfNumber 3 (some .int) DX1_typeOfNumber (rvX true) [vR 1, vI a1] u (call 2 [a1] u)) (hX1_closed : ∀ (a1 : Int) (u : Sg), CtX l d FC clA yX1_closed cX1_closed 2 (some .int) DX1_closed (rvX true) [vR 1, vI a1] u (call 18 [a1] u)) (hX1_argOf : ∀ (a1 : Int) (u : Sg), Ct l d FC clA yX1_argOf cX1_argOf 2 (some .int) DX1_argOf rvI [vR 1, vI a1] u (call 30 [a1] u)) (a1 a2 a3 : Int) (u : Sg) : CtX l (d + 1) FC clA yX1_cluster cX1_cluster 7 (some .int) DX1_cluster (rvX true) [vR 1, vI a1, vI a2, vI a3] u (bX1_cluster call a1 a2 a3 u) :=
  CtX_of (by decide) (Nat.le_of_ble_eq_true rfl) (fun p e R s1 m args below meth c G A ad hA hRf hRl => wX1_cluster hd hlt hRf hRl hX1_room hX1_withSet hX1_register hX1_isSet hX1_need hX1_typeOfNumber hX1_closed hX1_argOf a1 a2 a3 u (hA _ (List.mem_cons_of_mem _ List.mem_cons_self)) (hA _ (List.mem_cons_of_mem _ (List.mem_cons_of_mem _ List.mem_cons_self))) (hA _ (List.mem_cons_of_mem _ (List.mem_cons_of_mem _ (List.mem_cons_of_mem _ List.mem_cons_self))))) p0 e0 s0 m0 meth0 c0 G0
end
/-! RoundCheck.place(III)I, which may throw -/
section
variable {p : Program} {l : Launch} {e : Env} {R : Room} {s : State} {m : MethodId} {args : Array Value} {below : List Frame} {meth : Method} {c : Code} {G : Gm} {A : Nat → Prop} {ad0 : Nat → Nat} {σ0 : Sg} {d : Nat} {call : Nat → List Int → Sg → Option (Int × Sg)}
theorem wX1_place (hd : 7 ≤ d) (hlt : LT l) (hRf : d + 1 ≤ R.frames) (hRl : 40 * (d + 1) ≤ R.locals) (hX1_need : ∀ (a1 : Int) (u : Sg), CtX l d FC clA yX1_need cX1_need 1 none DX1_need (rvX false) [vI a1] u (call 4 [a1] u)) (hX1_typeOfNumber : ∀ (a1 : Int) (u : Sg), CtX l d FC clA yX1_typeOfNumber cX1_typeOfNumber 3 (some .int) DX1_typeOfNumber (rvX true) [vR 1, vI a1] u (call 2 [a1] u)) (hX1_loci : ∀ (a1 : Int) (u : Sg), Ct l d FC clA yX1_loci cX1_loci 5 (some .int) DX1_loci rvI [vR 1, vI a1] u (call 5 [a1] u)) (a1 a2 a3 : Int) (u : Sg) (ra1 : inR a1) (ra2 : inR a2) (ra3 : inR a3) : WGx p l e R s m args below meth c JX1_place DX1_place G clA A FC ad0 σ0 (rvX true) (bX1_place call a1 a2 a3 u) u 0 [(0, vR 1), (1, vI a1), (2, vI a2), (3, vI a3)] [] := by
  unfold bX1_place
  refine gx_jn (fun j1 => ∀ (a1 a3 t0 : Int) (s2 : Sg), inR a1 → inR a3 → (t0 = 0 ∨ t0 = 1) → WGx p l e R s m args below meth c JX1_place DX1_place G clA A FC ad0 σ0 (rvX true) (j1 a1 a3 t0 s2) s2 15 [(0, vR 1), (1, vI a1), (3, vI a3)] [vI t0]) (fun a1 a3 t0 s2 ra1 ra3 zt0 => ?_) (fun j1 hj1 => ?_)
  · refine gx_jn (fun j3 => ∀ (a1 a3 t0 t1 : Int) (s4 : Sg), inR a1 → inR a3 → (t0 = 0 ∨ t0 = 1) → (t1 = 0 ∨ t1 = 1) → WGx p l e R s m args below meth c JX1_place DX1_place G clA A FC ad0 σ0 (rvX true) (j3 a1 a3 t0 t1 s4) s4 25 [(0, vR 1), (1, vI a1), (3, vI a3)] [vI t1, vI t0]) (fun a1 a3 t0 t1 s4 ra1 ra3 zt0 zt1 => ?_) (fun j3 hj3 => ?_)
    · refine gx_jn (fun j5 => ∀ (a1 a3 t0 : Int) (s6 : Sg), inR a1 → inR a3 → (t0 = 0 ∨ t0 = 1) → WGx p l e R s m args below meth c JX1_place DX1_place G clA A FC ad0 σ0 (rvX true) (j5 a1 a3 t0 s6) s6 33 [(0, vR 1), (1, vI a1), (3, vI a3)] [vI t0]) (fun a1 a3 t0 s6 ra1 ra3 zt0 => ?_) (fun j5 hj5 => ?_)
      · refine gx_xSV (As := [vI t0]) (n := 1) (stk := []) (hX1_need t0 s6) (by decide +kernel) (lw_S q502 q503 q163 q504) (by decide +kernel) rfl (by decide) hRf hRl (fun _ => (avc (inR_z zt0) avn)) (Nat.le_of_ble_eq_true rfl) rfl rfl dX1_place_33 (fun v7 s8 => ?_)
        refine gx_iload_n 2 dX1_place_36 rfl ?_
        refine gx_iconst dX1_place_37 ?_
        refine gx_icmp_ne 43 dX1_place_38 (by decide) (fun _ => ra3) (fun _ => (by decide : inR (-1))) (fun _ => ?_) (fun _ => ?_)
        · refine gx_iconst dX1_place_41 ?_
          exact gx_iretX rfl (fun _ => (inR_z (Or.inl rfl))) dX1_place_42
        · refine gx_jn (fun j9 => ∀ (a4 t0 : Int) (s10 : Sg), inR a4 → (t0 = 0 ∨ t0 = 1) → WGx p l e R s m args below meth c JX1_place DX1_place G clA A FC ad0 σ0 (rvX true) (j9 a4 t0 s10) s10 70 [(4, vI a4)] [vI t0]) (fun a4 t0 s10 ra4 zt0 => ?_) (fun j9 hj9 => ?_)
          · refine gx_xSV (As := [vI t0]) (n := 1) (stk := []) (hX1_need t0 s10) (by decide +kernel) (lw_S q502 q503 q163 q504) (by decide +kernel) rfl (by decide) hRf hRl (fun _ => (avc (inR_z zt0) avn)) (Nat.le_of_ble_eq_true rfl) rfl rfl dX1_place_70 (fun v11 s12 => ?_)
            refine gx_iload 0 dX1_place_73 rfl ?_
            exact gx_iretX rfl (fun _ => ra4) dX1_place_75
          · refine gx_aload_n 0 dX1_place_43 rfl ?_
            refine gx_iload_n 2 dX1_place_44 rfl ?_
            refine gx_xVI (As := [vI a3]) (n := 1) (stk := []) (ci := 1) (b := 30) (N := 57) (hX1_typeOfNumber a3 s8) (by decide +kernel) rfl rfl (lw_V q494 q496 qs1 q163 q497) (by decide +kernel) rfl (by decide) hRf hRl (fun _ => (avc ra3 avn)) (Nat.le_of_ble_eq_true rfl) rfl rfl dX1_place_45 (fun v13 s14 rv13 => ?_)
            refine gx_istore (loc' := [(4, vI v13), (0, vR 1), (1, vI a1), (3, vI a3)]) dX1_place_48 (by decide) rfl ?_
            refine gx_aload_n 1 dX1_place_50 rfl ?_
            refine gx_iload 0 dX1_place_51 rfl ?_
            refine gx_cVI (As := [vI v13]) (n := 1) (stk := []) (ci := 1) (b := 30) (N := 57) (hX1_loci v13 s14) (by decide +kernel) rfl rfl (lw_V q567 q569 qs4 q163 q570) (by decide +kernel) rfl (by decide) hRf hRl (fun _ => (avc rv13 avn)) (Nat.le_of_ble_eq_true rfl) rfl rfl dX1_place_53 (fun v15 s16 rv15 => ?_)
            refine gx_aload_n 1 dX1_place_56 rfl ?_
            refine gx_get (v := vR 81) (ci := 1) (b := 30) (N := 57) 41 rfl rfl (by decide) in_X1 rfl rfl q349 dX1_place_57 ?_
            refine gx_iload_n 2 dX1_place_60 rfl ?_
            refine gx_iald (id := 71) 32 rfl rfl dX1_place_61 (fun v17 rv17 => ?_)
            refine gx_icmp_ge 69 dX1_place_62 (by decide) (fun _ => rv15) (fun _ => rv17) (fun _ => ?_) (fun _ => ?_)
            · refine gx_iconst dX1_place_65 ?_
              refine gx_goto 70 dX1_place_66 (by decide) ?_
              exact gx_pick [0] rfl (hj9 v13 1 s16 rv13 (Or.inr rfl))
            · refine gx_iconst dX1_place_69 ?_
              exact gx_pick [0] rfl (hj9 v13 0 s16 rv13 (Or.inl rfl))
      · refine gx_icmp_ne 32 dX1_place_25 (by decide) (fun _ => (inR_z zt0)) (fun _ => (inR_z zt1)) (fun _ => ?_) (fun _ => ?_)
        · refine gx_iconst dX1_place_28 ?_
          refine gx_goto 33 dX1_place_29 (by decide) ?_
          exact gx_pick [0, 1, 2] rfl (hj5 a1 a3 1 s4 ra1 ra3 (Or.inr rfl))
        · refine gx_iconst dX1_place_32 ?_
          exact gx_pick [0, 1, 2] rfl (hj5 a1 a3 0 s4 ra1 ra3 (Or.inl rfl))
    · refine gx_iload_n 2 dX1_place_15 rfl ?_
      refine gx_iconst dX1_place_16 ?_
      refine gx_icmp_eq 24 dX1_place_17 (by decide) (fun _ => ra3) (fun _ => (by decide : inR (-1))) (fun _ => ?_) (fun _ => ?_)
      · refine gx_iconst dX1_place_24 ?_
        exact gx_pick [0, 1, 2] rfl (hj3 a1 a3 t0 0 s2 ra1 ra3 zt0 (Or.inl rfl))
      · refine gx_iconst dX1_place_20 ?_
        refine gx_goto 25 dX1_place_21 (by decide) ?_
        exact gx_pick [0, 1, 2] rfl (hj3 a1 a3 t0 1 s2 ra1 ra3 zt0 (Or.inr rfl))
  · refine gx_aload_n 0 dX1_place_0 rfl ?_
    refine gx_get (v := vR 81) (ci := 1) (b := 30) (N := 57) 41 rfl rfl (by decide) in_X1 rfl rfl q349 dX1_place_1 ?_
    refine gx_iload_n 1 dX1_place_4 rfl ?_
    refine gx_iald (id := 71) 32 rfl rfl dX1_place_5 (fun v18 rv18 => ?_)
    refine gx_iload_n 2 dX1_place_6 rfl ?_
    refine gx_icmp_le 14 dX1_place_7 (by decide) (fun _ => rv18) (fun _ => ra2) (fun _ => ?_) (fun _ => ?_)
    · refine gx_iconst dX1_place_14 ?_
      exact gx_pick [0, 1, 3] rfl (hj1 a1 a3 0 u ra1 ra3 (Or.inl rfl))
    · refine gx_iconst dX1_place_10 ?_
      refine gx_goto 15 dX1_place_11 (by decide) ?_
      exact gx_pick [0, 1, 3] rfl (hj1 a1 a3 1 u ra1 ra3 (Or.inr rfl))
end
section
variable {l : Launch} {d : Nat} {call : Nat → List Int → Sg → Option (Int × Sg)}
theorem ctX1_place (p0 : Program) (e0 : Env) (s0 : State) (m0 : MethodId) (meth0 : Method) (c0 : Code) (G0 : Gm) (hd : 7 ≤ d) (hlt : LT l) (hX1_need : ∀ (a1 : Int) (u : Sg), CtX l d FC clA yX1_need cX1_need 1 none DX1_need (rvX false) [vI a1] u (call 4 [a1] u)) (hX1_typeOfNumber : ∀ (a1 : Int) (u : Sg), CtX l d FC clA yX1_typeOfNumber cX1_typeOfNumber 3 (some .int) DX1_typeOfNumber (rvX true) [vR 1, vI a1] u (call 2 [a1] u)) (hX1_loci : ∀ (a1 : Int) (u : Sg), Ct l d FC clA yX1_loci cX1_loci 5 (some .int) DX1_loci rvI [vR 1, vI a1] u (call 5 [a1] u)) (a1 a2 a3 : Int) (u : Sg) : CtX l (d + 1) FC clA yX1_place cX1_place 5 (some .int) DX1_place (rvX true) [vR 1, vI a1, vI a2, vI a3] u (bX1_place call a1 a2 a3 u) :=
  CtX_of (by decide) (Nat.le_of_ble_eq_true rfl) (fun p e R s1 m args below meth c G A ad hA hRf hRl => wX1_place hd hlt hRf hRl hX1_need hX1_typeOfNumber hX1_loci a1 a2 a3 u (hA _ (List.mem_cons_of_mem _ List.mem_cons_self)) (hA _ (List.mem_cons_of_mem _ (List.mem_cons_of_mem _ List.mem_cons_self))) (hA _ (List.mem_cons_of_mem _ (List.mem_cons_of_mem _ (List.mem_cons_of_mem _ List.mem_cons_self))))) p0 e0 s0 m0 meth0 c0 G0
end
/-! RoundCheck.premise(I)I, which may throw -/
section
variable {p : Program} {l : Launch} {e : Env} {R : Room} {s : State} {m : MethodId} {args : Array Value} {below : List Frame} {meth : Method} {c : Code} {G : Gm} {A : Nat → Prop} {ad0 : Nat → Nat} {σ0 : Sg} {d : Nat} {call : Nat → List Int → Sg → Option (Int × Sg)}
theorem wX1_premise (hd : 7 ≤ d) (hlt : LT l) (hRf : d + 1 ≤ R.frames) (hRl : 40 * (d + 1) ≤ R.locals) (hX1_room : ∀ (a1 : Int) (u : Sg), CtX l d FC clA yX1_room cX1_room 1 none DX1_room (rvX false) [vI a1] u (call 6 [a1] u)) (hX1_formulaOf : ∀ (a1 : Int) (u : Sg), CtX l d FC clA yX1_formulaOf cX1_formulaOf 3 (some .int) DX1_formulaOf (rvX true) [vR 1, vI a1] u (call 26 [a1] u)) (a1 : Int) (u : Sg) (ra1 : inR a1) : WGx p l e R s m args below meth c JX1_premise DX1_premise G clA A FC ad0 σ0 (rvX true) (bX1_premise call a1 u) u 0 [(0, vR 1), (1, vI a1)] [] := by
  unfold bX1_premise
  refine gx_jn (fun j1 => ∀ (a2 t0 : Int) (s2 : Sg), inR a2 → (t0 = 0 ∨ t0 = 1) → WGx p l e R s m args below meth c JX1_premise DX1_premise G clA A FC ad0 σ0 (rvX true) (j1 a2 t0 s2) s2 20 [(0, vR 1), (2, vI a2)] [vI t0]) (fun a2 t0 s2 ra2 zt0 => ?_) (fun j1 hj1 => ?_)
  · refine gx_xSV (As := [vI t0]) (n := 1) (stk := []) (hX1_room t0 s2) (by decide +kernel) (lw_S q576 q577 q163 q578) (by decide +kernel) rfl (by decide) hRf hRl (fun _ => (avc (inR_z zt0) avn)) (Nat.le_of_ble_eq_true rfl) rfl rfl dX1_premise_20 (fun v3 s4 => ?_)
    refine gx_aload_n 0 dX1_premise_23 rfl ?_
    refine gx_get (v := vR 92) (ci := 1) (b := 30) (N := 57) 52 rfl rfl (by decide) in_X1 rfl rfl q360 dX1_premise_24 ?_
    refine gx_aload_n 0 dX1_premise_27 rfl ?_
    refine gx_getI (ci := 1) (b := 30) (N := 57) 53 rfl rfl rfl (by decide) in_X1 rfl rfl q361 dX1_premise_28 (fun v5 rv5 => ?_)
    refine gx_iload_n 1 dX1_premise_31 rfl ?_
    refine gx_iastU (id := 82) FC_ok 40 rfl rfl (by decide +kernel) ra2 dX1_premise_32 (fun s6 => ?_)
    refine gx_aload_n 0 dX1_premise_33 rfl ?_
    refine gx_dup rfl dX1_premise_34 ?_
    refine gx_getI (ci := 1) (b := 30) (N := 57) 53 rfl rfl rfl (by decide) in_X1 rfl rfl q361 dX1_premise_35 (fun v7 rv7 => ?_)
    refine gx_iconst dX1_premise_38 ?_
    refine gx_iadd dX1_premise_39 (fun v8 rv8 => ?_)
    refine gx_sIU (ci := 1) (b := 30) (N := 57) FC_ok 53 rfl rfl rfl (by decide) in_X1 tyX1 tyX1_ok nmX1 rfl rfl rfl rfl (by decide +kernel) rv8 q361 dX1_premise_40 (fun s9 => ?_)
    refine gx_aload_n 0 dX1_premise_43 rfl ?_
    refine gx_getI (ci := 1) (b := 30) (N := 57) 53 rfl rfl rfl (by decide) in_X1 rfl rfl q361 dX1_premise_44 (fun v10 rv10 => ?_)
    exact gx_iretX rfl (fun _ => rv10) dX1_premise_47
  · refine gx_aload_n 0 dX1_premise_0 rfl ?_
    refine gx_iload_n 1 dX1_premise_1 rfl ?_
    refine gx_xVI (As := [vI a1]) (n := 1) (stk := []) (ci := 1) (b := 30) (N := 57) (hX1_formulaOf a1 u) (by decide +kernel) rfl rfl (lw_V q715 q717 qs13 q163 q718) (by decide +kernel) rfl (by decide) hRf hRl (fun _ => (avc ra1 avn)) (Nat.le_of_ble_eq_true rfl) rfl rfl dX1_premise_2 (fun v11 s12 rv11 => ?_)
    refine gx_istore_n (loc' := [(2, vI v11), (0, vR 1), (1, vI a1)]) dX1_premise_5 (by decide) rfl ?_
    refine gx_aload_n 1 dX1_premise_6 rfl ?_
    refine gx_getI (ci := 1) (b := 30) (N := 57) 53 rfl rfl rfl (by decide) in_X1 rfl rfl q361 dX1_premise_7 (fun v13 rv13 => ?_)
    refine gx_bipush (by decide +kernel) dX1_premise_10 ?_
    refine gx_icmp_ge 19 dX1_premise_12 (by decide) (fun _ => rv13) (fun _ => (by decide : inR (20))) (fun _ => ?_) (fun _ => ?_)
    · refine gx_iconst dX1_premise_15 ?_
      refine gx_goto 20 dX1_premise_16 (by decide) ?_
      exact gx_pick [1, 0] rfl (hj1 v11 1 s12 rv11 (Or.inr rfl))
    · refine gx_iconst dX1_premise_19 ?_
      exact gx_pick [1, 0] rfl (hj1 v11 0 s12 rv11 (Or.inl rfl))
end
section
variable {l : Launch} {d : Nat} {call : Nat → List Int → Sg → Option (Int × Sg)}
theorem ctX1_premise (p0 : Program) (e0 : Env) (s0 : State) (m0 : MethodId) (meth0 : Method) (c0 : Code) (G0 : Gm) (hd : 7 ≤ d) (hlt : LT l) (hX1_room : ∀ (a1 : Int) (u : Sg), CtX l d FC clA yX1_room cX1_room 1 none DX1_room (rvX false) [vI a1] u (call 6 [a1] u)) (hX1_formulaOf : ∀ (a1 : Int) (u : Sg), CtX l d FC clA yX1_formulaOf cX1_formulaOf 3 (some .int) DX1_formulaOf (rvX true) [vR 1, vI a1] u (call 26 [a1] u)) (a1 : Int) (u : Sg) : CtX l (d + 1) FC clA yX1_premise cX1_premise 3 (some .int) DX1_premise (rvX true) [vR 1, vI a1] u (bX1_premise call a1 u) :=
  CtX_of (by decide) (Nat.le_of_ble_eq_true rfl) (fun p e R s1 m args below meth c G A ad hA hRf hRl => wX1_premise hd hlt hRf hRl hX1_room hX1_formulaOf a1 u (hA _ (List.mem_cons_of_mem _ List.mem_cons_self))) p0 e0 s0 m0 meth0 c0 G0
end
/-! RoundCheck.check(I)I, which may throw -/
section
variable {p : Program} {l : Launch} {e : Env} {R : Room} {s : State} {m : MethodId} {args : Array Value} {below : List Frame} {meth : Method} {c : Code} {G : Gm} {A : Nat → Prop} {ad0 : Nat → Nat} {σ0 : Sg} {d : Nat} {call : Nat → List Int → Sg → Option (Int × Sg)}
theorem wX1_check_L41 (hd : 7 ≤ d) (hlt : LT l) (hRf : d + 1 ≤ R.frames) (hRl : 40 * (d + 1) ≤ R.locals) (hX1_formulaOf : ∀ (a1 : Int) (u : Sg), CtX l d FC clA yX1_formulaOf cX1_formulaOf 3 (some .int) DX1_formulaOf (rvX true) [vR 1, vI a1] u (call 26 [a1] u)) (hX2_push : ∀ (a1 : Int) (u : Sg), Ct l d FC clA yX2_push cX2_push 2 none DX2_push rvV [vR 0, vI a1] u (call 97 [a1] u)) (hX1_forget : ∀ (a1 a2 a3 : Int) (u : Sg), Ct l d FC clA yX1_forget cX1_forget 4 none DX1_forget rvV [vR 1, vI a1, vI a2, vI a3] u (call 79 [a1, a2, a3] u)) (hX2_not : ∀ (a1 : Int) (u : Sg), Ct l d FC clA yX2_not cX2_not 2 (some .int) DX2_not rvI [vR 0, vI a1] u (call 102 [a1] u)) (hX2_and_2 : ∀ (a1 : Int) (u : Sg), Ct l d FC clA yX2_and_2 cX2_and_2 7 (some .int) DX2_and_2 rvI [vR 0, vI a1] u (call 104 [a1] u)) (hX1_casesOf : ∀ (a1 a2 : Int) (u : Sg), Ct l d FC clA yX1_casesOf cX1_casesOf 7 (some .int) DX1_casesOf rvI [vR 1, vI a1, vI a2] u (call 37 [a1, a2] u)) (hX1_open : ∀ (a1 : Int) (u : Sg), Ct l d FC clA yX1_open cX1_open 7 (some .int) DX1_open rvI [vR 1, vI a1] u (call 38 [a1] u)) (hX1_pend : ∀ (a1 a2 : Int) (u : Sg), Ct l d FC clA yX1_pend cX1_pend 3 (some .int) DX1_pend rvI [vR 1, vI a1, vI a2] u (call 39 [a1, a2] u)) (hX1_split : ∀ (a1 a2 : Int) (u : Sg), Ct l d FC clA yX1_split cX1_split 9 none DX1_split rvV [vR 1, vI a1, vI a2] u (call 40 [a1, a2] u)) (x70 : Int → Int → Int → Int → Int → Sg → Option (Int × Sg)) (hx70 : ∀ (a2 a3 a4 a5 a6 : Int) (u : Sg), inR a2 → inR a3 → inR a4 → inR a5 → inR a6 → WGx p l e R s m args below meth c JX1_check DX1_check G clA A FC ad0 σ0 (rvX true) (x70 a2 a3 a4 a5 a6 u) u 70 [(0, vR 1), (2, vI a2), (3, vI a3), (4, vI a4), (5, vI a5), (6, vI a6)] []) : ∀ (n : Nat) (a2 a3 a4 a5 a6 a7 : Int) (u : Sg), inR a2 → inR a3 → inR a4 → inR a5 → inR a6 → inR a7 → WGx p l e R s m args below meth c JX1_check DX1_check G clA A FC ad0 σ0 (rvX true) (bX1_check_L41 call n a2 a3 a4 a5 a6 a7 u x70) u 41 [(0, vR 1), (2, vI a2), (3, vI a3), (4, vI a4), (5, vI a5), (6, vI a6), (7, vI a7)] [] := by
  intro n
  induction n with
  | zero =>
    intro a2 a3 a4 a5 a6 a7 u ra2 ra3 ra4 ra5 ra6 ra7
    exact gx_none
  | succ n ih =>
    intro a2 a3 a4 a5 a6 a7 u ra2 ra3 ra4 ra5 ra6 ra7
    rw [bX1_check_L41]
    refine gx_iload 6 dX1_check_41 rfl ?_
    refine gx_aload_n 0 dX1_check_43 rfl ?_
    refine gx_getI (ci := 1) (b := 30) (N := 57) 53 rfl rfl rfl (by decide) in_X1 rfl rfl q361 dX1_check_44 (fun v1 rv1 => ?_)
    refine gx_icmp_ge 70 dX1_check_47 (by decide) (fun _ => ra7) (fun _ => rv1) (fun _ => ?_) (fun _ => ?_)
    · refine gx_aload_n 0 dX1_check_50 rfl ?_
      refine gx_get (v := vR 0) (ci := 1) (b := 30) (N := 57) 0 rfl rfl (by decide) in_X1 rfl rfl q308 dX1_check_51 ?_
      refine gx_aload_n 0 dX1_check_54 rfl ?_
      refine gx_get (v := vR 92) (ci := 1) (b := 30) (N := 57) 52 rfl rfl (by decide) in_X1 rfl rfl q360 dX1_check_55 ?_
      refine gx_iload 6 dX1_check_58 rfl ?_
      refine gx_iald (id := 82) 40 rfl rfl dX1_check_60 (fun v2 rv2 => ?_)
      refine gx_cVV (As := [vI v2]) (n := 1) (stk := []) (ci := 0) (b := 0) (N := 21) (hX2_push v2 u) (by decide +kernel) rfl rfl (lw_V q637 q228 q229 q164 q230) (by decide +kernel) rfl (by decide) hRf hRl (fun _ => (avc rv2 avn)) (Nat.le_of_ble_eq_true rfl) rfl rfl dX1_check_61 (fun v3 s4 => ?_)
      refine gx_iinc 6 (loc' := fun v5 => [(7, vI v5), (0, vR 1), (2, vI a2), (3, vI a3), (4, vI a4), (5, vI a5), (6, vI a6)]) dX1_check_64 rfl (by decide) (fun _ => rfl) (fun v5 rv5 => ?_)
      refine gx_goto 41 dX1_check_67 (by decide) ?_
      exact gx_pick [1, 2, 3, 4, 5, 6, 0] rfl (ih a2 a3 a4 a5 a6 v5 s4 ra2 ra3 ra4 ra5 ra6 rv5)
    · exact gx_pick [0, 1, 2, 3, 4, 5] rfl (hx70 a2 a3 a4 a5 a6 u ra2 ra3 ra4 ra5 ra6)
theorem wX1_check (hd : 7 ≤ d) (hlt : LT l) (hRf : d + 1 ≤ R.frames) (hRl : 40 * (d + 1) ≤ R.locals) (hX1_formulaOf : ∀ (a1 : Int) (u : Sg), CtX l d FC clA yX1_formulaOf cX1_formulaOf 3 (some .int) DX1_formulaOf (rvX true) [vR 1, vI a1] u (call 26 [a1] u)) (hX2_push : ∀ (a1 : Int) (u : Sg), Ct l d FC clA yX2_push cX2_push 2 none DX2_push rvV [vR 0, vI a1] u (call 97 [a1] u)) (hX1_forget : ∀ (a1 a2 a3 : Int) (u : Sg), Ct l d FC clA yX1_forget cX1_forget 4 none DX1_forget rvV [vR 1, vI a1, vI a2, vI a3] u (call 79 [a1, a2, a3] u)) (hX2_not : ∀ (a1 : Int) (u : Sg), Ct l d FC clA yX2_not cX2_not 2 (some .int) DX2_not rvI [vR 0, vI a1] u (call 102 [a1] u)) (hX2_and_2 : ∀ (a1 : Int) (u : Sg), Ct l d FC clA yX2_and_2 cX2_and_2 7 (some .int) DX2_and_2 rvI [vR 0, vI a1] u (call 104 [a1] u)) (hX1_casesOf : ∀ (a1 a2 : Int) (u : Sg), Ct l d FC clA yX1_casesOf cX1_casesOf 7 (some .int) DX1_casesOf rvI [vR 1, vI a1, vI a2] u (call 37 [a1, a2] u)) (hX1_open : ∀ (a1 : Int) (u : Sg), Ct l d FC clA yX1_open cX1_open 7 (some .int) DX1_open rvI [vR 1, vI a1] u (call 38 [a1] u)) (hX1_pend : ∀ (a1 a2 : Int) (u : Sg), Ct l d FC clA yX1_pend cX1_pend 3 (some .int) DX1_pend rvI [vR 1, vI a1, vI a2] u (call 39 [a1, a2] u)) (hX1_split : ∀ (a1 a2 : Int) (u : Sg), Ct l d FC clA yX1_split cX1_split 9 none DX1_split rvV [vR 1, vI a1, vI a2] u (call 40 [a1, a2] u)) (a1 : Int) (u : Sg) (ra1 : inR a1) : WGx p l e R s m args below meth c JX1_check DX1_check G clA A FC ad0 σ0 (rvX true) (bX1_check call a1 u) u 0 [(0, vR 1), (1, vI a1)] [] := by
  unfold bX1_check
  refine gx_aload_n 0 dX1_check_0 rfl ?_
  refine gx_iload_n 1 dX1_check_1 rfl ?_
  refine gx_xVI (As := [vI a1]) (n := 1) (stk := []) (ci := 1) (b := 30) (N := 57) (hX1_formulaOf a1 u) (by decide +kernel) rfl rfl (lw_V q715 q717 qs13 q163 q718) (by decide +kernel) rfl (by decide) hRf hRl (fun _ => (avc ra1 avn)) (Nat.le_of_ble_eq_true rfl) rfl rfl dX1_check_2 (fun v1 s2 rv1 => ?_)
  refine gx_istore_n (loc' := [(2, vI v1), (0, vR 1), (1, vI a1)]) dX1_check_5 (by decide) rfl ?_
  refine gx_aload_n 1 dX1_check_6 rfl ?_
  refine gx_get (v := vR 0) (ci := 1) (b := 30) (N := 57) 0 rfl rfl (by decide) in_X1 rfl rfl q308 dX1_check_7 ?_
  refine gx_getI (ci := 0) (b := 0) (N := 21) 9 rfl rfl rfl (by decide) in_X2 rfl rfl q246 dX1_check_10 (fun v3 rv3 => ?_)
  refine gx_istore_n (loc' := [(3, vI v3), (2, vI v1), (0, vR 1), (1, vI a1)]) dX1_check_13 (by decide) rfl ?_
  refine gx_aload_n 2 dX1_check_14 rfl ?_
  refine gx_get (v := vR 0) (ci := 1) (b := 30) (N := 57) 0 rfl rfl (by decide) in_X1 rfl rfl q308 dX1_check_15 ?_
  refine gx_getI (ci := 0) (b := 0) (N := 21) 10 rfl rfl rfl (by decide) in_X2 rfl rfl q248 dX1_check_18 (fun v4 rv4 => ?_)
  refine gx_istore (loc' := [(4, vI v4), (3, vI v3), (2, vI v1), (0, vR 1), (1, vI a1)]) dX1_check_21 (by decide) rfl ?_
  refine gx_aload_n 3 dX1_check_23 rfl ?_
  refine gx_getI (ci := 1) (b := 30) (N := 57) 56 rfl rfl rfl (by decide) in_X1 rfl rfl q364 dX1_check_24 (fun v5 rv5 => ?_)
  refine gx_istore (loc' := [(5, vI v5), (4, vI v4), (3, vI v3), (2, vI v1), (0, vR 1), (1, vI a1)]) dX1_check_27 (by decide) rfl ?_
  refine gx_aload_n 4 dX1_check_29 rfl ?_
  refine gx_get (v := vR 0) (ci := 1) (b := 30) (N := 57) 0 rfl rfl (by decide) in_X1 rfl rfl q308 dX1_check_30 ?_
  refine gx_getI (ci := 0) (b := 0) (N := 21) 12 rfl rfl rfl (by decide) in_X2 rfl rfl q251 dX1_check_33 (fun v6 rv6 => ?_)
  refine gx_istore (loc' := [(6, vI v6), (5, vI v5), (4, vI v4), (3, vI v3), (2, vI v1), (0, vR 1), (1, vI a1)]) dX1_check_36 (by decide) rfl ?_
  refine gx_iconst dX1_check_38 ?_
  refine gx_istore (loc' := [(7, vI 0), (6, vI v6), (5, vI v5), (4, vI v4), (3, vI v3), (2, vI v1), (0, vR 1), (1, vI a1)]) dX1_check_39 (by decide) rfl ?_
  refine gx_pick [6, 5, 4, 3, 2, 1, 0] rfl (wX1_check_L41 hd hlt hRf hRl hX1_formulaOf hX2_push hX1_forget hX2_not hX2_and_2 hX1_casesOf hX1_open hX1_pend hX1_split _ (fun v8 v9 v10 v11 v12 s7 rv8 rv9 rv10 rv11 rv12 => ?_) KF v1 v3 v4 v5 v6 0 s2 rv1 rv3 rv4 rv5 rv6 (inR_z (Or.inl rfl)))
  · refine gx_jn (fun j13 => ∀ (a3 a4 a5 : Int) (s14 : Sg), inR a3 → inR a4 → inR a5 → WGx p l e R s m args below meth c JX1_check DX1_check G clA A FC ad0 σ0 (rvX true) (j13 a3 a4 a5 s14) s14 162 [(0, vR 1), (3, vI a3), (4, vI a4), (5, vI a5)] []) (fun a3 a4 a5 s14 ra3 ra4 ra5 => ?_) (fun j13 hj13 => ?_)
    · refine gx_aload_n 0 dX1_check_162 rfl ?_
      refine gx_iload_n 1 dX1_check_163 rfl ?_
      refine gx_iload 2 dX1_check_164 rfl ?_
      refine gx_iload 3 dX1_check_166 rfl ?_
      refine gx_cVV (As := [vI a3, vI a4, vI a5]) (n := 3) (stk := []) (ci := 1) (b := 30) (N := 57) (hX1_forget a3 a4 a5 s14) (by decide +kernel) rfl rfl (lw_V q1002 q1004 qs61 q163 q1005) (by decide +kernel) rfl (by decide) hRf hRl (fun _ => (avc ra3 (avc ra4 (avc ra5 avn)))) (Nat.le_of_ble_eq_true rfl) rfl rfl dX1_check_168 (fun v15 s16 => ?_)
      refine gx_aload_n 0 dX1_check_171 rfl ?_
      refine gx_getI (ci := 1) (b := 30) (N := 57) 34 rfl rfl rfl (by decide) in_X1 rfl rfl q342 dX1_check_172 (fun v17 rv17 => ?_)
      exact gx_iretX rfl (fun _ => rv17) dX1_check_175
    · refine gx_aload_n 0 dX1_check_70 rfl ?_
      refine gx_get (v := vR 0) (ci := 1) (b := 30) (N := 57) 0 rfl rfl (by decide) in_X1 rfl rfl q308 dX1_check_71 ?_
      refine gx_iload_n 1 dX1_check_74 rfl ?_
      refine gx_cVI (As := [vI v8]) (n := 1) (stk := []) (ci := 0) (b := 0) (N := 21) (hX2_not v8 s7) (by decide +kernel) rfl rfl (lw_V q719 q720 q721 q164 q722) (by decide +kernel) rfl (by decide) hRf hRl (fun _ => (avc rv8 avn)) (Nat.le_of_ble_eq_true rfl) rfl rfl dX1_check_75 (fun v18 s19 rv18 => ?_)
      refine gx_istore (loc' := [(7, vI v18), (0, vR 1), (2, vI v8), (3, vI v9), (4, vI v10), (5, vI v11), (6, vI v12)]) dX1_check_78 (by decide) rfl ?_
      refine gx_aload_n 1 dX1_check_80 rfl ?_
      refine gx_get (v := vR 0) (ci := 1) (b := 30) (N := 57) 0 rfl rfl (by decide) in_X1 rfl rfl q308 dX1_check_81 ?_
      refine gx_iload 0 dX1_check_84 rfl ?_
      refine gx_cVV (As := [vI v18]) (n := 1) (stk := []) (ci := 0) (b := 0) (N := 21) (hX2_push v18 s19) (by decide +kernel) rfl rfl (lw_V q637 q228 q229 q164 q230) (by decide +kernel) rfl (by decide) hRf hRl (fun _ => (avc rv18 avn)) (Nat.le_of_ble_eq_true rfl) rfl rfl dX1_check_86 (fun v20 s21 => ?_)
      refine gx_aload_n 1 dX1_check_89 rfl ?_
      refine gx_get (v := vR 0) (ci := 1) (b := 30) (N := 57) 0 rfl rfl (by decide) in_X1 rfl rfl q308 dX1_check_90 ?_
      refine gx_iload 6 dX1_check_93 rfl ?_
      refine gx_cVI (As := [vI v12]) (n := 1) (stk := []) (ci := 0) (b := 0) (N := 21) (hX2_and_2 v12 s21) (by decide +kernel) rfl rfl (lw_V q813 q729 q730 q164 q731) (by decide +kernel) rfl (by decide) hRf hRl (fun _ => (avc rv12 avn)) (Nat.le_of_ble_eq_true rfl) rfl rfl dX1_check_95 (fun v22 s23 rv22 => ?_)
      refine gx_istore (loc' := [(8, vI v22), (7, vI v18), (0, vR 1), (2, vI v8), (3, vI v9), (4, vI v10), (5, vI v11), (6, vI v12)]) dX1_check_98 (by decide) rfl ?_
      refine gx_aload_n 2 dX1_check_100 rfl ?_
      refine gx_iconst dX1_check_101 ?_
      refine gx_sIU (ci := 1) (b := 30) (N := 57) FC_ok 34 rfl rfl rfl (by decide) in_X1 tyX1 tyX1_ok nmX1 rfl rfl rfl rfl (by decide +kernel) (inR_z (Or.inr rfl)) q342 dX1_check_102 (fun s24 => ?_)
      refine gx_aload_n 2 dX1_check_105 rfl ?_
      refine gx_aload_n 2 dX1_check_106 rfl ?_
      refine gx_iload 0 dX1_check_107 rfl ?_
      refine gx_iconst dX1_check_109 ?_
      refine gx_cVI (As := [vI v22, vI 0]) (n := 2) (stk := [vR 1]) (ci := 1) (b := 30) (N := 57) (hX1_casesOf v22 0 s24) (by decide +kernel) rfl rfl (lw_V q814 q816 qs19 q163 q817) (by decide +kernel) rfl (by decide) hRf hRl (fun _ => (avc rv22 (avc (inR_z (Or.inl rfl)) avn))) (Nat.le_of_ble_eq_true rfl) rfl rfl dX1_check_110 (fun v25 s26 rv25 => ?_)
      refine gx_sIU (ci := 1) (b := 30) (N := 57) FC_ok 54 rfl rfl rfl (by decide) in_X1 tyX1 tyX1_ok nmX1 rfl rfl rfl rfl (by decide +kernel) rv25 q362 dX1_check_113 (fun s27 => ?_)
      refine gx_aload_n 2 dX1_check_116 rfl ?_
      refine gx_getI (ci := 1) (b := 30) (N := 57) 54 rfl rfl rfl (by decide) in_X1 rfl rfl q362 dX1_check_117 (fun v28 rv28 => ?_)
      refine gx_bipush (by decide +kernel) dX1_check_120 ?_
      refine gx_icmp_le 133 dX1_check_122 (by decide) (fun _ => rv28) (fun _ => (by decide : inR (40))) (fun _ => ?_) (fun _ => ?_)
      · refine gx_aload_n 2 dX1_check_133 rfl ?_
        refine gx_iconst dX1_check_134 ?_
        refine gx_sIU (ci := 1) (b := 30) (N := 57) FC_ok 33 rfl rfl rfl (by decide) in_X1 tyX1 tyX1_ok nmX1 rfl rfl rfl rfl (by decide +kernel) (inR_z (Or.inl rfl)) q341 dX1_check_135 (fun s29 => ?_)
        refine gx_aload_n 2 dX1_check_138 rfl ?_
        refine gx_iload 0 dX1_check_139 rfl ?_
        refine gx_cVI (As := [vI v22]) (n := 1) (stk := []) (ci := 1) (b := 30) (N := 57) (hX1_open v22 s29) (by decide +kernel) rfl rfl (lw_V q820 q822 qs20 q163 q823) (by decide +kernel) rfl (by decide) hRf hRl (fun _ => (avc rv22 avn)) (Nat.le_of_ble_eq_true rfl) rfl rfl dX1_check_141 (fun v30 s31 rv30 => ?_)
        refine gx_istore (loc' := [(9, vI v30), (8, vI v22), (7, vI v18), (0, vR 1), (2, vI v8), (3, vI v9), (4, vI v10), (5, vI v11), (6, vI v12)]) dX1_check_144 (by decide) rfl ?_
        refine gx_aload_n 3 dX1_check_146 rfl ?_
        refine gx_iload 0 dX1_check_147 rfl ?_
        refine gx_iconst dX1_check_149 ?_
        refine gx_cVI (As := [vI v30, vI (-1)]) (n := 2) (stk := []) (ci := 1) (b := 30) (N := 57) (hX1_pend v30 ((-1)) s31) (by decide +kernel) rfl rfl (lw_V q828 q830 qs21 q163 q831) (by decide +kernel) rfl (by decide) hRf hRl (fun _ => (avc rv30 (avc (by decide : inR (-1)) avn))) (Nat.le_of_ble_eq_true rfl) rfl rfl dX1_check_150 (fun v32 s33 rv32 => ?_)
        refine gx_istore (loc' := [(10, vI v32), (9, vI v30), (8, vI v22), (7, vI v18), (0, vR 1), (2, vI v8), (3, vI v9), (4, vI v10), (5, vI v11), (6, vI v12)]) dX1_check_153 (by decide) rfl ?_
        refine gx_aload_n 4 dX1_check_155 rfl ?_
        refine gx_iload 0 dX1_check_156 rfl ?_
        refine gx_iconst dX1_check_158 ?_
        refine gx_cVV (As := [vI v32, vI 0]) (n := 2) (stk := []) (ci := 1) (b := 30) (N := 57) (hX1_split v32 0 s33) (by decide +kernel) rfl rfl (lw_V q832 q834 qs22 q163 q835) (by decide +kernel) rfl (by decide) hRf hRl (fun _ => (avc rv32 (avc (inR_z (Or.inl rfl)) avn))) (Nat.le_of_ble_eq_true rfl) rfl rfl dX1_check_159 (fun v34 s35 => ?_)
        exact gx_pick [4, 6, 7, 8] rfl (hj13 v9 v10 v11 s35 rv9 rv10 rv11)
      · refine gx_aload_n 2 dX1_check_125 rfl ?_
        refine gx_iconst dX1_check_126 ?_
        refine gx_sIU (ci := 1) (b := 30) (N := 57) FC_ok 34 rfl rfl rfl (by decide) in_X1 tyX1 tyX1_ok nmX1 rfl rfl rfl rfl (by decide +kernel) (by decide : inR (2)) q342 dX1_check_127 (fun s36 => ?_)
        refine gx_goto 162 dX1_check_130 (by decide) ?_
        exact gx_pick [2, 4, 5, 6] rfl (hj13 v9 v10 v11 s36 rv9 rv10 rv11)
end
section
variable {l : Launch} {d : Nat} {call : Nat → List Int → Sg → Option (Int × Sg)}
theorem ctX1_check (p0 : Program) (e0 : Env) (s0 : State) (m0 : MethodId) (meth0 : Method) (c0 : Code) (G0 : Gm) (hd : 7 ≤ d) (hlt : LT l) (hX1_formulaOf : ∀ (a1 : Int) (u : Sg), CtX l d FC clA yX1_formulaOf cX1_formulaOf 3 (some .int) DX1_formulaOf (rvX true) [vR 1, vI a1] u (call 26 [a1] u)) (hX2_push : ∀ (a1 : Int) (u : Sg), Ct l d FC clA yX2_push cX2_push 2 none DX2_push rvV [vR 0, vI a1] u (call 97 [a1] u)) (hX1_forget : ∀ (a1 a2 a3 : Int) (u : Sg), Ct l d FC clA yX1_forget cX1_forget 4 none DX1_forget rvV [vR 1, vI a1, vI a2, vI a3] u (call 79 [a1, a2, a3] u)) (hX2_not : ∀ (a1 : Int) (u : Sg), Ct l d FC clA yX2_not cX2_not 2 (some .int) DX2_not rvI [vR 0, vI a1] u (call 102 [a1] u)) (hX2_and_2 : ∀ (a1 : Int) (u : Sg), Ct l d FC clA yX2_and_2 cX2_and_2 7 (some .int) DX2_and_2 rvI [vR 0, vI a1] u (call 104 [a1] u)) (hX1_casesOf : ∀ (a1 a2 : Int) (u : Sg), Ct l d FC clA yX1_casesOf cX1_casesOf 7 (some .int) DX1_casesOf rvI [vR 1, vI a1, vI a2] u (call 37 [a1, a2] u)) (hX1_open : ∀ (a1 : Int) (u : Sg), Ct l d FC clA yX1_open cX1_open 7 (some .int) DX1_open rvI [vR 1, vI a1] u (call 38 [a1] u)) (hX1_pend : ∀ (a1 a2 : Int) (u : Sg), Ct l d FC clA yX1_pend cX1_pend 3 (some .int) DX1_pend rvI [vR 1, vI a1, vI a2] u (call 39 [a1, a2] u)) (hX1_split : ∀ (a1 a2 : Int) (u : Sg), Ct l d FC clA yX1_split cX1_split 9 none DX1_split rvV [vR 1, vI a1, vI a2] u (call 40 [a1, a2] u)) (a1 : Int) (u : Sg) : CtX l (d + 1) FC clA yX1_check cX1_check 11 (some .int) DX1_check (rvX true) [vR 1, vI a1] u (bX1_check call a1 u) :=
  CtX_of (by decide) (Nat.le_of_ble_eq_true rfl) (fun p e R s1 m args below meth c G A ad hA hRf hRl => wX1_check hd hlt hRf hRl hX1_formulaOf hX2_push hX1_forget hX2_not hX2_and_2 hX1_casesOf hX1_open hX1_pend hX1_split a1 u (hA _ (List.mem_cons_of_mem _ List.mem_cons_self))) p0 e0 s0 m0 meth0 c0 G0
end
/-! RoundCheck.fits(II)Z, which may throw -/
section
variable {p : Program} {l : Launch} {e : Env} {R : Room} {s : State} {m : MethodId} {args : Array Value} {below : List Frame} {meth : Method} {c : Code} {G : Gm} {A : Nat → Prop} {ad0 : Nat → Nat} {σ0 : Sg} {d : Nat} {call : Nat → List Int → Sg → Option (Int × Sg)}
theorem wX1_fits (hd : 7 ≤ d) (hlt : LT l) (hRf : d + 1 ≤ R.frames) (hRl : 40 * (d + 1) ≤ R.locals) (hX1_termOf : ∀ (a1 : Int) (u : Sg), CtX l d FC clA yX1_termOf cX1_termOf 3 (some .int) DX1_termOf (rvX true) [vR 1, vI a1] u (call 11 [a1] u)) (hX1_closed : ∀ (a1 : Int) (u : Sg), CtX l d FC clA yX1_closed cX1_closed 2 (some .int) DX1_closed (rvX true) [vR 1, vI a1] u (call 18 [a1] u)) (hX1_typeOfNumber : ∀ (a1 : Int) (u : Sg), CtX l d FC clA yX1_typeOfNumber cX1_typeOfNumber 3 (some .int) DX1_typeOfNumber (rvX true) [vR 1, vI a1] u (call 2 [a1] u)) (hX1_fits0 : ∀ (a1 a2 : Int) (u : Sg), Ct l d FC clA yX1_fits0 cX1_fits0 3 (some .boolean) DX1_fits0 rvI [vR 1, vI a1, vI a2] u (call 81 [a1, a2] u)) (hX1_forget : ∀ (a1 a2 a3 : Int) (u : Sg), Ct l d FC clA yX1_forget cX1_forget 4 none DX1_forget rvV [vR 1, vI a1, vI a2, vI a3] u (call 79 [a1, a2, a3] u)) (a1 a2 : Int) (u : Sg) (ra1 : inR a1) (ra2 : inR a2) : WGx p l e R s m args below meth c JX1_fits DX1_fits G clA A FC ad0 σ0 (rvX true) (bX1_fits call a1 a2 u) u 0 [(0, vR 1), (1, vI a1), (2, vI a2)] [] := by
  unfold bX1_fits
  refine gx_aload_n 0 dX1_fits_0 rfl ?_
  refine gx_aload_n 0 dX1_fits_1 rfl ?_
  refine gx_iload_n 1 dX1_fits_2 rfl ?_
  refine gx_xVI (As := [vI a1]) (n := 1) (stk := [vR 1]) (ci := 1) (b := 30) (N := 57) (hX1_termOf a1 u) (by decide +kernel) rfl rfl (lw_V q622 q624 qs5 q163 q625) (by decide +kernel) rfl (by decide) hRf hRl (fun _ => (avc ra1 avn)) (Nat.le_of_ble_eq_true rfl) rfl rfl dX1_fits_3 (fun v1 s2 rv1 => ?_)
  refine gx_xVI (As := [vI v1]) (n := 1) (stk := []) (ci := 1) (b := 30) (N := 57) (hX1_closed v1 s2) (by decide +kernel) rfl rfl (lw_V q658 q660 qs10 q163 q661) (by decide +kernel) rfl (by decide) hRf hRl (fun _ => (avc rv1 avn)) (Nat.le_of_ble_eq_true rfl) rfl rfl dX1_fits_6 (fun v3 s4 rv3 => ?_)
  refine gx_istore_n (loc' := [(3, vI v3), (0, vR 1), (1, vI a1), (2, vI a2)]) dX1_fits_9 (by decide) rfl ?_
  refine gx_aload_n 1 dX1_fits_10 rfl ?_
  refine gx_aload_n 1 dX1_fits_11 rfl ?_
  refine gx_iload_n 3 dX1_fits_12 rfl ?_
  refine gx_xVI (As := [vI a2]) (n := 1) (stk := [vR 1]) (ci := 1) (b := 30) (N := 57) (hX1_typeOfNumber a2 s4) (by decide +kernel) rfl rfl (lw_V q494 q496 qs1 q163 q497) (by decide +kernel) rfl (by decide) hRf hRl (fun _ => (avc ra2 avn)) (Nat.le_of_ble_eq_true rfl) rfl rfl dX1_fits_13 (fun v5 s6 rv5 => ?_)
  refine gx_xVI (As := [vI v5]) (n := 1) (stk := []) (ci := 1) (b := 30) (N := 57) (hX1_closed v5 s6) (by decide +kernel) rfl rfl (lw_V q658 q660 qs10 q163 q661) (by decide +kernel) rfl (by decide) hRf hRl (fun _ => (avc rv5 avn)) (Nat.le_of_ble_eq_true rfl) rfl rfl dX1_fits_16 (fun v7 s8 rv7 => ?_)
  refine gx_istore (loc' := [(4, vI v7), (3, vI v3), (0, vR 1), (1, vI a1), (2, vI a2)]) dX1_fits_19 (by decide) rfl ?_
  refine gx_aload_n 2 dX1_fits_21 rfl ?_
  refine gx_get (v := vR 0) (ci := 1) (b := 30) (N := 57) 0 rfl rfl (by decide) in_X1 rfl rfl q308 dX1_fits_22 ?_
  refine gx_getI (ci := 0) (b := 0) (N := 21) 9 rfl rfl rfl (by decide) in_X2 rfl rfl q246 dX1_fits_25 (fun v9 rv9 => ?_)
  refine gx_istore (loc' := [(5, vI v9), (4, vI v7), (3, vI v3), (0, vR 1), (1, vI a1), (2, vI a2)]) dX1_fits_28 (by decide) rfl ?_
  refine gx_aload_n 3 dX1_fits_30 rfl ?_
  refine gx_get (v := vR 0) (ci := 1) (b := 30) (N := 57) 0 rfl rfl (by decide) in_X1 rfl rfl q308 dX1_fits_31 ?_
  refine gx_getI (ci := 0) (b := 0) (N := 21) 10 rfl rfl rfl (by decide) in_X2 rfl rfl q248 dX1_fits_34 (fun v10 rv10 => ?_)
  refine gx_istore (loc' := [(6, vI v10), (5, vI v9), (4, vI v7), (3, vI v3), (0, vR 1), (1, vI a1), (2, vI a2)]) dX1_fits_37 (by decide) rfl ?_
  refine gx_aload_n 4 dX1_fits_39 rfl ?_
  refine gx_iload_n 3 dX1_fits_40 rfl ?_
  refine gx_iload 2 dX1_fits_41 rfl ?_
  refine gx_cVZ (As := [vI v3, vI v7]) (n := 2) (stk := []) (ci := 1) (b := 30) (N := 57) (hX1_fits0 v3 v7 s8) (by decide +kernel) rfl rfl (lw_V q1013 q1015 qs62 q163 q1016) (by decide +kernel) rfl (by decide) hRf hRl (fun _ => (avc rv3 (avc rv7 avn))) (Nat.le_of_ble_eq_true rfl) rfl rfl dX1_fits_43 (fun v11 s12 zv11 => ?_)
  refine gx_istore (loc' := [(7, vI v11), (6, vI v10), (5, vI v9), (4, vI v7), (3, vI v3), (0, vR 1), (1, vI a1), (2, vI a2)]) dX1_fits_46 (by decide) rfl ?_
  refine gx_aload_n 5 dX1_fits_48 rfl ?_
  refine gx_iload 2 dX1_fits_49 rfl ?_
  refine gx_iload 1 dX1_fits_51 rfl ?_
  refine gx_aload_n 5 dX1_fits_53 rfl ?_
  refine gx_getI (ci := 1) (b := 30) (N := 57) 56 rfl rfl rfl (by decide) in_X1 rfl rfl q364 dX1_fits_54 (fun v13 rv13 => ?_)
  refine gx_cVV (As := [vI v9, vI v10, vI v13]) (n := 3) (stk := []) (ci := 1) (b := 30) (N := 57) (hX1_forget v9 v10 v13 s12) (by decide +kernel) rfl rfl (lw_V q1002 q1004 qs61 q163 q1005) (by decide +kernel) rfl (by decide) hRf hRl (fun _ => (avc rv9 (avc rv10 (avc rv13 avn)))) (Nat.le_of_ble_eq_true rfl) rfl rfl dX1_fits_57 (fun v14 s15 => ?_)
  refine gx_iload 0 dX1_fits_60 rfl ?_
  exact gx_zretX rfl (fun _ => zv11) dX1_fits_62
end
section
variable {l : Launch} {d : Nat} {call : Nat → List Int → Sg → Option (Int × Sg)}
theorem ctX1_fits (p0 : Program) (e0 : Env) (s0 : State) (m0 : MethodId) (meth0 : Method) (c0 : Code) (G0 : Gm) (hd : 7 ≤ d) (hlt : LT l) (hX1_termOf : ∀ (a1 : Int) (u : Sg), CtX l d FC clA yX1_termOf cX1_termOf 3 (some .int) DX1_termOf (rvX true) [vR 1, vI a1] u (call 11 [a1] u)) (hX1_closed : ∀ (a1 : Int) (u : Sg), CtX l d FC clA yX1_closed cX1_closed 2 (some .int) DX1_closed (rvX true) [vR 1, vI a1] u (call 18 [a1] u)) (hX1_typeOfNumber : ∀ (a1 : Int) (u : Sg), CtX l d FC clA yX1_typeOfNumber cX1_typeOfNumber 3 (some .int) DX1_typeOfNumber (rvX true) [vR 1, vI a1] u (call 2 [a1] u)) (hX1_fits0 : ∀ (a1 a2 : Int) (u : Sg), Ct l d FC clA yX1_fits0 cX1_fits0 3 (some .boolean) DX1_fits0 rvI [vR 1, vI a1, vI a2] u (call 81 [a1, a2] u)) (hX1_forget : ∀ (a1 a2 a3 : Int) (u : Sg), Ct l d FC clA yX1_forget cX1_forget 4 none DX1_forget rvV [vR 1, vI a1, vI a2, vI a3] u (call 79 [a1, a2, a3] u)) (a1 a2 : Int) (u : Sg) : CtX l (d + 1) FC clA yX1_fits cX1_fits 8 (some .boolean) DX1_fits (rvX true) [vR 1, vI a1, vI a2] u (bX1_fits call a1 a2 u) :=
  CtX_of (by decide) (Nat.le_of_ble_eq_true rfl) (fun p e R s1 m args below meth c G A ad hA hRf hRl => wX1_fits hd hlt hRf hRl hX1_termOf hX1_closed hX1_typeOfNumber hX1_fits0 hX1_forget a1 a2 u (hA _ (List.mem_cons_of_mem _ List.mem_cons_self)) (hA _ (List.mem_cons_of_mem _ (List.mem_cons_of_mem _ List.mem_cons_self)))) p0 e0 s0 m0 meth0 c0 G0
end
/-! RoundCheck.adjectives(I)I, which may throw -/
section
variable {p : Program} {l : Launch} {e : Env} {R : Room} {s : State} {m : MethodId} {args : Array Value} {below : List Frame} {meth : Method} {c : Code} {G : Gm} {A : Nat → Prop} {ad0 : Nat → Nat} {σ0 : Sg} {d : Nat} {call : Nat → List Int → Sg → Option (Int × Sg)}
theorem wX1_adjectives_L40 (hd : 7 ≤ d) (hlt : LT l) (hRf : d + 1 ≤ R.frames) (hRl : 40 * (d + 1) ≤ R.locals) (hX1_termOf : ∀ (a1 : Int) (u : Sg), CtX l d FC clA yX1_termOf cX1_termOf 3 (some .int) DX1_termOf (rvX true) [vR 1, vI a1] u (call 11 [a1] u)) (hX1_closed : ∀ (a1 : Int) (u : Sg), CtX l d FC clA yX1_closed cX1_closed 2 (some .int) DX1_closed (rvX true) [vR 1, vI a1] u (call 18 [a1] u)) (hX1_adjectivesOf0 : ∀ (a1 : Int) (u : Sg), Ct l d FC clA yX1_adjectivesOf0 cX1_adjectivesOf0 10 (some .int) DX1_adjectivesOf0 rvI [vR 1, vI a1] u (call 84 [a1] u)) (hX2_at : ∀ (a1 a2 : Int) (u : Sg), Ct l d FC clA yX2_at cX2_at 3 (some .int) DX2_at rvI [vR 0, vI a1, vI a2] u (call 98 [a1, a2] u)) (hX1_forget : ∀ (a1 a2 a3 : Int) (u : Sg), Ct l d FC clA yX1_forget cX1_forget 4 none DX1_forget rvV [vR 1, vI a1, vI a2, vI a3] u (call 79 [a1, a2, a3] u)) (x79 : Int → Int → Int → Sg → Option (Int × Sg)) (hx79 : ∀ (a3 a4 a6 : Int) (u : Sg), inR a3 → inR a4 → inR a6 → WGx p l e R s m args below meth c JX1_adjectives DX1_adjectives G clA A FC ad0 σ0 (rvX true) (x79 a3 a4 a6 u) u 79 [(0, vR 1), (3, vI a3), (4, vI a4), (6, vI a6)] []) : ∀ (n : Nat) (a3 a4 a5 a6 a7 : Int) (u : Sg), inR a3 → inR a4 → inR a5 → inR a6 → inR a7 → WGx p l e R s m args below meth c JX1_adjectives DX1_adjectives G clA A FC ad0 σ0 (rvX true) (bX1_adjectives_L40 call n a3 a4 a5 a6 a7 u x79) u 40 [(0, vR 1), (3, vI a3), (4, vI a4), (5, vI a5), (6, vI a6), (7, vI a7)] [] := by
  intro n
  induction n with
  | zero =>
    intro a3 a4 a5 a6 a7 u ra3 ra4 ra5 ra6 ra7
    exact gx_none
  | succ n ih =>
    intro a3 a4 a5 a6 a7 u ra3 ra4 ra5 ra6 ra7
    rw [bX1_adjectives_L40]
    refine gx_iload 5 dX1_adjectives_40 rfl ?_
    refine gx_aload_n 0 dX1_adjectives_42 rfl ?_
    refine gx_get (v := vR 0) (ci := 1) (b := 30) (N := 57) 0 rfl rfl (by decide) in_X1 rfl rfl q308 dX1_adjectives_43 ?_
    refine gx_get (v := vR 13) (ci := 0) (b := 0) (N := 21) 3 rfl rfl (by decide) in_X2 rfl rfl q237 dX1_adjectives_46 ?_
    refine gx_iload 3 dX1_adjectives_49 rfl ?_
    refine gx_iald (id := 3) 3 rfl rfl dX1_adjectives_51 (fun v1 rv1 => ?_)
    refine gx_icmp_ge 79 dX1_adjectives_52 (by decide) (fun _ => ra7) (fun _ => rv1) (fun _ => ?_) (fun _ => ?_)
    · refine gx_iload 4 dX1_adjectives_55 rfl ?_
      refine gx_iconst dX1_adjectives_57 ?_
      refine gx_aload_n 0 dX1_adjectives_58 rfl ?_
      refine gx_get (v := vR 0) (ci := 1) (b := 30) (N := 57) 0 rfl rfl (by decide) in_X1 rfl rfl q308 dX1_adjectives_59 ?_
      refine gx_iload 3 dX1_adjectives_62 rfl ?_
      refine gx_iload 5 dX1_adjectives_64 rfl ?_
      refine gx_cVI (As := [vI a5, vI a7]) (n := 2) (stk := [vI 1, vI a6]) (ci := 0) (b := 0) (N := 21) (hX2_at a5 a7 u) (by decide +kernel) rfl rfl (lw_V q571 q572 q573 q164 q574) (by decide +kernel) rfl (by decide) hRf hRl (fun _ => (avc ra5 (avc ra7 avn))) (Nat.le_of_ble_eq_true rfl) rfl rfl dX1_adjectives_66 (fun v2 s3 rv2 => ?_)
      refine gx_ishlU dX1_adjectives_69 (fun v4 rv4 => ?_)
      refine gx_iorU dX1_adjectives_70 (fun v5 rv5 => ?_)
      refine gx_istore (loc' := [(6, vI v5), (0, vR 1), (3, vI a3), (4, vI a4), (5, vI a5), (7, vI a7)]) dX1_adjectives_71 (by decide) rfl ?_
      refine gx_iinc 5 (loc' := fun v6 => [(7, vI v6), (6, vI v5), (0, vR 1), (3, vI a3), (4, vI a4), (5, vI a5)]) dX1_adjectives_73 rfl (by decide) (fun _ => rfl) (fun v6 rv6 => ?_)
      refine gx_goto 40 dX1_adjectives_76 (by decide) ?_
      exact gx_pick [2, 3, 4, 5, 1, 0] rfl (ih a3 a4 a5 v5 v6 s3 ra3 ra4 ra5 rv5 rv6)
    · exact gx_pick [0, 1, 2, 4] rfl (hx79 a3 a4 a6 u ra3 ra4 ra6)
theorem wX1_adjectives (hd : 7 ≤ d) (hlt : LT l) (hRf : d + 1 ≤ R.frames) (hRl : 40 * (d + 1) ≤ R.locals) (hX1_termOf : ∀ (a1 : Int) (u : Sg), CtX l d FC clA yX1_termOf cX1_termOf 3 (some .int) DX1_termOf (rvX true) [vR 1, vI a1] u (call 11 [a1] u)) (hX1_closed : ∀ (a1 : Int) (u : Sg), CtX l d FC clA yX1_closed cX1_closed 2 (some .int) DX1_closed (rvX true) [vR 1, vI a1] u (call 18 [a1] u)) (hX1_adjectivesOf0 : ∀ (a1 : Int) (u : Sg), Ct l d FC clA yX1_adjectivesOf0 cX1_adjectivesOf0 10 (some .int) DX1_adjectivesOf0 rvI [vR 1, vI a1] u (call 84 [a1] u)) (hX2_at : ∀ (a1 a2 : Int) (u : Sg), Ct l d FC clA yX2_at cX2_at 3 (some .int) DX2_at rvI [vR 0, vI a1, vI a2] u (call 98 [a1, a2] u)) (hX1_forget : ∀ (a1 a2 a3 : Int) (u : Sg), Ct l d FC clA yX1_forget cX1_forget 4 none DX1_forget rvV [vR 1, vI a1, vI a2, vI a3] u (call 79 [a1, a2, a3] u)) (a1 : Int) (u : Sg) (ra1 : inR a1) : WGx p l e R s m args below meth c JX1_adjectives DX1_adjectives G clA A FC ad0 σ0 (rvX true) (bX1_adjectives call a1 u) u 0 [(0, vR 1), (1, vI a1)] [] := by
  unfold bX1_adjectives
  refine gx_aload_n 0 dX1_adjectives_0 rfl ?_
  refine gx_aload_n 0 dX1_adjectives_1 rfl ?_
  refine gx_iload_n 1 dX1_adjectives_2 rfl ?_
  refine gx_xVI (As := [vI a1]) (n := 1) (stk := [vR 1]) (ci := 1) (b := 30) (N := 57) (hX1_termOf a1 u) (by decide +kernel) rfl rfl (lw_V q622 q624 qs5 q163 q625) (by decide +kernel) rfl (by decide) hRf hRl (fun _ => (avc ra1 avn)) (Nat.le_of_ble_eq_true rfl) rfl rfl dX1_adjectives_3 (fun v1 s2 rv1 => ?_)
  refine gx_xVI (As := [vI v1]) (n := 1) (stk := []) (ci := 1) (b := 30) (N := 57) (hX1_closed v1 s2) (by decide +kernel) rfl rfl (lw_V q658 q660 qs10 q163 q661) (by decide +kernel) rfl (by decide) hRf hRl (fun _ => (avc rv1 avn)) (Nat.le_of_ble_eq_true rfl) rfl rfl dX1_adjectives_6 (fun v3 s4 rv3 => ?_)
  refine gx_istore_n (loc' := [(2, vI v3), (0, vR 1), (1, vI a1)]) dX1_adjectives_9 (by decide) rfl ?_
  refine gx_aload_n 1 dX1_adjectives_10 rfl ?_
  refine gx_get (v := vR 0) (ci := 1) (b := 30) (N := 57) 0 rfl rfl (by decide) in_X1 rfl rfl q308 dX1_adjectives_11 ?_
  refine gx_getI (ci := 0) (b := 0) (N := 21) 9 rfl rfl rfl (by decide) in_X2 rfl rfl q246 dX1_adjectives_14 (fun v5 rv5 => ?_)
  refine gx_istore_n (loc' := [(3, vI v5), (2, vI v3), (0, vR 1), (1, vI a1)]) dX1_adjectives_17 (by decide) rfl ?_
  refine gx_aload_n 2 dX1_adjectives_18 rfl ?_
  refine gx_get (v := vR 0) (ci := 1) (b := 30) (N := 57) 0 rfl rfl (by decide) in_X1 rfl rfl q308 dX1_adjectives_19 ?_
  refine gx_getI (ci := 0) (b := 0) (N := 21) 10 rfl rfl rfl (by decide) in_X2 rfl rfl q248 dX1_adjectives_22 (fun v6 rv6 => ?_)
  refine gx_istore (loc' := [(4, vI v6), (3, vI v5), (2, vI v3), (0, vR 1), (1, vI a1)]) dX1_adjectives_25 (by decide) rfl ?_
  refine gx_aload_n 3 dX1_adjectives_27 rfl ?_
  refine gx_iload_n 2 dX1_adjectives_28 rfl ?_
  refine gx_cVI (As := [vI v3]) (n := 1) (stk := []) (ci := 1) (b := 30) (N := 57) (hX1_adjectivesOf0 v3 s4) (by decide +kernel) rfl rfl (lw_V q1025 q1027 qs65 q163 q1028) (by decide +kernel) rfl (by decide) hRf hRl (fun _ => (avc rv3 avn)) (Nat.le_of_ble_eq_true rfl) rfl rfl dX1_adjectives_29 (fun v7 s8 rv7 => ?_)
  refine gx_istore (loc' := [(5, vI v7), (4, vI v6), (3, vI v5), (2, vI v3), (0, vR 1), (1, vI a1)]) dX1_adjectives_32 (by decide) rfl ?_
  refine gx_iconst dX1_adjectives_34 ?_
  refine gx_istore (loc' := [(6, vI 0), (5, vI v7), (4, vI v6), (3, vI v5), (2, vI v3), (0, vR 1), (1, vI a1)]) dX1_adjectives_35 (by decide) rfl ?_
  refine gx_iconst dX1_adjectives_37 ?_
  refine gx_istore (loc' := [(7, vI 1), (6, vI 0), (5, vI v7), (4, vI v6), (3, vI v5), (2, vI v3), (0, vR 1), (1, vI a1)]) dX1_adjectives_38 (by decide) rfl ?_
  refine gx_pick [6, 4, 3, 2, 1, 0] rfl (wX1_adjectives_L40 hd hlt hRf hRl hX1_termOf hX1_closed hX1_adjectivesOf0 hX2_at hX1_forget _ (fun v10 v11 v12 s9 rv10 rv11 rv12 => ?_) KF v5 v6 v7 0 1 s8 rv5 rv6 rv7 (inR_z (Or.inl rfl)) (inR_z (Or.inr rfl)))
  · refine gx_aload_n 0 dX1_adjectives_79 rfl ?_
    refine gx_iload_n 1 dX1_adjectives_80 rfl ?_
    refine gx_iload 2 dX1_adjectives_81 rfl ?_
    refine gx_aload_n 0 dX1_adjectives_83 rfl ?_
    refine gx_getI (ci := 1) (b := 30) (N := 57) 56 rfl rfl rfl (by decide) in_X1 rfl rfl q364 dX1_adjectives_84 (fun v13 rv13 => ?_)
    refine gx_cVV (As := [vI v10, vI v11, vI v13]) (n := 3) (stk := []) (ci := 1) (b := 30) (N := 57) (hX1_forget v10 v11 v13 s9) (by decide +kernel) rfl rfl (lw_V q1002 q1004 qs61 q163 q1005) (by decide +kernel) rfl (by decide) hRf hRl (fun _ => (avc rv10 (avc rv11 (avc rv13 avn)))) (Nat.le_of_ble_eq_true rfl) rfl rfl dX1_adjectives_87 (fun v14 s15 => ?_)
    refine gx_iload 3 dX1_adjectives_90 rfl ?_
    exact gx_iretX rfl (fun _ => rv12) dX1_adjectives_92
end
section
variable {l : Launch} {d : Nat} {call : Nat → List Int → Sg → Option (Int × Sg)}
theorem ctX1_adjectives (p0 : Program) (e0 : Env) (s0 : State) (m0 : MethodId) (meth0 : Method) (c0 : Code) (G0 : Gm) (hd : 7 ≤ d) (hlt : LT l) (hX1_termOf : ∀ (a1 : Int) (u : Sg), CtX l d FC clA yX1_termOf cX1_termOf 3 (some .int) DX1_termOf (rvX true) [vR 1, vI a1] u (call 11 [a1] u)) (hX1_closed : ∀ (a1 : Int) (u : Sg), CtX l d FC clA yX1_closed cX1_closed 2 (some .int) DX1_closed (rvX true) [vR 1, vI a1] u (call 18 [a1] u)) (hX1_adjectivesOf0 : ∀ (a1 : Int) (u : Sg), Ct l d FC clA yX1_adjectivesOf0 cX1_adjectivesOf0 10 (some .int) DX1_adjectivesOf0 rvI [vR 1, vI a1] u (call 84 [a1] u)) (hX2_at : ∀ (a1 a2 : Int) (u : Sg), Ct l d FC clA yX2_at cX2_at 3 (some .int) DX2_at rvI [vR 0, vI a1, vI a2] u (call 98 [a1, a2] u)) (hX1_forget : ∀ (a1 a2 a3 : Int) (u : Sg), Ct l d FC clA yX1_forget cX1_forget 4 none DX1_forget rvV [vR 1, vI a1, vI a2, vI a3] u (call 79 [a1, a2, a3] u)) (a1 : Int) (u : Sg) : CtX l (d + 1) FC clA yX1_adjectives cX1_adjectives 8 (some .int) DX1_adjectives (rvX true) [vR 1, vI a1] u (bX1_adjectives call a1 u) :=
  CtX_of (by decide) (Nat.le_of_ble_eq_true rfl) (fun p e R s1 m args below meth c G A ad hA hRf hRl => wX1_adjectives hd hlt hRf hRl hX1_termOf hX1_closed hX1_adjectivesOf0 hX2_at hX1_forget a1 u (hA _ (List.mem_cons_of_mem _ List.mem_cons_self))) p0 e0 s0 m0 meth0 c0 G0
end
/-! RoundCheck.apply(III)I, which may throw -/
section
variable {p : Program} {l : Launch} {e : Env} {R : Room} {s : State} {m : MethodId} {args : Array Value} {below : List Frame} {meth : Method} {c : Code} {G : Gm} {A : Nat → Prop} {ad0 : Nat → Nat} {σ0 : Sg} {d : Nat} {call : Nat → List Int → Sg → Option (Int × Sg)}
theorem wX1_apply (hd : 7 ≤ d) (hlt : LT l) (hRf : d + 1 ≤ R.frames) (hRl : 40 * (d + 1) ≤ R.locals) (hX1_need : ∀ (a1 : Int) (u : Sg), CtX l d FC clA yX1_need cX1_need 1 none DX1_need (rvX false) [vI a1] u (call 4 [a1] u)) (hX1_made : ∀ (a1 a2 a3 a4 a5 : Int) (u : Sg), CtX l d FC clA yX1_made cX1_made 11 (some .int) DX1_made (rvX true) [vR 1, vI a1, vI a2, vI a3, vI a4, vI a5] u (call 22 [a1, a2, a3, a4, a5] u)) (a1 a2 a3 : Int) (u : Sg) (ra1 : inR a1) (ra2 : inR a2) (ra3 : inR a3) : WGx p l e R s m args below meth c JX1_apply DX1_apply G clA A FC ad0 σ0 (rvX true) (bX1_apply call a1 a2 a3 u) u 0 [(0, vR 1), (1, vI a1), (2, vI a2), (3, vI a3)] [] := by
  unfold bX1_apply
  refine gx_jn (fun j1 => ∀ (a1 a2 a3 t0 : Int) (s2 : Sg), inR a1 → inR a2 → inR a3 → (t0 = 0 ∨ t0 = 1) → WGx p l e R s m args below meth c JX1_apply DX1_apply G clA A FC ad0 σ0 (rvX true) (j1 a1 a2 a3 t0 s2) s2 17 [(0, vR 1), (1, vI a1), (2, vI a2), (3, vI a3)] [vI t0]) (fun a1 a2 a3 t0 s2 ra1 ra2 ra3 zt0 => ?_) (fun j1 hj1 => ?_)
  · refine gx_xSV (As := [vI t0]) (n := 1) (stk := []) (hX1_need t0 s2) (by decide +kernel) (lw_S q502 q503 q163 q504) (by decide +kernel) rfl (by decide) hRf hRl (fun _ => (avc (inR_z zt0) avn)) (Nat.le_of_ble_eq_true rfl) rfl rfl dX1_apply_17 (fun v3 s4 => ?_)
    refine gx_aload_n 0 dX1_apply_20 rfl ?_
    refine gx_iconst dX1_apply_21 ?_
    refine gx_iload_n 1 dX1_apply_22 rfl ?_
    refine gx_aload_n 0 dX1_apply_23 rfl ?_
    refine gx_get (v := vR 81) (ci := 1) (b := 30) (N := 57) 41 rfl rfl (by decide) in_X1 rfl rfl q349 dX1_apply_24 ?_
    refine gx_iload_n 1 dX1_apply_27 rfl ?_
    refine gx_iald (id := 71) 32 rfl rfl dX1_apply_28 (fun v5 rv5 => ?_)
    refine gx_iload_n 2 dX1_apply_29 rfl ?_
    refine gx_iload_n 3 dX1_apply_30 rfl ?_
    refine gx_xVI (As := [vI 4, vI a1, vI v5, vI a2, vI a3]) (n := 5) (stk := []) (ci := 1) (b := 30) (N := 57) (hX1_made 4 a1 v5 a2 a3 s4) (by decide +kernel) rfl rfl (lw_V q681 q683 qs12 q163 q684) (by decide +kernel) rfl (by decide) hRf hRl (fun _ => (avc (by decide : inR (4)) (avc ra1 (avc rv5 (avc ra2 (avc ra3 avn)))))) (Nat.le_of_ble_eq_true rfl) rfl rfl dX1_apply_31 (fun v6 s7 rv6 => ?_)
    exact gx_iretX rfl (fun _ => rv6) dX1_apply_34
  · refine gx_jn (fun j8 => ∀ (a1 a2 a3 : Int) (s9 : Sg), inR a1 → inR a2 → inR a3 → WGx p l e R s m args below meth c JX1_apply DX1_apply G clA A FC ad0 σ0 (rvX true) (j8 a1 a2 a3 s9) s9 16 [(0, vR 1), (1, vI a1), (2, vI a2), (3, vI a3)] []) (fun a1 a2 a3 s9 ra1 ra2 ra3 => ?_) (fun j8 hj8 => ?_)
    · refine gx_iconst dX1_apply_16 ?_
      exact gx_pick [0, 1, 2, 3] rfl (hj1 a1 a2 a3 0 s9 ra1 ra2 ra3 (Or.inl rfl))
    · refine gx_iload_n 1 dX1_apply_0 rfl ?_
      refine gx_if_lt 16 dX1_apply_1 (by decide) (fun _ => ra1) (fun _ => ?_) (fun _ => ?_)
      · exact gx_pick [0, 1, 2, 3] rfl (hj8 a1 a2 a3 u ra1 ra2 ra3)
      · refine gx_iload_n 1 dX1_apply_4 rfl ?_
        refine gx_aload_n 0 dX1_apply_5 rfl ?_
        refine gx_getI (ci := 1) (b := 30) (N := 57) 44 rfl rfl rfl (by decide) in_X1 rfl rfl q352 dX1_apply_6 (fun v10 rv10 => ?_)
        refine gx_icmp_ge 16 dX1_apply_9 (by decide) (fun _ => ra1) (fun _ => rv10) (fun _ => ?_) (fun _ => ?_)
        · refine gx_iconst dX1_apply_12 ?_
          refine gx_goto 17 dX1_apply_13 (by decide) ?_
          exact gx_pick [0, 1, 2, 3] rfl (hj1 a1 a2 a3 1 u ra1 ra2 ra3 (Or.inr rfl))
        · exact gx_pick [0, 1, 2, 3] rfl (hj8 a1 a2 a3 u ra1 ra2 ra3)
end
section
variable {l : Launch} {d : Nat} {call : Nat → List Int → Sg → Option (Int × Sg)}
theorem ctX1_apply (p0 : Program) (e0 : Env) (s0 : State) (m0 : MethodId) (meth0 : Method) (c0 : Code) (G0 : Gm) (hd : 7 ≤ d) (hlt : LT l) (hX1_need : ∀ (a1 : Int) (u : Sg), CtX l d FC clA yX1_need cX1_need 1 none DX1_need (rvX false) [vI a1] u (call 4 [a1] u)) (hX1_made : ∀ (a1 a2 a3 a4 a5 : Int) (u : Sg), CtX l d FC clA yX1_made cX1_made 11 (some .int) DX1_made (rvX true) [vR 1, vI a1, vI a2, vI a3, vI a4, vI a5] u (call 22 [a1, a2, a3, a4, a5] u)) (a1 a2 a3 : Int) (u : Sg) : CtX l (d + 1) FC clA yX1_apply cX1_apply 4 (some .int) DX1_apply (rvX true) [vR 1, vI a1, vI a2, vI a3] u (bX1_apply call a1 a2 a3 u) :=
  CtX_of (by decide) (Nat.le_of_ble_eq_true rfl) (fun p e R s1 m args below meth c G A ad hA hRf hRl => wX1_apply hd hlt hRf hRl hX1_need hX1_made a1 a2 a3 u (hA _ (List.mem_cons_of_mem _ List.mem_cons_self)) (hA _ (List.mem_cons_of_mem _ (List.mem_cons_of_mem _ List.mem_cons_self))) (hA _ (List.mem_cons_of_mem _ (List.mem_cons_of_mem _ (List.mem_cons_of_mem _ List.mem_cons_self))))) p0 e0 s0 m0 meth0 c0 G0
end
/-! RoundCheck.atom(IIII)I, which may throw -/
section
variable {p : Program} {l : Launch} {e : Env} {R : Room} {s : State} {m : MethodId} {args : Array Value} {below : List Frame} {meth : Method} {c : Code} {G : Gm} {A : Nat → Prop} {ad0 : Nat → Nat} {σ0 : Sg} {d : Nat} {call : Nat → List Int → Sg → Option (Int × Sg)}
theorem wX1_atom (hd : 7 ≤ d) (hlt : LT l) (hRf : d + 1 ≤ R.frames) (hRl : 40 * (d + 1) ≤ R.locals) (hX1_need : ∀ (a1 : Int) (u : Sg), CtX l d FC clA yX1_need cX1_need 1 none DX1_need (rvX false) [vI a1] u (call 4 [a1] u)) (hX1_made : ∀ (a1 a2 a3 a4 a5 : Int) (u : Sg), CtX l d FC clA yX1_made cX1_made 11 (some .int) DX1_made (rvX true) [vR 1, vI a1, vI a2, vI a3, vI a4, vI a5] u (call 22 [a1, a2, a3, a4, a5] u)) (hX2_mode : ∀ (a1 a2 a3 : Int) (u : Sg), Ct l d FC clA yX2_mode cX2_mode 4 (some .int) DX2_mode rvI [vR 0, vI a1, vI a2, vI a3] u (call 100 [a1, a2, a3] u)) (hX1_keep : ∀ (a1 a2 a3 : Int) (u : Sg), CtX l d FC clA yX1_keep cX1_keep 4 (some .int) DX1_keep (rvX true) [vR 1, vI a1, vI a2, vI a3] u (call 16 [a1, a2, a3] u)) (hX1_termOf : ∀ (a1 : Int) (u : Sg), CtX l d FC clA yX1_termOf cX1_termOf 3 (some .int) DX1_termOf (rvX true) [vR 1, vI a1] u (call 11 [a1] u)) (hX1_closed : ∀ (a1 : Int) (u : Sg), CtX l d FC clA yX1_closed cX1_closed 2 (some .int) DX1_closed (rvX true) [vR 1, vI a1] u (call 18 [a1] u)) (a1 a2 a3 a4 : Int) (u : Sg) (ra1 : inR a1) (ra2 : inR a2) (ra3 : inR a3) (ra4 : inR a4) : WGx p l e R s m args below meth c JX1_atom DX1_atom G clA A FC ad0 σ0 (rvX true) (bX1_atom call a1 a2 a3 a4 u) u 0 [(0, vR 1), (1, vI a1), (2, vI a2), (3, vI a3), (4, vI a4)] [] := by
  unfold bX1_atom
  refine gx_jn (fun j1 => ∀ (a1 a2 a3 a4 t0 : Int) (s2 : Sg), inR a1 → inR a2 → inR a3 → inR a4 → (t0 = 0 ∨ t0 = 1) → WGx p l e R s m args below meth c JX1_atom DX1_atom G clA A FC ad0 σ0 (rvX true) (j1 a1 a2 a3 a4 t0 s2) s2 14 [(0, vR 1), (1, vI a1), (2, vI a2), (3, vI a3), (4, vI a4)] [vI t0]) (fun a1 a2 a3 a4 t0 s2 ra1 ra2 ra3 ra4 zt0 => ?_) (fun j1 hj1 => ?_)
  · refine gx_xSV (As := [vI t0]) (n := 1) (stk := []) (hX1_need t0 s2) (by decide +kernel) (lw_S q502 q503 q163 q504) (by decide +kernel) rfl (by decide) hRf hRl (fun _ => (avc (inR_z zt0) avn)) (Nat.le_of_ble_eq_true rfl) rfl rfl dX1_atom_14 (fun v3 s4 => ?_)
    refine gx_iload_n 1 dX1_atom_17 rfl ?_
    refine WGx.byc (fun e0 => ?_) (fun n0 => ?_)
    · refine gx_tswIn 48 0 dX1_atom_18 (by decide) rfl (by decide) e0 ?_
      refine gx_aload_n 0 dX1_atom_48 rfl ?_
      refine gx_bipush (by decide +kernel) dX1_atom_49 ?_
      refine gx_iconst dX1_atom_51 ?_
      refine gx_iconst dX1_atom_52 ?_
      refine gx_iload_n 3 dX1_atom_53 rfl ?_
      refine gx_iload 4 dX1_atom_54 rfl ?_
      refine gx_xVI (As := [vI 10, vI 0, vI 2, vI a3, vI a4]) (n := 5) (stk := []) (ci := 1) (b := 30) (N := 57) (hX1_made 10 0 2 a3 a4 s4) (by decide +kernel) rfl rfl (lw_V q681 q683 qs12 q163 q684) (by decide +kernel) rfl (by decide) hRf hRl (fun _ => (avc (by decide : inR (10)) (avc (inR_z (Or.inl rfl)) (avc (by decide : inR (2)) (avc ra3 (avc ra4 avn)))))) (Nat.le_of_ble_eq_true rfl) rfl rfl dX1_atom_56 (fun v5 s6 rv5 => ?_)
      exact gx_iretX rfl (fun _ => rv5) dX1_atom_59
    · skip
      refine WGx.byc (fun e1 => ?_) (fun n1 => ?_)
      · refine gx_tswIn 60 1 dX1_atom_18 (by decide) rfl (by decide) e1 ?_
        refine gx_aload_n 0 dX1_atom_60 rfl ?_
        refine gx_bipush (by decide +kernel) dX1_atom_61 ?_
        refine gx_iconst dX1_atom_63 ?_
        refine gx_iconst dX1_atom_64 ?_
        refine gx_iload_n 3 dX1_atom_65 rfl ?_
        refine gx_iload 4 dX1_atom_66 rfl ?_
        refine gx_xVI (As := [vI 11, vI 0, vI 2, vI a3, vI a4]) (n := 5) (stk := []) (ci := 1) (b := 30) (N := 57) (hX1_made 11 0 2 a3 a4 s4) (by decide +kernel) rfl rfl (lw_V q681 q683 qs12 q163 q684) (by decide +kernel) rfl (by decide) hRf hRl (fun _ => (avc (by decide : inR (11)) (avc (inR_z (Or.inl rfl)) (avc (by decide : inR (2)) (avc ra3 (avc ra4 avn)))))) (Nat.le_of_ble_eq_true rfl) rfl rfl dX1_atom_68 (fun v7 s8 rv7 => ?_)
        exact gx_iretX rfl (fun _ => rv7) dX1_atom_71
      · skip
        refine WGx.byc (fun e2 => ?_) (fun n2 => ?_)
        · refine gx_tswIn 72 2 dX1_atom_18 (by decide) rfl (by decide) e2 ?_
          refine gx_jn (fun j9 => ∀ (a2 a3 a4 t0 : Int) (s10 : Sg), inR a2 → inR a3 → inR a4 → (t0 = 0 ∨ t0 = 1) → WGx p l e R s m args below meth c JX1_atom DX1_atom G clA A FC ad0 σ0 (rvX true) (j9 a2 a3 a4 t0 s10) s10 89 [(0, vR 1), (2, vI a2), (3, vI a3), (4, vI a4)] [vI t0]) (fun a2 a3 a4 t0 s10 ra2 ra3 ra4 zt0 => ?_) (fun j9 hj9 => ?_)
          · refine gx_xSV (As := [vI t0]) (n := 1) (stk := []) (hX1_need t0 s10) (by decide +kernel) (lw_S q502 q503 q163 q504) (by decide +kernel) rfl (by decide) hRf hRl (fun _ => (avc (inR_z zt0) avn)) (Nat.le_of_ble_eq_true rfl) rfl rfl dX1_atom_89 (fun v11 s12 => ?_)
            refine gx_aload_n 0 dX1_atom_92 rfl ?_
            refine gx_bipush (by decide +kernel) dX1_atom_93 ?_
            refine gx_iload_n 1 dX1_atom_95 rfl ?_
            refine gx_aload_n 0 dX1_atom_96 rfl ?_
            refine gx_get (v := vR 83) (ci := 1) (b := 30) (N := 57) 43 rfl rfl (by decide) in_X1 rfl rfl q351 dX1_atom_97 ?_
            refine gx_iload_n 1 dX1_atom_100 rfl ?_
            refine gx_iald (id := 73) 34 rfl rfl dX1_atom_101 (fun v13 rv13 => ?_)
            refine gx_iload_n 2 dX1_atom_102 rfl ?_
            refine gx_iload 3 dX1_atom_103 rfl ?_
            refine gx_xVI (As := [vI 12, vI a2, vI v13, vI a3, vI a4]) (n := 5) (stk := []) (ci := 1) (b := 30) (N := 57) (hX1_made 12 a2 v13 a3 a4 s12) (by decide +kernel) rfl rfl (lw_V q681 q683 qs12 q163 q684) (by decide +kernel) rfl (by decide) hRf hRl (fun _ => (avc (by decide : inR (12)) (avc ra2 (avc rv13 (avc ra3 (avc ra4 avn)))))) (Nat.le_of_ble_eq_true rfl) rfl rfl dX1_atom_105 (fun v14 s15 rv14 => ?_)
            exact gx_iretX rfl (fun _ => rv14) dX1_atom_108
          · refine gx_jn (fun j16 => ∀ (a2 a3 a4 : Int) (s17 : Sg), inR a2 → inR a3 → inR a4 → WGx p l e R s m args below meth c JX1_atom DX1_atom G clA A FC ad0 σ0 (rvX true) (j16 a2 a3 a4 s17) s17 88 [(0, vR 1), (2, vI a2), (3, vI a3), (4, vI a4)] []) (fun a2 a3 a4 s17 ra2 ra3 ra4 => ?_) (fun j16 hj16 => ?_)
            · refine gx_iconst dX1_atom_88 ?_
              exact gx_pick [0, 1, 2, 3] rfl (hj9 a2 a3 a4 0 s17 ra2 ra3 ra4 (Or.inl rfl))
            · refine gx_iload_n 2 dX1_atom_72 rfl ?_
              refine gx_if_lt 88 dX1_atom_73 (by decide) (fun _ => ra2) (fun _ => ?_) (fun _ => ?_)
              · exact gx_pick [0, 2, 3, 4] rfl (hj16 a2 a3 a4 s4 ra2 ra3 ra4)
              · refine gx_iload_n 2 dX1_atom_76 rfl ?_
                refine gx_aload_n 0 dX1_atom_77 rfl ?_
                refine gx_getI (ci := 1) (b := 30) (N := 57) 45 rfl rfl rfl (by decide) in_X1 rfl rfl q353 dX1_atom_78 (fun v18 rv18 => ?_)
                refine gx_icmp_ge 88 dX1_atom_81 (by decide) (fun _ => ra2) (fun _ => rv18) (fun _ => ?_) (fun _ => ?_)
                · refine gx_iconst dX1_atom_84 ?_
                  refine gx_goto 89 dX1_atom_85 (by decide) ?_
                  exact gx_pick [0, 2, 3, 4] rfl (hj9 a2 a3 a4 1 s4 ra2 ra3 ra4 (Or.inr rfl))
                · exact gx_pick [0, 2, 3, 4] rfl (hj16 a2 a3 a4 s4 ra2 ra3 ra4)
        · skip
          refine WGx.byc (fun e3 => ?_) (fun n3 => ?_)
          · refine gx_tswIn 109 3 dX1_atom_18 (by decide) rfl (by decide) e3 ?_
            refine gx_jn (fun j19 => ∀ (a2 a3 a4 t0 : Int) (s20 : Sg), inR a2 → inR a3 → inR a4 → (t0 = 0 ∨ t0 = 1) → WGx p l e R s m args below meth c JX1_atom DX1_atom G clA A FC ad0 σ0 (rvX true) (j19 a2 a3 a4 t0 s20) s20 126 [(0, vR 1), (2, vI a2), (3, vI a3), (4, vI a4)] [vI t0]) (fun a2 a3 a4 t0 s20 ra2 ra3 ra4 zt0 => ?_) (fun j19 hj19 => ?_)
            · refine gx_xSV (As := [vI t0]) (n := 1) (stk := []) (hX1_need t0 s20) (by decide +kernel) (lw_S q502 q503 q163 q504) (by decide +kernel) rfl (by decide) hRf hRl (fun _ => (avc (inR_z zt0) avn)) (Nat.le_of_ble_eq_true rfl) rfl rfl dX1_atom_126 (fun v21 s22 => ?_)
              refine gx_aload_n 0 dX1_atom_129 rfl ?_
              refine gx_bipush (by decide +kernel) dX1_atom_130 ?_
              refine gx_iload_n 1 dX1_atom_132 rfl ?_
              refine gx_iconst dX1_atom_133 ?_
              refine gx_iload_n 2 dX1_atom_134 rfl ?_
              refine gx_iload 3 dX1_atom_135 rfl ?_
              refine gx_xVI (As := [vI 13, vI a2, vI 1, vI a3, vI a4]) (n := 5) (stk := []) (ci := 1) (b := 30) (N := 57) (hX1_made 13 a2 1 a3 a4 s22) (by decide +kernel) rfl rfl (lw_V q681 q683 qs12 q163 q684) (by decide +kernel) rfl (by decide) hRf hRl (fun _ => (avc (by decide : inR (13)) (avc ra2 (avc (inR_z (Or.inr rfl)) (avc ra3 (avc ra4 avn)))))) (Nat.le_of_ble_eq_true rfl) rfl rfl dX1_atom_137 (fun v23 s24 rv23 => ?_)
              exact gx_iretX rfl (fun _ => rv23) dX1_atom_140
            · refine gx_jn (fun j25 => ∀ (a2 a3 a4 : Int) (s26 : Sg), inR a2 → inR a3 → inR a4 → WGx p l e R s m args below meth c JX1_atom DX1_atom G clA A FC ad0 σ0 (rvX true) (j25 a2 a3 a4 s26) s26 125 [(0, vR 1), (2, vI a2), (3, vI a3), (4, vI a4)] []) (fun a2 a3 a4 s26 ra2 ra3 ra4 => ?_) (fun j25 hj25 => ?_)
              · refine gx_iconst dX1_atom_125 ?_
                exact gx_pick [0, 1, 2, 3] rfl (hj19 a2 a3 a4 0 s26 ra2 ra3 ra4 (Or.inl rfl))
              · refine gx_iload_n 2 dX1_atom_109 rfl ?_
                refine gx_if_lt 125 dX1_atom_110 (by decide) (fun _ => ra2) (fun _ => ?_) (fun _ => ?_)
                · exact gx_pick [0, 2, 3, 4] rfl (hj25 a2 a3 a4 s4 ra2 ra3 ra4)
                · refine gx_iload_n 2 dX1_atom_113 rfl ?_
                  refine gx_aload_n 0 dX1_atom_114 rfl ?_
                  refine gx_getI (ci := 1) (b := 30) (N := 57) 40 rfl rfl rfl (by decide) in_X1 rfl rfl q348 dX1_atom_115 (fun v27 rv27 => ?_)
                  refine gx_icmp_ge 125 dX1_atom_118 (by decide) (fun _ => ra2) (fun _ => rv27) (fun _ => ?_) (fun _ => ?_)
                  · refine gx_iconst dX1_atom_121 ?_
                    refine gx_goto 126 dX1_atom_122 (by decide) ?_
                    exact gx_pick [0, 2, 3, 4] rfl (hj19 a2 a3 a4 1 s4 ra2 ra3 ra4 (Or.inr rfl))
                  · exact gx_pick [0, 2, 3, 4] rfl (hj25 a2 a3 a4 s4 ra2 ra3 ra4)
          · skip
            refine gx_tswOut 141 dX1_atom_18 (fun _ => ra1) (by omega) (by decide) ?_
            refine gx_jn (fun j28 => ∀ (a2 a3 a4 t0 : Int) (s29 : Sg), inR a2 → inR a3 → inR a4 → (t0 = 0 ∨ t0 = 1) → WGx p l e R s m args below meth c JX1_atom DX1_atom G clA A FC ad0 σ0 (rvX true) (j28 a2 a3 a4 t0 s29) s29 158 [(0, vR 1), (2, vI a2), (3, vI a3), (4, vI a4)] [vI t0]) (fun a2 a3 a4 t0 s29 ra2 ra3 ra4 zt0 => ?_) (fun j28 hj28 => ?_)
            · refine gx_jn (fun j30 => ∀ (a2 a3 a4 t0 t1 : Int) (s31 : Sg), inR a2 → inR a3 → inR a4 → (t0 = 0 ∨ t0 = 1) → (t1 = 0 ∨ t1 = 1) → WGx p l e R s m args below meth c JX1_atom DX1_atom G clA A FC ad0 σ0 (rvX true) (j30 a2 a3 a4 t0 t1 s31) s31 178 [(0, vR 1), (2, vI a2), (3, vI a3), (4, vI a4)] [vI t1, vI t0]) (fun a2 a3 a4 t0 t1 s31 ra2 ra3 ra4 zt0 zt1 => ?_) (fun j30 hj30 => ?_)
              · refine gx_jn (fun j32 => ∀ (a2 a3 a4 t0 : Int) (s33 : Sg), inR a2 → inR a3 → inR a4 → (t0 = 0 ∨ t0 = 1) → WGx p l e R s m args below meth c JX1_atom DX1_atom G clA A FC ad0 σ0 (rvX true) (j32 a2 a3 a4 t0 s33) s33 186 [(0, vR 1), (2, vI a2), (3, vI a3), (4, vI a4)] [vI t0]) (fun a2 a3 a4 t0 s33 ra2 ra3 ra4 zt0 => ?_) (fun j32 hj32 => ?_)
                · refine gx_jn (fun j34 => ∀ (a2 a5 t0 : Int) (s35 : Sg), inR a2 → inR a5 → inR t0 → WGx p l e R s m args below meth c JX1_atom DX1_atom G clA A FC ad0 σ0 (rvX true) (j34 a2 a5 t0 s35) s35 220 [(0, vR 1), (2, vI a2), (5, vI a5)] [vI t0]) (fun a2 a5 t0 s35 ra2 ra5 rt0 => ?_) (fun j34 hj34 => ?_)
                  · refine gx_istore (loc' := [(6, vI t0), (0, vR 1), (2, vI a2), (5, vI a5)]) dX1_atom_220 (by decide) rfl ?_
                    refine gx_aload_n 1 dX1_atom_222 rfl ?_
                    refine gx_get (v := vR 0) (ci := 1) (b := 30) (N := 57) 0 rfl rfl (by decide) in_X1 rfl rfl q308 dX1_atom_223 ?_
                    refine gx_getI (ci := 0) (b := 0) (N := 21) 9 rfl rfl rfl (by decide) in_X2 rfl rfl q246 dX1_atom_226 (fun v36 rv36 => ?_)
                    refine gx_istore (loc' := [(7, vI v36), (6, vI t0), (0, vR 1), (2, vI a2), (5, vI a5)]) dX1_atom_229 (by decide) rfl ?_
                    refine gx_aload_n 2 dX1_atom_231 rfl ?_
                    refine gx_get (v := vR 0) (ci := 1) (b := 30) (N := 57) 0 rfl rfl (by decide) in_X1 rfl rfl q308 dX1_atom_232 ?_
                    refine gx_getI (ci := 0) (b := 0) (N := 21) 10 rfl rfl rfl (by decide) in_X2 rfl rfl q248 dX1_atom_235 (fun v37 rv37 => ?_)
                    refine gx_istore (loc' := [(8, vI v37), (7, vI v36), (6, vI t0), (0, vR 1), (2, vI a2), (5, vI a5)]) dX1_atom_238 (by decide) rfl ?_
                    refine gx_aload_n 3 dX1_atom_240 rfl ?_
                    refine gx_aload_n 3 dX1_atom_241 rfl ?_
                    refine gx_get (v := vR 0) (ci := 1) (b := 30) (N := 57) 0 rfl rfl (by decide) in_X1 rfl rfl q308 dX1_atom_242 ?_
                    refine gx_iload_n 4 dX1_atom_245 rfl ?_
                    refine gx_iload 2 dX1_atom_246 rfl ?_
                    refine gx_iload 5 dX1_atom_248 rfl ?_
                    refine gx_cVI (As := [vI a2, vI t0, vI a5]) (n := 3) (stk := [vR 1]) (ci := 0) (b := 0) (N := 21) (hX2_mode a2 t0 a5 s35) (by decide +kernel) rfl rfl (lw_V q700 q701 q702 q164 q703) (by decide +kernel) rfl (by decide) hRf hRl (fun _ => (avc ra2 (avc rt0 (avc ra5 avn)))) (Nat.le_of_ble_eq_true rfl) rfl rfl dX1_atom_250 (fun v38 s39 rv38 => ?_)
                    refine gx_iload 1 dX1_atom_253 rfl ?_
                    refine gx_iload 0 dX1_atom_255 rfl ?_
                    refine gx_xVI (As := [vI v38, vI v36, vI v37]) (n := 3) (stk := []) (ci := 1) (b := 30) (N := 57) (hX1_keep v38 v36 v37 s39) (by decide +kernel) rfl rfl (lw_V q643 q645 qs9 q163 q646) (by decide +kernel) rfl (by decide) hRf hRl (fun _ => (avc rv38 (avc rv36 (avc rv37 avn)))) (Nat.le_of_ble_eq_true rfl) rfl rfl dX1_atom_257 (fun v40 s41 rv40 => ?_)
                    exact gx_iretX rfl (fun _ => rv40) dX1_atom_260
                  · refine gx_xSV (As := [vI t0]) (n := 1) (stk := []) (hX1_need t0 s33) (by decide +kernel) (lw_S q502 q503 q163 q504) (by decide +kernel) rfl (by decide) hRf hRl (fun _ => (avc (inR_z zt0) avn)) (Nat.le_of_ble_eq_true rfl) rfl rfl dX1_atom_186 (fun v42 s43 => ?_)
                    refine gx_aload_n 0 dX1_atom_189 rfl ?_
                    refine gx_aload_n 0 dX1_atom_190 rfl ?_
                    refine gx_iload_n 2 dX1_atom_191 rfl ?_
                    refine gx_xVI (As := [vI a3]) (n := 1) (stk := [vR 1]) (ci := 1) (b := 30) (N := 57) (hX1_termOf a3 s43) (by decide +kernel) rfl rfl (lw_V q622 q624 qs5 q163 q625) (by decide +kernel) rfl (by decide) hRf hRl (fun _ => (avc ra3 avn)) (Nat.le_of_ble_eq_true rfl) rfl rfl dX1_atom_192 (fun v44 s45 rv44 => ?_)
                    refine gx_xVI (As := [vI v44]) (n := 1) (stk := []) (ci := 1) (b := 30) (N := 57) (hX1_closed v44 s45) (by decide +kernel) rfl rfl (lw_V q658 q660 qs10 q163 q661) (by decide +kernel) rfl (by decide) hRf hRl (fun _ => (avc rv44 avn)) (Nat.le_of_ble_eq_true rfl) rfl rfl dX1_atom_195 (fun v46 s47 rv46 => ?_)
                    refine gx_istore (loc' := [(5, vI v46), (0, vR 1), (2, vI a2), (3, vI a3), (4, vI a4)]) dX1_atom_198 (by decide) rfl ?_
                    refine gx_iload 4 dX1_atom_200 rfl ?_
                    refine gx_iconst dX1_atom_202 ?_
                    refine gx_icmp_ne 210 dX1_atom_203 (by decide) (fun _ => ra4) (fun _ => (by decide : inR (-1))) (fun _ => ?_) (fun _ => ?_)
                    · refine gx_iconst dX1_atom_206 ?_
                      refine gx_goto 220 dX1_atom_207 (by decide) ?_
                      exact gx_pick [1, 2, 0] rfl (hj34 a2 v46 0 s47 ra2 rv46 (inR_z (Or.inl rfl)))
                    · refine gx_aload_n 1 dX1_atom_210 rfl ?_
                      refine gx_aload_n 1 dX1_atom_211 rfl ?_
                      refine gx_iload 4 dX1_atom_212 rfl ?_
                      refine gx_xVI (As := [vI a4]) (n := 1) (stk := [vR 1]) (ci := 1) (b := 30) (N := 57) (hX1_termOf a4 s47) (by decide +kernel) rfl rfl (lw_V q622 q624 qs5 q163 q625) (by decide +kernel) rfl (by decide) hRf hRl (fun _ => (avc ra4 avn)) (Nat.le_of_ble_eq_true rfl) rfl rfl dX1_atom_214 (fun v48 s49 rv48 => ?_)
                      refine gx_xVI (As := [vI v48]) (n := 1) (stk := []) (ci := 1) (b := 30) (N := 57) (hX1_closed v48 s49) (by decide +kernel) rfl rfl (lw_V q658 q660 qs10 q163 q661) (by decide +kernel) rfl (by decide) hRf hRl (fun _ => (avc rv48 avn)) (Nat.le_of_ble_eq_true rfl) rfl rfl dX1_atom_217 (fun v50 s51 rv50 => ?_)
                      exact gx_pick [1, 2, 0] rfl (hj34 a2 v46 v50 s51 ra2 rv46 rv50)
                · refine gx_icmp_ne 185 dX1_atom_178 (by decide) (fun _ => (inR_z zt0)) (fun _ => (inR_z zt1)) (fun _ => ?_) (fun _ => ?_)
                  · refine gx_iconst dX1_atom_181 ?_
                    refine gx_goto 186 dX1_atom_182 (by decide) ?_
                    exact gx_pick [0, 1, 2, 3] rfl (hj32 a2 a3 a4 1 s31 ra2 ra3 ra4 (Or.inr rfl))
                  · refine gx_iconst dX1_atom_185 ?_
                    exact gx_pick [0, 1, 2, 3] rfl (hj32 a2 a3 a4 0 s31 ra2 ra3 ra4 (Or.inl rfl))
              · refine gx_xSV (As := [vI t0]) (n := 1) (stk := []) (hX1_need t0 s29) (by decide +kernel) (lw_S q502 q503 q163 q504) (by decide +kernel) rfl (by decide) hRf hRl (fun _ => (avc (inR_z zt0) avn)) (Nat.le_of_ble_eq_true rfl) rfl rfl dX1_atom_158 (fun v52 s53 => ?_)
                refine gx_aload_n 0 dX1_atom_161 rfl ?_
                refine gx_get (v := vR 78) (ci := 1) (b := 30) (N := 57) 38 rfl rfl (by decide) in_X1 rfl rfl q346 dX1_atom_162 ?_
                refine gx_iload_n 1 dX1_atom_165 rfl ?_
                refine gx_zald (id := 68) 31 rfl rfl dX1_atom_166 (fun v54 zv54 => ?_)
                refine gx_iload 3 dX1_atom_167 rfl ?_
                refine gx_iconst dX1_atom_169 ?_
                refine gx_icmp_eq 177 dX1_atom_170 (by decide) (fun _ => ra4) (fun _ => (by decide : inR (-1))) (fun _ => ?_) (fun _ => ?_)
                · refine gx_iconst dX1_atom_177 ?_
                  exact gx_pick [0, 1, 2, 3] rfl (hj30 a2 a3 a4 v54 0 s53 ra2 ra3 ra4 zv54 (Or.inl rfl))
                · refine gx_iconst dX1_atom_173 ?_
                  refine gx_goto 178 dX1_atom_174 (by decide) ?_
                  exact gx_pick [0, 1, 2, 3] rfl (hj30 a2 a3 a4 v54 1 s53 ra2 ra3 ra4 zv54 (Or.inr rfl))
            · refine gx_jn (fun j55 => ∀ (a2 a3 a4 : Int) (s56 : Sg), inR a2 → inR a3 → inR a4 → WGx p l e R s m args below meth c JX1_atom DX1_atom G clA A FC ad0 σ0 (rvX true) (j55 a2 a3 a4 s56) s56 157 [(0, vR 1), (2, vI a2), (3, vI a3), (4, vI a4)] []) (fun a2 a3 a4 s56 ra2 ra3 ra4 => ?_) (fun j55 hj55 => ?_)
              · refine gx_iconst dX1_atom_157 ?_
                exact gx_pick [0, 1, 2, 3] rfl (hj28 a2 a3 a4 0 s56 ra2 ra3 ra4 (Or.inl rfl))
              · refine gx_iload_n 2 dX1_atom_141 rfl ?_
                refine gx_if_lt 157 dX1_atom_142 (by decide) (fun _ => ra2) (fun _ => ?_) (fun _ => ?_)
                · exact gx_pick [0, 2, 3, 4] rfl (hj55 a2 a3 a4 s4 ra2 ra3 ra4)
                · refine gx_iload_n 2 dX1_atom_145 rfl ?_
                  refine gx_aload_n 0 dX1_atom_146 rfl ?_
                  refine gx_getI (ci := 1) (b := 30) (N := 57) 39 rfl rfl rfl (by decide) in_X1 rfl rfl q347 dX1_atom_147 (fun v57 rv57 => ?_)
                  refine gx_icmp_ge 157 dX1_atom_150 (by decide) (fun _ => ra2) (fun _ => rv57) (fun _ => ?_) (fun _ => ?_)
                  · refine gx_iconst dX1_atom_153 ?_
                    refine gx_goto 158 dX1_atom_154 (by decide) ?_
                    exact gx_pick [0, 2, 3, 4] rfl (hj28 a2 a3 a4 1 s4 ra2 ra3 ra4 (Or.inr rfl))
                  · exact gx_pick [0, 2, 3, 4] rfl (hj55 a2 a3 a4 s4 ra2 ra3 ra4)
  · refine gx_jn (fun j58 => ∀ (a1 a2 a3 a4 : Int) (s59 : Sg), inR a1 → inR a2 → inR a3 → inR a4 → WGx p l e R s m args below meth c JX1_atom DX1_atom G clA A FC ad0 σ0 (rvX true) (j58 a1 a2 a3 a4 s59) s59 13 [(0, vR 1), (1, vI a1), (2, vI a2), (3, vI a3), (4, vI a4)] []) (fun a1 a2 a3 a4 s59 ra1 ra2 ra3 ra4 => ?_) (fun j58 hj58 => ?_)
    · refine gx_iconst dX1_atom_13 ?_
      exact gx_pick [0, 1, 2, 3, 4] rfl (hj1 a1 a2 a3 a4 0 s59 ra1 ra2 ra3 ra4 (Or.inl rfl))
    · refine gx_iload_n 1 dX1_atom_0 rfl ?_
      refine gx_if_lt 13 dX1_atom_1 (by decide) (fun _ => ra1) (fun _ => ?_) (fun _ => ?_)
      · exact gx_pick [0, 1, 2, 3, 4] rfl (hj58 a1 a2 a3 a4 u ra1 ra2 ra3 ra4)
      · refine gx_iload_n 1 dX1_atom_4 rfl ?_
        refine gx_iconst dX1_atom_5 ?_
        refine gx_icmp_gt 13 dX1_atom_6 (by decide) (fun _ => ra1) (fun _ => (by decide : inR (4))) (fun _ => ?_) (fun _ => ?_)
        · refine gx_iconst dX1_atom_9 ?_
          refine gx_goto 14 dX1_atom_10 (by decide) ?_
          exact gx_pick [0, 1, 2, 3, 4] rfl (hj1 a1 a2 a3 a4 1 u ra1 ra2 ra3 ra4 (Or.inr rfl))
        · exact gx_pick [0, 1, 2, 3, 4] rfl (hj58 a1 a2 a3 a4 u ra1 ra2 ra3 ra4)
end
section
variable {l : Launch} {d : Nat} {call : Nat → List Int → Sg → Option (Int × Sg)}
theorem ctX1_atom (p0 : Program) (e0 : Env) (s0 : State) (m0 : MethodId) (meth0 : Method) (c0 : Code) (G0 : Gm) (hd : 7 ≤ d) (hlt : LT l) (hX1_need : ∀ (a1 : Int) (u : Sg), CtX l d FC clA yX1_need cX1_need 1 none DX1_need (rvX false) [vI a1] u (call 4 [a1] u)) (hX1_made : ∀ (a1 a2 a3 a4 a5 : Int) (u : Sg), CtX l d FC clA yX1_made cX1_made 11 (some .int) DX1_made (rvX true) [vR 1, vI a1, vI a2, vI a3, vI a4, vI a5] u (call 22 [a1, a2, a3, a4, a5] u)) (hX2_mode : ∀ (a1 a2 a3 : Int) (u : Sg), Ct l d FC clA yX2_mode cX2_mode 4 (some .int) DX2_mode rvI [vR 0, vI a1, vI a2, vI a3] u (call 100 [a1, a2, a3] u)) (hX1_keep : ∀ (a1 a2 a3 : Int) (u : Sg), CtX l d FC clA yX1_keep cX1_keep 4 (some .int) DX1_keep (rvX true) [vR 1, vI a1, vI a2, vI a3] u (call 16 [a1, a2, a3] u)) (hX1_termOf : ∀ (a1 : Int) (u : Sg), CtX l d FC clA yX1_termOf cX1_termOf 3 (some .int) DX1_termOf (rvX true) [vR 1, vI a1] u (call 11 [a1] u)) (hX1_closed : ∀ (a1 : Int) (u : Sg), CtX l d FC clA yX1_closed cX1_closed 2 (some .int) DX1_closed (rvX true) [vR 1, vI a1] u (call 18 [a1] u)) (a1 a2 a3 a4 : Int) (u : Sg) : CtX l (d + 1) FC clA yX1_atom cX1_atom 9 (some .int) DX1_atom (rvX true) [vR 1, vI a1, vI a2, vI a3, vI a4] u (bX1_atom call a1 a2 a3 a4 u) :=
  CtX_of (by decide) (Nat.le_of_ble_eq_true rfl) (fun p e R s1 m args below meth c G A ad hA hRf hRl => wX1_atom hd hlt hRf hRl hX1_need hX1_made hX2_mode hX1_keep hX1_termOf hX1_closed a1 a2 a3 a4 u (hA _ (List.mem_cons_of_mem _ List.mem_cons_self)) (hA _ (List.mem_cons_of_mem _ (List.mem_cons_of_mem _ List.mem_cons_self))) (hA _ (List.mem_cons_of_mem _ (List.mem_cons_of_mem _ (List.mem_cons_of_mem _ List.mem_cons_self)))) (hA _ (List.mem_cons_of_mem _ (List.mem_cons_of_mem _ (List.mem_cons_of_mem _ (List.mem_cons_of_mem _ List.mem_cons_self)))))) p0 e0 s0 m0 meth0 c0 G0
end
/-! RoundCheck.gives(IIII)I, which may throw -/
section
variable {p : Program} {l : Launch} {e : Env} {R : Room} {s : State} {m : MethodId} {args : Array Value} {below : List Frame} {meth : Method} {c : Code} {G : Gm} {A : Nat → Prop} {ad0 : Nat → Nat} {σ0 : Sg} {d : Nat} {call : Nat → List Int → Sg → Option (Int × Sg)}
theorem wX1_gives (hd : 7 ≤ d) (hlt : LT l) (hRf : d + 1 ≤ R.frames) (hRl : 40 * (d + 1) ≤ R.locals) (hX1_room : ∀ (a1 : Int) (u : Sg), CtX l d FC clA yX1_room cX1_room 1 none DX1_room (rvX false) [vI a1] u (call 6 [a1] u)) (hX1_withSet : ∀ (a1 a2 a3 : Int) (u : Sg), Ct l d FC clA yX1_withSet cX1_withSet 6 (some .int) DX1_withSet rvI [vR 1, vI a1, vI a2, vI a3] u (call 14 [a1, a2, a3] u)) (hX1_register : ∀ (a1 a2 a3 a4 a5 : Int) (u : Sg), CtX l d FC clA yX1_register cX1_register 6 (some .int) DX1_register (rvX true) [vR 1, vI a1, vI a2, vI a3, vI a4, vI a5] u (call 31 [a1, a2, a3, a4, a5] u)) (hX1_need : ∀ (a1 : Int) (u : Sg), CtX l d FC clA yX1_need cX1_need 1 none DX1_need (rvX false) [vI a1] u (call 4 [a1] u)) (hX1_place : ∀ (a1 a2 a3 : Int) (u : Sg), CtX l d FC clA yX1_place cX1_place 5 (some .int) DX1_place (rvX true) [vR 1, vI a1, vI a2, vI a3] u (call 33 [a1, a2, a3] u)) (hX1_isSet : ∀ (a1 : Int) (u : Sg), CtX l d FC clA yX1_isSet cX1_isSet 2 none DX1_isSet (rvX false) [vR 1, vI a1] u (call 13 [a1] u)) (a1 a2 a3 a4 : Int) (u : Sg) (ra1 : inR a1) (ra2 : inR a2) (ra3 : inR a3) (ra4 : inR a4) : WGx p l e R s m args below meth c JX1_gives DX1_gives G clA A FC ad0 σ0 (rvX true) (bX1_gives call a1 a2 a3 a4 u) u 0 [(0, vR 1), (1, vI a1), (2, vI a2), (3, vI a3), (4, vI a4)] [] := by
  unfold bX1_gives
  refine gx_jn (fun j1 => ∀ (a1 a2 a3 a4 t0 : Int) (s2 : Sg), inR a1 → inR a2 → inR a3 → inR a4 → (t0 = 0 ∨ t0 = 1) → WGx p l e R s m args below meth c JX1_gives DX1_gives G clA A FC ad0 σ0 (rvX true) (j1 a1 a2 a3 a4 t0 s2) s2 17 [(0, vR 1), (1, vI a1), (2, vI a2), (3, vI a3), (4, vI a4)] [vI t0]) (fun a1 a2 a3 a4 t0 s2 ra1 ra2 ra3 ra4 zt0 => ?_) (fun j1 hj1 => ?_)
  · refine gx_jn (fun j3 => ∀ (a1 a4 a5 a6 t0 : Int) (s4 : Sg), inR a1 → inR a4 → inR a5 → inR a6 → (t0 = 0 ∨ t0 = 1) → WGx p l e R s m args below meth c JX1_gives DX1_gives G clA A FC ad0 σ0 (rvX true) (j3 a1 a4 a5 a6 t0 s4) s4 58 [(0, vR 1), (1, vI a1), (4, vI a4), (5, vI a5), (6, vI a6)] [vI t0]) (fun a1 a4 a5 a6 t0 s4 ra1 ra4 ra5 ra6 zt0 => ?_) (fun j3 hj3 => ?_)
    · refine gx_xSV (As := [vI t0]) (n := 1) (stk := []) (hX1_room t0 s4) (by decide +kernel) (lw_S q576 q577 q163 q578) (by decide +kernel) rfl (by decide) hRf hRl (fun _ => (avc (inR_z zt0) avn)) (Nat.le_of_ble_eq_true rfl) rfl rfl dX1_gives_58 (fun v5 s6 => ?_)
      refine gx_aload_n 0 dX1_gives_61 rfl ?_
      refine gx_iconst dX1_gives_62 ?_
      refine gx_iload_n 1 dX1_gives_63 rfl ?_
      refine gx_iload 3 dX1_gives_64 rfl ?_
      refine gx_iload 4 dX1_gives_66 rfl ?_
      refine gx_aload_n 0 dX1_gives_68 rfl ?_
      refine gx_iconst dX1_gives_69 ?_
      refine gx_iconst dX1_gives_70 ?_
      refine gx_iload 2 dX1_gives_71 rfl ?_
      refine gx_cVI (As := [vI 0, vI 0, vI a4]) (n := 3) (stk := [vI a6, vI a5, vI a1, vI 1, vR 1]) (ci := 1) (b := 30) (N := 57) (hX1_withSet 0 0 a4 s6) (by decide +kernel) rfl rfl (lw_V q633 q635 qs7 q163 q636) (by decide +kernel) rfl (by decide) hRf hRl (fun _ => (avc (inR_z (Or.inl rfl)) (avc (inR_z (Or.inl rfl)) (avc ra4 avn)))) (Nat.le_of_ble_eq_true rfl) rfl rfl dX1_gives_73 (fun v7 s8 rv7 => ?_)
      refine gx_xVI (As := [vI 1, vI a1, vI a5, vI a6, vI v7]) (n := 5) (stk := []) (ci := 1) (b := 30) (N := 57) (hX1_register 1 a1 a5 a6 v7 s8) (by decide +kernel) rfl rfl (lw_V q777 q779 qs17 q163 q780) (by decide +kernel) rfl (by decide) hRf hRl (fun _ => (avc (inR_z (Or.inr rfl)) (avc ra1 (avc ra5 (avc ra6 (avc rv7 avn)))))) (Nat.le_of_ble_eq_true rfl) rfl rfl dX1_gives_76 (fun v9 s10 rv9 => ?_)
      exact gx_iretX rfl (fun _ => rv9) dX1_gives_79
    · refine gx_xSV (As := [vI t0]) (n := 1) (stk := []) (hX1_need t0 s2) (by decide +kernel) (lw_S q502 q503 q163 q504) (by decide +kernel) rfl (by decide) hRf hRl (fun _ => (avc (inR_z zt0) avn)) (Nat.le_of_ble_eq_true rfl) rfl rfl dX1_gives_17 (fun v11 s12 => ?_)
      refine gx_aload_n 0 dX1_gives_20 rfl ?_
      refine gx_iload_n 1 dX1_gives_21 rfl ?_
      refine gx_iconst dX1_gives_22 ?_
      refine gx_iload_n 2 dX1_gives_23 rfl ?_
      refine gx_xVI (As := [vI a1, vI 0, vI a2]) (n := 3) (stk := []) (ci := 1) (b := 30) (N := 57) (hX1_place a1 0 a2 s12) (by decide +kernel) rfl rfl (lw_V q788 q790 qs18 q163 q791) (by decide +kernel) rfl (by decide) hRf hRl (fun _ => (avc ra1 (avc (inR_z (Or.inl rfl)) (avc ra2 avn)))) (Nat.le_of_ble_eq_true rfl) rfl rfl dX1_gives_24 (fun v13 s14 rv13 => ?_)
      refine gx_istore (loc' := [(5, vI v13), (0, vR 1), (1, vI a1), (2, vI a2), (3, vI a3), (4, vI a4)]) dX1_gives_27 (by decide) rfl ?_
      refine gx_aload_n 1 dX1_gives_29 rfl ?_
      refine gx_iload_n 2 dX1_gives_30 rfl ?_
      refine gx_iconst dX1_gives_31 ?_
      refine gx_iload_n 4 dX1_gives_32 rfl ?_
      refine gx_xVI (As := [vI a1, vI 1, vI a3]) (n := 3) (stk := []) (ci := 1) (b := 30) (N := 57) (hX1_place a1 1 a3 s14) (by decide +kernel) rfl rfl (lw_V q788 q790 qs18 q163 q791) (by decide +kernel) rfl (by decide) hRf hRl (fun _ => (avc ra1 (avc (inR_z (Or.inr rfl)) (avc ra3 avn)))) (Nat.le_of_ble_eq_true rfl) rfl rfl dX1_gives_33 (fun v15 s16 rv15 => ?_)
      refine gx_istore (loc' := [(6, vI v15), (5, vI v13), (0, vR 1), (1, vI a1), (2, vI a2), (3, vI a3), (4, vI a4)]) dX1_gives_36 (by decide) rfl ?_
      refine gx_aload_n 2 dX1_gives_38 rfl ?_
      refine gx_iload 6 dX1_gives_39 rfl ?_
      refine gx_xVV (As := [vI a4]) (n := 1) (stk := []) (ci := 1) (b := 30) (N := 57) (hX1_isSet a4 s16) (by decide +kernel) rfl rfl (lw_V q629 q631 qs6 q163 q632) (by decide +kernel) rfl (by decide) hRf hRl (fun _ => (avc ra4 avn)) (Nat.le_of_ble_eq_true rfl) rfl rfl dX1_gives_41 (fun v17 s18 => ?_)
      refine gx_aload_n 2 dX1_gives_44 rfl ?_
      refine gx_getI (ci := 1) (b := 30) (N := 57) 51 rfl rfl rfl (by decide) in_X1 rfl rfl q359 dX1_gives_45 (fun v19 rv19 => ?_)
      refine gx_bipush (by decide +kernel) dX1_gives_48 ?_
      refine gx_icmp_ge 57 dX1_gives_50 (by decide) (fun _ => rv19) (fun _ => (by decide : inR (30))) (fun _ => ?_) (fun _ => ?_)
      · refine gx_iconst dX1_gives_53 ?_
        refine gx_goto 58 dX1_gives_54 (by decide) ?_
        exact gx_pick [2, 3, 6, 1, 0] rfl (hj3 a1 a4 v13 v15 1 s18 ra1 ra4 rv13 rv15 (Or.inr rfl))
      · refine gx_iconst dX1_gives_57 ?_
        exact gx_pick [2, 3, 6, 1, 0] rfl (hj3 a1 a4 v13 v15 0 s18 ra1 ra4 rv13 rv15 (Or.inl rfl))
  · refine gx_jn (fun j20 => ∀ (a1 a2 a3 a4 : Int) (s21 : Sg), inR a1 → inR a2 → inR a3 → inR a4 → WGx p l e R s m args below meth c JX1_gives DX1_gives G clA A FC ad0 σ0 (rvX true) (j20 a1 a2 a3 a4 s21) s21 16 [(0, vR 1), (1, vI a1), (2, vI a2), (3, vI a3), (4, vI a4)] []) (fun a1 a2 a3 a4 s21 ra1 ra2 ra3 ra4 => ?_) (fun j20 hj20 => ?_)
    · refine gx_iconst dX1_gives_16 ?_
      exact gx_pick [0, 1, 2, 3, 4] rfl (hj1 a1 a2 a3 a4 0 s21 ra1 ra2 ra3 ra4 (Or.inl rfl))
    · refine gx_iload_n 1 dX1_gives_0 rfl ?_
      refine gx_if_lt 16 dX1_gives_1 (by decide) (fun _ => ra1) (fun _ => ?_) (fun _ => ?_)
      · exact gx_pick [0, 1, 2, 3, 4] rfl (hj20 a1 a2 a3 a4 u ra1 ra2 ra3 ra4)
      · refine gx_iload_n 1 dX1_gives_4 rfl ?_
        refine gx_aload_n 0 dX1_gives_5 rfl ?_
        refine gx_getI (ci := 1) (b := 30) (N := 57) 44 rfl rfl rfl (by decide) in_X1 rfl rfl q352 dX1_gives_6 (fun v22 rv22 => ?_)
        refine gx_icmp_ge 16 dX1_gives_9 (by decide) (fun _ => ra1) (fun _ => rv22) (fun _ => ?_) (fun _ => ?_)
        · refine gx_iconst dX1_gives_12 ?_
          refine gx_goto 17 dX1_gives_13 (by decide) ?_
          exact gx_pick [0, 1, 2, 3, 4] rfl (hj1 a1 a2 a3 a4 1 u ra1 ra2 ra3 ra4 (Or.inr rfl))
        · exact gx_pick [0, 1, 2, 3, 4] rfl (hj20 a1 a2 a3 a4 u ra1 ra2 ra3 ra4)
end
section
variable {l : Launch} {d : Nat} {call : Nat → List Int → Sg → Option (Int × Sg)}
theorem ctX1_gives (p0 : Program) (e0 : Env) (s0 : State) (m0 : MethodId) (meth0 : Method) (c0 : Code) (G0 : Gm) (hd : 7 ≤ d) (hlt : LT l) (hX1_room : ∀ (a1 : Int) (u : Sg), CtX l d FC clA yX1_room cX1_room 1 none DX1_room (rvX false) [vI a1] u (call 6 [a1] u)) (hX1_withSet : ∀ (a1 a2 a3 : Int) (u : Sg), Ct l d FC clA yX1_withSet cX1_withSet 6 (some .int) DX1_withSet rvI [vR 1, vI a1, vI a2, vI a3] u (call 14 [a1, a2, a3] u)) (hX1_register : ∀ (a1 a2 a3 a4 a5 : Int) (u : Sg), CtX l d FC clA yX1_register cX1_register 6 (some .int) DX1_register (rvX true) [vR 1, vI a1, vI a2, vI a3, vI a4, vI a5] u (call 31 [a1, a2, a3, a4, a5] u)) (hX1_need : ∀ (a1 : Int) (u : Sg), CtX l d FC clA yX1_need cX1_need 1 none DX1_need (rvX false) [vI a1] u (call 4 [a1] u)) (hX1_place : ∀ (a1 a2 a3 : Int) (u : Sg), CtX l d FC clA yX1_place cX1_place 5 (some .int) DX1_place (rvX true) [vR 1, vI a1, vI a2, vI a3] u (call 33 [a1, a2, a3] u)) (hX1_isSet : ∀ (a1 : Int) (u : Sg), CtX l d FC clA yX1_isSet cX1_isSet 2 none DX1_isSet (rvX false) [vR 1, vI a1] u (call 13 [a1] u)) (a1 a2 a3 a4 : Int) (u : Sg) : CtX l (d + 1) FC clA yX1_gives cX1_gives 7 (some .int) DX1_gives (rvX true) [vR 1, vI a1, vI a2, vI a3, vI a4] u (bX1_gives call a1 a2 a3 a4 u) :=
  CtX_of (by decide) (Nat.le_of_ble_eq_true rfl) (fun p e R s1 m args below meth c G A ad hA hRf hRl => wX1_gives hd hlt hRf hRl hX1_room hX1_withSet hX1_register hX1_need hX1_place hX1_isSet a1 a2 a3 a4 u (hA _ (List.mem_cons_of_mem _ List.mem_cons_self)) (hA _ (List.mem_cons_of_mem _ (List.mem_cons_of_mem _ List.mem_cons_self))) (hA _ (List.mem_cons_of_mem _ (List.mem_cons_of_mem _ (List.mem_cons_of_mem _ List.mem_cons_self)))) (hA _ (List.mem_cons_of_mem _ (List.mem_cons_of_mem _ (List.mem_cons_of_mem _ (List.mem_cons_of_mem _ List.mem_cons_self)))))) p0 e0 s0 m0 meth0 c0 G0
end
/-! RoundCheck.reduce(IIII)I, which may throw -/
section
variable {p : Program} {l : Launch} {e : Env} {R : Room} {s : State} {m : MethodId} {args : Array Value} {below : List Frame} {meth : Method} {c : Code} {G : Gm} {A : Nat → Prop} {ad0 : Nat → Nat} {σ0 : Sg} {d : Nat} {call : Nat → List Int → Sg → Option (Int × Sg)}
theorem wX1_reduce (hd : 7 ≤ d) (hlt : LT l) (hRf : d + 1 ≤ R.frames) (hRl : 40 * (d + 1) ≤ R.locals) (hX1_need : ∀ (a1 : Int) (u : Sg), CtX l d FC clA yX1_need cX1_need 1 none DX1_need (rvX false) [vI a1] u (call 4 [a1] u)) (hX1_register : ∀ (a1 a2 a3 a4 a5 : Int) (u : Sg), CtX l d FC clA yX1_register cX1_register 6 (some .int) DX1_register (rvX true) [vR 1, vI a1, vI a2, vI a3, vI a4, vI a5] u (call 31 [a1, a2, a3, a4, a5] u)) (hX1_place : ∀ (a1 a2 a3 : Int) (u : Sg), CtX l d FC clA yX1_place cX1_place 5 (some .int) DX1_place (rvX true) [vR 1, vI a1, vI a2, vI a3] u (call 33 [a1, a2, a3] u)) (hX1_termOf : ∀ (a1 : Int) (u : Sg), CtX l d FC clA yX1_termOf cX1_termOf 3 (some .int) DX1_termOf (rvX true) [vR 1, vI a1] u (call 11 [a1] u)) (hX1_loci : ∀ (a1 : Int) (u : Sg), Ct l d FC clA yX1_loci cX1_loci 5 (some .int) DX1_loci rvI [vR 1, vI a1] u (call 5 [a1] u)) (a1 a2 a3 a4 : Int) (u : Sg) (ra1 : inR a1) (ra2 : inR a2) (ra3 : inR a3) (ra4 : inR a4) : WGx p l e R s m args below meth c JX1_reduce DX1_reduce G clA A FC ad0 σ0 (rvX true) (bX1_reduce call a1 a2 a3 a4 u) u 0 [(0, vR 1), (1, vI a1), (2, vI a2), (3, vI a3), (4, vI a4)] [] := by
  unfold bX1_reduce
  refine gx_jn (fun j1 => ∀ (a1 a2 a3 a4 t0 : Int) (s2 : Sg), inR a1 → inR a2 → inR a3 → inR a4 → (t0 = 0 ∨ t0 = 1) → WGx p l e R s m args below meth c JX1_reduce DX1_reduce G clA A FC ad0 σ0 (rvX true) (j1 a1 a2 a3 a4 t0 s2) s2 17 [(0, vR 1), (1, vI a1), (2, vI a2), (3, vI a3), (4, vI a4)] [vI t0]) (fun a1 a2 a3 a4 t0 s2 ra1 ra2 ra3 ra4 zt0 => ?_) (fun j1 hj1 => ?_)
  · refine gx_jn (fun j3 => ∀ (a1 a5 a6 a7 t0 : Int) (s4 : Sg), inR a1 → inR a5 → inR a6 → inR a7 → (t0 = 0 ∨ t0 = 1) → WGx p l e R s m args below meth c JX1_reduce DX1_reduce G clA A FC ad0 σ0 (rvX true) (j3 a1 a5 a6 a7 t0 s4) s4 66 [(0, vR 1), (1, vI a1), (5, vI a5), (6, vI a6), (7, vI a7)] [vI t0]) (fun a1 a5 a6 a7 t0 s4 ra1 ra5 ra6 ra7 zt0 => ?_) (fun j3 hj3 => ?_)
    · refine gx_xSV (As := [vI t0]) (n := 1) (stk := []) (hX1_need t0 s4) (by decide +kernel) (lw_S q502 q503 q163 q504) (by decide +kernel) rfl (by decide) hRf hRl (fun _ => (avc (inR_z zt0) avn)) (Nat.le_of_ble_eq_true rfl) rfl rfl dX1_reduce_66 (fun v5 s6 => ?_)
      refine gx_aload_n 0 dX1_reduce_69 rfl ?_
      refine gx_iconst dX1_reduce_70 ?_
      refine gx_iload_n 1 dX1_reduce_71 rfl ?_
      refine gx_iload 2 dX1_reduce_72 rfl ?_
      refine gx_iload 3 dX1_reduce_74 rfl ?_
      refine gx_iload 4 dX1_reduce_76 rfl ?_
      refine gx_xVI (As := [vI 2, vI a1, vI a5, vI a6, vI a7]) (n := 5) (stk := []) (ci := 1) (b := 30) (N := 57) (hX1_register 2 a1 a5 a6 a7 s6) (by decide +kernel) rfl rfl (lw_V q777 q779 qs17 q163 q780) (by decide +kernel) rfl (by decide) hRf hRl (fun _ => (avc (by decide : inR (2)) (avc ra1 (avc ra5 (avc ra6 (avc ra7 avn)))))) (Nat.le_of_ble_eq_true rfl) rfl rfl dX1_reduce_78 (fun v7 s8 rv7 => ?_)
      exact gx_iretX rfl (fun _ => rv7) dX1_reduce_81
    · refine gx_xSV (As := [vI t0]) (n := 1) (stk := []) (hX1_need t0 s2) (by decide +kernel) (lw_S q502 q503 q163 q504) (by decide +kernel) rfl (by decide) hRf hRl (fun _ => (avc (inR_z zt0) avn)) (Nat.le_of_ble_eq_true rfl) rfl rfl dX1_reduce_17 (fun v9 s10 => ?_)
      refine gx_aload_n 0 dX1_reduce_20 rfl ?_
      refine gx_iload_n 1 dX1_reduce_21 rfl ?_
      refine gx_iconst dX1_reduce_22 ?_
      refine gx_iload_n 2 dX1_reduce_23 rfl ?_
      refine gx_xVI (As := [vI a1, vI 0, vI a2]) (n := 3) (stk := []) (ci := 1) (b := 30) (N := 57) (hX1_place a1 0 a2 s10) (by decide +kernel) rfl rfl (lw_V q788 q790 qs18 q163 q791) (by decide +kernel) rfl (by decide) hRf hRl (fun _ => (avc ra1 (avc (inR_z (Or.inl rfl)) (avc ra2 avn)))) (Nat.le_of_ble_eq_true rfl) rfl rfl dX1_reduce_24 (fun v11 s12 rv11 => ?_)
      refine gx_istore (loc' := [(5, vI v11), (0, vR 1), (1, vI a1), (2, vI a2), (3, vI a3), (4, vI a4)]) dX1_reduce_27 (by decide) rfl ?_
      refine gx_aload_n 1 dX1_reduce_29 rfl ?_
      refine gx_iload_n 2 dX1_reduce_30 rfl ?_
      refine gx_iconst dX1_reduce_31 ?_
      refine gx_iload_n 4 dX1_reduce_32 rfl ?_
      refine gx_xVI (As := [vI a1, vI 1, vI a3]) (n := 3) (stk := []) (ci := 1) (b := 30) (N := 57) (hX1_place a1 1 a3 s12) (by decide +kernel) rfl rfl (lw_V q788 q790 qs18 q163 q791) (by decide +kernel) rfl (by decide) hRf hRl (fun _ => (avc ra1 (avc (inR_z (Or.inr rfl)) (avc ra3 avn)))) (Nat.le_of_ble_eq_true rfl) rfl rfl dX1_reduce_33 (fun v13 s14 rv13 => ?_)
      refine gx_istore (loc' := [(6, vI v13), (5, vI v11), (0, vR 1), (1, vI a1), (2, vI a2), (3, vI a3), (4, vI a4)]) dX1_reduce_36 (by decide) rfl ?_
      refine gx_aload_n 2 dX1_reduce_38 rfl ?_
      refine gx_iload 6 dX1_reduce_39 rfl ?_
      refine gx_xVI (As := [vI a4]) (n := 1) (stk := []) (ci := 1) (b := 30) (N := 57) (hX1_termOf a4 s14) (by decide +kernel) rfl rfl (lw_V q622 q624 qs5 q163 q625) (by decide +kernel) rfl (by decide) hRf hRl (fun _ => (avc ra4 avn)) (Nat.le_of_ble_eq_true rfl) rfl rfl dX1_reduce_41 (fun v15 s16 rv15 => ?_)
      refine gx_istore (loc' := [(7, vI v15), (6, vI v13), (5, vI v11), (0, vR 1), (1, vI a1), (2, vI a2), (3, vI a3), (4, vI a4)]) dX1_reduce_44 (by decide) rfl ?_
      refine gx_aload_n 3 dX1_reduce_46 rfl ?_
      refine gx_iload 0 dX1_reduce_47 rfl ?_
      refine gx_cVI (As := [vI v15]) (n := 1) (stk := []) (ci := 1) (b := 30) (N := 57) (hX1_loci v15 s16) (by decide +kernel) rfl rfl (lw_V q567 q569 qs4 q163 q570) (by decide +kernel) rfl (by decide) hRf hRl (fun _ => (avc rv15 avn)) (Nat.le_of_ble_eq_true rfl) rfl rfl dX1_reduce_49 (fun v17 s18 rv17 => ?_)
      refine gx_aload_n 3 dX1_reduce_52 rfl ?_
      refine gx_get (v := vR 81) (ci := 1) (b := 30) (N := 57) 41 rfl rfl (by decide) in_X1 rfl rfl q349 dX1_reduce_53 ?_
      refine gx_iload_n 4 dX1_reduce_56 rfl ?_
      refine gx_iald (id := 71) 32 rfl rfl dX1_reduce_57 (fun v19 rv19 => ?_)
      refine gx_icmp_ge 65 dX1_reduce_58 (by decide) (fun _ => rv17) (fun _ => rv19) (fun _ => ?_) (fun _ => ?_)
      · refine gx_iconst dX1_reduce_61 ?_
        refine gx_goto 66 dX1_reduce_62 (by decide) ?_
        exact gx_pick [3, 4, 2, 1, 0] rfl (hj3 a1 v11 v13 v15 1 s18 ra1 rv11 rv13 rv15 (Or.inr rfl))
      · refine gx_iconst dX1_reduce_65 ?_
        exact gx_pick [3, 4, 2, 1, 0] rfl (hj3 a1 v11 v13 v15 0 s18 ra1 rv11 rv13 rv15 (Or.inl rfl))
  · refine gx_jn (fun j20 => ∀ (a1 a2 a3 a4 : Int) (s21 : Sg), inR a1 → inR a2 → inR a3 → inR a4 → WGx p l e R s m args below meth c JX1_reduce DX1_reduce G clA A FC ad0 σ0 (rvX true) (j20 a1 a2 a3 a4 s21) s21 16 [(0, vR 1), (1, vI a1), (2, vI a2), (3, vI a3), (4, vI a4)] []) (fun a1 a2 a3 a4 s21 ra1 ra2 ra3 ra4 => ?_) (fun j20 hj20 => ?_)
    · refine gx_iconst dX1_reduce_16 ?_
      exact gx_pick [0, 1, 2, 3, 4] rfl (hj1 a1 a2 a3 a4 0 s21 ra1 ra2 ra3 ra4 (Or.inl rfl))
    · refine gx_iload_n 1 dX1_reduce_0 rfl ?_
      refine gx_if_lt 16 dX1_reduce_1 (by decide) (fun _ => ra1) (fun _ => ?_) (fun _ => ?_)
      · exact gx_pick [0, 1, 2, 3, 4] rfl (hj20 a1 a2 a3 a4 u ra1 ra2 ra3 ra4)
      · refine gx_iload_n 1 dX1_reduce_4 rfl ?_
        refine gx_aload_n 0 dX1_reduce_5 rfl ?_
        refine gx_getI (ci := 1) (b := 30) (N := 57) 44 rfl rfl rfl (by decide) in_X1 rfl rfl q352 dX1_reduce_6 (fun v22 rv22 => ?_)
        refine gx_icmp_ge 16 dX1_reduce_9 (by decide) (fun _ => ra1) (fun _ => rv22) (fun _ => ?_) (fun _ => ?_)
        · refine gx_iconst dX1_reduce_12 ?_
          refine gx_goto 17 dX1_reduce_13 (by decide) ?_
          exact gx_pick [0, 1, 2, 3, 4] rfl (hj1 a1 a2 a3 a4 1 u ra1 ra2 ra3 ra4 (Or.inr rfl))
        · exact gx_pick [0, 1, 2, 3, 4] rfl (hj20 a1 a2 a3 a4 u ra1 ra2 ra3 ra4)
end
section
variable {l : Launch} {d : Nat} {call : Nat → List Int → Sg → Option (Int × Sg)}
theorem ctX1_reduce (p0 : Program) (e0 : Env) (s0 : State) (m0 : MethodId) (meth0 : Method) (c0 : Code) (G0 : Gm) (hd : 7 ≤ d) (hlt : LT l) (hX1_need : ∀ (a1 : Int) (u : Sg), CtX l d FC clA yX1_need cX1_need 1 none DX1_need (rvX false) [vI a1] u (call 4 [a1] u)) (hX1_register : ∀ (a1 a2 a3 a4 a5 : Int) (u : Sg), CtX l d FC clA yX1_register cX1_register 6 (some .int) DX1_register (rvX true) [vR 1, vI a1, vI a2, vI a3, vI a4, vI a5] u (call 31 [a1, a2, a3, a4, a5] u)) (hX1_place : ∀ (a1 a2 a3 : Int) (u : Sg), CtX l d FC clA yX1_place cX1_place 5 (some .int) DX1_place (rvX true) [vR 1, vI a1, vI a2, vI a3] u (call 33 [a1, a2, a3] u)) (hX1_termOf : ∀ (a1 : Int) (u : Sg), CtX l d FC clA yX1_termOf cX1_termOf 3 (some .int) DX1_termOf (rvX true) [vR 1, vI a1] u (call 11 [a1] u)) (hX1_loci : ∀ (a1 : Int) (u : Sg), Ct l d FC clA yX1_loci cX1_loci 5 (some .int) DX1_loci rvI [vR 1, vI a1] u (call 5 [a1] u)) (a1 a2 a3 a4 : Int) (u : Sg) : CtX l (d + 1) FC clA yX1_reduce cX1_reduce 8 (some .int) DX1_reduce (rvX true) [vR 1, vI a1, vI a2, vI a3, vI a4] u (bX1_reduce call a1 a2 a3 a4 u) :=
  CtX_of (by decide) (Nat.le_of_ble_eq_true rfl) (fun p e R s1 m args below meth c G A ad hA hRf hRl => wX1_reduce hd hlt hRf hRl hX1_need hX1_register hX1_place hX1_termOf hX1_loci a1 a2 a3 a4 u (hA _ (List.mem_cons_of_mem _ List.mem_cons_self)) (hA _ (List.mem_cons_of_mem _ (List.mem_cons_of_mem _ List.mem_cons_self))) (hA _ (List.mem_cons_of_mem _ (List.mem_cons_of_mem _ (List.mem_cons_of_mem _ List.mem_cons_self)))) (hA _ (List.mem_cons_of_mem _ (List.mem_cons_of_mem _ (List.mem_cons_of_mem _ (List.mem_cons_of_mem _ List.mem_cons_self)))))) p0 e0 s0 m0 meth0 c0 G0
end
