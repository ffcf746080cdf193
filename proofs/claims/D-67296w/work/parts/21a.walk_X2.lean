/-! RoundCheck$Store.make(III)I -/
abbrev JX2_make : Jm := (cX2_make, RX2, 13, (some .int))
def bX2_make_L74 (call : Nat → List Int → Sg → Option (Int × Sg)) : Nat → Int → Int → Int → Int → Int → Int → Int → Int → Sg → (Int → Int → Int → Int → Int → Int → Int → Sg → Option (Int × Sg)) → Option (Int × Sg)
  | 0, _, _, _, _, _, _, _, _, _, _ => none
  | n + 1, a1, a2, a3, a4, a5, a6, a7, a8, u, x126 => if a8 < a5 then (if a7 = 0 then (x126 a1 a2 a3 a4 a5 a6 a7 u) else (jn (fun (a1 a2 a3 a4 a5 a6 a8 t0 : Int) (s2 : Sg) => ar (a8 + 1) fun v3 => bX2_make_L74 call n a1 a2 a3 a4 a5 a6 t0 v3 s2 x126) fun j1 => ld u 2 a6 fun v4 => ar (v4 + a8) fun v5 => ld u 7 v5 fun v6 => ar (a3 + a8) fun v7 => ld u 11 v7 fun v8 => if v6 = v8 then (j1 a1 a2 a3 a4 a5 a6 a8 1 u) else (j1 a1 a2 a3 a4 a5 a6 a8 0 u))) else (x126 a1 a2 a3 a4 a5 a6 a7 u)
def bX2_make_L26 (call : Nat → List Int → Sg → Option (Int × Sg)) : Nat → Int → Int → Int → Int → Int → Int → Sg → (Int → Int → Int → Int → Int → Sg → Option (Int × Sg)) → (Int → Int → Sg → Option (Int × Sg)) → Option (Int × Sg)
  | 0, _, _, _, _, _, _, _, _, _ => none
  | n + 1, a1, a2, a3, a4, a5, a6, u, x151, x131 => if a6 = 0 then (x151 a1 a2 a3 a4 a5 u) else (jn (fun (a1 a2 a3 a4 a5 a6 : Int) (s2 : Sg) => ld s2 6 a6 fun v3 => bX2_make_L26 call n a1 a2 a3 a4 a5 v3 s2 x151 x131) fun j1 => ld u 0 a6 fun v4 => if v4 = a1 then (ld u 1 a6 fun v5 => if v5 = a2 then (ld u 3 a6 fun v6 => if v6 = a5 then (bX2_make_L74 call KF a1 a2 a3 a4 a5 a6 1 0 u (fun v8 v9 v10 v11 v12 v13 v14 s7 => if v14 = 0 then (j1 v8 v9 v10 v11 v12 v13 s7) else (x131 v10 v13 s7))) else (j1 a1 a2 a3 a4 a5 a6 u)) else (j1 a1 a2 a3 a4 a5 a6 u)) else (j1 a1 a2 a3 a4 a5 a6 u))
def bX2_make_L267 (call : Nat → List Int → Sg → Option (Int × Sg)) : Nat → Int → Int → Int → Int → Int → Sg → (Int → Int → Int → Int → Int → Sg → Option (Int × Sg)) → Option (Int × Sg)
  | 0, _, _, _, _, _, _, _ => none
  | n + 1, a1, a2, a3, a4, a5, u, x309 => un (gI u 10) fun v1 => ar (v1 + a5) fun v2 => un (gL u 7 : Int) fun v3 => if v2 ≤ v3 then (x309 a1 a2 a3 a4 a5 u) else (un (gL u 7 : Int) fun v4 => un (gL u 7 : Int) fun v5 => gd (2 ≠ 0) (ar (Int.tdiv v5 2) fun v6 => ar (v4 + v6) fun v7 => cpy u 7 v7 fun s8 => bX2_make_L267 call n a1 a2 a3 a4 a5 s8 x309))
def bX2_make_L418 (call : Nat → List Int → Sg → Option (Int × Sg)) : Nat → Int → Int → Int → Int → Int → Int → Int → Int → Sg → (Int → Int → Int → Int → Int → Sg → Option (Int × Sg)) → Option (Int × Sg)
  | 0, _, _, _, _, _, _, _, _, _, _ => none
  | n + 1, a1, a3, a5, a6, a7, a9, a10, a11, u, x528 => if a11 < a5 then (ar (a3 + a11) fun v1 => ld u 11 v1 fun v2 => un (gI u 10) fun v3 => ar (v3 + a11) fun v4 => stA u 7 v4 v2 fun s5 => if a11 < a10 then (if v2 = 0 then (ar (a11 + 1) fun v6 => bX2_make_L418 call n a1 a3 a5 a6 a7 a9 a10 v6 s5 x528) else (jn (fun (a1 a3 a5 a6 a7 a10 a11 t0 t1 : Int) (s8 : Sg) => un (if t0 < t1 then t1 else t0) fun v9 => ar (a11 + 1) fun v10 => bX2_make_L418 call n a1 a3 a5 a6 a7 v9 a10 v10 s8 x528) fun j7 => jn (fun (a1 a3 a5 a6 a7 a10 a11 a12 t0 : Int) (s12 : Sg) => ld s12 5 a12 fun v13 => j7 a1 a3 a5 a6 a7 a10 a11 t0 v13 s12) fun j11 => ld s5 4 v2 fun v14 => arL (a7 + v14) fun v15 => if a1 = 18 then (if a11 = 1 then (ld s5 5 v2 fun v16 => ar (v16 - 1) fun v17 => j7 a1 a3 a5 a6 v15 a10 a11 a9 v17 s5) else (j11 a1 a3 a5 a6 v15 a10 a11 v2 a9 s5)) else (j11 a1 a3 a5 a6 v15 a10 a11 v2 a9 s5))) else (arL (a7 + 1) fun v18 => ar (a11 + 1) fun v19 => bX2_make_L418 call n a1 a3 a5 a6 v18 a9 a10 v19 s5 x528)) else (x528 a3 a5 a6 a7 a9 u)
def bX2_make (call : Nat → List Int → Sg → Option (Int × Sg)) (a1 a2 a3 : Int) (u : Sg) : Option (Int × Sg) := cl (call 95 [a1, a2, a3] u) fun v1 s2 => un (gI s2 12) fun v3 => ar (v3 - a3) fun v4 => ld s2 8 v1 fun v5 => bX2_make_L26 call KF a1 a2 a3 v1 v4 v5 s2 (fun v7 v8 v9 v10 v11 s6 => jn (fun (a1 a2 a3 a4 a5 : Int) (s13 : Sg) => bX2_make_L267 call KF a1 a2 a3 a4 a5 s13 (fun v15 v16 v17 v18 v19 s14 => jn (fun (a1 a3 a5 a6 a7 t0 : Int) (s21 : Sg) => jn (fun (a1 a3 a5 a6 a7 a9 t0 : Int) (s23 : Sg) => bX2_make_L418 call KF a1 a3 a5 a6 a7 a9 t0 0 s23 (fun v25 v26 v27 v28 v29 s24 => un (if 1000000000 < v28 then 1000000000 else v28) fun v30 => ar v30 fun v31 => stA s24 4 v27 v31 fun s32 => stA s32 5 v27 v29 fun s33 => un (gI s33 10) fun v34 => ar (v34 + v26) fun v35 => un (sI s33 10 v35) fun s36 => un (sI s36 12 v25) fun s37 => some (v27, s37))) fun j22 => if a1 = 8 then (j22 a1 a3 a5 a6 a7 t0 1 s21) else (j22 a1 a3 a5 a6 a7 t0 a5 s21)) fun j20 => un (gI s14 9) fun v38 => un (gI s14 9) fun v39 => ar (v39 + 1) fun v40 => un (sI s14 9 v40) fun s41 => stA s41 0 v38 v15 fun s42 => stA s42 1 v38 v16 fun s43 => un (gI s43 10) fun v44 => stA s43 2 v38 v44 fun s45 => stA s45 3 v38 v19 fun s46 => ld s46 8 v18 fun v47 => stA s46 6 v38 v47 fun s48 => stA s48 8 v18 v38 fun s49 => if v15 = 2 then (ar (v16 + 1) fun v50 => j20 v15 v17 v19 v38 1 v50 s49) else (j20 v15 v17 v19 v38 1 0 s49))) fun j12 => un (gI s6 9) fun v51 => un (gL s6 0 : Int) fun v52 => if v51 = v52 then (un (gI s6 9) fun v53 => un (gI s6 9) fun v54 => gd (2 ≠ 0) (ar (Int.tdiv v54 2) fun v55 => ar (v53 + v55) fun v56 => cpy s6 0 v56 fun s57 => cpy s57 1 v56 fun s58 => cpy s58 2 v56 fun s59 => cpy s59 3 v56 fun s60 => cpy s60 4 v56 fun s61 => cpy s61 5 v56 fun s62 => cpy s62 6 v56 fun s63 => j12 v7 v8 v9 v10 v11 s63)) else (j12 v7 v8 v9 v10 v11 s6)) (fun v65 v66 s64 => un (sI s64 12 v65) fun s67 => some (v66, s67))
section
variable {p : Program} {l : Launch} {e : Env} {R : Room} {s : State} {m : MethodId} {args : Array Value} {below : List Frame} {meth : Method} {c : Code} {G : Gm} {A : Nat → Prop} {ad0 : Nat → Nat} {σ0 : Sg} {d : Nat} {call : Nat → List Int → Sg → Option (Int × Sg)}
theorem wX2_make_L74 (hd : 2 ≤ d) (hRf : d + 1 ≤ R.frames) (hRl : 40 * (d + 1) ≤ R.locals) (hX2_hash : ∀ (a1 a2 a3 : Int) (u : Sg), Ct l d FC clA yX2_hash cX2_hash 6 (some .int) DX2_hash rvI [vR 0, vI a1, vI a2, vI a3] u (call 95 [a1, a2, a3] u)) (x126 : Int → Int → Int → Int → Int → Int → Int → Sg → Option (Int × Sg)) (hx126 : ∀ (a1 a2 a3 a4 a5 a6 a7 : Int) (u : Sg), inR a1 → inR a2 → inR a3 → inR a4 → inR a5 → inR a6 → (a7 = 0 ∨ a7 = 1) → WG p l e R s m args below meth c JX2_make DX2_make G clA A FC ad0 σ0 rvI (x126 a1 a2 a3 a4 a5 a6 a7 u) u 126 [(0, vR 0), (1, vI a1), (2, vI a2), (3, vI a3), (4, vI a4), (5, vI a5), (6, vI a6), (7, vI a7)] []) : ∀ (n : Nat) (a1 a2 a3 a4 a5 a6 a7 a8 : Int) (u : Sg), inR a1 → inR a2 → inR a3 → inR a4 → inR a5 → inR a6 → (a7 = 0 ∨ a7 = 1) → inR a8 → WG p l e R s m args below meth c JX2_make DX2_make G clA A FC ad0 σ0 rvI (bX2_make_L74 call n a1 a2 a3 a4 a5 a6 a7 a8 u x126) u 74 [(0, vR 0), (1, vI a1), (2, vI a2), (3, vI a3), (4, vI a4), (5, vI a5), (6, vI a6), (7, vI a7), (8, vI a8)] [] := by
  intro n
  induction n with
  | zero =>
    intro a1 a2 a3 a4 a5 a6 a7 a8 u ra1 ra2 ra3 ra4 ra5 ra6 za7 ra8
    exact g_none
  | succ n ih =>
    intro a1 a2 a3 a4 a5 a6 a7 a8 u ra1 ra2 ra3 ra4 ra5 ra6 za7 ra8
    rw [bX2_make_L74]
    refine g_iload 8 dX2_make_74 rfl ?_
    refine g_iload 5 dX2_make_76 rfl ?_
    refine g_icmp_ge 126 dX2_make_78 (by decide) (fun _ => ra8) (fun _ => ra5) (fun _ => ?_) (fun _ => ?_)
    · refine g_iload 7 dX2_make_81 rfl ?_
      refine g_if_eq 126 dX2_make_83 (by decide) (fun _ => (inR_z za7)) (fun _ => ?_) (fun _ => ?_)
      · exact g_pick [0, 1, 2, 3, 4, 5, 6, 7] rfl (hx126 a1 a2 a3 a4 a5 a6 a7 u ra1 ra2 ra3 ra4 ra5 ra6 za7)
      · refine g_jn (fun j1 => ∀ (a1 a2 a3 a4 a5 a6 a8 t0 : Int) (s2 : Sg), inR a1 → inR a2 → inR a3 → inR a4 → inR a5 → inR a6 → inR a8 → (t0 = 0 ∨ t0 = 1) → WG p l e R s m args below meth c JX2_make DX2_make G clA A FC ad0 σ0 rvI (j1 a1 a2 a3 a4 a5 a6 a8 t0 s2) s2 118 [(0, vR 0), (1, vI a1), (2, vI a2), (3, vI a3), (4, vI a4), (5, vI a5), (6, vI a6), (8, vI a8)] [vI t0]) (fun a1 a2 a3 a4 a5 a6 a8 t0 s2 ra1 ra2 ra3 ra4 ra5 ra6 ra8 zt0 => ?_) (fun j1 hj1 => ?_)
        · refine g_istore (loc' := [(7, vI t0), (0, vR 0), (1, vI a1), (2, vI a2), (3, vI a3), (4, vI a4), (5, vI a5), (6, vI a6), (8, vI a8)]) dX2_make_118 (by decide) rfl ?_
          refine g_iinc 8 (loc' := fun v3 => [(8, vI v3), (7, vI t0), (0, vR 0), (1, vI a1), (2, vI a2), (3, vI a3), (4, vI a4), (5, vI a5), (6, vI a6)]) dX2_make_120 rfl (by decide) (fun _ => rfl) (fun v3 rv3 => ?_)
          refine g_goto 74 dX2_make_123 (by decide) ?_
          exact g_pick [2, 3, 4, 5, 6, 7, 8, 1, 0] rfl (ih a1 a2 a3 a4 a5 a6 t0 v3 s2 ra1 ra2 ra3 ra4 ra5 ra6 zt0 rv3)
        · refine g_aload_n 0 dX2_make_86 rfl ?_
          refine g_get (v := vR 17) (ci := 0) (b := 0) (N := 21) 7 rfl rfl (by decide) in_X2 rfl rfl q243 dX2_make_87 ?_
          refine g_aload_n 0 dX2_make_90 rfl ?_
          refine g_get (v := vR 12) (ci := 0) (b := 0) (N := 21) 2 rfl rfl (by decide) in_X2 rfl rfl q235 dX2_make_91 ?_
          refine g_iload 6 dX2_make_94 rfl ?_
          refine g_iald (id := 2) 2 rfl rfl dX2_make_96 (fun v4 rv4 => ?_)
          refine g_iload 8 dX2_make_97 rfl ?_
          refine g_iadd dX2_make_99 (fun v5 rv5 => ?_)
          refine g_iald (id := 7) 7 rfl rfl dX2_make_100 (fun v6 rv6 => ?_)
          refine g_aload_n 0 dX2_make_101 rfl ?_
          refine g_get (v := vR 21) (ci := 0) (b := 0) (N := 21) 11 rfl rfl (by decide) in_X2 rfl rfl q250 dX2_make_102 ?_
          refine g_iload_n 3 dX2_make_105 rfl ?_
          refine g_iload 8 dX2_make_106 rfl ?_
          refine g_iadd dX2_make_108 (fun v7 rv7 => ?_)
          refine g_iald (id := 11) 9 rfl rfl dX2_make_109 (fun v8 rv8 => ?_)
          refine g_icmp_ne 117 dX2_make_110 (by decide) (fun _ => rv6) (fun _ => rv8) (fun _ => ?_) (fun _ => ?_)
          · refine g_iconst dX2_make_113 ?_
            refine g_goto 118 dX2_make_114 (by decide) ?_
            exact g_pick [0, 1, 2, 3, 4, 5, 6, 8] rfl (hj1 a1 a2 a3 a4 a5 a6 a8 1 u ra1 ra2 ra3 ra4 ra5 ra6 ra8 (Or.inr rfl))
          · refine g_iconst dX2_make_117 ?_
            exact g_pick [0, 1, 2, 3, 4, 5, 6, 8] rfl (hj1 a1 a2 a3 a4 a5 a6 a8 0 u ra1 ra2 ra3 ra4 ra5 ra6 ra8 (Or.inl rfl))
    · exact g_pick [0, 1, 2, 3, 4, 5, 6, 7] rfl (hx126 a1 a2 a3 a4 a5 a6 a7 u ra1 ra2 ra3 ra4 ra5 ra6 za7)
theorem wX2_make_L26 (hd : 2 ≤ d) (hRf : d + 1 ≤ R.frames) (hRl : 40 * (d + 1) ≤ R.locals) (hX2_hash : ∀ (a1 a2 a3 : Int) (u : Sg), Ct l d FC clA yX2_hash cX2_hash 6 (some .int) DX2_hash rvI [vR 0, vI a1, vI a2, vI a3] u (call 95 [a1, a2, a3] u)) (x151 : Int → Int → Int → Int → Int → Sg → Option (Int × Sg)) (x131 : Int → Int → Sg → Option (Int × Sg)) (hx151 : ∀ (a1 a2 a3 a4 a5 : Int) (u : Sg), inR a1 → inR a2 → inR a3 → inR a4 → inR a5 → WG p l e R s m args below meth c JX2_make DX2_make G clA A FC ad0 σ0 rvI (x151 a1 a2 a3 a4 a5 u) u 151 [(0, vR 0), (1, vI a1), (2, vI a2), (3, vI a3), (4, vI a4), (5, vI a5)] []) (hx131 : ∀ (a3 a6 : Int) (u : Sg), inR a3 → inR a6 → WG p l e R s m args below meth c JX2_make DX2_make G clA A FC ad0 σ0 rvI (x131 a3 a6 u) u 131 [(0, vR 0), (3, vI a3), (6, vI a6)] []) : ∀ (n : Nat) (a1 a2 a3 a4 a5 a6 : Int) (u : Sg), inR a1 → inR a2 → inR a3 → inR a4 → inR a5 → inR a6 → WG p l e R s m args below meth c JX2_make DX2_make G clA A FC ad0 σ0 rvI (bX2_make_L26 call n a1 a2 a3 a4 a5 a6 u x151 x131) u 26 [(0, vR 0), (1, vI a1), (2, vI a2), (3, vI a3), (4, vI a4), (5, vI a5), (6, vI a6)] [] := by
  intro n
  induction n with
  | zero =>
    intro a1 a2 a3 a4 a5 a6 u ra1 ra2 ra3 ra4 ra5 ra6
    exact g_none
  | succ n ih =>
    intro a1 a2 a3 a4 a5 a6 u ra1 ra2 ra3 ra4 ra5 ra6
    rw [bX2_make_L26]
    refine g_iload 6 dX2_make_26 rfl ?_
    refine g_if_eq 151 dX2_make_28 (by decide) (fun _ => ra6) (fun _ => ?_) (fun _ => ?_)
    · exact g_pick [0, 1, 2, 3, 4, 5] rfl (hx151 a1 a2 a3 a4 a5 u ra1 ra2 ra3 ra4 ra5)
    · refine g_jn (fun j1 => ∀ (a1 a2 a3 a4 a5 a6 : Int) (s2 : Sg), inR a1 → inR a2 → inR a3 → inR a4 → inR a5 → inR a6 → WG p l e R s m args below meth c JX2_make DX2_make G clA A FC ad0 σ0 rvI (j1 a1 a2 a3 a4 a5 a6 s2) s2 139 [(0, vR 0), (1, vI a1), (2, vI a2), (3, vI a3), (4, vI a4), (5, vI a5), (6, vI a6)] []) (fun a1 a2 a3 a4 a5 a6 s2 ra1 ra2 ra3 ra4 ra5 ra6 => ?_) (fun j1 hj1 => ?_)
      · refine g_aload_n 0 dX2_make_139 rfl ?_
        refine g_get (v := vR 16) (ci := 0) (b := 0) (N := 21) 6 rfl rfl (by decide) in_X2 rfl rfl q242 dX2_make_140 ?_
        refine g_iload 6 dX2_make_143 rfl ?_
        refine g_iald (id := 6) 6 rfl rfl dX2_make_145 (fun v3 rv3 => ?_)
        refine g_istore (loc' := [(6, vI v3), (0, vR 0), (1, vI a1), (2, vI a2), (3, vI a3), (4, vI a4), (5, vI a5)]) dX2_make_146 (by decide) rfl ?_
        refine g_goto 26 dX2_make_148 (by decide) ?_
        exact g_pick [1, 2, 3, 4, 5, 6, 0] rfl (ih a1 a2 a3 a4 a5 v3 s2 ra1 ra2 ra3 ra4 ra5 rv3)
      · refine g_aload_n 0 dX2_make_31 rfl ?_
        refine g_get (v := vR 10) (ci := 0) (b := 0) (N := 21) 0 rfl rfl (by decide) in_X2 rfl rfl q231 dX2_make_32 ?_
        refine g_iload 6 dX2_make_35 rfl ?_
        refine g_iald (id := 0) 0 rfl rfl dX2_make_37 (fun v4 rv4 => ?_)
        refine g_iload_n 1 dX2_make_38 rfl ?_
        refine g_icmp_ne 139 dX2_make_39 (by decide) (fun _ => rv4) (fun _ => ra1) (fun _ => ?_) (fun _ => ?_)
        · refine g_aload_n 0 dX2_make_42 rfl ?_
          refine g_get (v := vR 11) (ci := 0) (b := 0) (N := 21) 1 rfl rfl (by decide) in_X2 rfl rfl q233 dX2_make_43 ?_
          refine g_iload 6 dX2_make_46 rfl ?_
          refine g_iald (id := 1) 1 rfl rfl dX2_make_48 (fun v5 rv5 => ?_)
          refine g_iload_n 2 dX2_make_49 rfl ?_
          refine g_icmp_ne 139 dX2_make_50 (by decide) (fun _ => rv5) (fun _ => ra2) (fun _ => ?_) (fun _ => ?_)
          · refine g_aload_n 0 dX2_make_53 rfl ?_
            refine g_get (v := vR 13) (ci := 0) (b := 0) (N := 21) 3 rfl rfl (by decide) in_X2 rfl rfl q236 dX2_make_54 ?_
            refine g_iload 6 dX2_make_57 rfl ?_
            refine g_iald (id := 3) 3 rfl rfl dX2_make_59 (fun v6 rv6 => ?_)
            refine g_iload 5 dX2_make_60 rfl ?_
            refine g_icmp_eq 68 dX2_make_62 (by decide) (fun _ => rv6) (fun _ => ra5) (fun _ => ?_) (fun _ => ?_)
            · refine g_iconst dX2_make_68 ?_
              refine g_istore (loc' := [(7, vI 1), (0, vR 0), (1, vI a1), (2, vI a2), (3, vI a3), (4, vI a4), (5, vI a5), (6, vI a6)]) dX2_make_69 (by decide) rfl ?_
              refine g_iconst dX2_make_71 ?_
              refine g_istore (loc' := [(8, vI 0), (7, vI 1), (0, vR 0), (1, vI a1), (2, vI a2), (3, vI a3), (4, vI a4), (5, vI a5), (6, vI a6)]) dX2_make_72 (by decide) rfl ?_
              refine g_pick [2, 3, 4, 5, 6, 7, 8, 1, 0] rfl (wX2_make_L74 hd hRf hRl hX2_hash _ (fun v8 v9 v10 v11 v12 v13 v14 s7 rv8 rv9 rv10 rv11 rv12 rv13 zv14 => ?_) KF a1 a2 a3 a4 a5 a6 1 0 u ra1 ra2 ra3 ra4 ra5 ra6 (Or.inr rfl) (inR_z (Or.inl rfl)))
              · refine g_iload 7 dX2_make_126 rfl ?_
                refine g_if_eq 139 dX2_make_128 (by decide) (fun _ => (inR_z zv14)) (fun _ => ?_) (fun _ => ?_)
                · exact g_pick [0, 1, 2, 3, 4, 5, 6] rfl (hj1 v8 v9 v10 v11 v12 v13 s7 rv8 rv9 rv10 rv11 rv12 rv13)
                · exact g_pick [0, 3, 6] rfl (hx131 v10 v13 s7 rv10 rv13)
            · refine g_goto 139 dX2_make_65 (by decide) ?_
              exact g_pick [0, 1, 2, 3, 4, 5, 6] rfl (hj1 a1 a2 a3 a4 a5 a6 u ra1 ra2 ra3 ra4 ra5 ra6)
          · exact g_pick [0, 1, 2, 3, 4, 5, 6] rfl (hj1 a1 a2 a3 a4 a5 a6 u ra1 ra2 ra3 ra4 ra5 ra6)
        · exact g_pick [0, 1, 2, 3, 4, 5, 6] rfl (hj1 a1 a2 a3 a4 a5 a6 u ra1 ra2 ra3 ra4 ra5 ra6)
theorem wX2_make_L267 (hd : 2 ≤ d) (hRf : d + 1 ≤ R.frames) (hRl : 40 * (d + 1) ≤ R.locals) (hX2_hash : ∀ (a1 a2 a3 : Int) (u : Sg), Ct l d FC clA yX2_hash cX2_hash 6 (some .int) DX2_hash rvI [vR 0, vI a1, vI a2, vI a3] u (call 95 [a1, a2, a3] u)) (x309 : Int → Int → Int → Int → Int → Sg → Option (Int × Sg)) (hx309 : ∀ (a1 a2 a3 a4 a5 : Int) (u : Sg), inR a1 → inR a2 → inR a3 → inR a4 → inR a5 → WG p l e R s m args below meth c JX2_make DX2_make G clA A FC ad0 σ0 rvI (x309 a1 a2 a3 a4 a5 u) u 309 [(0, vR 0), (1, vI a1), (2, vI a2), (3, vI a3), (4, vI a4), (5, vI a5)] []) : ∀ (n : Nat) (a1 a2 a3 a4 a5 : Int) (u : Sg), inR a1 → inR a2 → inR a3 → inR a4 → inR a5 → WG p l e R s m args below meth c JX2_make DX2_make G clA A FC ad0 σ0 rvI (bX2_make_L267 call n a1 a2 a3 a4 a5 u x309) u 267 [(0, vR 0), (1, vI a1), (2, vI a2), (3, vI a3), (4, vI a4), (5, vI a5)] [] := by
  intro n
  induction n with
  | zero =>
    intro a1 a2 a3 a4 a5 u ra1 ra2 ra3 ra4 ra5
    exact g_none
  | succ n ih =>
    intro a1 a2 a3 a4 a5 u ra1 ra2 ra3 ra4 ra5
    rw [bX2_make_L267]
    refine g_aload_n 0 dX2_make_267 rfl ?_
    refine g_getI (ci := 0) (b := 0) (N := 21) 10 rfl rfl rfl (by decide) in_X2 rfl rfl q247 dX2_make_268 (fun v1 rv1 => ?_)
    refine g_iload 5 dX2_make_271 rfl ?_
    refine g_iadd dX2_make_273 (fun v2 rv2 => ?_)
    refine g_aload_n 0 dX2_make_274 rfl ?_
    refine g_get (v := vR 17) (ci := 0) (b := 0) (N := 21) 7 rfl rfl (by decide) in_X2 rfl rfl q243 dX2_make_275 ?_
    refine g_alenU (id := 7) 7 rfl (Or.inl rfl) dX2_make_278 (fun v3 rv3 => ?_)
    refine g_icmp_le 309 dX2_make_279 (by decide) (fun _ => rv2) (fun _ => rv3) (fun _ => ?_) (fun _ => ?_)
    · exact g_pick [0, 1, 2, 3, 4, 5] rfl (hx309 a1 a2 a3 a4 a5 u ra1 ra2 ra3 ra4 ra5)
    · refine g_aload_n 0 dX2_make_282 rfl ?_
      refine g_aload_n 0 dX2_make_283 rfl ?_
      refine g_get (v := vR 17) (ci := 0) (b := 0) (N := 21) 7 rfl rfl (by decide) in_X2 rfl rfl q243 dX2_make_284 ?_
      refine g_aload_n 0 dX2_make_287 rfl ?_
      refine g_get (v := vR 17) (ci := 0) (b := 0) (N := 21) 7 rfl rfl (by decide) in_X2 rfl rfl q243 dX2_make_288 ?_
      refine g_alenU (id := 7) 7 rfl (Or.inl rfl) dX2_make_291 (fun v4 rv4 => ?_)
      refine g_aload_n 0 dX2_make_292 rfl ?_
      refine g_get (v := vR 17) (ci := 0) (b := 0) (N := 21) 7 rfl rfl (by decide) in_X2 rfl rfl q243 dX2_make_293 ?_
      refine g_alenU (id := 7) 7 rfl (Or.inl rfl) dX2_make_296 (fun v5 rv5 => ?_)
      refine g_iconst dX2_make_297 ?_
      refine g_idiv rv5 (by decide : inR (2)) dX2_make_298 (fun v6 rv6 => ?_)
      refine g_iadd dX2_make_299 (fun v7 rv7 => ?_)
      refine g_cpy (ci := 0) (b := 0) (N := 21) FC_ok FC_10 rfl 7 7 rfl rfl rfl rfl (by decide) in_X2 tyX2 tyX2_ok nmX2 rfl rfl rfl rfl (by decide +kernel) q200 q243 hRf hRl (Nat.le_of_succ_le hd) (Nat.le_of_ble_eq_true rfl) rfl rfl dX2_make_300 dX2_make_303 (fun s8 => ?_)
      refine g_goto 267 dX2_make_306 (by decide) ?_
      exact g_pick [0, 1, 2, 3, 4, 5] rfl (ih a1 a2 a3 a4 a5 s8 ra1 ra2 ra3 ra4 ra5)
theorem wX2_make_L418 (hd : 2 ≤ d) (hRf : d + 1 ≤ R.frames) (hRl : 40 * (d + 1) ≤ R.locals) (hX2_hash : ∀ (a1 a2 a3 : Int) (u : Sg), Ct l d FC clA yX2_hash cX2_hash 6 (some .int) DX2_hash rvI [vR 0, vI a1, vI a2, vI a3] u (call 95 [a1, a2, a3] u)) (x528 : Int → Int → Int → Int → Int → Sg → Option (Int × Sg)) (hx528 : ∀ (a3 a5 a6 a7 a9 : Int) (u : Sg), inR a3 → inR a5 → inR a6 → inL a7 → inR a9 → WG p l e R s m args below meth c JX2_make DX2_make G clA A FC ad0 σ0 rvI (x528 a3 a5 a6 a7 a9 u) u 528 [(0, vR 0), (3, vI a3), (5, vI a5), (6, vI a6), (7, vL a7), (9, vI a9)] []) : ∀ (n : Nat) (a1 a3 a5 a6 a7 a9 a10 a11 : Int) (u : Sg), inR a1 → inR a3 → inR a5 → inR a6 → inL a7 → inR a9 → inR a10 → inR a11 → WG p l e R s m args below meth c JX2_make DX2_make G clA A FC ad0 σ0 rvI (bX2_make_L418 call n a1 a3 a5 a6 a7 a9 a10 a11 u x528) u 418 [(0, vR 0), (1, vI a1), (3, vI a3), (5, vI a5), (6, vI a6), (7, vL a7), (9, vI a9), (10, vI a10), (11, vI a11)] [] := by
  intro n
  induction n with
  | zero =>
    intro a1 a3 a5 a6 a7 a9 a10 a11 u ra1 ra3 ra5 ra6 ra7 ra9 ra10 ra11
    exact g_none
  | succ n ih =>
    intro a1 a3 a5 a6 a7 a9 a10 a11 u ra1 ra3 ra5 ra6 ra7 ra9 ra10 ra11
    rw [bX2_make_L418]
    refine g_iload 8 dX2_make_418 rfl ?_
    refine g_iload 3 dX2_make_420 rfl ?_
    refine g_icmp_ge 528 dX2_make_422 (by decide) (fun _ => ra11) (fun _ => ra5) (fun _ => ?_) (fun _ => ?_)
    · refine g_aload_n 0 dX2_make_425 rfl ?_
      refine g_get (v := vR 21) (ci := 0) (b := 0) (N := 21) 11 rfl rfl (by decide) in_X2 rfl rfl q250 dX2_make_426 ?_
      refine g_iload_n 2 dX2_make_429 rfl ?_
      refine g_iload 8 dX2_make_430 rfl ?_
      refine g_iadd dX2_make_432 (fun v1 rv1 => ?_)
      refine g_iald (id := 11) 9 rfl rfl dX2_make_433 (fun v2 rv2 => ?_)
      refine g_istore (loc' := [(12, vI v2), (0, vR 0), (1, vI a1), (3, vI a3), (5, vI a5), (6, vI a6), (7, vL a7), (9, vI a9), (10, vI a10), (11, vI a11)]) dX2_make_434 (by decide) rfl ?_
      refine g_aload_n 1 dX2_make_436 rfl ?_
      refine g_get (v := vR 17) (ci := 0) (b := 0) (N := 21) 7 rfl rfl (by decide) in_X2 rfl rfl q243 dX2_make_437 ?_
      refine g_aload_n 1 dX2_make_440 rfl ?_
      refine g_getI (ci := 0) (b := 0) (N := 21) 10 rfl rfl rfl (by decide) in_X2 rfl rfl q247 dX2_make_441 (fun v3 rv3 => ?_)
      refine g_iload 9 dX2_make_444 rfl ?_
      refine g_iadd dX2_make_446 (fun v4 rv4 => ?_)
      refine g_iload 0 dX2_make_447 rfl ?_
      refine g_iastU (id := 7) FC_ok 7 rfl rfl (by decide +kernel) rv2 dX2_make_449 (fun s5 => ?_)
      refine g_iload 9 dX2_make_450 rfl ?_
      refine g_iload 8 dX2_make_452 rfl ?_
      refine g_icmp_lt 466 dX2_make_454 (by decide) (fun _ => ra11) (fun _ => ra10) (fun _ => ?_) (fun _ => ?_)
      · refine g_iload 0 dX2_make_466 rfl ?_
        refine g_if_eq 522 dX2_make_468 (by decide) (fun _ => rv2) (fun _ => ?_) (fun _ => ?_)
        · refine g_iinc 9 (loc' := fun v6 => [(11, vI v6), (12, vI v2), (0, vR 0), (1, vI a1), (3, vI a3), (5, vI a5), (6, vI a6), (7, vL a7), (9, vI a9), (10, vI a10)]) dX2_make_522 rfl (by decide) (fun _ => rfl) (fun v6 rv6 => ?_)
          refine g_goto 418 dX2_make_525 (by decide) ?_
          exact g_pick [2, 3, 4, 5, 6, 7, 8, 9, 0] rfl (ih a1 a3 a5 a6 a7 a9 a10 v6 s5 ra1 ra3 ra5 ra6 ra7 ra9 ra10 rv6)
        · refine g_jn (fun j7 => ∀ (a1 a3 a5 a6 a7 a10 a11 t0 t1 : Int) (s8 : Sg), inR a1 → inR a3 → inR a5 → inR a6 → inL a7 → inR a10 → inR a11 → inR t0 → inR t1 → WG p l e R s m args below meth c JX2_make DX2_make G clA A FC ad0 σ0 rvI (j7 a1 a3 a5 a6 a7 a10 a11 t0 t1 s8) s8 517 [(0, vR 0), (1, vI a1), (3, vI a3), (5, vI a5), (6, vI a6), (7, vL a7), (10, vI a10), (11, vI a11)] [vI t1, vI t0]) (fun a1 a3 a5 a6 a7 a10 a11 t0 t1 s8 ra1 ra3 ra5 ra6 ra7 ra10 ra11 rt0 rt1 => ?_) (fun j7 hj7 => ?_)
          · refine g_mmax rt0 rt1 (Nat.le_trans (Nat.succ_le_succ (Nat.zero_le _)) hRf) (Nat.le_trans (Nat.mul_le_mul_left 40 (Nat.succ_le_succ (Nat.zero_le d))) hRl) (Nat.le_of_ble_eq_true rfl) q216 q217 q166 q218 dX2_make_517 (fun v9 rv9 => ?_)
            refine g_istore (loc' := [(9, vI v9), (0, vR 0), (1, vI a1), (3, vI a3), (5, vI a5), (6, vI a6), (7, vL a7), (10, vI a10), (11, vI a11)]) dX2_make_520 (by decide) rfl ?_
            refine g_iinc 8 (loc' := fun v10 => [(11, vI v10), (9, vI v9), (0, vR 0), (1, vI a1), (3, vI a3), (5, vI a5), (6, vI a6), (7, vL a7), (10, vI a10)]) dX2_make_522 rfl (by decide) (fun _ => rfl) (fun v10 rv10 => ?_)
            refine g_goto 418 dX2_make_525 (by decide) ?_
            exact g_pick [2, 3, 4, 5, 6, 7, 1, 8, 0] rfl (ih a1 a3 a5 a6 a7 v9 a10 v10 s8 ra1 ra3 ra5 ra6 ra7 rv9 ra10 rv10)
          · refine g_jn (fun j11 => ∀ (a1 a3 a5 a6 a7 a10 a11 a12 t0 : Int) (s12 : Sg), inR a1 → inR a3 → inR a5 → inR a6 → inL a7 → inR a10 → inR a11 → inR a12 → inR t0 → WG p l e R s m args below meth c JX2_make DX2_make G clA A FC ad0 σ0 rvI (j11 a1 a3 a5 a6 a7 a10 a11 a12 t0 s12) s12 510 [(0, vR 0), (1, vI a1), (3, vI a3), (5, vI a5), (6, vI a6), (7, vL a7), (10, vI a10), (11, vI a11), (12, vI a12)] [vI t0]) (fun a1 a3 a5 a6 a7 a10 a11 a12 t0 s12 ra1 ra3 ra5 ra6 ra7 ra10 ra11 ra12 rt0 => ?_) (fun j11 hj11 => ?_)
            · refine g_aload_n 0 dX2_make_510 rfl ?_
              refine g_get (v := vR 15) (ci := 0) (b := 0) (N := 21) 5 rfl rfl (by decide) in_X2 rfl rfl q240 dX2_make_511 ?_
              refine g_iload 8 dX2_make_514 rfl ?_
              refine g_iald (id := 5) 5 rfl rfl dX2_make_516 (fun v13 rv13 => ?_)
              exact g_pick [0, 1, 2, 3, 4, 5, 6, 7] rfl (hj7 a1 a3 a5 a6 a7 a10 a11 t0 v13 s12 ra1 ra3 ra5 ra6 ra7 ra10 ra11 rt0 rv13)
            · refine g_lload 6 dX2_make_471 rfl ?_
              refine g_aload_n 1 dX2_make_473 rfl ?_
              refine g_get (v := vR 14) (ci := 0) (b := 0) (N := 21) 4 rfl rfl (by decide) in_X2 rfl rfl q238 dX2_make_474 ?_
              refine g_iload 0 dX2_make_477 rfl ?_
              refine g_iald (id := 4) 4 rfl rfl dX2_make_479 (fun v14 rv14 => ?_)
              refine g_i2l rv14 dX2_make_480 ?_
              refine g_ladd dX2_make_481 (fun v15 rv15 => ?_)
              refine g_lstore (loc' := [(7, vL v15), (12, vI v2), (0, vR 0), (1, vI a1), (3, vI a3), (5, vI a5), (6, vI a6), (9, vI a9), (10, vI a10), (11, vI a11)]) dX2_make_482 (by decide) rfl ?_
              refine g_iload 7 dX2_make_484 rfl ?_
              refine g_iload_n 3 dX2_make_486 rfl ?_
              refine g_bipush (by decide +kernel) dX2_make_487 ?_
              refine g_icmp_ne 510 dX2_make_489 (by decide) (fun _ => ra1) (fun _ => (by decide : inR (18))) (fun _ => ?_) (fun _ => ?_)
              · refine g_iload 9 dX2_make_492 rfl ?_
                refine g_iconst dX2_make_494 ?_
                refine g_icmp_ne 510 dX2_make_495 (by decide) (fun _ => ra11) (fun _ => (inR_z (Or.inr rfl))) (fun _ => ?_) (fun _ => ?_)
                · refine g_aload_n 2 dX2_make_498 rfl ?_
                  refine g_get (v := vR 15) (ci := 0) (b := 0) (N := 21) 5 rfl rfl (by decide) in_X2 rfl rfl q240 dX2_make_499 ?_
                  refine g_iload 1 dX2_make_502 rfl ?_
                  refine g_iald (id := 5) 5 rfl rfl dX2_make_504 (fun v16 rv16 => ?_)
                  refine g_iconst dX2_make_505 ?_
                  refine g_isub dX2_make_506 (fun v17 rv17 => ?_)
                  refine g_goto 517 dX2_make_507 (by decide) ?_
                  exact g_pick [2, 3, 4, 5, 6, 0, 8, 9] rfl (hj7 a1 a3 a5 a6 v15 a10 a11 a9 v17 s5 ra1 ra3 ra5 ra6 rv15 ra10 ra11 ra9 rv17)
                · exact g_pick [2, 3, 4, 5, 6, 0, 8, 9, 1] rfl (hj11 a1 a3 a5 a6 v15 a10 a11 v2 a9 s5 ra1 ra3 ra5 ra6 rv15 ra10 ra11 rv2 ra9)
              · exact g_pick [2, 3, 4, 5, 6, 0, 8, 9, 1] rfl (hj11 a1 a3 a5 a6 v15 a10 a11 v2 a9 s5 ra1 ra3 ra5 ra6 rv15 ra10 ra11 rv2 ra9)
      · refine g_lload 6 dX2_make_457 rfl ?_
        refine g_lconst (v := 1) (by decide +kernel) dX2_make_459 ?_
        refine g_ladd dX2_make_460 (fun v18 rv18 => ?_)
        refine g_lstore (loc' := [(7, vL v18), (12, vI v2), (0, vR 0), (1, vI a1), (3, vI a3), (5, vI a5), (6, vI a6), (9, vI a9), (10, vI a10), (11, vI a11)]) dX2_make_461 (by decide) rfl ?_
        refine g_goto 522 dX2_make_463 (by decide) ?_
        refine g_iinc 9 (loc' := fun v19 => [(11, vI v19), (7, vL v18), (12, vI v2), (0, vR 0), (1, vI a1), (3, vI a3), (5, vI a5), (6, vI a6), (9, vI a9), (10, vI a10)]) dX2_make_522 rfl (by decide) (fun _ => rfl) (fun v19 rv19 => ?_)
        refine g_goto 418 dX2_make_525 (by decide) ?_
        exact g_pick [3, 4, 5, 6, 7, 1, 8, 9, 0] rfl (ih a1 a3 a5 a6 v18 a9 a10 v19 s5 ra1 ra3 ra5 ra6 rv18 ra9 ra10 rv19)
    · exact g_pick [0, 2, 3, 4, 5, 6] rfl (hx528 a3 a5 a6 a7 a9 u ra3 ra5 ra6 ra7 ra9)
theorem wX2_make (hd : 2 ≤ d) (hRf : d + 1 ≤ R.frames) (hRl : 40 * (d + 1) ≤ R.locals) (hX2_hash : ∀ (a1 a2 a3 : Int) (u : Sg), Ct l d FC clA yX2_hash cX2_hash 6 (some .int) DX2_hash rvI [vR 0, vI a1, vI a2, vI a3] u (call 95 [a1, a2, a3] u)) (a1 a2 a3 : Int) (u : Sg) (ra1 : inR a1) (ra2 : inR a2) (ra3 : inR a3) : WG p l e R s m args below meth c JX2_make DX2_make G clA A FC ad0 σ0 rvI (bX2_make call a1 a2 a3 u) u 0 [(0, vR 0), (1, vI a1), (2, vI a2), (3, vI a3)] [] := by
  unfold bX2_make
  refine g_aload_n 0 dX2_make_0 rfl ?_
  refine g_iload_n 1 dX2_make_1 rfl ?_
  refine g_iload_n 2 dX2_make_2 rfl ?_
  refine g_iload_n 3 dX2_make_3 rfl ?_
  refine g_cVI (As := [vI a1, vI a2, vI a3]) (n := 3) (stk := []) (ci := 0) (b := 0) (N := 21) (hX2_hash a1 a2 a3 u) (by decide +kernel) rfl rfl (lw_V q195 q197 qs0 q164 q198) (by decide +kernel) rfl (by decide) hRf hRl (fun _ => (avc ra1 (avc ra2 (avc ra3 avn)))) (Nat.le_of_ble_eq_true rfl) rfl rfl dX2_make_4 (fun v1 s2 rv1 => ?_)
  refine g_istore (loc' := [(4, vI v1), (0, vR 0), (1, vI a1), (2, vI a2), (3, vI a3)]) dX2_make_7 (by decide) rfl ?_
  refine g_aload_n 1 dX2_make_9 rfl ?_
  refine g_getI (ci := 0) (b := 0) (N := 21) 12 rfl rfl rfl (by decide) in_X2 rfl rfl q252 dX2_make_10 (fun v3 rv3 => ?_)
  refine g_iload_n 4 dX2_make_13 rfl ?_
  refine g_isub dX2_make_14 (fun v4 rv4 => ?_)
  refine g_istore (loc' := [(5, vI v4), (4, vI v1), (0, vR 0), (1, vI a1), (2, vI a2), (3, vI a3)]) dX2_make_15 (by decide) rfl ?_
  refine g_aload_n 2 dX2_make_17 rfl ?_
  refine g_get (v := vR 18) (ci := 0) (b := 0) (N := 21) 8 rfl rfl (by decide) in_X2 rfl rfl q244 dX2_make_18 ?_
  refine g_iload 1 dX2_make_21 rfl ?_
  refine g_iald (id := 8) 8 rfl rfl dX2_make_23 (fun v5 rv5 => ?_)
  refine g_istore (loc' := [(6, vI v5), (5, vI v4), (4, vI v1), (0, vR 0), (1, vI a1), (2, vI a2), (3, vI a3)]) dX2_make_24 (by decide) rfl ?_
  refine g_pick [3, 4, 5, 6, 2, 1, 0] rfl (wX2_make_L26 hd hRf hRl hX2_hash _ _ (fun v7 v8 v9 v10 v11 s6 rv7 rv8 rv9 rv10 rv11 => ?_) (fun v65 v66 s64 rv65 rv66 => ?_) KF a1 a2 a3 v1 v4 v5 s2 ra1 ra2 ra3 rv1 rv4 rv5)
  · refine g_jn (fun j12 => ∀ (a1 a2 a3 a4 a5 : Int) (s13 : Sg), inR a1 → inR a2 → inR a3 → inR a4 → inR a5 → WG p l e R s m args below meth c JX2_make DX2_make G clA A FC ad0 σ0 rvI (j12 a1 a2 a3 a4 a5 s13) s13 267 [(0, vR 0), (1, vI a1), (2, vI a2), (3, vI a3), (4, vI a4), (5, vI a5)] []) (fun a1 a2 a3 a4 a5 s13 ra1 ra2 ra3 ra4 ra5 => ?_) (fun j12 hj12 => ?_)
    · refine g_pick [0, 1, 2, 3, 4, 5] rfl (wX2_make_L267 hd hRf hRl hX2_hash _ (fun v15 v16 v17 v18 v19 s14 rv15 rv16 rv17 rv18 rv19 => ?_) KF a1 a2 a3 a4 a5 s13 ra1 ra2 ra3 ra4 ra5)
      · refine g_jn (fun j20 => ∀ (a1 a3 a5 a6 a7 t0 : Int) (s21 : Sg), inR a1 → inR a3 → inR a5 → inR a6 → inL a7 → inR t0 → WG p l e R s m args below meth c JX2_make DX2_make G clA A FC ad0 σ0 rvI (j20 a1 a3 a5 a6 a7 t0 s21) s21 399 [(0, vR 0), (1, vI a1), (3, vI a3), (5, vI a5), (6, vI a6), (7, vL a7)] [vI t0]) (fun a1 a3 a5 a6 a7 t0 s21 ra1 ra3 ra5 ra6 ra7 rt0 => ?_) (fun j20 hj20 => ?_)
        · refine g_jn (fun j22 => ∀ (a1 a3 a5 a6 a7 a9 t0 : Int) (s23 : Sg), inR a1 → inR a3 → inR a5 → inR a6 → inL a7 → inR a9 → inR t0 → WG p l e R s m args below meth c JX2_make DX2_make G clA A FC ad0 σ0 rvI (j22 a1 a3 a5 a6 a7 a9 t0 s23) s23 413 [(0, vR 0), (1, vI a1), (3, vI a3), (5, vI a5), (6, vI a6), (7, vL a7), (9, vI a9)] [vI t0]) (fun a1 a3 a5 a6 a7 a9 t0 s23 ra1 ra3 ra5 ra6 ra7 ra9 rt0 => ?_) (fun j22 hj22 => ?_)
          · refine g_istore (loc' := [(10, vI t0), (0, vR 0), (1, vI a1), (3, vI a3), (5, vI a5), (6, vI a6), (7, vL a7), (9, vI a9)]) dX2_make_413 (by decide) rfl ?_
            refine g_iconst dX2_make_415 ?_
            refine g_istore (loc' := [(11, vI 0), (10, vI t0), (0, vR 0), (1, vI a1), (3, vI a3), (5, vI a5), (6, vI a6), (7, vL a7), (9, vI a9)]) dX2_make_416 (by decide) rfl ?_
            refine g_pick [2, 3, 4, 5, 6, 7, 8, 1, 0] rfl (wX2_make_L418 hd hRf hRl hX2_hash _ (fun v25 v26 v27 v28 v29 s24 rv25 rv26 rv27 rv28 rv29 => ?_) KF a1 a3 a5 a6 a7 a9 t0 0 s23 ra1 ra3 ra5 ra6 ra7 ra9 rt0 (inR_z (Or.inl rfl)))
            · refine g_aload_n 0 dX2_make_528 rfl ?_
              refine g_get (v := vR 14) (ci := 0) (b := 0) (N := 21) 4 rfl rfl (by decide) in_X2 rfl rfl q238 dX2_make_529 ?_
              refine g_iload 3 dX2_make_532 rfl ?_
              refine g_lload 4 dX2_make_534 rfl ?_
              refine g_ldc2 (n := 1000000000) (by decide +kernel) q219 dX2_make_536 ?_
              refine g_mminL rv28 (by decide : inL (1000000000)) (Nat.le_trans (Nat.succ_le_succ (Nat.zero_le _)) hRf) (Nat.le_trans (Nat.mul_le_mul_left 40 (Nat.succ_le_succ (Nat.zero_le d))) hRl) (Nat.le_of_ble_eq_true rfl) q220 q221 q166 q222 dX2_make_539 (fun v30 rv30 => ?_)
              refine g_l2i rv30 dX2_make_542 (fun v31 rv31 => ?_)
              refine g_iastU (id := 4) FC_ok 4 rfl rfl (by decide +kernel) rv31 dX2_make_543 (fun s32 => ?_)
              refine g_aload_n 0 dX2_make_544 rfl ?_
              refine g_get (v := vR 15) (ci := 0) (b := 0) (N := 21) 5 rfl rfl (by decide) in_X2 rfl rfl q240 dX2_make_545 ?_
              refine g_iload 3 dX2_make_548 rfl ?_
              refine g_iload 5 dX2_make_550 rfl ?_
              refine g_iastU (id := 5) FC_ok 5 rfl rfl (by decide +kernel) rv29 dX2_make_552 (fun s33 => ?_)
              refine g_aload_n 0 dX2_make_553 rfl ?_
              refine g_dup rfl dX2_make_554 ?_
              refine g_getI (ci := 0) (b := 0) (N := 21) 10 rfl rfl rfl (by decide) in_X2 rfl rfl q247 dX2_make_555 (fun v34 rv34 => ?_)
              refine g_iload 2 dX2_make_558 rfl ?_
              refine g_iadd dX2_make_560 (fun v35 rv35 => ?_)
              refine g_sIU (ci := 0) (b := 0) (N := 21) FC_ok 10 rfl rfl rfl (by decide) in_X2 tyX2 tyX2_ok nmX2 rfl rfl rfl rfl (by decide +kernel) rv35 q247 dX2_make_561 (fun s36 => ?_)
              refine g_aload_n 0 dX2_make_564 rfl ?_
              refine g_iload_n 1 dX2_make_565 rfl ?_
              refine g_sIU (ci := 0) (b := 0) (N := 21) FC_ok 12 rfl rfl rfl (by decide) in_X2 tyX2 tyX2_ok nmX2 rfl rfl rfl rfl (by decide +kernel) rv25 q252 dX2_make_566 (fun s37 => ?_)
              refine g_iload 3 dX2_make_569 rfl ?_
              exact g_iret rfl rfl (fun _ => rv27) dX2_make_571
          · refine g_istore (loc' := [(9, vI t0), (0, vR 0), (1, vI a1), (3, vI a3), (5, vI a5), (6, vI a6), (7, vL a7)]) dX2_make_399 (by decide) rfl ?_
            refine g_iload_n 2 dX2_make_401 rfl ?_
            refine g_bipush (by decide +kernel) dX2_make_402 ?_
            refine g_icmp_ne 411 dX2_make_404 (by decide) (fun _ => ra1) (fun _ => (by decide : inR (8))) (fun _ => ?_) (fun _ => ?_)
            · refine g_iconst dX2_make_407 ?_
              refine g_goto 413 dX2_make_408 (by decide) ?_
              exact g_pick [1, 2, 3, 4, 5, 6, 0] rfl (hj22 a1 a3 a5 a6 a7 t0 1 s21 ra1 ra3 ra5 ra6 ra7 rt0 (inR_z (Or.inr rfl)))
            · refine g_iload 4 dX2_make_411 rfl ?_
              exact g_pick [1, 2, 3, 4, 5, 6, 0] rfl (hj22 a1 a3 a5 a6 a7 t0 a5 s21 ra1 ra3 ra5 ra6 ra7 rt0 ra5)
        · refine g_aload_n 0 dX2_make_309 rfl ?_
          refine g_getI (ci := 0) (b := 0) (N := 21) 9 rfl rfl rfl (by decide) in_X2 rfl rfl q245 dX2_make_310 (fun v38 rv38 => ?_)
          refine g_istore (loc' := [(6, vI v38), (0, vR 0), (1, vI v15), (2, vI v16), (3, vI v17), (4, vI v18), (5, vI v19)]) dX2_make_313 (by decide) rfl ?_
          refine g_aload_n 1 dX2_make_315 rfl ?_
          refine g_dup rfl dX2_make_316 ?_
          refine g_getI (ci := 0) (b := 0) (N := 21) 9 rfl rfl rfl (by decide) in_X2 rfl rfl q245 dX2_make_317 (fun v39 rv39 => ?_)
          refine g_iconst dX2_make_320 ?_
          refine g_iadd dX2_make_321 (fun v40 rv40 => ?_)
          refine g_sIU (ci := 0) (b := 0) (N := 21) FC_ok 9 rfl rfl rfl (by decide) in_X2 tyX2 tyX2_ok nmX2 rfl rfl rfl rfl (by decide +kernel) rv40 q245 dX2_make_322 (fun s41 => ?_)
          refine g_aload_n 1 dX2_make_325 rfl ?_
          refine g_get (v := vR 10) (ci := 0) (b := 0) (N := 21) 0 rfl rfl (by decide) in_X2 rfl rfl q231 dX2_make_326 ?_
          refine g_iload 0 dX2_make_329 rfl ?_
          refine g_iload_n 2 dX2_make_331 rfl ?_
          refine g_iastU (id := 0) FC_ok 0 rfl rfl (by decide +kernel) rv15 dX2_make_332 (fun s42 => ?_)
          refine g_aload_n 1 dX2_make_333 rfl ?_
          refine g_get (v := vR 11) (ci := 0) (b := 0) (N := 21) 1 rfl rfl (by decide) in_X2 rfl rfl q233 dX2_make_334 ?_
          refine g_iload 0 dX2_make_337 rfl ?_
          refine g_iload_n 3 dX2_make_339 rfl ?_
          refine g_iastU (id := 1) FC_ok 1 rfl rfl (by decide +kernel) rv16 dX2_make_340 (fun s43 => ?_)
          refine g_aload_n 1 dX2_make_341 rfl ?_
          refine g_get (v := vR 12) (ci := 0) (b := 0) (N := 21) 2 rfl rfl (by decide) in_X2 rfl rfl q235 dX2_make_342 ?_
          refine g_iload 0 dX2_make_345 rfl ?_
          refine g_aload_n 1 dX2_make_347 rfl ?_
          refine g_getI (ci := 0) (b := 0) (N := 21) 10 rfl rfl rfl (by decide) in_X2 rfl rfl q247 dX2_make_348 (fun v44 rv44 => ?_)
          refine g_iastU (id := 2) FC_ok 2 rfl rfl (by decide +kernel) rv44 dX2_make_351 (fun s45 => ?_)
          refine g_aload_n 1 dX2_make_352 rfl ?_
          refine g_get (v := vR 13) (ci := 0) (b := 0) (N := 21) 3 rfl rfl (by decide) in_X2 rfl rfl q236 dX2_make_353 ?_
          refine g_iload 0 dX2_make_356 rfl ?_
          refine g_iload 6 dX2_make_358 rfl ?_
          refine g_iastU (id := 3) FC_ok 3 rfl rfl (by decide +kernel) rv19 dX2_make_360 (fun s46 => ?_)
          refine g_aload_n 1 dX2_make_361 rfl ?_
          refine g_get (v := vR 16) (ci := 0) (b := 0) (N := 21) 6 rfl rfl (by decide) in_X2 rfl rfl q242 dX2_make_362 ?_
          refine g_iload 0 dX2_make_365 rfl ?_
          refine g_aload_n 1 dX2_make_367 rfl ?_
          refine g_get (v := vR 18) (ci := 0) (b := 0) (N := 21) 8 rfl rfl (by decide) in_X2 rfl rfl q244 dX2_make_368 ?_
          refine g_iload 5 dX2_make_371 rfl ?_
          refine g_iald (id := 8) 8 rfl rfl dX2_make_373 (fun v47 rv47 => ?_)
          refine g_iastU (id := 6) FC_ok 6 rfl rfl (by decide +kernel) rv47 dX2_make_374 (fun s48 => ?_)
          refine g_aload_n 1 dX2_make_375 rfl ?_
          refine g_get (v := vR 18) (ci := 0) (b := 0) (N := 21) 8 rfl rfl (by decide) in_X2 rfl rfl q244 dX2_make_376 ?_
          refine g_iload 5 dX2_make_379 rfl ?_
          refine g_iload 0 dX2_make_381 rfl ?_
          refine g_iastU (id := 8) FC_ok 8 rfl rfl (by decide +kernel) rv38 dX2_make_383 (fun s49 => ?_)
          refine g_lconst (v := 1) (by decide +kernel) dX2_make_384 ?_
          refine g_lstore (loc' := [(7, vL 1), (6, vI v38), (0, vR 0), (1, vI v15), (2, vI v16), (3, vI v17), (4, vI v18), (5, vI v19)]) dX2_make_385 (by decide) rfl ?_
          refine g_iload_n 3 dX2_make_387 rfl ?_
          refine g_iconst dX2_make_388 ?_
          refine g_icmp_ne 398 dX2_make_389 (by decide) (fun _ => rv15) (fun _ => (by decide : inR (2))) (fun _ => ?_) (fun _ => ?_)
          · refine g_iload_n 4 dX2_make_392 rfl ?_
            refine g_iconst dX2_make_393 ?_
            refine g_iadd dX2_make_394 (fun v50 rv50 => ?_)
            refine g_goto 399 dX2_make_395 (by decide) ?_
            exact g_pick [2, 3, 5, 7, 1, 0] rfl (hj20 v15 v17 v19 v38 1 v50 s49 rv15 rv17 rv19 rv38 (by decide : inL (1)) rv50)
          · refine g_iconst dX2_make_398 ?_
            exact g_pick [2, 3, 5, 7, 1, 0] rfl (hj20 v15 v17 v19 v38 1 0 s49 rv15 rv17 rv19 rv38 (by decide : inL (1)) (inR_z (Or.inl rfl)))
    · refine g_aload_n 0 dX2_make_151 rfl ?_
      refine g_getI (ci := 0) (b := 0) (N := 21) 9 rfl rfl rfl (by decide) in_X2 rfl rfl q245 dX2_make_152 (fun v51 rv51 => ?_)
      refine g_aload_n 0 dX2_make_155 rfl ?_
      refine g_get (v := vR 10) (ci := 0) (b := 0) (N := 21) 0 rfl rfl (by decide) in_X2 rfl rfl q231 dX2_make_156 ?_
      refine g_alenU (id := 0) 0 rfl (Or.inl rfl) dX2_make_159 (fun v52 rv52 => ?_)
      refine g_icmp_ne 267 dX2_make_160 (by decide) (fun _ => rv51) (fun _ => rv52) (fun _ => ?_) (fun _ => ?_)
      · refine g_aload_n 0 dX2_make_163 rfl ?_
        refine g_getI (ci := 0) (b := 0) (N := 21) 9 rfl rfl rfl (by decide) in_X2 rfl rfl q245 dX2_make_164 (fun v53 rv53 => ?_)
        refine g_aload_n 0 dX2_make_167 rfl ?_
        refine g_getI (ci := 0) (b := 0) (N := 21) 9 rfl rfl rfl (by decide) in_X2 rfl rfl q245 dX2_make_168 (fun v54 rv54 => ?_)
        refine g_iconst dX2_make_171 ?_
        refine g_idiv rv54 (by decide : inR (2)) dX2_make_172 (fun v55 rv55 => ?_)
        refine g_iadd dX2_make_173 (fun v56 rv56 => ?_)
        refine g_istore (loc' := [(6, vI v56), (0, vR 0), (1, vI v7), (2, vI v8), (3, vI v9), (4, vI v10), (5, vI v11)]) dX2_make_174 (by decide) rfl ?_
        refine g_aload_n 1 dX2_make_176 rfl ?_
        refine g_aload_n 1 dX2_make_177 rfl ?_
        refine g_get (v := vR 10) (ci := 0) (b := 0) (N := 21) 0 rfl rfl (by decide) in_X2 rfl rfl q231 dX2_make_178 ?_
        refine g_iload 0 dX2_make_181 rfl ?_
        refine g_cpy (ci := 0) (b := 0) (N := 21) FC_ok FC_10 rfl 0 0 rfl rfl rfl rfl (by decide) in_X2 tyX2 tyX2_ok nmX2 rfl rfl rfl rfl (by decide +kernel) q200 q231 hRf hRl (Nat.le_of_succ_le hd) (Nat.le_of_ble_eq_true rfl) rfl rfl dX2_make_183 dX2_make_186 (fun s57 => ?_)
        refine g_aload_n 1 dX2_make_189 rfl ?_
        refine g_aload_n 1 dX2_make_190 rfl ?_
        refine g_get (v := vR 11) (ci := 0) (b := 0) (N := 21) 1 rfl rfl (by decide) in_X2 rfl rfl q233 dX2_make_191 ?_
        refine g_iload 0 dX2_make_194 rfl ?_
        refine g_cpy (ci := 0) (b := 0) (N := 21) FC_ok FC_10 rfl 1 1 rfl rfl rfl rfl (by decide) in_X2 tyX2 tyX2_ok nmX2 rfl rfl rfl rfl (by decide +kernel) q200 q233 hRf hRl (Nat.le_of_succ_le hd) (Nat.le_of_ble_eq_true rfl) rfl rfl dX2_make_196 dX2_make_199 (fun s58 => ?_)
        refine g_aload_n 1 dX2_make_202 rfl ?_
        refine g_aload_n 1 dX2_make_203 rfl ?_
        refine g_get (v := vR 12) (ci := 0) (b := 0) (N := 21) 2 rfl rfl (by decide) in_X2 rfl rfl q235 dX2_make_204 ?_
        refine g_iload 0 dX2_make_207 rfl ?_
        refine g_cpy (ci := 0) (b := 0) (N := 21) FC_ok FC_10 rfl 2 2 rfl rfl rfl rfl (by decide) in_X2 tyX2 tyX2_ok nmX2 rfl rfl rfl rfl (by decide +kernel) q200 q235 hRf hRl (Nat.le_of_succ_le hd) (Nat.le_of_ble_eq_true rfl) rfl rfl dX2_make_209 dX2_make_212 (fun s59 => ?_)
        refine g_aload_n 1 dX2_make_215 rfl ?_
        refine g_aload_n 1 dX2_make_216 rfl ?_
        refine g_get (v := vR 13) (ci := 0) (b := 0) (N := 21) 3 rfl rfl (by decide) in_X2 rfl rfl q236 dX2_make_217 ?_
        refine g_iload 0 dX2_make_220 rfl ?_
        refine g_cpy (ci := 0) (b := 0) (N := 21) FC_ok FC_10 rfl 3 3 rfl rfl rfl rfl (by decide) in_X2 tyX2 tyX2_ok nmX2 rfl rfl rfl rfl (by decide +kernel) q200 q236 hRf hRl (Nat.le_of_succ_le hd) (Nat.le_of_ble_eq_true rfl) rfl rfl dX2_make_222 dX2_make_225 (fun s60 => ?_)
        refine g_aload_n 1 dX2_make_228 rfl ?_
        refine g_aload_n 1 dX2_make_229 rfl ?_
        refine g_get (v := vR 14) (ci := 0) (b := 0) (N := 21) 4 rfl rfl (by decide) in_X2 rfl rfl q238 dX2_make_230 ?_
        refine g_iload 0 dX2_make_233 rfl ?_
        refine g_cpy (ci := 0) (b := 0) (N := 21) FC_ok FC_10 rfl 4 4 rfl rfl rfl rfl (by decide) in_X2 tyX2 tyX2_ok nmX2 rfl rfl rfl rfl (by decide +kernel) q200 q238 hRf hRl (Nat.le_of_succ_le hd) (Nat.le_of_ble_eq_true rfl) rfl rfl dX2_make_235 dX2_make_238 (fun s61 => ?_)
        refine g_aload_n 1 dX2_make_241 rfl ?_
        refine g_aload_n 1 dX2_make_242 rfl ?_
        refine g_get (v := vR 15) (ci := 0) (b := 0) (N := 21) 5 rfl rfl (by decide) in_X2 rfl rfl q240 dX2_make_243 ?_
        refine g_iload 0 dX2_make_246 rfl ?_
        refine g_cpy (ci := 0) (b := 0) (N := 21) FC_ok FC_10 rfl 5 5 rfl rfl rfl rfl (by decide) in_X2 tyX2 tyX2_ok nmX2 rfl rfl rfl rfl (by decide +kernel) q200 q240 hRf hRl (Nat.le_of_succ_le hd) (Nat.le_of_ble_eq_true rfl) rfl rfl dX2_make_248 dX2_make_251 (fun s62 => ?_)
        refine g_aload_n 1 dX2_make_254 rfl ?_
        refine g_aload_n 1 dX2_make_255 rfl ?_
        refine g_get (v := vR 16) (ci := 0) (b := 0) (N := 21) 6 rfl rfl (by decide) in_X2 rfl rfl q242 dX2_make_256 ?_
        refine g_iload 0 dX2_make_259 rfl ?_
        refine g_cpy (ci := 0) (b := 0) (N := 21) FC_ok FC_10 rfl 6 6 rfl rfl rfl rfl (by decide) in_X2 tyX2 tyX2_ok nmX2 rfl rfl rfl rfl (by decide +kernel) q200 q242 hRf hRl (Nat.le_of_succ_le hd) (Nat.le_of_ble_eq_true rfl) rfl rfl dX2_make_261 dX2_make_264 (fun s63 => ?_)
        exact g_pick [1, 2, 3, 4, 5, 6] rfl (hj12 v7 v8 v9 v10 v11 s63 rv7 rv8 rv9 rv10 rv11)
      · exact g_pick [0, 1, 2, 3, 4, 5] rfl (hj12 v7 v8 v9 v10 v11 s6 rv7 rv8 rv9 rv10 rv11)
  · refine g_aload_n 0 dX2_make_131 rfl ?_
    refine g_iload_n 1 dX2_make_132 rfl ?_
    refine g_sIU (ci := 0) (b := 0) (N := 21) FC_ok 12 rfl rfl rfl (by decide) in_X2 tyX2 tyX2_ok nmX2 rfl rfl rfl rfl (by decide +kernel) rv65 q252 dX2_make_133 (fun s67 => ?_)
    refine g_iload 2 dX2_make_136 rfl ?_
    exact g_iret rfl rfl (fun _ => rv66) dX2_make_138
end
section
variable {l : Launch} {d : Nat} {call : Nat → List Int → Sg → Option (Int × Sg)}
theorem ctX2_make (p0 : Program) (e0 : Env) (s0 : State) (m0 : MethodId) (meth0 : Method) (c0 : Code) (G0 : Gm) (hd : 2 ≤ d) (hX2_hash : ∀ (a1 a2 a3 : Int) (u : Sg), Ct l d FC clA yX2_hash cX2_hash 6 (some .int) DX2_hash rvI [vR 0, vI a1, vI a2, vI a3] u (call 95 [a1, a2, a3] u)) (a1 a2 a3 : Int) (u : Sg) : Ct l (d + 1) FC clA yX2_make cX2_make 13 (some .int) DX2_make rvI [vR 0, vI a1, vI a2, vI a3] u (bX2_make call a1 a2 a3 u) :=
  Ct_of (by decide) (Nat.le_of_ble_eq_true rfl) (fun p e R s1 m args below meth c G A ad hA hRf hRl => wX2_make hd hRf hRl hX2_hash a1 a2 a3 u (hA _ (List.mem_cons_of_mem _ List.mem_cons_self)) (hA _ (List.mem_cons_of_mem _ (List.mem_cons_of_mem _ List.mem_cons_self))) (hA _ (List.mem_cons_of_mem _ (List.mem_cons_of_mem _ (List.mem_cons_of_mem _ List.mem_cons_self))))) p0 e0 s0 m0 meth0 c0 G0
end
/-! RoundCheck$Store.hash(III)I -/
abbrev JX2_hash : Jm := (cX2_hash, RX2, 6, (some .int))
def bX2_hash_L11 (call : Nat → List Int → Sg → Option (Int × Sg)) : Nat → Int → Int → Sg → (Int → Sg → Option (Int × Sg)) → Option (Int × Sg)
  | 0, _, _, _, _ => none
  | n + 1, a4, a5, u, x41 => un (gI u 12) fun v1 => if a5 < v1 then (un (wrap (31 * a4)) fun v2 => ld u 11 a5 fun v3 => un (wrap (v2 + v3)) fun v4 => ar (a5 + 1) fun v5 => bX2_hash_L11 call n v4 v5 u x41) else (x41 a4 u)
def bX2_hash (call : Nat → List Int → Sg → Option (Int × Sg)) (a1 a2 a3 : Int) (u : Sg) : Option (Int × Sg) := un (wrap (31 * a1)) fun v1 => un (wrap (v1 + a2)) fun v2 => bX2_hash_L11 call KF v2 a3 u (fun v4 s3 => un (wrap (v4 * (-1640531535))) fun v5 => un (o_ushr v5 17) fun v6 => some (v6, s3))
section
variable {p : Program} {l : Launch} {e : Env} {R : Room} {s : State} {m : MethodId} {args : Array Value} {below : List Frame} {meth : Method} {c : Code} {G : Gm} {A : Nat → Prop} {ad0 : Nat → Nat} {σ0 : Sg} {d : Nat} {call : Nat → List Int → Sg → Option (Int × Sg)}
theorem wX2_hash_L11 (hd : 2 ≤ d) (hRf : d + 1 ≤ R.frames) (hRl : 40 * (d + 1) ≤ R.locals) (x41 : Int → Sg → Option (Int × Sg)) (hx41 : ∀ (a4 : Int) (u : Sg), inR a4 → WG p l e R s m args below meth c JX2_hash DX2_hash G clA A FC ad0 σ0 rvI (x41 a4 u) u 41 [(4, vI a4)] []) : ∀ (n : Nat) (a4 a5 : Int) (u : Sg), inR a4 → inR a5 → WG p l e R s m args below meth c JX2_hash DX2_hash G clA A FC ad0 σ0 rvI (bX2_hash_L11 call n a4 a5 u x41) u 11 [(0, vR 0), (4, vI a4), (5, vI a5)] [] := by
  intro n
  induction n with
  | zero =>
    intro a4 a5 u ra4 ra5
    exact g_none
  | succ n ih =>
    intro a4 a5 u ra4 ra5
    rw [bX2_hash_L11]
    refine g_iload 2 dX2_hash_11 rfl ?_
    refine g_aload_n 0 dX2_hash_13 rfl ?_
    refine g_getI (ci := 0) (b := 0) (N := 21) 12 rfl rfl rfl (by decide) in_X2 rfl rfl q252 dX2_hash_14 (fun v1 rv1 => ?_)
    refine g_icmp_ge 41 dX2_hash_17 (by decide) (fun _ => ra5) (fun _ => rv1) (fun _ => ?_) (fun _ => ?_)
    · refine g_bipush (by decide +kernel) dX2_hash_20 ?_
      refine g_iload 1 dX2_hash_22 rfl ?_
      refine g_imulWU dX2_hash_24 (fun v2 rv2 => ?_)
      refine g_aload_n 0 dX2_hash_25 rfl ?_
      refine g_get (v := vR 21) (ci := 0) (b := 0) (N := 21) 11 rfl rfl (by decide) in_X2 rfl rfl q250 dX2_hash_26 ?_
      refine g_iload 2 dX2_hash_29 rfl ?_
      refine g_iald (id := 11) 9 rfl rfl dX2_hash_31 (fun v3 rv3 => ?_)
      refine g_iaddWU dX2_hash_32 (fun v4 rv4 => ?_)
      refine g_istore (loc' := [(4, vI v4), (0, vR 0), (5, vI a5)]) dX2_hash_33 (by decide) rfl ?_
      refine g_iinc 2 (loc' := fun v5 => [(5, vI v5), (4, vI v4), (0, vR 0)]) dX2_hash_35 rfl (by decide) (fun _ => rfl) (fun v5 rv5 => ?_)
      refine g_goto 11 dX2_hash_38 (by decide) ?_
      exact g_pick [2, 1, 0] rfl (ih v4 v5 u rv4 rv5)
    · exact g_pick [1] rfl (hx41 a4 u ra4)
theorem wX2_hash (hd : 2 ≤ d) (hRf : d + 1 ≤ R.frames) (hRl : 40 * (d + 1) ≤ R.locals) (a1 a2 a3 : Int) (u : Sg) (ra1 : inR a1) (ra2 : inR a2) (ra3 : inR a3) : WG p l e R s m args below meth c JX2_hash DX2_hash G clA A FC ad0 σ0 rvI (bX2_hash call a1 a2 a3 u) u 0 [(0, vR 0), (1, vI a1), (2, vI a2), (3, vI a3)] [] := by
  unfold bX2_hash
  refine g_bipush (by decide +kernel) dX2_hash_0 ?_
  refine g_iload_n 1 dX2_hash_2 rfl ?_
  refine g_imulWU dX2_hash_3 (fun v1 rv1 => ?_)
  refine g_iload_n 2 dX2_hash_4 rfl ?_
  refine g_iaddWU dX2_hash_5 (fun v2 rv2 => ?_)
  refine g_istore (loc' := [(4, vI v2), (0, vR 0), (1, vI a1), (2, vI a2), (3, vI a3)]) dX2_hash_6 (by decide) rfl ?_
  refine g_iload_n 4 dX2_hash_8 rfl ?_
  refine g_istore (loc' := [(5, vI a3), (4, vI v2), (0, vR 0), (1, vI a1), (2, vI a2), (3, vI a3)]) dX2_hash_9 (by decide) rfl ?_
  refine g_pick [2, 1, 0] rfl (wX2_hash_L11 hd hRf hRl _ (fun v4 s3 rv4 => ?_) KF v2 a3 u rv2 ra3)
  · refine g_iload 0 dX2_hash_41 rfl ?_
    refine g_ldc (n := -1640531535) (by decide +kernel) q199 dX2_hash_43 ?_
    refine g_imulWU dX2_hash_45 (fun v5 rv5 => ?_)
    refine g_istore (loc' := [(4, vI v5)]) dX2_hash_46 (by decide) rfl ?_
    refine g_iload 0 dX2_hash_48 rfl ?_
    refine g_bipush (by decide +kernel) dX2_hash_50 ?_
    refine g_iushrU dX2_hash_52 (fun v6 rv6 => ?_)
    exact g_iret rfl rfl (fun _ => rv6) dX2_hash_53
end
section
variable {l : Launch} {d : Nat} {call : Nat → List Int → Sg → Option (Int × Sg)}
theorem ctX2_hash (p0 : Program) (e0 : Env) (s0 : State) (m0 : MethodId) (meth0 : Method) (c0 : Code) (G0 : Gm) (hd : 2 ≤ d) (a1 a2 a3 : Int) (u : Sg) : Ct l (d + 1) FC clA yX2_hash cX2_hash 6 (some .int) DX2_hash rvI [vR 0, vI a1, vI a2, vI a3] u (bX2_hash call a1 a2 a3 u) :=
  Ct_of (by decide) (Nat.le_of_ble_eq_true rfl) (fun p e R s1 m args below meth c G A ad hA hRf hRl => wX2_hash hd hRf hRl a1 a2 a3 u (hA _ (List.mem_cons_of_mem _ List.mem_cons_self)) (hA _ (List.mem_cons_of_mem _ (List.mem_cons_of_mem _ List.mem_cons_self))) (hA _ (List.mem_cons_of_mem _ (List.mem_cons_of_mem _ (List.mem_cons_of_mem _ List.mem_cons_self))))) p0 e0 s0 m0 meth0 c0 G0
end
/-! RoundCheck$Store.make(IIII)I -/
abbrev JX2_make_2 : Jm := (cX2_make_2, RX2, 6, (some .int))
def bX2_make_2 (call : Nat → List Int → Sg → Option (Int × Sg)) (a1 a2 a3 a4 : Int) (u : Sg) : Option (Int × Sg) := un (gI u 12) fun v1 => cl (call 97 [a4] u) fun v2 s3 => cl (call 94 [a1, a2, v1] s3) fun v4 s5 => some (v4, s5)
section
variable {p : Program} {l : Launch} {e : Env} {R : Room} {s : State} {m : MethodId} {args : Array Value} {below : List Frame} {meth : Method} {c : Code} {G : Gm} {A : Nat → Prop} {ad0 : Nat → Nat} {σ0 : Sg} {d : Nat} {call : Nat → List Int → Sg → Option (Int × Sg)}
theorem wX2_make_2 (hd : 2 ≤ d) (hRf : d + 1 ≤ R.frames) (hRl : 40 * (d + 1) ≤ R.locals) (hX2_push : ∀ (a1 : Int) (u : Sg), Ct l d FC clA yX2_push cX2_push 2 none DX2_push rvV [vR 0, vI a1] u (call 97 [a1] u)) (hX2_make : ∀ (a1 a2 a3 : Int) (u : Sg), Ct l d FC clA yX2_make cX2_make 13 (some .int) DX2_make rvI [vR 0, vI a1, vI a2, vI a3] u (call 94 [a1, a2, a3] u)) (a1 a2 a3 a4 : Int) (u : Sg) (ra1 : inR a1) (ra2 : inR a2) (ra3 : inR a3) (ra4 : inR a4) : WG p l e R s m args below meth c JX2_make_2 DX2_make_2 G clA A FC ad0 σ0 rvI (bX2_make_2 call a1 a2 a3 a4 u) u 0 [(0, vR 0), (1, vI a1), (2, vI a2), (3, vI a3), (4, vI a4)] [] := by
  unfold bX2_make_2
  refine g_aload_n 0 dX2_make_2_0 rfl ?_
  refine g_getI (ci := 0) (b := 0) (N := 21) 12 rfl rfl rfl (by decide) in_X2 rfl rfl q252 dX2_make_2_1 (fun v1 rv1 => ?_)
  refine g_istore (loc' := [(5, vI v1), (0, vR 0), (1, vI a1), (2, vI a2), (3, vI a3), (4, vI a4)]) dX2_make_2_4 (by decide) rfl ?_
  refine g_aload_n 1 dX2_make_2_6 rfl ?_
  refine g_iload 5 dX2_make_2_7 rfl ?_
  refine g_cVV (As := [vI a4]) (n := 1) (stk := []) (ci := 0) (b := 0) (N := 21) (hX2_push a4 u) (by decide +kernel) rfl rfl (lw_V q227 q228 q229 q164 q230) (by decide +kernel) rfl (by decide) hRf hRl (fun _ => (avc ra4 avn)) (Nat.le_of_ble_eq_true rfl) rfl rfl dX2_make_2_9 (fun v2 s3 => ?_)
  refine g_aload_n 1 dX2_make_2_12 rfl ?_
  refine g_iload_n 2 dX2_make_2_13 rfl ?_
  refine g_iload_n 3 dX2_make_2_14 rfl ?_
  refine g_iload 0 dX2_make_2_15 rfl ?_
  refine g_cVI (As := [vI a1, vI a2, vI v1]) (n := 3) (stk := []) (ci := 0) (b := 0) (N := 21) (hX2_make a1 a2 v1 s3) (by decide +kernel) rfl rfl (lw_V q191 q192 q193 q164 q194) (by decide +kernel) rfl (by decide) hRf hRl (fun _ => (avc ra1 (avc ra2 (avc rv1 avn)))) (Nat.le_of_ble_eq_true rfl) rfl rfl dX2_make_2_17 (fun v4 s5 rv4 => ?_)
  exact g_iret rfl rfl (fun _ => rv4) dX2_make_2_20
end
section
variable {l : Launch} {d : Nat} {call : Nat → List Int → Sg → Option (Int × Sg)}
theorem ctX2_make_2 (p0 : Program) (e0 : Env) (s0 : State) (m0 : MethodId) (meth0 : Method) (c0 : Code) (G0 : Gm) (hd : 2 ≤ d) (hX2_push : ∀ (a1 : Int) (u : Sg), Ct l d FC clA yX2_push cX2_push 2 none DX2_push rvV [vR 0, vI a1] u (call 97 [a1] u)) (hX2_make : ∀ (a1 a2 a3 : Int) (u : Sg), Ct l d FC clA yX2_make cX2_make 13 (some .int) DX2_make rvI [vR 0, vI a1, vI a2, vI a3] u (call 94 [a1, a2, a3] u)) (a1 a2 a3 a4 : Int) (u : Sg) : Ct l (d + 1) FC clA yX2_make_2 cX2_make_2 6 (some .int) DX2_make_2 rvI [vR 0, vI a1, vI a2, vI a3, vI a4] u (bX2_make_2 call a1 a2 a3 a4 u) :=
  Ct_of (by decide) (Nat.le_of_ble_eq_true rfl) (fun p e R s1 m args below meth c G A ad hA hRf hRl => wX2_make_2 hd hRf hRl hX2_push hX2_make a1 a2 a3 a4 u (hA _ (List.mem_cons_of_mem _ List.mem_cons_self)) (hA _ (List.mem_cons_of_mem _ (List.mem_cons_of_mem _ List.mem_cons_self))) (hA _ (List.mem_cons_of_mem _ (List.mem_cons_of_mem _ (List.mem_cons_of_mem _ List.mem_cons_self)))) (hA _ (List.mem_cons_of_mem _ (List.mem_cons_of_mem _ (List.mem_cons_of_mem _ (List.mem_cons_of_mem _ List.mem_cons_self)))))) p0 e0 s0 m0 meth0 c0 G0
end
/-! RoundCheck$Store.push(I)V -/
abbrev JX2_push : Jm := (cX2_push, RX2, 2, none)
def bX2_push (call : Nat → List Int → Sg → Option (Int × Sg)) (a1 : Int) (u : Sg) : Option (Int × Sg) := jn (fun (a1 : Int) (s2 : Sg) => un (gI s2 12) fun v3 => stA s2 11 v3 a1 fun s4 => un (gI s4 12) fun v5 => ar (v5 + 1) fun v6 => un (sI s4 12 v6) fun s7 => some (0, s7)) fun j1 => un (gI u 12) fun v8 => un (gL u 11 : Int) fun v9 => if v8 = v9 then (un (gI u 12) fun v10 => ar (2 * v10) fun v11 => cpy u 11 v11 fun s12 => j1 a1 s12) else (j1 a1 u)
section
variable {p : Program} {l : Launch} {e : Env} {R : Room} {s : State} {m : MethodId} {args : Array Value} {below : List Frame} {meth : Method} {c : Code} {G : Gm} {A : Nat → Prop} {ad0 : Nat → Nat} {σ0 : Sg} {d : Nat} {call : Nat → List Int → Sg → Option (Int × Sg)}
theorem wX2_push (hd : 2 ≤ d) (hRf : d + 1 ≤ R.frames) (hRl : 40 * (d + 1) ≤ R.locals) (a1 : Int) (u : Sg) (ra1 : inR a1) : WG p l e R s m args below meth c JX2_push DX2_push G clA A FC ad0 σ0 rvV (bX2_push call a1 u) u 0 [(0, vR 0), (1, vI a1)] [] := by
  unfold bX2_push
  refine g_jn (fun j1 => ∀ (a1 : Int) (s2 : Sg), inR a1 → WG p l e R s m args below meth c JX2_push DX2_push G clA A FC ad0 σ0 rvV (j1 a1 s2) s2 29 [(0, vR 0), (1, vI a1)] []) (fun a1 s2 ra1 => ?_) (fun j1 hj1 => ?_)
  · refine g_aload_n 0 dX2_push_29 rfl ?_
    refine g_get (v := vR 21) (ci := 0) (b := 0) (N := 21) 11 rfl rfl (by decide) in_X2 rfl rfl q250 dX2_push_30 ?_
    refine g_aload_n 0 dX2_push_33 rfl ?_
    refine g_getI (ci := 0) (b := 0) (N := 21) 12 rfl rfl rfl (by decide) in_X2 rfl rfl q252 dX2_push_34 (fun v3 rv3 => ?_)
    refine g_iload_n 1 dX2_push_37 rfl ?_
    refine g_iastU (id := 11) FC_ok 9 rfl rfl (by decide +kernel) ra1 dX2_push_38 (fun s4 => ?_)
    refine g_aload_n 0 dX2_push_39 rfl ?_
    refine g_dup rfl dX2_push_40 ?_
    refine g_getI (ci := 0) (b := 0) (N := 21) 12 rfl rfl rfl (by decide) in_X2 rfl rfl q252 dX2_push_41 (fun v5 rv5 => ?_)
    refine g_iconst dX2_push_44 ?_
    refine g_iadd dX2_push_45 (fun v6 rv6 => ?_)
    refine g_sIU (ci := 0) (b := 0) (N := 21) FC_ok 12 rfl rfl rfl (by decide) in_X2 tyX2 tyX2_ok nmX2 rfl rfl rfl rfl (by decide +kernel) rv6 q252 dX2_push_46 (fun s7 => ?_)
    exact g_vret rfl rfl dX2_push_49
  · refine g_aload_n 0 dX2_push_0 rfl ?_
    refine g_getI (ci := 0) (b := 0) (N := 21) 12 rfl rfl rfl (by decide) in_X2 rfl rfl q252 dX2_push_1 (fun v8 rv8 => ?_)
    refine g_aload_n 0 dX2_push_4 rfl ?_
    refine g_get (v := vR 21) (ci := 0) (b := 0) (N := 21) 11 rfl rfl (by decide) in_X2 rfl rfl q250 dX2_push_5 ?_
    refine g_alenU (id := 11) 9 rfl (Or.inl rfl) dX2_push_8 (fun v9 rv9 => ?_)
    refine g_icmp_ne 29 dX2_push_9 (by decide) (fun _ => rv8) (fun _ => rv9) (fun _ => ?_) (fun _ => ?_)
    · refine g_aload_n 0 dX2_push_12 rfl ?_
      refine g_aload_n 0 dX2_push_13 rfl ?_
      refine g_get (v := vR 21) (ci := 0) (b := 0) (N := 21) 11 rfl rfl (by decide) in_X2 rfl rfl q250 dX2_push_14 ?_
      refine g_iconst dX2_push_17 ?_
      refine g_aload_n 0 dX2_push_18 rfl ?_
      refine g_getI (ci := 0) (b := 0) (N := 21) 12 rfl rfl rfl (by decide) in_X2 rfl rfl q252 dX2_push_19 (fun v10 rv10 => ?_)
      refine g_imul dX2_push_22 (fun v11 rv11 => ?_)
      refine g_cpy (ci := 0) (b := 0) (N := 21) FC_ok FC_10 rfl 11 9 rfl rfl rfl rfl (by decide) in_X2 tyX2 tyX2_ok nmX2 rfl rfl rfl rfl (by decide +kernel) q200 q250 hRf hRl (Nat.le_of_succ_le hd) (Nat.le_of_ble_eq_true rfl) rfl rfl dX2_push_23 dX2_push_26 (fun s12 => ?_)
      exact g_pick [0, 1] rfl (hj1 a1 s12 ra1)
    · exact g_pick [0, 1] rfl (hj1 a1 u ra1)
end
section
variable {l : Launch} {d : Nat} {call : Nat → List Int → Sg → Option (Int × Sg)}
theorem ctX2_push (p0 : Program) (e0 : Env) (s0 : State) (m0 : MethodId) (meth0 : Method) (c0 : Code) (G0 : Gm) (hd : 2 ≤ d) (a1 : Int) (u : Sg) : Ct l (d + 1) FC clA yX2_push cX2_push 2 none DX2_push rvV [vR 0, vI a1] u (bX2_push call a1 u) :=
  Ct_of (by decide) (Nat.le_of_ble_eq_true rfl) (fun p e R s1 m args below meth c G A ad hA hRf hRl => wX2_push hd hRf hRl a1 u (hA _ (List.mem_cons_of_mem _ List.mem_cons_self))) p0 e0 s0 m0 meth0 c0 G0
end
/-! RoundCheck$Store.at(II)I -/
abbrev JX2_at : Jm := (cX2_at, RX2, 3, (some .int))
def bX2_at (call : Nat → List Int → Sg → Option (Int × Sg)) (a1 a2 : Int) (u : Sg) : Option (Int × Sg) := ld u 2 a1 fun v1 => ar (v1 + a2) fun v2 => ld u 7 v2 fun v3 => some (v3, u)
section
variable {p : Program} {l : Launch} {e : Env} {R : Room} {s : State} {m : MethodId} {args : Array Value} {below : List Frame} {meth : Method} {c : Code} {G : Gm} {A : Nat → Prop} {ad0 : Nat → Nat} {σ0 : Sg} {d : Nat} {call : Nat → List Int → Sg → Option (Int × Sg)}
theorem wX2_at (hd : 2 ≤ d) (hRf : d + 1 ≤ R.frames) (hRl : 40 * (d + 1) ≤ R.locals) (a1 a2 : Int) (u : Sg) (ra1 : inR a1) (ra2 : inR a2) : WG p l e R s m args below meth c JX2_at DX2_at G clA A FC ad0 σ0 rvI (bX2_at call a1 a2 u) u 0 [(0, vR 0), (1, vI a1), (2, vI a2)] [] := by
  unfold bX2_at
  refine g_aload_n 0 dX2_at_0 rfl ?_
  refine g_get (v := vR 17) (ci := 0) (b := 0) (N := 21) 7 rfl rfl (by decide) in_X2 rfl rfl q243 dX2_at_1 ?_
  refine g_aload_n 0 dX2_at_4 rfl ?_
  refine g_get (v := vR 12) (ci := 0) (b := 0) (N := 21) 2 rfl rfl (by decide) in_X2 rfl rfl q235 dX2_at_5 ?_
  refine g_iload_n 1 dX2_at_8 rfl ?_
  refine g_iald (id := 2) 2 rfl rfl dX2_at_9 (fun v1 rv1 => ?_)
  refine g_iload_n 2 dX2_at_10 rfl ?_
  refine g_iadd dX2_at_11 (fun v2 rv2 => ?_)
  refine g_iald (id := 7) 7 rfl rfl dX2_at_12 (fun v3 rv3 => ?_)
  exact g_iret rfl rfl (fun _ => rv3) dX2_at_13
end
section
variable {l : Launch} {d : Nat} {call : Nat → List Int → Sg → Option (Int × Sg)}
theorem ctX2_at (p0 : Program) (e0 : Env) (s0 : State) (m0 : MethodId) (meth0 : Method) (c0 : Code) (G0 : Gm) (hd : 2 ≤ d) (a1 a2 : Int) (u : Sg) : Ct l (d + 1) FC clA yX2_at cX2_at 3 (some .int) DX2_at rvI [vR 0, vI a1, vI a2] u (bX2_at call a1 a2 u) :=
  Ct_of (by decide) (Nat.le_of_ble_eq_true rfl) (fun p e R s1 m args below meth c G A ad hA hRf hRl => wX2_at hd hRf hRl a1 a2 u (hA _ (List.mem_cons_of_mem _ List.mem_cons_self)) (hA _ (List.mem_cons_of_mem _ (List.mem_cons_of_mem _ List.mem_cons_self)))) p0 e0 s0 m0 meth0 c0 G0
end
/-! RoundCheck$Store.forget(II)V -/
abbrev JX2_forget : Jm := (cX2_forget, RX2, 5, none)
def bX2_forget_L26 (call : Nat → List Int → Sg → Option (Int × Sg)) : Nat → Int → Int → Int → Int → Sg → (Int → Int → Int → Sg → Option (Int × Sg)) → Option (Int × Sg)
  | 0, _, _, _, _, _, _ => none
  | n + 1, a1, a2, a3, a4, u, x61 => ld u 3 a3 fun v1 => if a4 < v1 then (ld u 2 a3 fun v2 => ar (v2 + a4) fun v3 => ld u 7 v3 fun v4 => cl (call 97 [v4] u) fun v5 s6 => ar (a4 + 1) fun v7 => bX2_forget_L26 call n a1 a2 a3 v7 s6 x61) else (x61 a1 a2 a3 u)
def bX2_forget_L0 (call : Nat → List Int → Sg → Option (Int × Sg)) : Nat → Int → Int → Sg → (Int → Sg → Option (Int × Sg)) → Option (Int × Sg)
  | 0, _, _, _, _ => none
  | n + 1, a1, a2, u, x121 => un (gI u 9) fun v1 => if v1 ≤ a1 then (x121 a2 u) else (un (gI u 9) fun v2 => ar (v2 - 1) fun v3 => un (sI u 9 v3) fun s4 => un (gI s4 9) fun v5 => bX2_forget_L26 call KF a1 a2 v5 0 s4 (fun v7 v8 v9 s6 => ld s6 0 v9 fun v10 => ld s6 1 v9 fun v11 => un (gI s6 12) fun v12 => ld s6 3 v9 fun v13 => ar (v12 - v13) fun v14 => cl (call 95 [v10, v11, v14] s6) fun v15 s16 => un (gI s16 12) fun v17 => ld s16 3 v9 fun v18 => ar (v17 - v18) fun v19 => un (sI s16 12 v19) fun s20 => ld s20 6 v9 fun v21 => stA s20 8 v15 v21 fun s22 => bX2_forget_L0 call n v7 v8 s22 x121))
def bX2_forget (call : Nat → List Int → Sg → Option (Int × Sg)) (a1 a2 : Int) (u : Sg) : Option (Int × Sg) := bX2_forget_L0 call KF a1 a2 u (fun v2 s1 => un (sI s1 10 v2) fun s3 => some (0, s3))
section
variable {p : Program} {l : Launch} {e : Env} {R : Room} {s : State} {m : MethodId} {args : Array Value} {below : List Frame} {meth : Method} {c : Code} {G : Gm} {A : Nat → Prop} {ad0 : Nat → Nat} {σ0 : Sg} {d : Nat} {call : Nat → List Int → Sg → Option (Int × Sg)}
theorem wX2_forget_L26 (hd : 2 ≤ d) (hRf : d + 1 ≤ R.frames) (hRl : 40 * (d + 1) ≤ R.locals) (hX2_push : ∀ (a1 : Int) (u : Sg), Ct l d FC clA yX2_push cX2_push 2 none DX2_push rvV [vR 0, vI a1] u (call 97 [a1] u)) (hX2_hash : ∀ (a1 a2 a3 : Int) (u : Sg), Ct l d FC clA yX2_hash cX2_hash 6 (some .int) DX2_hash rvI [vR 0, vI a1, vI a2, vI a3] u (call 95 [a1, a2, a3] u)) (x61 : Int → Int → Int → Sg → Option (Int × Sg)) (hx61 : ∀ (a1 a2 a3 : Int) (u : Sg), inR a1 → inR a2 → inR a3 → WG p l e R s m args below meth c JX2_forget DX2_forget G clA A FC ad0 σ0 rvV (x61 a1 a2 a3 u) u 61 [(0, vR 0), (1, vI a1), (2, vI a2), (3, vI a3)] []) : ∀ (n : Nat) (a1 a2 a3 a4 : Int) (u : Sg), inR a1 → inR a2 → inR a3 → inR a4 → WG p l e R s m args below meth c JX2_forget DX2_forget G clA A FC ad0 σ0 rvV (bX2_forget_L26 call n a1 a2 a3 a4 u x61) u 26 [(0, vR 0), (1, vI a1), (2, vI a2), (3, vI a3), (4, vI a4)] [] := by
  intro n
  induction n with
  | zero =>
    intro a1 a2 a3 a4 u ra1 ra2 ra3 ra4
    exact g_none
  | succ n ih =>
    intro a1 a2 a3 a4 u ra1 ra2 ra3 ra4
    rw [bX2_forget_L26]
    refine g_iload 4 dX2_forget_26 rfl ?_
    refine g_aload_n 0 dX2_forget_28 rfl ?_
    refine g_get (v := vR 13) (ci := 0) (b := 0) (N := 21) 3 rfl rfl (by decide) in_X2 rfl rfl q236 dX2_forget_29 ?_
    refine g_iload_n 3 dX2_forget_32 rfl ?_
    refine g_iald (id := 3) 3 rfl rfl dX2_forget_33 (fun v1 rv1 => ?_)
    refine g_icmp_ge 61 dX2_forget_34 (by decide) (fun _ => ra4) (fun _ => rv1) (fun _ => ?_) (fun _ => ?_)
    · refine g_aload_n 0 dX2_forget_37 rfl ?_
      refine g_aload_n 0 dX2_forget_38 rfl ?_
      refine g_get (v := vR 17) (ci := 0) (b := 0) (N := 21) 7 rfl rfl (by decide) in_X2 rfl rfl q243 dX2_forget_39 ?_
      refine g_aload_n 0 dX2_forget_42 rfl ?_
      refine g_get (v := vR 12) (ci := 0) (b := 0) (N := 21) 2 rfl rfl (by decide) in_X2 rfl rfl q235 dX2_forget_43 ?_
      refine g_iload_n 3 dX2_forget_46 rfl ?_
      refine g_iald (id := 2) 2 rfl rfl dX2_forget_47 (fun v2 rv2 => ?_)
      refine g_iload 4 dX2_forget_48 rfl ?_
      refine g_iadd dX2_forget_50 (fun v3 rv3 => ?_)
      refine g_iald (id := 7) 7 rfl rfl dX2_forget_51 (fun v4 rv4 => ?_)
      refine g_cVV (As := [vI v4]) (n := 1) (stk := []) (ci := 0) (b := 0) (N := 21) (hX2_push v4 u) (by decide +kernel) rfl rfl (lw_V q227 q228 q229 q164 q230) (by decide +kernel) rfl (by decide) hRf hRl (fun _ => (avc rv4 avn)) (Nat.le_of_ble_eq_true rfl) rfl rfl dX2_forget_52 (fun v5 s6 => ?_)
      refine g_iinc 4 (loc' := fun v7 => [(4, vI v7), (0, vR 0), (1, vI a1), (2, vI a2), (3, vI a3)]) dX2_forget_55 rfl (by decide) (fun _ => rfl) (fun v7 rv7 => ?_)
      refine g_goto 26 dX2_forget_58 (by decide) ?_
      exact g_pick [1, 2, 3, 4, 0] rfl (ih a1 a2 a3 v7 s6 ra1 ra2 ra3 rv7)
    · exact g_pick [0, 1, 2, 3] rfl (hx61 a1 a2 a3 u ra1 ra2 ra3)
theorem wX2_forget_L0 (hd : 2 ≤ d) (hRf : d + 1 ≤ R.frames) (hRl : 40 * (d + 1) ≤ R.locals) (hX2_push : ∀ (a1 : Int) (u : Sg), Ct l d FC clA yX2_push cX2_push 2 none DX2_push rvV [vR 0, vI a1] u (call 97 [a1] u)) (hX2_hash : ∀ (a1 a2 a3 : Int) (u : Sg), Ct l d FC clA yX2_hash cX2_hash 6 (some .int) DX2_hash rvI [vR 0, vI a1, vI a2, vI a3] u (call 95 [a1, a2, a3] u)) (x121 : Int → Sg → Option (Int × Sg)) (hx121 : ∀ (a2 : Int) (u : Sg), inR a2 → WG p l e R s m args below meth c JX2_forget DX2_forget G clA A FC ad0 σ0 rvV (x121 a2 u) u 121 [(0, vR 0), (2, vI a2)] []) : ∀ (n : Nat) (a1 a2 : Int) (u : Sg), inR a1 → inR a2 → WG p l e R s m args below meth c JX2_forget DX2_forget G clA A FC ad0 σ0 rvV (bX2_forget_L0 call n a1 a2 u x121) u 0 [(0, vR 0), (1, vI a1), (2, vI a2)] [] := by
  intro n
  induction n with
  | zero =>
    intro a1 a2 u ra1 ra2
    exact g_none
  | succ n ih =>
    intro a1 a2 u ra1 ra2
    rw [bX2_forget_L0]
    refine g_aload_n 0 dX2_forget_0 rfl ?_
    refine g_getI (ci := 0) (b := 0) (N := 21) 9 rfl rfl rfl (by decide) in_X2 rfl rfl q245 dX2_forget_1 (fun v1 rv1 => ?_)
    refine g_iload_n 1 dX2_forget_4 rfl ?_
    refine g_icmp_le 121 dX2_forget_5 (by decide) (fun _ => rv1) (fun _ => ra1) (fun _ => ?_) (fun _ => ?_)
    · exact g_pick [0, 2] rfl (hx121 a2 u ra2)
    · refine g_aload_n 0 dX2_forget_8 rfl ?_
      refine g_dup rfl dX2_forget_9 ?_
      refine g_getI (ci := 0) (b := 0) (N := 21) 9 rfl rfl rfl (by decide) in_X2 rfl rfl q245 dX2_forget_10 (fun v2 rv2 => ?_)
      refine g_iconst dX2_forget_13 ?_
      refine g_isub dX2_forget_14 (fun v3 rv3 => ?_)
      refine g_sIU (ci := 0) (b := 0) (N := 21) FC_ok 9 rfl rfl rfl (by decide) in_X2 tyX2 tyX2_ok nmX2 rfl rfl rfl rfl (by decide +kernel) rv3 q245 dX2_forget_15 (fun s4 => ?_)
      refine g_aload_n 0 dX2_forget_18 rfl ?_
      refine g_getI (ci := 0) (b := 0) (N := 21) 9 rfl rfl rfl (by decide) in_X2 rfl rfl q245 dX2_forget_19 (fun v5 rv5 => ?_)
      refine g_istore_n (loc' := [(3, vI v5), (0, vR 0), (1, vI a1), (2, vI a2)]) dX2_forget_22 (by decide) rfl ?_
      refine g_iconst dX2_forget_23 ?_
      refine g_istore (loc' := [(4, vI 0), (3, vI v5), (0, vR 0), (1, vI a1), (2, vI a2)]) dX2_forget_24 (by decide) rfl ?_
      refine g_pick [2, 3, 4, 1, 0] rfl (wX2_forget_L26 hd hRf hRl hX2_push hX2_hash _ (fun v7 v8 v9 s6 rv7 rv8 rv9 => ?_) KF a1 a2 v5 0 s4 ra1 ra2 rv5 (inR_z (Or.inl rfl)))
      · refine g_aload_n 0 dX2_forget_61 rfl ?_
        refine g_aload_n 0 dX2_forget_62 rfl ?_
        refine g_get (v := vR 10) (ci := 0) (b := 0) (N := 21) 0 rfl rfl (by decide) in_X2 rfl rfl q231 dX2_forget_63 ?_
        refine g_iload_n 3 dX2_forget_66 rfl ?_
        refine g_iald (id := 0) 0 rfl rfl dX2_forget_67 (fun v10 rv10 => ?_)
        refine g_aload_n 0 dX2_forget_68 rfl ?_
        refine g_get (v := vR 11) (ci := 0) (b := 0) (N := 21) 1 rfl rfl (by decide) in_X2 rfl rfl q233 dX2_forget_69 ?_
        refine g_iload_n 3 dX2_forget_72 rfl ?_
        refine g_iald (id := 1) 1 rfl rfl dX2_forget_73 (fun v11 rv11 => ?_)
        refine g_aload_n 0 dX2_forget_74 rfl ?_
        refine g_getI (ci := 0) (b := 0) (N := 21) 12 rfl rfl rfl (by decide) in_X2 rfl rfl q252 dX2_forget_75 (fun v12 rv12 => ?_)
        refine g_aload_n 0 dX2_forget_78 rfl ?_
        refine g_get (v := vR 13) (ci := 0) (b := 0) (N := 21) 3 rfl rfl (by decide) in_X2 rfl rfl q236 dX2_forget_79 ?_
        refine g_iload_n 3 dX2_forget_82 rfl ?_
        refine g_iald (id := 3) 3 rfl rfl dX2_forget_83 (fun v13 rv13 => ?_)
        refine g_isub dX2_forget_84 (fun v14 rv14 => ?_)
        refine g_cVI (As := [vI v10, vI v11, vI v14]) (n := 3) (stk := []) (ci := 0) (b := 0) (N := 21) (hX2_hash v10 v11 v14 s6) (by decide +kernel) rfl rfl (lw_V q195 q197 qs0 q164 q198) (by decide +kernel) rfl (by decide) hRf hRl (fun _ => (avc rv10 (avc rv11 (avc rv14 avn)))) (Nat.le_of_ble_eq_true rfl) rfl rfl dX2_forget_85 (fun v15 s16 rv15 => ?_)
        refine g_istore (loc' := [(4, vI v15), (0, vR 0), (1, vI v7), (2, vI v8), (3, vI v9)]) dX2_forget_88 (by decide) rfl ?_
        refine g_aload_n 1 dX2_forget_90 rfl ?_
        refine g_dup rfl dX2_forget_91 ?_
        refine g_getI (ci := 0) (b := 0) (N := 21) 12 rfl rfl rfl (by decide) in_X2 rfl rfl q252 dX2_forget_92 (fun v17 rv17 => ?_)
        refine g_aload_n 1 dX2_forget_95 rfl ?_
        refine g_get (v := vR 13) (ci := 0) (b := 0) (N := 21) 3 rfl rfl (by decide) in_X2 rfl rfl q236 dX2_forget_96 ?_
        refine g_iload_n 4 dX2_forget_99 rfl ?_
        refine g_iald (id := 3) 3 rfl rfl dX2_forget_100 (fun v18 rv18 => ?_)
        refine g_isub dX2_forget_101 (fun v19 rv19 => ?_)
        refine g_sIU (ci := 0) (b := 0) (N := 21) FC_ok 12 rfl rfl rfl (by decide) in_X2 tyX2 tyX2_ok nmX2 rfl rfl rfl rfl (by decide +kernel) rv19 q252 dX2_forget_102 (fun s20 => ?_)
        refine g_aload_n 1 dX2_forget_105 rfl ?_
        refine g_get (v := vR 18) (ci := 0) (b := 0) (N := 21) 8 rfl rfl (by decide) in_X2 rfl rfl q244 dX2_forget_106 ?_
        refine g_iload 0 dX2_forget_109 rfl ?_
        refine g_aload_n 1 dX2_forget_111 rfl ?_
        refine g_get (v := vR 16) (ci := 0) (b := 0) (N := 21) 6 rfl rfl (by decide) in_X2 rfl rfl q242 dX2_forget_112 ?_
        refine g_iload_n 4 dX2_forget_115 rfl ?_
        refine g_iald (id := 6) 6 rfl rfl dX2_forget_116 (fun v21 rv21 => ?_)
        refine g_iastU (id := 8) FC_ok 8 rfl rfl (by decide +kernel) rv21 dX2_forget_117 (fun s22 => ?_)
        refine g_goto 0 dX2_forget_118 (by decide) ?_
        exact g_pick [1, 2, 3] rfl (ih v7 v8 s22 rv7 rv8)
theorem wX2_forget (hd : 2 ≤ d) (hRf : d + 1 ≤ R.frames) (hRl : 40 * (d + 1) ≤ R.locals) (hX2_push : ∀ (a1 : Int) (u : Sg), Ct l d FC clA yX2_push cX2_push 2 none DX2_push rvV [vR 0, vI a1] u (call 97 [a1] u)) (hX2_hash : ∀ (a1 a2 a3 : Int) (u : Sg), Ct l d FC clA yX2_hash cX2_hash 6 (some .int) DX2_hash rvI [vR 0, vI a1, vI a2, vI a3] u (call 95 [a1, a2, a3] u)) (a1 a2 : Int) (u : Sg) (ra1 : inR a1) (ra2 : inR a2) : WG p l e R s m args below meth c JX2_forget DX2_forget G clA A FC ad0 σ0 rvV (bX2_forget call a1 a2 u) u 0 [(0, vR 0), (1, vI a1), (2, vI a2)] [] := by
  unfold bX2_forget
  refine g_pick [0, 1, 2] rfl (wX2_forget_L0 hd hRf hRl hX2_push hX2_hash _ (fun v2 s1 rv2 => ?_) KF a1 a2 u ra1 ra2)
  · refine g_aload_n 0 dX2_forget_121 rfl ?_
    refine g_iload_n 1 dX2_forget_122 rfl ?_
    refine g_sIU (ci := 0) (b := 0) (N := 21) FC_ok 10 rfl rfl rfl (by decide) in_X2 tyX2 tyX2_ok nmX2 rfl rfl rfl rfl (by decide +kernel) rv2 q247 dX2_forget_123 (fun s3 => ?_)
    exact g_vret rfl rfl dX2_forget_126
end
section
variable {l : Launch} {d : Nat} {call : Nat → List Int → Sg → Option (Int × Sg)}
theorem ctX2_forget (p0 : Program) (e0 : Env) (s0 : State) (m0 : MethodId) (meth0 : Method) (c0 : Code) (G0 : Gm) (hd : 2 ≤ d) (hX2_push : ∀ (a1 : Int) (u : Sg), Ct l d FC clA yX2_push cX2_push 2 none DX2_push rvV [vR 0, vI a1] u (call 97 [a1] u)) (hX2_hash : ∀ (a1 a2 a3 : Int) (u : Sg), Ct l d FC clA yX2_hash cX2_hash 6 (some .int) DX2_hash rvI [vR 0, vI a1, vI a2, vI a3] u (call 95 [a1, a2, a3] u)) (a1 a2 : Int) (u : Sg) : Ct l (d + 1) FC clA yX2_forget cX2_forget 5 none DX2_forget rvV [vR 0, vI a1, vI a2] u (bX2_forget call a1 a2 u) :=
  Ct_of (by decide) (Nat.le_of_ble_eq_true rfl) (fun p e R s1 m args below meth c G A ad hA hRf hRl => wX2_forget hd hRf hRl hX2_push hX2_hash a1 a2 u (hA _ (List.mem_cons_of_mem _ List.mem_cons_self)) (hA _ (List.mem_cons_of_mem _ (List.mem_cons_of_mem _ List.mem_cons_self)))) p0 e0 s0 m0 meth0 c0 G0
end
/-! RoundCheck$Store.mode(III)I -/
abbrev JX2_mode : Jm := (cX2_mode, RX2, 4, (some .int))
def bX2_mode (call : Nat → List Int → Sg → Option (Int × Sg)) (a1 a2 a3 : Int) (u : Sg) : Option (Int × Sg) := if a1 = 0 then (un (gI u 13) fun v1 => some (v1, u)) else (cl (call 101 [14, a1, a2, a3] u) fun v2 s3 => some (v2, s3))
section
variable {p : Program} {l : Launch} {e : Env} {R : Room} {s : State} {m : MethodId} {args : Array Value} {below : List Frame} {meth : Method} {c : Code} {G : Gm} {A : Nat → Prop} {ad0 : Nat → Nat} {σ0 : Sg} {d : Nat} {call : Nat → List Int → Sg → Option (Int × Sg)}
theorem wX2_mode (hd : 2 ≤ d) (hRf : d + 1 ≤ R.frames) (hRl : 40 * (d + 1) ≤ R.locals) (hX2_pair : ∀ (a1 a2 a3 a4 : Int) (u : Sg), Ct l d FC clA yX2_pair cX2_pair 6 (some .int) DX2_pair rvI [vR 0, vI a1, vI a2, vI a3, vI a4] u (call 101 [a1, a2, a3, a4] u)) (a1 a2 a3 : Int) (u : Sg) (ra1 : inR a1) (ra2 : inR a2) (ra3 : inR a3) : WG p l e R s m args below meth c JX2_mode DX2_mode G clA A FC ad0 σ0 rvI (bX2_mode call a1 a2 a3 u) u 0 [(0, vR 0), (1, vI a1), (2, vI a2), (3, vI a3)] [] := by
  unfold bX2_mode
  refine g_iload_n 1 dX2_mode_0 rfl ?_
  refine g_if_ne 11 dX2_mode_1 (by decide) (fun _ => ra1) (fun _ => ?_) (fun _ => ?_)
  · refine g_aload_n 0 dX2_mode_4 rfl ?_
    refine g_getI (ci := 0) (b := 0) (N := 21) 13 rfl rfl rfl (by decide) in_X2 rfl rfl q253 dX2_mode_5 (fun v1 rv1 => ?_)
    refine g_goto 20 dX2_mode_8 (by decide) ?_
    exact g_iret rfl rfl (fun _ => rv1) dX2_mode_20
  · refine g_aload_n 0 dX2_mode_11 rfl ?_
    refine g_bipush (by decide +kernel) dX2_mode_12 ?_
    refine g_iload_n 1 dX2_mode_14 rfl ?_
    refine g_iload_n 2 dX2_mode_15 rfl ?_
    refine g_iload_n 3 dX2_mode_16 rfl ?_
    refine g_cVI (As := [vI 14, vI a1, vI a2, vI a3]) (n := 4) (stk := []) (ci := 0) (b := 0) (N := 21) (hX2_pair 14 a1 a2 a3 u) (by decide +kernel) rfl rfl (lw_V q704 q705 q706 q164 q707) (by decide +kernel) rfl (by decide) hRf hRl (fun _ => (avc (by decide : inR (14)) (avc ra1 (avc ra2 (avc ra3 avn))))) (Nat.le_of_ble_eq_true rfl) rfl rfl dX2_mode_17 (fun v2 s3 rv2 => ?_)
    exact g_iret rfl rfl (fun _ => rv2) dX2_mode_20
end
section
variable {l : Launch} {d : Nat} {call : Nat → List Int → Sg → Option (Int × Sg)}
theorem ctX2_mode (p0 : Program) (e0 : Env) (s0 : State) (m0 : MethodId) (meth0 : Method) (c0 : Code) (G0 : Gm) (hd : 2 ≤ d) (hX2_pair : ∀ (a1 a2 a3 a4 : Int) (u : Sg), Ct l d FC clA yX2_pair cX2_pair 6 (some .int) DX2_pair rvI [vR 0, vI a1, vI a2, vI a3, vI a4] u (call 101 [a1, a2, a3, a4] u)) (a1 a2 a3 : Int) (u : Sg) : Ct l (d + 1) FC clA yX2_mode cX2_mode 4 (some .int) DX2_mode rvI [vR 0, vI a1, vI a2, vI a3] u (bX2_mode call a1 a2 a3 u) :=
  Ct_of (by decide) (Nat.le_of_ble_eq_true rfl) (fun p e R s1 m args below meth c G A ad hA hRf hRl => wX2_mode hd hRf hRl hX2_pair a1 a2 a3 u (hA _ (List.mem_cons_of_mem _ List.mem_cons_self)) (hA _ (List.mem_cons_of_mem _ (List.mem_cons_of_mem _ List.mem_cons_self))) (hA _ (List.mem_cons_of_mem _ (List.mem_cons_of_mem _ (List.mem_cons_of_mem _ List.mem_cons_self))))) p0 e0 s0 m0 meth0 c0 G0
end
/-! RoundCheck$Store.pair(IIII)I -/
abbrev JX2_pair : Jm := (cX2_pair, RX2, 6, (some .int))
def bX2_pair (call : Nat → List Int → Sg → Option (Int × Sg)) (a1 a2 a3 a4 : Int) (u : Sg) : Option (Int × Sg) := un (gI u 12) fun v1 => cl (call 97 [a3] u) fun v2 s3 => cl (call 97 [a4] s3) fun v4 s5 => cl (call 94 [a1, a2, v1] s5) fun v6 s7 => some (v6, s7)
section
variable {p : Program} {l : Launch} {e : Env} {R : Room} {s : State} {m : MethodId} {args : Array Value} {below : List Frame} {meth : Method} {c : Code} {G : Gm} {A : Nat → Prop} {ad0 : Nat → Nat} {σ0 : Sg} {d : Nat} {call : Nat → List Int → Sg → Option (Int × Sg)}
theorem wX2_pair (hd : 2 ≤ d) (hRf : d + 1 ≤ R.frames) (hRl : 40 * (d + 1) ≤ R.locals) (hX2_push : ∀ (a1 : Int) (u : Sg), Ct l d FC clA yX2_push cX2_push 2 none DX2_push rvV [vR 0, vI a1] u (call 97 [a1] u)) (hX2_make : ∀ (a1 a2 a3 : Int) (u : Sg), Ct l d FC clA yX2_make cX2_make 13 (some .int) DX2_make rvI [vR 0, vI a1, vI a2, vI a3] u (call 94 [a1, a2, a3] u)) (a1 a2 a3 a4 : Int) (u : Sg) (ra1 : inR a1) (ra2 : inR a2) (ra3 : inR a3) (ra4 : inR a4) : WG p l e R s m args below meth c JX2_pair DX2_pair G clA A FC ad0 σ0 rvI (bX2_pair call a1 a2 a3 a4 u) u 0 [(0, vR 0), (1, vI a1), (2, vI a2), (3, vI a3), (4, vI a4)] [] := by
  unfold bX2_pair
  refine g_aload_n 0 dX2_pair_0 rfl ?_
  refine g_getI (ci := 0) (b := 0) (N := 21) 12 rfl rfl rfl (by decide) in_X2 rfl rfl q252 dX2_pair_1 (fun v1 rv1 => ?_)
  refine g_istore (loc' := [(5, vI v1), (0, vR 0), (1, vI a1), (2, vI a2), (3, vI a3), (4, vI a4)]) dX2_pair_4 (by decide) rfl ?_
  refine g_aload_n 1 dX2_pair_6 rfl ?_
  refine g_iload_n 4 dX2_pair_7 rfl ?_
  refine g_cVV (As := [vI a3]) (n := 1) (stk := []) (ci := 0) (b := 0) (N := 21) (hX2_push a3 u) (by decide +kernel) rfl rfl (lw_V q227 q228 q229 q164 q230) (by decide +kernel) rfl (by decide) hRf hRl (fun _ => (avc ra3 avn)) (Nat.le_of_ble_eq_true rfl) rfl rfl dX2_pair_8 (fun v2 s3 => ?_)
  refine g_aload_n 1 dX2_pair_11 rfl ?_
  refine g_iload 5 dX2_pair_12 rfl ?_
  refine g_cVV (As := [vI a4]) (n := 1) (stk := []) (ci := 0) (b := 0) (N := 21) (hX2_push a4 s3) (by decide +kernel) rfl rfl (lw_V q227 q228 q229 q164 q230) (by decide +kernel) rfl (by decide) hRf hRl (fun _ => (avc ra4 avn)) (Nat.le_of_ble_eq_true rfl) rfl rfl dX2_pair_14 (fun v4 s5 => ?_)
  refine g_aload_n 1 dX2_pair_17 rfl ?_
  refine g_iload_n 2 dX2_pair_18 rfl ?_
  refine g_iload_n 3 dX2_pair_19 rfl ?_
  refine g_iload 0 dX2_pair_20 rfl ?_
  refine g_cVI (As := [vI a1, vI a2, vI v1]) (n := 3) (stk := []) (ci := 0) (b := 0) (N := 21) (hX2_make a1 a2 v1 s5) (by decide +kernel) rfl rfl (lw_V q191 q192 q193 q164 q194) (by decide +kernel) rfl (by decide) hRf hRl (fun _ => (avc ra1 (avc ra2 (avc rv1 avn)))) (Nat.le_of_ble_eq_true rfl) rfl rfl dX2_pair_22 (fun v6 s7 rv6 => ?_)
  exact g_iret rfl rfl (fun _ => rv6) dX2_pair_25
end
section
variable {l : Launch} {d : Nat} {call : Nat → List Int → Sg → Option (Int × Sg)}
theorem ctX2_pair (p0 : Program) (e0 : Env) (s0 : State) (m0 : MethodId) (meth0 : Method) (c0 : Code) (G0 : Gm) (hd : 2 ≤ d) (hX2_push : ∀ (a1 : Int) (u : Sg), Ct l d FC clA yX2_push cX2_push 2 none DX2_push rvV [vR 0, vI a1] u (call 97 [a1] u)) (hX2_make : ∀ (a1 a2 a3 : Int) (u : Sg), Ct l d FC clA yX2_make cX2_make 13 (some .int) DX2_make rvI [vR 0, vI a1, vI a2, vI a3] u (call 94 [a1, a2, a3] u)) (a1 a2 a3 a4 : Int) (u : Sg) : Ct l (d + 1) FC clA yX2_pair cX2_pair 6 (some .int) DX2_pair rvI [vR 0, vI a1, vI a2, vI a3, vI a4] u (bX2_pair call a1 a2 a3 a4 u) :=
  Ct_of (by decide) (Nat.le_of_ble_eq_true rfl) (fun p e R s1 m args below meth c G A ad hA hRf hRl => wX2_pair hd hRf hRl hX2_push hX2_make a1 a2 a3 a4 u (hA _ (List.mem_cons_of_mem _ List.mem_cons_self)) (hA _ (List.mem_cons_of_mem _ (List.mem_cons_of_mem _ List.mem_cons_self))) (hA _ (List.mem_cons_of_mem _ (List.mem_cons_of_mem _ (List.mem_cons_of_mem _ List.mem_cons_self)))) (hA _ (List.mem_cons_of_mem _ (List.mem_cons_of_mem _ (List.mem_cons_of_mem _ (List.mem_cons_of_mem _ List.mem_cons_self)))))) p0 e0 s0 m0 meth0 c0 G0
end
/-! RoundCheck$Store.not(I)I -/
abbrev JX2_not : Jm := (cX2_not, RX2, 2, (some .int))
def bX2_not (call : Nat → List Int → Sg → Option (Int × Sg)) (a1 : Int) (u : Sg) : Option (Int × Sg) := ld u 0 a1 fun v1 => if v1 = 16 then (cl (call 98 [a1, 0] u) fun v2 s3 => some (v2, s3)) else (cl (call 96 [16, 0, 1, a1] u) fun v4 s5 => some (v4, s5))
section
variable {p : Program} {l : Launch} {e : Env} {R : Room} {s : State} {m : MethodId} {args : Array Value} {below : List Frame} {meth : Method} {c : Code} {G : Gm} {A : Nat → Prop} {ad0 : Nat → Nat} {σ0 : Sg} {d : Nat} {call : Nat → List Int → Sg → Option (Int × Sg)}
theorem wX2_not (hd : 2 ≤ d) (hRf : d + 1 ≤ R.frames) (hRl : 40 * (d + 1) ≤ R.locals) (hX2_at : ∀ (a1 a2 : Int) (u : Sg), Ct l d FC clA yX2_at cX2_at 3 (some .int) DX2_at rvI [vR 0, vI a1, vI a2] u (call 98 [a1, a2] u)) (hX2_make_2 : ∀ (a1 a2 a3 a4 : Int) (u : Sg), Ct l d FC clA yX2_make_2 cX2_make_2 6 (some .int) DX2_make_2 rvI [vR 0, vI a1, vI a2, vI a3, vI a4] u (call 96 [a1, a2, a3, a4] u)) (a1 : Int) (u : Sg) (ra1 : inR a1) : WG p l e R s m args below meth c JX2_not DX2_not G clA A FC ad0 σ0 rvI (bX2_not call a1 u) u 0 [(0, vR 0), (1, vI a1)] [] := by
  unfold bX2_not
  refine g_aload_n 0 dX2_not_0 rfl ?_
  refine g_get (v := vR 10) (ci := 0) (b := 0) (N := 21) 0 rfl rfl (by decide) in_X2 rfl rfl q231 dX2_not_1 ?_
  refine g_iload_n 1 dX2_not_4 rfl ?_
  refine g_iald (id := 0) 0 rfl rfl dX2_not_5 (fun v1 rv1 => ?_)
  refine g_bipush (by decide +kernel) dX2_not_6 ?_
  refine g_icmp_ne 20 dX2_not_8 (by decide) (fun _ => rv1) (fun _ => (by decide : inR (16))) (fun _ => ?_) (fun _ => ?_)
  · refine g_aload_n 0 dX2_not_11 rfl ?_
    refine g_iload_n 1 dX2_not_12 rfl ?_
    refine g_iconst dX2_not_13 ?_
    refine g_cVI (As := [vI a1, vI 0]) (n := 2) (stk := []) (ci := 0) (b := 0) (N := 21) (hX2_at a1 0 u) (by decide +kernel) rfl rfl (lw_V q723 q572 q573 q164 q574) (by decide +kernel) rfl (by decide) hRf hRl (fun _ => (avc ra1 (avc (inR_z (Or.inl rfl)) avn))) (Nat.le_of_ble_eq_true rfl) rfl rfl dX2_not_14 (fun v2 s3 rv2 => ?_)
    refine g_goto 29 dX2_not_17 (by decide) ?_
    exact g_iret rfl rfl (fun _ => rv2) dX2_not_29
  · refine g_aload_n 0 dX2_not_20 rfl ?_
    refine g_bipush (by decide +kernel) dX2_not_21 ?_
    refine g_iconst dX2_not_23 ?_
    refine g_iconst dX2_not_24 ?_
    refine g_iload_n 1 dX2_not_25 rfl ?_
    refine g_cVI (As := [vI 16, vI 0, vI 1, vI a1]) (n := 4) (stk := []) (ci := 0) (b := 0) (N := 21) (hX2_make_2 16 0 1 a1 u) (by decide +kernel) rfl rfl (lw_V q223 q224 q225 q164 q226) (by decide +kernel) rfl (by decide) hRf hRl (fun _ => (avc (by decide : inR (16)) (avc (inR_z (Or.inl rfl)) (avc (inR_z (Or.inr rfl)) (avc ra1 avn))))) (Nat.le_of_ble_eq_true rfl) rfl rfl dX2_not_26 (fun v4 s5 rv4 => ?_)
    exact g_iret rfl rfl (fun _ => rv4) dX2_not_29
end
section
variable {l : Launch} {d : Nat} {call : Nat → List Int → Sg → Option (Int × Sg)}
theorem ctX2_not (p0 : Program) (e0 : Env) (s0 : State) (m0 : MethodId) (meth0 : Method) (c0 : Code) (G0 : Gm) (hd : 2 ≤ d) (hX2_at : ∀ (a1 a2 : Int) (u : Sg), Ct l d FC clA yX2_at cX2_at 3 (some .int) DX2_at rvI [vR 0, vI a1, vI a2] u (call 98 [a1, a2] u)) (hX2_make_2 : ∀ (a1 a2 a3 a4 : Int) (u : Sg), Ct l d FC clA yX2_make_2 cX2_make_2 6 (some .int) DX2_make_2 rvI [vR 0, vI a1, vI a2, vI a3, vI a4] u (call 96 [a1, a2, a3, a4] u)) (a1 : Int) (u : Sg) : Ct l (d + 1) FC clA yX2_not cX2_not 2 (some .int) DX2_not rvI [vR 0, vI a1] u (bX2_not call a1 u) :=
  Ct_of (by decide) (Nat.le_of_ble_eq_true rfl) (fun p e R s1 m args below meth c G A ad hA hRf hRl => wX2_not hd hRf hRl hX2_at hX2_make_2 a1 u (hA _ (List.mem_cons_of_mem _ List.mem_cons_self))) p0 e0 s0 m0 meth0 c0 G0
end
/-! RoundCheck$Store.and(II)I -/
abbrev JX2_and : Jm := (cX2_and, RX2, 4, (some .int))
def bX2_and (call : Nat → List Int → Sg → Option (Int × Sg)) (a1 a2 : Int) (u : Sg) : Option (Int × Sg) := un (gI u 12) fun v1 => cl (call 97 [a1] u) fun v2 s3 => cl (call 97 [a2] s3) fun v4 s5 => cl (call 104 [v1] s5) fun v6 s7 => some (v6, s7)
section
variable {p : Program} {l : Launch} {e : Env} {R : Room} {s : State} {m : MethodId} {args : Array Value} {below : List Frame} {meth : Method} {c : Code} {G : Gm} {A : Nat → Prop} {ad0 : Nat → Nat} {σ0 : Sg} {d : Nat} {call : Nat → List Int → Sg → Option (Int × Sg)}
theorem wX2_and (hd : 2 ≤ d) (hRf : d + 1 ≤ R.frames) (hRl : 40 * (d + 1) ≤ R.locals) (hX2_push : ∀ (a1 : Int) (u : Sg), Ct l d FC clA yX2_push cX2_push 2 none DX2_push rvV [vR 0, vI a1] u (call 97 [a1] u)) (hX2_and_2 : ∀ (a1 : Int) (u : Sg), Ct l d FC clA yX2_and_2 cX2_and_2 7 (some .int) DX2_and_2 rvI [vR 0, vI a1] u (call 104 [a1] u)) (a1 a2 : Int) (u : Sg) (ra1 : inR a1) (ra2 : inR a2) : WG p l e R s m args below meth c JX2_and DX2_and G clA A FC ad0 σ0 rvI (bX2_and call a1 a2 u) u 0 [(0, vR 0), (1, vI a1), (2, vI a2)] [] := by
  unfold bX2_and
  refine g_aload_n 0 dX2_and_0 rfl ?_
  refine g_getI (ci := 0) (b := 0) (N := 21) 12 rfl rfl rfl (by decide) in_X2 rfl rfl q252 dX2_and_1 (fun v1 rv1 => ?_)
  refine g_istore_n (loc' := [(3, vI v1), (0, vR 0), (1, vI a1), (2, vI a2)]) dX2_and_4 (by decide) rfl ?_
  refine g_aload_n 1 dX2_and_5 rfl ?_
  refine g_iload_n 2 dX2_and_6 rfl ?_
  refine g_cVV (As := [vI a1]) (n := 1) (stk := []) (ci := 0) (b := 0) (N := 21) (hX2_push a1 u) (by decide +kernel) rfl rfl (lw_V q227 q228 q229 q164 q230) (by decide +kernel) rfl (by decide) hRf hRl (fun _ => (avc ra1 avn)) (Nat.le_of_ble_eq_true rfl) rfl rfl dX2_and_7 (fun v2 s3 => ?_)
  refine g_aload_n 1 dX2_and_10 rfl ?_
  refine g_iload_n 3 dX2_and_11 rfl ?_
  refine g_cVV (As := [vI a2]) (n := 1) (stk := []) (ci := 0) (b := 0) (N := 21) (hX2_push a2 s3) (by decide +kernel) rfl rfl (lw_V q227 q228 q229 q164 q230) (by decide +kernel) rfl (by decide) hRf hRl (fun _ => (avc ra2 avn)) (Nat.le_of_ble_eq_true rfl) rfl rfl dX2_and_12 (fun v4 s5 => ?_)
  refine g_aload_n 1 dX2_and_15 rfl ?_
  refine g_iload_n 0 dX2_and_16 rfl ?_
  refine g_cVI (As := [vI v1]) (n := 1) (stk := []) (ci := 0) (b := 0) (N := 21) (hX2_and_2 v1 s5) (by decide +kernel) rfl rfl (lw_V q728 q729 q730 q164 q731) (by decide +kernel) rfl (by decide) hRf hRl (fun _ => (avc rv1 avn)) (Nat.le_of_ble_eq_true rfl) rfl rfl dX2_and_17 (fun v6 s7 rv6 => ?_)
  exact g_iret rfl rfl (fun _ => rv6) dX2_and_20
end
section
variable {l : Launch} {d : Nat} {call : Nat → List Int → Sg → Option (Int × Sg)}
theorem ctX2_and (p0 : Program) (e0 : Env) (s0 : State) (m0 : MethodId) (meth0 : Method) (c0 : Code) (G0 : Gm) (hd : 2 ≤ d) (hX2_push : ∀ (a1 : Int) (u : Sg), Ct l d FC clA yX2_push cX2_push 2 none DX2_push rvV [vR 0, vI a1] u (call 97 [a1] u)) (hX2_and_2 : ∀ (a1 : Int) (u : Sg), Ct l d FC clA yX2_and_2 cX2_and_2 7 (some .int) DX2_and_2 rvI [vR 0, vI a1] u (call 104 [a1] u)) (a1 a2 : Int) (u : Sg) : Ct l (d + 1) FC clA yX2_and cX2_and 4 (some .int) DX2_and rvI [vR 0, vI a1, vI a2] u (bX2_and call a1 a2 u) :=
  Ct_of (by decide) (Nat.le_of_ble_eq_true rfl) (fun p e R s1 m args below meth c G A ad hA hRf hRl => wX2_and hd hRf hRl hX2_push hX2_and_2 a1 a2 u (hA _ (List.mem_cons_of_mem _ List.mem_cons_self)) (hA _ (List.mem_cons_of_mem _ (List.mem_cons_of_mem _ List.mem_cons_self)))) p0 e0 s0 m0 meth0 c0 G0
end
/-! RoundCheck$Store.and(I)I -/
abbrev JX2_and_2 : Jm := (cX2_and_2, RX2, 7, (some .int))
def bX2_and_2_L54 (call : Nat → List Int → Sg → Option (Int × Sg)) : Nat → Int → Int → Int → Int → Int → Int → Sg → (Int → Int → Int → Int → Sg → Option (Int × Sg)) → Option (Int × Sg)
  | 0, _, _, _, _, _, _, _, _ => none
  | n + 1, a1, a2, a3, a4, a5, a6, u, x84 => ld u 3 a5 fun v1 => if a6 < v1 then (cl (call 98 [a5, a6] u) fun v2 s3 => cl (call 97 [v2] s3) fun v4 s5 => ar (a6 + 1) fun v6 => bX2_and_2_L54 call n a1 a2 a3 a4 a5 v6 s5 x84) else (x84 a1 a2 a3 a4 u)
def bX2_and_2_L10 (call : Nat → List Int → Sg → Option (Int × Sg)) : Nat → Int → Int → Int → Int → Sg → (Int → Int → Int → Sg → Option (Int × Sg)) → Option (Int × Sg)
  | 0, _, _, _, _, _, _ => none
  | n + 1, a1, a2, a3, a4, u, x108 => if a4 < a2 then (ld u 11 a4 fun v1 => un (gI u 14) fun v2 => if v1 = v2 then (ar (a4 + 1) fun v3 => bX2_and_2_L10 call n a1 a2 1 v3 u x108) else (ld u 0 v1 fun v4 => if v4 = 17 then (bX2_and_2_L54 call KF a1 a2 a3 a4 v1 0 u (fun v6 v7 v8 v9 s5 => ar (v9 + 1) fun v10 => bX2_and_2_L10 call n v6 v7 v8 v10 s5 x108)) else (un (gI u 13) fun v11 => if v1 = v11 then (ar (a4 + 1) fun v12 => bX2_and_2_L10 call n a1 a2 a3 v12 u x108) else (cl (call 97 [v1] u) fun v13 s14 => ar (a4 + 1) fun v15 => bX2_and_2_L10 call n a1 a2 a3 v15 s14 x108)))) else (x108 a1 a2 a3 u)
def bX2_and_2_L119 (call : Nat → List Int → Sg → Option (Int × Sg)) : Nat → Int → Int → Int → Int → Int → Sg → (Int → Int → Int → Sg → Option (Int × Sg)) → Option (Int × Sg)
  | 0, _, _, _, _, _, _, _ => none
  | n + 1, a1, a2, a3, a4, a5, u, x150 => if a5 < a4 then (ar (a1 + a5) fun v1 => ar (a2 + a5) fun v2 => ld u 11 v2 fun v3 => stA u 11 v1 v3 fun s4 => ar (a5 + 1) fun v5 => bX2_and_2_L119 call n a1 a2 a3 a4 v5 s4 x150) else (x150 a1 a3 a4 u)
def bX2_and_2 (call : Nat → List Int → Sg → Option (Int × Sg)) (a1 : Int) (u : Sg) : Option (Int × Sg) := un (gI u 12) fun v1 => bX2_and_2_L10 call KF a1 v1 0 a1 u (fun v3 v4 v5 s2 => un (gI s2 12) fun v6 => ar (v6 - v4) fun v7 => bX2_and_2_L119 call KF v3 v4 v5 v7 0 s2 (fun v9 v10 v11 s8 => jn (fun (a1 a3 a4 : Int) (s13 : Sg) => jn (fun (a1 t0 : Int) (s15 : Sg) => un (sI s15 12 a1) fun s16 => some (t0, s16)) fun j14 => if a3 = 0 then (if a4 = 0 then (un (gI s13 13) fun v17 => j14 a1 v17 s13) else (ld s13 11 a1 fun v18 => j14 a1 v18 s13)) else (un (gI s13 14) fun v19 => j14 a1 v19 s13)) fun j12 => ar (v9 + v11) fun v20 => un (sI s8 12 v20) fun s21 => if v10 = 0 then (if v11 < 2 then (j12 v9 v10 v11 s21) else (cl (call 94 [17, 0, v9] s21) fun v22 s23 => some (v22, s23))) else (j12 v9 v10 v11 s21)))
section
variable {p : Program} {l : Launch} {e : Env} {R : Room} {s : State} {m : MethodId} {args : Array Value} {below : List Frame} {meth : Method} {c : Code} {G : Gm} {A : Nat → Prop} {ad0 : Nat → Nat} {σ0 : Sg} {d : Nat} {call : Nat → List Int → Sg → Option (Int × Sg)}
theorem wX2_and_2_L54 (hd : 2 ≤ d) (hRf : d + 1 ≤ R.frames) (hRl : 40 * (d + 1) ≤ R.locals) (hX2_at : ∀ (a1 a2 : Int) (u : Sg), Ct l d FC clA yX2_at cX2_at 3 (some .int) DX2_at rvI [vR 0, vI a1, vI a2] u (call 98 [a1, a2] u)) (hX2_push : ∀ (a1 : Int) (u : Sg), Ct l d FC clA yX2_push cX2_push 2 none DX2_push rvV [vR 0, vI a1] u (call 97 [a1] u)) (hX2_make : ∀ (a1 a2 a3 : Int) (u : Sg), Ct l d FC clA yX2_make cX2_make 13 (some .int) DX2_make rvI [vR 0, vI a1, vI a2, vI a3] u (call 94 [a1, a2, a3] u)) (x84 : Int → Int → Int → Int → Sg → Option (Int × Sg)) (hx84 : ∀ (a1 a2 a3 a4 : Int) (u : Sg), inR a1 → inR a2 → (a3 = 0 ∨ a3 = 1) → inR a4 → WG p l e R s m args below meth c JX2_and_2 DX2_and_2 G clA A FC ad0 σ0 rvI (x84 a1 a2 a3 a4 u) u 84 [(0, vR 0), (1, vI a1), (2, vI a2), (3, vI a3), (4, vI a4)] []) : ∀ (n : Nat) (a1 a2 a3 a4 a5 a6 : Int) (u : Sg), inR a1 → inR a2 → (a3 = 0 ∨ a3 = 1) → inR a4 → inR a5 → inR a6 → WG p l e R s m args below meth c JX2_and_2 DX2_and_2 G clA A FC ad0 σ0 rvI (bX2_and_2_L54 call n a1 a2 a3 a4 a5 a6 u x84) u 54 [(0, vR 0), (1, vI a1), (2, vI a2), (3, vI a3), (4, vI a4), (5, vI a5), (6, vI a6)] [] := by
  intro n
  induction n with
  | zero =>
    intro a1 a2 a3 a4 a5 a6 u ra1 ra2 za3 ra4 ra5 ra6
    exact g_none
  | succ n ih =>
    intro a1 a2 a3 a4 a5 a6 u ra1 ra2 za3 ra4 ra5 ra6
    rw [bX2_and_2_L54]
    refine g_iload 6 dX2_and_2_54 rfl ?_
    refine g_aload_n 0 dX2_and_2_56 rfl ?_
    refine g_get (v := vR 13) (ci := 0) (b := 0) (N := 21) 3 rfl rfl (by decide) in_X2 rfl rfl q236 dX2_and_2_57 ?_
    refine g_iload 5 dX2_and_2_60 rfl ?_
    refine g_iald (id := 3) 3 rfl rfl dX2_and_2_62 (fun v1 rv1 => ?_)
    refine g_icmp_ge 84 dX2_and_2_63 (by decide) (fun _ => ra6) (fun _ => rv1) (fun _ => ?_) (fun _ => ?_)
    · refine g_aload_n 0 dX2_and_2_66 rfl ?_
      refine g_aload_n 0 dX2_and_2_67 rfl ?_
      refine g_iload 5 dX2_and_2_68 rfl ?_
      refine g_iload 6 dX2_and_2_70 rfl ?_
      refine g_cVI (As := [vI a5, vI a6]) (n := 2) (stk := [vR 0]) (ci := 0) (b := 0) (N := 21) (hX2_at a5 a6 u) (by decide +kernel) rfl rfl (lw_V q723 q572 q573 q164 q574) (by decide +kernel) rfl (by decide) hRf hRl (fun _ => (avc ra5 (avc ra6 avn))) (Nat.le_of_ble_eq_true rfl) rfl rfl dX2_and_2_72 (fun v2 s3 rv2 => ?_)
      refine g_cVV (As := [vI v2]) (n := 1) (stk := []) (ci := 0) (b := 0) (N := 21) (hX2_push v2 s3) (by decide +kernel) rfl rfl (lw_V q227 q228 q229 q164 q230) (by decide +kernel) rfl (by decide) hRf hRl (fun _ => (avc rv2 avn)) (Nat.le_of_ble_eq_true rfl) rfl rfl dX2_and_2_75 (fun v4 s5 => ?_)
      refine g_iinc 6 (loc' := fun v6 => [(6, vI v6), (0, vR 0), (1, vI a1), (2, vI a2), (3, vI a3), (4, vI a4), (5, vI a5)]) dX2_and_2_78 rfl (by decide) (fun _ => rfl) (fun v6 rv6 => ?_)
      refine g_goto 54 dX2_and_2_81 (by decide) ?_
      exact g_pick [1, 2, 3, 4, 5, 6, 0] rfl (ih a1 a2 a3 a4 a5 v6 s5 ra1 ra2 za3 ra4 ra5 rv6)
    · exact g_pick [0, 1, 2, 3, 4] rfl (hx84 a1 a2 a3 a4 u ra1 ra2 za3 ra4)
theorem wX2_and_2_L10 (hd : 2 ≤ d) (hRf : d + 1 ≤ R.frames) (hRl : 40 * (d + 1) ≤ R.locals) (hX2_at : ∀ (a1 a2 : Int) (u : Sg), Ct l d FC clA yX2_at cX2_at 3 (some .int) DX2_at rvI [vR 0, vI a1, vI a2] u (call 98 [a1, a2] u)) (hX2_push : ∀ (a1 : Int) (u : Sg), Ct l d FC clA yX2_push cX2_push 2 none DX2_push rvV [vR 0, vI a1] u (call 97 [a1] u)) (hX2_make : ∀ (a1 a2 a3 : Int) (u : Sg), Ct l d FC clA yX2_make cX2_make 13 (some .int) DX2_make rvI [vR 0, vI a1, vI a2, vI a3] u (call 94 [a1, a2, a3] u)) (x108 : Int → Int → Int → Sg → Option (Int × Sg)) (hx108 : ∀ (a1 a2 a3 : Int) (u : Sg), inR a1 → inR a2 → (a3 = 0 ∨ a3 = 1) → WG p l e R s m args below meth c JX2_and_2 DX2_and_2 G clA A FC ad0 σ0 rvI (x108 a1 a2 a3 u) u 108 [(0, vR 0), (1, vI a1), (2, vI a2), (3, vI a3)] []) : ∀ (n : Nat) (a1 a2 a3 a4 : Int) (u : Sg), inR a1 → inR a2 → (a3 = 0 ∨ a3 = 1) → inR a4 → WG p l e R s m args below meth c JX2_and_2 DX2_and_2 G clA A FC ad0 σ0 rvI (bX2_and_2_L10 call n a1 a2 a3 a4 u x108) u 10 [(0, vR 0), (1, vI a1), (2, vI a2), (3, vI a3), (4, vI a4)] [] := by
  intro n
  induction n with
  | zero =>
    intro a1 a2 a3 a4 u ra1 ra2 za3 ra4
    exact g_none
  | succ n ih =>
    intro a1 a2 a3 a4 u ra1 ra2 za3 ra4
    rw [bX2_and_2_L10]
    refine g_iload 4 dX2_and_2_10 rfl ?_
    refine g_iload_n 2 dX2_and_2_12 rfl ?_
    refine g_icmp_ge 108 dX2_and_2_13 (by decide) (fun _ => ra4) (fun _ => ra2) (fun _ => ?_) (fun _ => ?_)
    · refine g_aload_n 0 dX2_and_2_16 rfl ?_
      refine g_get (v := vR 21) (ci := 0) (b := 0) (N := 21) 11 rfl rfl (by decide) in_X2 rfl rfl q250 dX2_and_2_17 ?_
      refine g_iload 4 dX2_and_2_20 rfl ?_
      refine g_iald (id := 11) 9 rfl rfl dX2_and_2_22 (fun v1 rv1 => ?_)
      refine g_istore (loc' := [(5, vI v1), (0, vR 0), (1, vI a1), (2, vI a2), (3, vI a3), (4, vI a4)]) dX2_and_2_23 (by decide) rfl ?_
      refine g_iload 0 dX2_and_2_25 rfl ?_
      refine g_aload_n 1 dX2_and_2_27 rfl ?_
      refine g_getI (ci := 0) (b := 0) (N := 21) 14 rfl rfl rfl (by decide) in_X2 rfl rfl q255 dX2_and_2_28 (fun v2 rv2 => ?_)
      refine g_icmp_ne 39 dX2_and_2_31 (by decide) (fun _ => rv1) (fun _ => rv2) (fun _ => ?_) (fun _ => ?_)
      · refine g_iconst dX2_and_2_34 ?_
        refine g_istore_n (loc' := [(3, vI 1), (5, vI v1), (0, vR 0), (1, vI a1), (2, vI a2), (4, vI a4)]) dX2_and_2_35 (by decide) rfl ?_
        refine g_goto 102 dX2_and_2_36 (by decide) ?_
        refine g_iinc 5 (loc' := fun v3 => [(4, vI v3), (3, vI 1), (5, vI v1), (0, vR 0), (1, vI a1), (2, vI a2)]) dX2_and_2_102 rfl (by decide) (fun _ => rfl) (fun v3 rv3 => ?_)
        refine g_goto 10 dX2_and_2_105 (by decide) ?_
        exact g_pick [3, 4, 5, 1, 0] rfl (ih a1 a2 1 v3 u ra1 ra2 (Or.inr rfl) rv3)
      · refine g_aload_n 1 dX2_and_2_39 rfl ?_
        refine g_get (v := vR 10) (ci := 0) (b := 0) (N := 21) 0 rfl rfl (by decide) in_X2 rfl rfl q231 dX2_and_2_40 ?_
        refine g_iload 0 dX2_and_2_43 rfl ?_
        refine g_iald (id := 0) 0 rfl rfl dX2_and_2_45 (fun v4 rv4 => ?_)
        refine g_bipush (by decide +kernel) dX2_and_2_46 ?_
        refine g_icmp_ne 87 dX2_and_2_48 (by decide) (fun _ => rv4) (fun _ => (by decide : inR (17))) (fun _ => ?_) (fun _ => ?_)
        · refine g_iconst dX2_and_2_51 ?_
          refine g_istore (loc' := [(6, vI 0), (5, vI v1), (0, vR 0), (1, vI a1), (2, vI a2), (3, vI a3), (4, vI a4)]) dX2_and_2_52 (by decide) rfl ?_
          refine g_pick [2, 3, 4, 5, 6, 1, 0] rfl (wX2_and_2_L54 hd hRf hRl hX2_at hX2_push hX2_make _ (fun v6 v7 v8 v9 s5 rv6 rv7 zv8 rv9 => ?_) KF a1 a2 a3 a4 v1 0 u ra1 ra2 za3 ra4 rv1 (inR_z (Or.inl rfl)))
          · refine g_goto 102 dX2_and_2_84 (by decide) ?_
            refine g_iinc 4 (loc' := fun v10 => [(4, vI v10), (0, vR 0), (1, vI v6), (2, vI v7), (3, vI v8)]) dX2_and_2_102 rfl (by decide) (fun _ => rfl) (fun v10 rv10 => ?_)
            refine g_goto 10 dX2_and_2_105 (by decide) ?_
            exact g_pick [1, 2, 3, 4, 0] rfl (ih v6 v7 v8 v10 s5 rv6 rv7 zv8 rv10)
        · refine g_iload 0 dX2_and_2_87 rfl ?_
          refine g_aload_n 1 dX2_and_2_89 rfl ?_
          refine g_getI (ci := 0) (b := 0) (N := 21) 13 rfl rfl rfl (by decide) in_X2 rfl rfl q253 dX2_and_2_90 (fun v11 rv11 => ?_)
          refine g_icmp_eq 102 dX2_and_2_93 (by decide) (fun _ => rv1) (fun _ => rv11) (fun _ => ?_) (fun _ => ?_)
          · refine g_iinc 5 (loc' := fun v12 => [(4, vI v12), (5, vI v1), (0, vR 0), (1, vI a1), (2, vI a2), (3, vI a3)]) dX2_and_2_102 rfl (by decide) (fun _ => rfl) (fun v12 rv12 => ?_)
            refine g_goto 10 dX2_and_2_105 (by decide) ?_
            exact g_pick [2, 3, 4, 5, 0] rfl (ih a1 a2 a3 v12 u ra1 ra2 za3 rv12)
          · refine g_aload_n 1 dX2_and_2_96 rfl ?_
            refine g_iload 0 dX2_and_2_97 rfl ?_
            refine g_cVV (As := [vI v1]) (n := 1) (stk := []) (ci := 0) (b := 0) (N := 21) (hX2_push v1 u) (by decide +kernel) rfl rfl (lw_V q227 q228 q229 q164 q230) (by decide +kernel) rfl (by decide) hRf hRl (fun _ => (avc rv1 avn)) (Nat.le_of_ble_eq_true rfl) rfl rfl dX2_and_2_99 (fun v13 s14 => ?_)
            refine g_iinc 5 (loc' := fun v15 => [(4, vI v15), (5, vI v1), (0, vR 0), (1, vI a1), (2, vI a2), (3, vI a3)]) dX2_and_2_102 rfl (by decide) (fun _ => rfl) (fun v15 rv15 => ?_)
            refine g_goto 10 dX2_and_2_105 (by decide) ?_
            exact g_pick [2, 3, 4, 5, 0] rfl (ih a1 a2 a3 v15 s14 ra1 ra2 za3 rv15)
    · exact g_pick [0, 1, 2, 3] rfl (hx108 a1 a2 a3 u ra1 ra2 za3)
theorem wX2_and_2_L119 (hd : 2 ≤ d) (hRf : d + 1 ≤ R.frames) (hRl : 40 * (d + 1) ≤ R.locals) (hX2_at : ∀ (a1 a2 : Int) (u : Sg), Ct l d FC clA yX2_at cX2_at 3 (some .int) DX2_at rvI [vR 0, vI a1, vI a2] u (call 98 [a1, a2] u)) (hX2_push : ∀ (a1 : Int) (u : Sg), Ct l d FC clA yX2_push cX2_push 2 none DX2_push rvV [vR 0, vI a1] u (call 97 [a1] u)) (hX2_make : ∀ (a1 a2 a3 : Int) (u : Sg), Ct l d FC clA yX2_make cX2_make 13 (some .int) DX2_make rvI [vR 0, vI a1, vI a2, vI a3] u (call 94 [a1, a2, a3] u)) (x150 : Int → Int → Int → Sg → Option (Int × Sg)) (hx150 : ∀ (a1 a3 a4 : Int) (u : Sg), inR a1 → (a3 = 0 ∨ a3 = 1) → inR a4 → WG p l e R s m args below meth c JX2_and_2 DX2_and_2 G clA A FC ad0 σ0 rvI (x150 a1 a3 a4 u) u 150 [(0, vR 0), (1, vI a1), (3, vI a3), (4, vI a4)] []) : ∀ (n : Nat) (a1 a2 a3 a4 a5 : Int) (u : Sg), inR a1 → inR a2 → (a3 = 0 ∨ a3 = 1) → inR a4 → inR a5 → WG p l e R s m args below meth c JX2_and_2 DX2_and_2 G clA A FC ad0 σ0 rvI (bX2_and_2_L119 call n a1 a2 a3 a4 a5 u x150) u 119 [(0, vR 0), (1, vI a1), (2, vI a2), (3, vI a3), (4, vI a4), (5, vI a5)] [] := by
  intro n
  induction n with
  | zero =>
    intro a1 a2 a3 a4 a5 u ra1 ra2 za3 ra4 ra5
    exact g_none
  | succ n ih =>
    intro a1 a2 a3 a4 a5 u ra1 ra2 za3 ra4 ra5
    rw [bX2_and_2_L119]
    refine g_iload 5 dX2_and_2_119 rfl ?_
    refine g_iload 4 dX2_and_2_121 rfl ?_
    refine g_icmp_ge 150 dX2_and_2_123 (by decide) (fun _ => ra5) (fun _ => ra4) (fun _ => ?_) (fun _ => ?_)
    · refine g_aload_n 0 dX2_and_2_126 rfl ?_
      refine g_get (v := vR 21) (ci := 0) (b := 0) (N := 21) 11 rfl rfl (by decide) in_X2 rfl rfl q250 dX2_and_2_127 ?_
      refine g_iload_n 1 dX2_and_2_130 rfl ?_
      refine g_iload 5 dX2_and_2_131 rfl ?_
      refine g_iadd dX2_and_2_133 (fun v1 rv1 => ?_)
      refine g_aload_n 0 dX2_and_2_134 rfl ?_
      refine g_get (v := vR 21) (ci := 0) (b := 0) (N := 21) 11 rfl rfl (by decide) in_X2 rfl rfl q250 dX2_and_2_135 ?_
      refine g_iload_n 2 dX2_and_2_138 rfl ?_
      refine g_iload 5 dX2_and_2_139 rfl ?_
      refine g_iadd dX2_and_2_141 (fun v2 rv2 => ?_)
      refine g_iald (id := 11) 9 rfl rfl dX2_and_2_142 (fun v3 rv3 => ?_)
      refine g_iastU (id := 11) FC_ok 9 rfl rfl (by decide +kernel) rv3 dX2_and_2_143 (fun s4 => ?_)
      refine g_iinc 5 (loc' := fun v5 => [(5, vI v5), (0, vR 0), (1, vI a1), (2, vI a2), (3, vI a3), (4, vI a4)]) dX2_and_2_144 rfl (by decide) (fun _ => rfl) (fun v5 rv5 => ?_)
      refine g_goto 119 dX2_and_2_147 (by decide) ?_
      exact g_pick [1, 2, 3, 4, 5, 0] rfl (ih a1 a2 a3 a4 v5 s4 ra1 ra2 za3 ra4 rv5)
    · exact g_pick [0, 1, 3, 4] rfl (hx150 a1 a3 a4 u ra1 za3 ra4)
theorem wX2_and_2 (hd : 2 ≤ d) (hRf : d + 1 ≤ R.frames) (hRl : 40 * (d + 1) ≤ R.locals) (hX2_at : ∀ (a1 a2 : Int) (u : Sg), Ct l d FC clA yX2_at cX2_at 3 (some .int) DX2_at rvI [vR 0, vI a1, vI a2] u (call 98 [a1, a2] u)) (hX2_push : ∀ (a1 : Int) (u : Sg), Ct l d FC clA yX2_push cX2_push 2 none DX2_push rvV [vR 0, vI a1] u (call 97 [a1] u)) (hX2_make : ∀ (a1 a2 a3 : Int) (u : Sg), Ct l d FC clA yX2_make cX2_make 13 (some .int) DX2_make rvI [vR 0, vI a1, vI a2, vI a3] u (call 94 [a1, a2, a3] u)) (a1 : Int) (u : Sg) (ra1 : inR a1) : WG p l e R s m args below meth c JX2_and_2 DX2_and_2 G clA A FC ad0 σ0 rvI (bX2_and_2 call a1 u) u 0 [(0, vR 0), (1, vI a1)] [] := by
  unfold bX2_and_2
  refine g_aload_n 0 dX2_and_2_0 rfl ?_
  refine g_getI (ci := 0) (b := 0) (N := 21) 12 rfl rfl rfl (by decide) in_X2 rfl rfl q252 dX2_and_2_1 (fun v1 rv1 => ?_)
  refine g_istore_n (loc' := [(2, vI v1), (0, vR 0), (1, vI a1)]) dX2_and_2_4 (by decide) rfl ?_
  refine g_iconst dX2_and_2_5 ?_
  refine g_istore_n (loc' := [(3, vI 0), (2, vI v1), (0, vR 0), (1, vI a1)]) dX2_and_2_6 (by decide) rfl ?_
  refine g_iload_n 3 dX2_and_2_7 rfl ?_
  refine g_istore (loc' := [(4, vI a1), (3, vI 0), (2, vI v1), (0, vR 0), (1, vI a1)]) dX2_and_2_8 (by decide) rfl ?_
  refine g_pick [3, 4, 2, 1, 0] rfl (wX2_and_2_L10 hd hRf hRl hX2_at hX2_push hX2_make _ (fun v3 v4 v5 s2 rv3 rv4 zv5 => ?_) KF a1 v1 0 a1 u ra1 rv1 (Or.inl rfl) ra1)
  · refine g_aload_n 0 dX2_and_2_108 rfl ?_
    refine g_getI (ci := 0) (b := 0) (N := 21) 12 rfl rfl rfl (by decide) in_X2 rfl rfl q252 dX2_and_2_109 (fun v6 rv6 => ?_)
    refine g_iload_n 2 dX2_and_2_112 rfl ?_
    refine g_isub dX2_and_2_113 (fun v7 rv7 => ?_)
    refine g_istore (loc' := [(4, vI v7), (0, vR 0), (1, vI v3), (2, vI v4), (3, vI v5)]) dX2_and_2_114 (by decide) rfl ?_
    refine g_iconst dX2_and_2_116 ?_
    refine g_istore (loc' := [(5, vI 0), (4, vI v7), (0, vR 0), (1, vI v3), (2, vI v4), (3, vI v5)]) dX2_and_2_117 (by decide) rfl ?_
    refine g_pick [2, 3, 4, 5, 1, 0] rfl (wX2_and_2_L119 hd hRf hRl hX2_at hX2_push hX2_make _ (fun v9 v10 v11 s8 rv9 zv10 rv11 => ?_) KF v3 v4 v5 v7 0 s2 rv3 rv4 zv5 rv7 (inR_z (Or.inl rfl)))
    · refine g_jn (fun j12 => ∀ (a1 a3 a4 : Int) (s13 : Sg), inR a1 → (a3 = 0 ∨ a3 = 1) → inR a4 → WG p l e R s m args below meth c JX2_and_2 DX2_and_2 G clA A FC ad0 σ0 rvI (j12 a1 a3 a4 s13) s13 168 [(0, vR 0), (1, vI a1), (3, vI a3), (4, vI a4)] []) (fun a1 a3 a4 s13 ra1 za3 ra4 => ?_) (fun j12 hj12 => ?_)
      · refine g_jn (fun j14 => ∀ (a1 t0 : Int) (s15 : Sg), inR a1 → inR t0 → WG p l e R s m args below meth c JX2_and_2 DX2_and_2 G clA A FC ad0 σ0 rvI (j14 a1 t0 s15) s15 197 [(0, vR 0), (1, vI a1)] [vI t0]) (fun a1 t0 s15 ra1 rt0 => ?_) (fun j14 hj14 => ?_)
        · refine g_istore (loc' := [(5, vI t0), (0, vR 0), (1, vI a1)]) dX2_and_2_197 (by decide) rfl ?_
          refine g_aload_n 1 dX2_and_2_199 rfl ?_
          refine g_iload_n 2 dX2_and_2_200 rfl ?_
          refine g_sIU (ci := 0) (b := 0) (N := 21) FC_ok 12 rfl rfl rfl (by decide) in_X2 tyX2 tyX2_ok nmX2 rfl rfl rfl rfl (by decide +kernel) ra1 q252 dX2_and_2_201 (fun s16 => ?_)
          refine g_iload 0 dX2_and_2_204 rfl ?_
          exact g_iret rfl rfl (fun _ => rt0) dX2_and_2_206
        · refine g_iload_n 2 dX2_and_2_168 rfl ?_
          refine g_if_eq 179 dX2_and_2_169 (by decide) (fun _ => (inR_z za3)) (fun _ => ?_) (fun _ => ?_)
          · refine g_iload 3 dX2_and_2_179 rfl ?_
            refine g_if_ne 191 dX2_and_2_181 (by decide) (fun _ => ra4) (fun _ => ?_) (fun _ => ?_)
            · refine g_aload_n 0 dX2_and_2_184 rfl ?_
              refine g_getI (ci := 0) (b := 0) (N := 21) 13 rfl rfl rfl (by decide) in_X2 rfl rfl q253 dX2_and_2_185 (fun v17 rv17 => ?_)
              refine g_goto 197 dX2_and_2_188 (by decide) ?_
              exact g_pick [0, 1] rfl (hj14 a1 v17 s13 ra1 rv17)
            · refine g_aload_n 0 dX2_and_2_191 rfl ?_
              refine g_get (v := vR 21) (ci := 0) (b := 0) (N := 21) 11 rfl rfl (by decide) in_X2 rfl rfl q250 dX2_and_2_192 ?_
              refine g_iload_n 1 dX2_and_2_195 rfl ?_
              refine g_iald (id := 11) 9 rfl rfl dX2_and_2_196 (fun v18 rv18 => ?_)
              exact g_pick [0, 1] rfl (hj14 a1 v18 s13 ra1 rv18)
          · refine g_aload_n 0 dX2_and_2_172 rfl ?_
            refine g_getI (ci := 0) (b := 0) (N := 21) 14 rfl rfl rfl (by decide) in_X2 rfl rfl q255 dX2_and_2_173 (fun v19 rv19 => ?_)
            refine g_goto 197 dX2_and_2_176 (by decide) ?_
            exact g_pick [0, 1] rfl (hj14 a1 v19 s13 ra1 rv19)
      · refine g_aload_n 0 dX2_and_2_150 rfl ?_
        refine g_iload_n 1 dX2_and_2_151 rfl ?_
        refine g_iload 3 dX2_and_2_152 rfl ?_
        refine g_iadd dX2_and_2_154 (fun v20 rv20 => ?_)
        refine g_sIU (ci := 0) (b := 0) (N := 21) FC_ok 12 rfl rfl rfl (by decide) in_X2 tyX2 tyX2_ok nmX2 rfl rfl rfl rfl (by decide +kernel) rv20 q252 dX2_and_2_155 (fun s21 => ?_)
        refine g_iload_n 2 dX2_and_2_158 rfl ?_
        refine g_if_ne 168 dX2_and_2_159 (by decide) (fun _ => (inR_z zv10)) (fun _ => ?_) (fun _ => ?_)
        · refine g_iload 3 dX2_and_2_162 rfl ?_
          refine g_iconst dX2_and_2_164 ?_
          refine g_icmp_ge 207 dX2_and_2_165 (by decide) (fun _ => rv11) (fun _ => (by decide : inR (2))) (fun _ => ?_) (fun _ => ?_)
          · exact g_pick [0, 1, 2, 3] rfl (hj12 v9 v10 v11 s21 rv9 zv10 rv11)
          · refine g_aload_n 0 dX2_and_2_207 rfl ?_
            refine g_bipush (by decide +kernel) dX2_and_2_208 ?_
            refine g_iconst dX2_and_2_210 ?_
            refine g_iload_n 1 dX2_and_2_211 rfl ?_
            refine g_cVI (As := [vI 17, vI 0, vI v9]) (n := 3) (stk := []) (ci := 0) (b := 0) (N := 21) (hX2_make 17 0 v9 s21) (by decide +kernel) rfl rfl (lw_V q191 q192 q193 q164 q194) (by decide +kernel) rfl (by decide) hRf hRl (fun _ => (avc (by decide : inR (17)) (avc (inR_z (Or.inl rfl)) (avc rv9 avn)))) (Nat.le_of_ble_eq_true rfl) rfl rfl dX2_and_2_212 (fun v22 s23 rv22 => ?_)
            exact g_iret rfl rfl (fun _ => rv22) dX2_and_2_215
        · exact g_pick [0, 1, 2, 3] rfl (hj12 v9 v10 v11 s21 rv9 zv10 rv11)
end
section
variable {l : Launch} {d : Nat} {call : Nat → List Int → Sg → Option (Int × Sg)}
theorem ctX2_and_2 (p0 : Program) (e0 : Env) (s0 : State) (m0 : MethodId) (meth0 : Method) (c0 : Code) (G0 : Gm) (hd : 2 ≤ d) (hX2_at : ∀ (a1 a2 : Int) (u : Sg), Ct l d FC clA yX2_at cX2_at 3 (some .int) DX2_at rvI [vR 0, vI a1, vI a2] u (call 98 [a1, a2] u)) (hX2_push : ∀ (a1 : Int) (u : Sg), Ct l d FC clA yX2_push cX2_push 2 none DX2_push rvV [vR 0, vI a1] u (call 97 [a1] u)) (hX2_make : ∀ (a1 a2 a3 : Int) (u : Sg), Ct l d FC clA yX2_make cX2_make 13 (some .int) DX2_make rvI [vR 0, vI a1, vI a2, vI a3] u (call 94 [a1, a2, a3] u)) (a1 : Int) (u : Sg) : Ct l (d + 1) FC clA yX2_and_2 cX2_and_2 7 (some .int) DX2_and_2 rvI [vR 0, vI a1] u (bX2_and_2 call a1 u) :=
  Ct_of (by decide) (Nat.le_of_ble_eq_true rfl) (fun p e R s1 m args below meth c G A ad hA hRf hRl => wX2_and_2 hd hRf hRl hX2_at hX2_push hX2_make a1 u (hA _ (List.mem_cons_of_mem _ List.mem_cons_self))) p0 e0 s0 m0 meth0 c0 G0
end
/-! RoundCheck$Store.implies(II)I -/
abbrev JX2_implies : Jm := (cX2_implies, RX2, 3, (some .int))
def bX2_implies (call : Nat → List Int → Sg → Option (Int × Sg)) (a1 a2 : Int) (u : Sg) : Option (Int × Sg) := cl (call 102 [a2] u) fun v1 s2 => cl (call 103 [a1, v1] s2) fun v3 s4 => cl (call 102 [v3] s4) fun v5 s6 => some (v5, s6)
section
variable {p : Program} {l : Launch} {e : Env} {R : Room} {s : State} {m : MethodId} {args : Array Value} {below : List Frame} {meth : Method} {c : Code} {G : Gm} {A : Nat → Prop} {ad0 : Nat → Nat} {σ0 : Sg} {d : Nat} {call : Nat → List Int → Sg → Option (Int × Sg)}
theorem wX2_implies (hd : 2 ≤ d) (hRf : d + 1 ≤ R.frames) (hRl : 40 * (d + 1) ≤ R.locals) (hX2_not : ∀ (a1 : Int) (u : Sg), Ct l d FC clA yX2_not cX2_not 2 (some .int) DX2_not rvI [vR 0, vI a1] u (call 102 [a1] u)) (hX2_and : ∀ (a1 a2 : Int) (u : Sg), Ct l d FC clA yX2_and cX2_and 4 (some .int) DX2_and rvI [vR 0, vI a1, vI a2] u (call 103 [a1, a2] u)) (a1 a2 : Int) (u : Sg) (ra1 : inR a1) (ra2 : inR a2) : WG p l e R s m args below meth c JX2_implies DX2_implies G clA A FC ad0 σ0 rvI (bX2_implies call a1 a2 u) u 0 [(0, vR 0), (1, vI a1), (2, vI a2)] [] := by
  unfold bX2_implies
  refine g_aload_n 0 dX2_implies_0 rfl ?_
  refine g_aload_n 0 dX2_implies_1 rfl ?_
  refine g_iload_n 1 dX2_implies_2 rfl ?_
  refine g_aload_n 0 dX2_implies_3 rfl ?_
  refine g_iload_n 2 dX2_implies_4 rfl ?_
  refine g_cVI (As := [vI a2]) (n := 1) (stk := [vI a1, vR 0, vR 0]) (ci := 0) (b := 0) (N := 21) (hX2_not a2 u) (by decide +kernel) rfl rfl (lw_V q740 q720 q721 q164 q722) (by decide +kernel) rfl (by decide) hRf hRl (fun _ => (avc ra2 avn)) (Nat.le_of_ble_eq_true rfl) rfl rfl dX2_implies_5 (fun v1 s2 rv1 => ?_)
  refine g_cVI (As := [vI a1, vI v1]) (n := 2) (stk := [vR 0]) (ci := 0) (b := 0) (N := 21) (hX2_and a1 v1 s2) (by decide +kernel) rfl rfl (lw_V q741 q725 q726 q164 q727) (by decide +kernel) rfl (by decide) hRf hRl (fun _ => (avc ra1 (avc rv1 avn))) (Nat.le_of_ble_eq_true rfl) rfl rfl dX2_implies_8 (fun v3 s4 rv3 => ?_)
  refine g_cVI (As := [vI v3]) (n := 1) (stk := []) (ci := 0) (b := 0) (N := 21) (hX2_not v3 s4) (by decide +kernel) rfl rfl (lw_V q740 q720 q721 q164 q722) (by decide +kernel) rfl (by decide) hRf hRl (fun _ => (avc rv3 avn)) (Nat.le_of_ble_eq_true rfl) rfl rfl dX2_implies_11 (fun v5 s6 rv5 => ?_)
  exact g_iret rfl rfl (fun _ => rv5) dX2_implies_14
end
section
variable {l : Launch} {d : Nat} {call : Nat → List Int → Sg → Option (Int × Sg)}
theorem ctX2_implies (p0 : Program) (e0 : Env) (s0 : State) (m0 : MethodId) (meth0 : Method) (c0 : Code) (G0 : Gm) (hd : 2 ≤ d) (hX2_not : ∀ (a1 : Int) (u : Sg), Ct l d FC clA yX2_not cX2_not 2 (some .int) DX2_not rvI [vR 0, vI a1] u (call 102 [a1] u)) (hX2_and : ∀ (a1 a2 : Int) (u : Sg), Ct l d FC clA yX2_and cX2_and 4 (some .int) DX2_and rvI [vR 0, vI a1, vI a2] u (call 103 [a1, a2] u)) (a1 a2 : Int) (u : Sg) : Ct l (d + 1) FC clA yX2_implies cX2_implies 3 (some .int) DX2_implies rvI [vR 0, vI a1, vI a2] u (bX2_implies call a1 a2 u) :=
  Ct_of (by decide) (Nat.le_of_ble_eq_true rfl) (fun p e R s1 m args below meth c G A ad hA hRf hRl => wX2_implies hd hRf hRl hX2_not hX2_and a1 a2 u (hA _ (List.mem_cons_of_mem _ List.mem_cons_self)) (hA _ (List.mem_cons_of_mem _ (List.mem_cons_of_mem _ List.mem_cons_self)))) p0 e0 s0 m0 meth0 c0 G0
end
/-! RoundCheck$Store.iff(II)I -/
abbrev JX2_iff : Jm := (cX2_iff, RX2, 3, (some .int))
def bX2_iff (call : Nat → List Int → Sg → Option (Int × Sg)) (a1 a2 : Int) (u : Sg) : Option (Int × Sg) := cl (call 105 [a1, a2] u) fun v1 s2 => cl (call 105 [a2, a1] s2) fun v3 s4 => cl (call 103 [v1, v3] s4) fun v5 s6 => some (v5, s6)
section
variable {p : Program} {l : Launch} {e : Env} {R : Room} {s : State} {m : MethodId} {args : Array Value} {below : List Frame} {meth : Method} {c : Code} {G : Gm} {A : Nat → Prop} {ad0 : Nat → Nat} {σ0 : Sg} {d : Nat} {call : Nat → List Int → Sg → Option (Int × Sg)}
theorem wX2_iff (hd : 2 ≤ d) (hRf : d + 1 ≤ R.frames) (hRl : 40 * (d + 1) ≤ R.locals) (hX2_implies : ∀ (a1 a2 : Int) (u : Sg), Ct l d FC clA yX2_implies cX2_implies 3 (some .int) DX2_implies rvI [vR 0, vI a1, vI a2] u (call 105 [a1, a2] u)) (hX2_and : ∀ (a1 a2 : Int) (u : Sg), Ct l d FC clA yX2_and cX2_and 4 (some .int) DX2_and rvI [vR 0, vI a1, vI a2] u (call 103 [a1, a2] u)) (a1 a2 : Int) (u : Sg) (ra1 : inR a1) (ra2 : inR a2) : WG p l e R s m args below meth c JX2_iff DX2_iff G clA A FC ad0 σ0 rvI (bX2_iff call a1 a2 u) u 0 [(0, vR 0), (1, vI a1), (2, vI a2)] [] := by
  unfold bX2_iff
  refine g_aload_n 0 dX2_iff_0 rfl ?_
  refine g_aload_n 0 dX2_iff_1 rfl ?_
  refine g_iload_n 1 dX2_iff_2 rfl ?_
  refine g_iload_n 2 dX2_iff_3 rfl ?_
  refine g_cVI (As := [vI a1, vI a2]) (n := 2) (stk := [vR 0]) (ci := 0) (b := 0) (N := 21) (hX2_implies a1 a2 u) (by decide +kernel) rfl rfl (lw_V q746 q737 q738 q164 q739) (by decide +kernel) rfl (by decide) hRf hRl (fun _ => (avc ra1 (avc ra2 avn))) (Nat.le_of_ble_eq_true rfl) rfl rfl dX2_iff_4 (fun v1 s2 rv1 => ?_)
  refine g_aload_n 0 dX2_iff_7 rfl ?_
  refine g_iload_n 2 dX2_iff_8 rfl ?_
  refine g_iload_n 1 dX2_iff_9 rfl ?_
  refine g_cVI (As := [vI a2, vI a1]) (n := 2) (stk := [vI v1, vR 0]) (ci := 0) (b := 0) (N := 21) (hX2_implies a2 a1 s2) (by decide +kernel) rfl rfl (lw_V q746 q737 q738 q164 q739) (by decide +kernel) rfl (by decide) hRf hRl (fun _ => (avc ra2 (avc ra1 avn))) (Nat.le_of_ble_eq_true rfl) rfl rfl dX2_iff_10 (fun v3 s4 rv3 => ?_)
  refine g_cVI (As := [vI v1, vI v3]) (n := 2) (stk := []) (ci := 0) (b := 0) (N := 21) (hX2_and v1 v3 s4) (by decide +kernel) rfl rfl (lw_V q741 q725 q726 q164 q727) (by decide +kernel) rfl (by decide) hRf hRl (fun _ => (avc rv1 (avc rv3 avn))) (Nat.le_of_ble_eq_true rfl) rfl rfl dX2_iff_13 (fun v5 s6 rv5 => ?_)
  exact g_iret rfl rfl (fun _ => rv5) dX2_iff_16
end
section
variable {l : Launch} {d : Nat} {call : Nat → List Int → Sg → Option (Int × Sg)}
theorem ctX2_iff (p0 : Program) (e0 : Env) (s0 : State) (m0 : MethodId) (meth0 : Method) (c0 : Code) (G0 : Gm) (hd : 2 ≤ d) (hX2_implies : ∀ (a1 a2 : Int) (u : Sg), Ct l d FC clA yX2_implies cX2_implies 3 (some .int) DX2_implies rvI [vR 0, vI a1, vI a2] u (call 105 [a1, a2] u)) (hX2_and : ∀ (a1 a2 : Int) (u : Sg), Ct l d FC clA yX2_and cX2_and 4 (some .int) DX2_and rvI [vR 0, vI a1, vI a2] u (call 103 [a1, a2] u)) (a1 a2 : Int) (u : Sg) : Ct l (d + 1) FC clA yX2_iff cX2_iff 3 (some .int) DX2_iff rvI [vR 0, vI a1, vI a2] u (bX2_iff call a1 a2 u) :=
  Ct_of (by decide) (Nat.le_of_ble_eq_true rfl) (fun p e R s1 m args below meth c G A ad hA hRf hRl => wX2_iff hd hRf hRl hX2_implies hX2_and a1 a2 u (hA _ (List.mem_cons_of_mem _ List.mem_cons_self)) (hA _ (List.mem_cons_of_mem _ (List.mem_cons_of_mem _ List.mem_cons_self)))) p0 e0 s0 m0 meth0 c0 G0
end
/-! RoundCheck$Store.bind(II)I -/
abbrev JX2_bind : Jm := (cX2_bind, RX2, 3, (some .int))
def bX2_bind (call : Nat → List Int → Sg → Option (Int × Sg)) (a1 a2 : Int) (u : Sg) : Option (Int × Sg) := un (sI u 15 1) fun s1 => un (sI s1 16 a2) fun s2 => cl (call 108 [a1, 0] s2) fun v3 s4 => some (v3, s4)
section
variable {p : Program} {l : Launch} {e : Env} {R : Room} {s : State} {m : MethodId} {args : Array Value} {below : List Frame} {meth : Method} {c : Code} {G : Gm} {A : Nat → Prop} {ad0 : Nat → Nat} {σ0 : Sg} {d : Nat} {call : Nat → List Int → Sg → Option (Int × Sg)}
theorem wX2_bind (hd : 2 ≤ d) (hRf : d + 1 ≤ R.frames) (hRl : 40 * (d + 1) ≤ R.locals) (hX2_change : ∀ (a1 a2 : Int) (u : Sg), Ct l d FC clA yX2_change cX2_change 10 (some .int) DX2_change rvI [vR 0, vI a1, vI a2] u (call 108 [a1, a2] u)) (a1 a2 : Int) (u : Sg) (ra1 : inR a1) (ra2 : inR a2) : WG p l e R s m args below meth c JX2_bind DX2_bind G clA A FC ad0 σ0 rvI (bX2_bind call a1 a2 u) u 0 [(0, vR 0), (1, vI a1), (2, vI a2)] [] := by
  unfold bX2_bind
  refine g_aload_n 0 dX2_bind_0 rfl ?_
  refine g_iconst dX2_bind_1 ?_
  refine g_sIU (ci := 0) (b := 0) (N := 21) FC_ok 15 rfl rfl rfl (by decide) in_X2 tyX2 tyX2_ok nmX2 rfl rfl rfl rfl (by decide +kernel) (inR_z (Or.inr rfl)) q257 dX2_bind_2 (fun s1 => ?_)
  refine g_aload_n 0 dX2_bind_5 rfl ?_
  refine g_iload_n 2 dX2_bind_6 rfl ?_
  refine g_sIU (ci := 0) (b := 0) (N := 21) FC_ok 16 rfl rfl rfl (by decide) in_X2 tyX2 tyX2_ok nmX2 rfl rfl rfl rfl (by decide +kernel) ra2 q258 dX2_bind_7 (fun s2 => ?_)
  refine g_aload_n 0 dX2_bind_10 rfl ?_
  refine g_iload_n 1 dX2_bind_11 rfl ?_
  refine g_iconst dX2_bind_12 ?_
  refine g_cVI (As := [vI a1, vI 0]) (n := 2) (stk := []) (ci := 0) (b := 0) (N := 21) (hX2_change a1 0 s2) (by decide +kernel) rfl rfl (lw_V q758 q760 qs15 q164 q761) (by decide +kernel) rfl (by decide) hRf hRl (fun _ => (avc ra1 (avc (inR_z (Or.inl rfl)) avn))) (Nat.le_of_ble_eq_true rfl) rfl rfl dX2_bind_13 (fun v3 s4 rv3 => ?_)
  exact g_iret rfl rfl (fun _ => rv3) dX2_bind_16
end
section
variable {l : Launch} {d : Nat} {call : Nat → List Int → Sg → Option (Int × Sg)}
theorem ctX2_bind (p0 : Program) (e0 : Env) (s0 : State) (m0 : MethodId) (meth0 : Method) (c0 : Code) (G0 : Gm) (hd : 2 ≤ d) (hX2_change : ∀ (a1 a2 : Int) (u : Sg), Ct l d FC clA yX2_change cX2_change 10 (some .int) DX2_change rvI [vR 0, vI a1, vI a2] u (call 108 [a1, a2] u)) (a1 a2 : Int) (u : Sg) : Ct l (d + 1) FC clA yX2_bind cX2_bind 3 (some .int) DX2_bind rvI [vR 0, vI a1, vI a2] u (bX2_bind call a1 a2 u) :=
  Ct_of (by decide) (Nat.le_of_ble_eq_true rfl) (fun p e R s1 m args below meth c G A ad hA hRf hRl => wX2_bind hd hRf hRl hX2_change a1 a2 u (hA _ (List.mem_cons_of_mem _ List.mem_cons_self)) (hA _ (List.mem_cons_of_mem _ (List.mem_cons_of_mem _ List.mem_cons_self)))) p0 e0 s0 m0 meth0 c0 G0
end
/-! RoundCheck$Store.change(II)I -/
abbrev JX2_change : Jm := (cX2_change, RX2, 10, (some .int))
def bX2_change_L205 (call : Nat → List Int → Sg → Option (Int × Sg)) : Nat → Int → Int → Int → Int → Int → Int → Int → Sg → (Int → Int → Int → Sg → Option (Int × Sg)) → Option (Int × Sg)
  | 0, _, _, _, _, _, _, _, _, _ => none
  | n + 1, a1, a2, a3, a4, a5, a6, a7, u, x277 => if a7 < a4 then (jn (fun (a1 a2 a3 a4 a5 a6 a7 t0 : Int) (s2 : Sg) => cl (call 97 [t0] s2) fun v3 s4 => ar (a7 + 1) fun v5 => bX2_change_L205 call n a1 a2 a3 a4 a5 a6 v5 s4 x277) fun j1 => jn (fun (a1 a2 a3 a4 a5 a6 a7 a8 : Int) (s7 : Sg) => j1 a1 a2 a3 a4 a5 a6 a7 a8 s7) fun j6 => cl (call 98 [a1, a7] u) fun v8 s9 => if a7 < a5 then (if v8 = 0 then (j6 a1 a2 a3 a4 a5 a6 a7 v8 s9) else (jn (fun (a1 a2 a3 a4 a5 a6 a7 t1 t2 : Int) (s11 : Sg) => cl (call 108 [t1, t2] s11) fun v12 s13 => j1 a1 a2 a3 a4 a5 a6 a7 v12 s13) fun j10 => jn (fun (a1 a2 a3 a4 a5 a6 a7 t1 : Int) (s15 : Sg) => j10 a1 a2 a3 a4 a5 a6 a7 t1 a2 s15) fun j14 => if a3 = 18 then (if a7 = 1 then (ar (a2 + 1) fun v16 => j10 a1 a2 a3 a4 a5 a6 a7 v8 v16 s9) else (j14 a1 a2 a3 a4 a5 a6 a7 v8 s9)) else (j14 a1 a2 a3 a4 a5 a6 a7 v8 s9))) else (j6 a1 a2 a3 a4 a5 a6 a7 v8 s9)) else (x277 a1 a3 a6 u)
def bX2_change (call : Nat → List Int → Sg → Option (Int × Sg)) (a1 a2 : Int) (u : Sg) : Option (Int × Sg) := jn (fun (a1 a2 a3 : Int) (s2 : Sg) => if a3 = 2 then (jn (fun (a1 : Int) (s4 : Sg) => some (a1, s4)) fun j3 => un (gI s2 15) fun v5 => if v5 = 0 then (ld s2 1 a1 fun v6 => if v6 = a2 then (un (gI s2 17) fun v7 => some (v7, s2)) else (j3 a1 s2)) else (j3 a1 s2)) else (if a3 = 1 then (un (gI s2 16) fun v8 => if a1 = v8 then (un (gI s2 15) fun v9 => if v9 = 1 then (un (gI s2 12) fun v10 => cl (call 94 [2, a2, v10] s2) fun v11 s12 => some (v11, s12)) else (un (gI s2 15) fun v13 => if v13 = 3 then (un (gI s2 17) fun v14 => some (v14, s2)) else (some (a1, s2)))) else (some (a1, s2))) else (if a3 = 3 then (un (gI s2 15) fun v15 => if v15 = 2 then (ld s2 1 a1 fun v16 => if v16 = 0 then (un (gI s2 18) fun v17 => some (v17, s2)) else (ld s2 1 a1 fun v18 => if v18 = 1 then (un (gI s2 19) fun v19 => some (v19, s2)) else (un (gI s2 20) fun v20 => some (v20, s2)))) else (some (a1, s2))) else (ld s2 3 a1 fun v21 => if v21 = 0 then (some (a1, s2)) else (jn (fun (a1 a2 a3 a4 t0 : Int) (s23 : Sg) => un (gI s23 12) fun v24 => bX2_change_L205 call KF a1 a2 a3 a4 t0 v24 0 s23 (fun v26 v27 v28 s25 => if v27 = 16 then (ld s25 11 v28 fun v29 => un (sI s25 12 v28) fun s30 => cl (call 102 [v29] s30) fun v31 s32 => some (v31, s32)) else (if v27 = 17 then (cl (call 104 [v28] s25) fun v33 s34 => some (v33, s34)) else (ld s25 1 v26 fun v35 => cl (call 94 [v27, v35, v28] s25) fun v36 s37 => some (v36, s37))))) fun j22 => if a3 = 8 then (j22 a1 a2 a3 v21 1 s2) else (j22 a1 a2 a3 v21 v21 s2)))))) fun j1 => ld u 0 a1 fun v38 => un (gI u 15) fun v39 => if v39 = 0 then (ld u 5 a1 fun v40 => if v40 ≤ a2 then (some (a1, u)) else (j1 a1 a2 v38 u)) else (j1 a1 a2 v38 u)
section
variable {p : Program} {l : Launch} {e : Env} {R : Room} {s : State} {m : MethodId} {args : Array Value} {below : List Frame} {meth : Method} {c : Code} {G : Gm} {A : Nat → Prop} {ad0 : Nat → Nat} {σ0 : Sg} {d : Nat} {call : Nat → List Int → Sg → Option (Int × Sg)}
theorem wX2_change_L205 (hd : 2 ≤ d) (hRf : d + 1 ≤ R.frames) (hRl : 40 * (d + 1) ≤ R.locals) (hX2_make : ∀ (a1 a2 a3 : Int) (u : Sg), Ct l d FC clA yX2_make cX2_make 13 (some .int) DX2_make rvI [vR 0, vI a1, vI a2, vI a3] u (call 94 [a1, a2, a3] u)) (hX2_push : ∀ (a1 : Int) (u : Sg), Ct l d FC clA yX2_push cX2_push 2 none DX2_push rvV [vR 0, vI a1] u (call 97 [a1] u)) (hX2_at : ∀ (a1 a2 : Int) (u : Sg), Ct l d FC clA yX2_at cX2_at 3 (some .int) DX2_at rvI [vR 0, vI a1, vI a2] u (call 98 [a1, a2] u)) (hX2_change : ∀ (a1 a2 : Int) (u : Sg), Ct l d FC clA yX2_change cX2_change 10 (some .int) DX2_change rvI [vR 0, vI a1, vI a2] u (call 108 [a1, a2] u)) (hX2_not : ∀ (a1 : Int) (u : Sg), Ct l d FC clA yX2_not cX2_not 2 (some .int) DX2_not rvI [vR 0, vI a1] u (call 102 [a1] u)) (hX2_and_2 : ∀ (a1 : Int) (u : Sg), Ct l d FC clA yX2_and_2 cX2_and_2 7 (some .int) DX2_and_2 rvI [vR 0, vI a1] u (call 104 [a1] u)) (x277 : Int → Int → Int → Sg → Option (Int × Sg)) (hx277 : ∀ (a1 a3 a6 : Int) (u : Sg), inR a1 → inR a3 → inR a6 → WG p l e R s m args below meth c JX2_change DX2_change G clA A FC ad0 σ0 rvI (x277 a1 a3 a6 u) u 277 [(0, vR 0), (1, vI a1), (3, vI a3), (6, vI a6)] []) : ∀ (n : Nat) (a1 a2 a3 a4 a5 a6 a7 : Int) (u : Sg), inR a1 → inR a2 → inR a3 → inR a4 → inR a5 → inR a6 → inR a7 → WG p l e R s m args below meth c JX2_change DX2_change G clA A FC ad0 σ0 rvI (bX2_change_L205 call n a1 a2 a3 a4 a5 a6 a7 u x277) u 205 [(0, vR 0), (1, vI a1), (2, vI a2), (3, vI a3), (4, vI a4), (5, vI a5), (6, vI a6), (7, vI a7)] [] := by
  intro n
  induction n with
  | zero =>
    intro a1 a2 a3 a4 a5 a6 a7 u ra1 ra2 ra3 ra4 ra5 ra6 ra7
    exact g_none
  | succ n ih =>
    intro a1 a2 a3 a4 a5 a6 a7 u ra1 ra2 ra3 ra4 ra5 ra6 ra7
    rw [bX2_change_L205]
    refine g_iload 7 dX2_change_205 rfl ?_
    refine g_iload 4 dX2_change_207 rfl ?_
    refine g_icmp_ge 277 dX2_change_209 (by decide) (fun _ => ra7) (fun _ => ra4) (fun _ => ?_) (fun _ => ?_)
    · refine g_jn (fun j1 => ∀ (a1 a2 a3 a4 a5 a6 a7 t0 : Int) (s2 : Sg), inR a1 → inR a2 → inR a3 → inR a4 → inR a5 → inR a6 → inR a7 → inR t0 → WG p l e R s m args below meth c JX2_change DX2_change G clA A FC ad0 σ0 rvI (j1 a1 a2 a3 a4 a5 a6 a7 t0 s2) s2 263 [(0, vR 0), (1, vI a1), (2, vI a2), (3, vI a3), (4, vI a4), (5, vI a5), (6, vI a6), (7, vI a7)] [vI t0]) (fun a1 a2 a3 a4 a5 a6 a7 t0 s2 ra1 ra2 ra3 ra4 ra5 ra6 ra7 rt0 => ?_) (fun j1 hj1 => ?_)
      · refine g_istore (loc' := [(9, vI t0), (0, vR 0), (1, vI a1), (2, vI a2), (3, vI a3), (4, vI a4), (5, vI a5), (6, vI a6), (7, vI a7)]) dX2_change_263 (by decide) rfl ?_
        refine g_aload_n 1 dX2_change_265 rfl ?_
        refine g_iload 0 dX2_change_266 rfl ?_
        refine g_cVV (As := [vI t0]) (n := 1) (stk := []) (ci := 0) (b := 0) (N := 21) (hX2_push t0 s2) (by decide +kernel) rfl rfl (lw_V q227 q228 q229 q164 q230) (by decide +kernel) rfl (by decide) hRf hRl (fun _ => (avc rt0 avn)) (Nat.le_of_ble_eq_true rfl) rfl rfl dX2_change_268 (fun v3 s4 => ?_)
        refine g_iinc 8 (loc' := fun v5 => [(7, vI v5), (9, vI t0), (0, vR 0), (1, vI a1), (2, vI a2), (3, vI a3), (4, vI a4), (5, vI a5), (6, vI a6)]) dX2_change_271 rfl (by decide) (fun _ => rfl) (fun v5 rv5 => ?_)
        refine g_goto 205 dX2_change_274 (by decide) ?_
        exact g_pick [2, 3, 4, 5, 6, 7, 8, 0] rfl (ih a1 a2 a3 a4 a5 a6 v5 s4 ra1 ra2 ra3 ra4 ra5 ra6 rv5)
      · refine g_jn (fun j6 => ∀ (a1 a2 a3 a4 a5 a6 a7 a8 : Int) (s7 : Sg), inR a1 → inR a2 → inR a3 → inR a4 → inR a5 → inR a6 → inR a7 → inR a8 → WG p l e R s m args below meth c JX2_change DX2_change G clA A FC ad0 σ0 rvI (j6 a1 a2 a3 a4 a5 a6 a7 a8 s7) s7 233 [(0, vR 0), (1, vI a1), (2, vI a2), (3, vI a3), (4, vI a4), (5, vI a5), (6, vI a6), (7, vI a7), (8, vI a8)] []) (fun a1 a2 a3 a4 a5 a6 a7 a8 s7 ra1 ra2 ra3 ra4 ra5 ra6 ra7 ra8 => ?_) (fun j6 hj6 => ?_)
        · refine g_iload 8 dX2_change_233 rfl ?_
          refine g_goto 263 dX2_change_235 (by decide) ?_
          exact g_pick [0, 1, 2, 3, 4, 5, 6, 7] rfl (hj1 a1 a2 a3 a4 a5 a6 a7 a8 s7 ra1 ra2 ra3 ra4 ra5 ra6 ra7 ra8)
        · refine g_aload_n 0 dX2_change_212 rfl ?_
          refine g_iload_n 1 dX2_change_213 rfl ?_
          refine g_iload 7 dX2_change_214 rfl ?_
          refine g_cVI (As := [vI a1, vI a7]) (n := 2) (stk := []) (ci := 0) (b := 0) (N := 21) (hX2_at a1 a7 u) (by decide +kernel) rfl rfl (lw_V q723 q572 q573 q164 q574) (by decide +kernel) rfl (by decide) hRf hRl (fun _ => (avc ra1 (avc ra7 avn))) (Nat.le_of_ble_eq_true rfl) rfl rfl dX2_change_216 (fun v8 s9 rv8 => ?_)
          refine g_istore (loc' := [(8, vI v8), (0, vR 0), (1, vI a1), (2, vI a2), (3, vI a3), (4, vI a4), (5, vI a5), (6, vI a6), (7, vI a7)]) dX2_change_219 (by decide) rfl ?_
          refine g_iload 8 dX2_change_221 rfl ?_
          refine g_iload 6 dX2_change_223 rfl ?_
          refine g_icmp_ge 233 dX2_change_225 (by decide) (fun _ => ra7) (fun _ => ra5) (fun _ => ?_) (fun _ => ?_)
          · refine g_iload 0 dX2_change_228 rfl ?_
            refine g_if_ne 238 dX2_change_230 (by decide) (fun _ => rv8) (fun _ => ?_) (fun _ => ?_)
            · exact g_pick [1, 2, 3, 4, 5, 6, 7, 8, 0] rfl (hj6 a1 a2 a3 a4 a5 a6 a7 v8 s9 ra1 ra2 ra3 ra4 ra5 ra6 ra7 rv8)
            · refine g_jn (fun j10 => ∀ (a1 a2 a3 a4 a5 a6 a7 t1 t2 : Int) (s11 : Sg), inR a1 → inR a2 → inR a3 → inR a4 → inR a5 → inR a6 → inR a7 → inR t1 → inR t2 → WG p l e R s m args below meth c JX2_change DX2_change G clA A FC ad0 σ0 rvI (j10 a1 a2 a3 a4 a5 a6 a7 t1 t2 s11) s11 260 [(0, vR 0), (1, vI a1), (2, vI a2), (3, vI a3), (4, vI a4), (5, vI a5), (6, vI a6), (7, vI a7)] [vI t2, vI t1, vR 0]) (fun a1 a2 a3 a4 a5 a6 a7 t1 t2 s11 ra1 ra2 ra3 ra4 ra5 ra6 ra7 rt1 rt2 => ?_) (fun j10 hj10 => ?_)
              · refine g_cVI (As := [vI t1, vI t2]) (n := 2) (stk := []) (ci := 0) (b := 0) (N := 21) (hX2_change t1 t2 s11) (by decide +kernel) rfl rfl (lw_V q758 q760 qs15 q164 q761) (by decide +kernel) rfl (by decide) hRf hRl (fun _ => (avc rt1 (avc rt2 avn))) (Nat.le_of_ble_eq_true rfl) rfl rfl dX2_change_260 (fun v12 s13 rv12 => ?_)
                exact g_pick [0, 1, 2, 3, 4, 5, 6, 7] rfl (hj1 a1 a2 a3 a4 a5 a6 a7 v12 s13 ra1 ra2 ra3 ra4 ra5 ra6 ra7 rv12)
              · refine g_jn (fun j14 => ∀ (a1 a2 a3 a4 a5 a6 a7 t1 : Int) (s15 : Sg), inR a1 → inR a2 → inR a3 → inR a4 → inR a5 → inR a6 → inR a7 → inR t1 → WG p l e R s m args below meth c JX2_change DX2_change G clA A FC ad0 σ0 rvI (j14 a1 a2 a3 a4 a5 a6 a7 t1 s15) s15 259 [(0, vR 0), (1, vI a1), (2, vI a2), (3, vI a3), (4, vI a4), (5, vI a5), (6, vI a6), (7, vI a7)] [vI t1, vR 0]) (fun a1 a2 a3 a4 a5 a6 a7 t1 s15 ra1 ra2 ra3 ra4 ra5 ra6 ra7 rt1 => ?_) (fun j14 hj14 => ?_)
                · refine g_iload_n 2 dX2_change_259 rfl ?_
                  exact g_pick [0, 1, 2, 3, 4, 5, 6, 7] rfl (hj10 a1 a2 a3 a4 a5 a6 a7 t1 a2 s15 ra1 ra2 ra3 ra4 ra5 ra6 ra7 rt1 ra2)
                · refine g_aload_n 1 dX2_change_238 rfl ?_
                  refine g_iload 0 dX2_change_239 rfl ?_
                  refine g_iload_n 4 dX2_change_241 rfl ?_
                  refine g_bipush (by decide +kernel) dX2_change_242 ?_
                  refine g_icmp_ne 259 dX2_change_244 (by decide) (fun _ => ra3) (fun _ => (by decide : inR (18))) (fun _ => ?_) (fun _ => ?_)
                  · refine g_iload 8 dX2_change_247 rfl ?_
                    refine g_iconst dX2_change_249 ?_
                    refine g_icmp_ne 259 dX2_change_250 (by decide) (fun _ => ra7) (fun _ => (inR_z (Or.inr rfl))) (fun _ => ?_) (fun _ => ?_)
                    · refine g_iload_n 3 dX2_change_253 rfl ?_
                      refine g_iconst dX2_change_254 ?_
                      refine g_iadd dX2_change_255 (fun v16 rv16 => ?_)
                      refine g_goto 260 dX2_change_256 (by decide) ?_
                      exact g_pick [1, 2, 3, 4, 5, 6, 7, 8] rfl (hj10 a1 a2 a3 a4 a5 a6 a7 v8 v16 s9 ra1 ra2 ra3 ra4 ra5 ra6 ra7 rv8 rv16)
                    · exact g_pick [1, 2, 3, 4, 5, 6, 7, 8] rfl (hj14 a1 a2 a3 a4 a5 a6 a7 v8 s9 ra1 ra2 ra3 ra4 ra5 ra6 ra7 rv8)
                  · exact g_pick [1, 2, 3, 4, 5, 6, 7, 8] rfl (hj14 a1 a2 a3 a4 a5 a6 a7 v8 s9 ra1 ra2 ra3 ra4 ra5 ra6 ra7 rv8)
          · exact g_pick [1, 2, 3, 4, 5, 6, 7, 8, 0] rfl (hj6 a1 a2 a3 a4 a5 a6 a7 v8 s9 ra1 ra2 ra3 ra4 ra5 ra6 ra7 rv8)
    · exact g_pick [0, 1, 3, 6] rfl (hx277 a1 a3 a6 u ra1 ra3 ra6)
theorem wX2_change (hd : 2 ≤ d) (hRf : d + 1 ≤ R.frames) (hRl : 40 * (d + 1) ≤ R.locals) (hX2_make : ∀ (a1 a2 a3 : Int) (u : Sg), Ct l d FC clA yX2_make cX2_make 13 (some .int) DX2_make rvI [vR 0, vI a1, vI a2, vI a3] u (call 94 [a1, a2, a3] u)) (hX2_push : ∀ (a1 : Int) (u : Sg), Ct l d FC clA yX2_push cX2_push 2 none DX2_push rvV [vR 0, vI a1] u (call 97 [a1] u)) (hX2_at : ∀ (a1 a2 : Int) (u : Sg), Ct l d FC clA yX2_at cX2_at 3 (some .int) DX2_at rvI [vR 0, vI a1, vI a2] u (call 98 [a1, a2] u)) (hX2_change : ∀ (a1 a2 : Int) (u : Sg), Ct l d FC clA yX2_change cX2_change 10 (some .int) DX2_change rvI [vR 0, vI a1, vI a2] u (call 108 [a1, a2] u)) (hX2_not : ∀ (a1 : Int) (u : Sg), Ct l d FC clA yX2_not cX2_not 2 (some .int) DX2_not rvI [vR 0, vI a1] u (call 102 [a1] u)) (hX2_and_2 : ∀ (a1 : Int) (u : Sg), Ct l d FC clA yX2_and_2 cX2_and_2 7 (some .int) DX2_and_2 rvI [vR 0, vI a1] u (call 104 [a1] u)) (a1 a2 : Int) (u : Sg) (ra1 : inR a1) (ra2 : inR a2) : WG p l e R s m args below meth c JX2_change DX2_change G clA A FC ad0 σ0 rvI (bX2_change call a1 a2 u) u 0 [(0, vR 0), (1, vI a1), (2, vI a2)] [] := by
  unfold bX2_change
  refine g_jn (fun j1 => ∀ (a1 a2 a3 : Int) (s2 : Sg), inR a1 → inR a2 → inR a3 → WG p l e R s m args below meth c JX2_change DX2_change G clA A FC ad0 σ0 rvI (j1 a1 a2 a3 s2) s2 26 [(0, vR 0), (1, vI a1), (2, vI a2), (3, vI a3)] []) (fun a1 a2 a3 s2 ra1 ra2 ra3 => ?_) (fun j1 hj1 => ?_)
  · refine g_iload_n 3 dX2_change_26 rfl ?_
    refine g_iconst dX2_change_27 ?_
    refine g_icmp_ne 57 dX2_change_28 (by decide) (fun _ => ra3) (fun _ => (by decide : inR (2))) (fun _ => ?_) (fun _ => ?_)
    · refine g_jn (fun j3 => ∀ (a1 : Int) (s4 : Sg), inR a1 → WG p l e R s m args below meth c JX2_change DX2_change G clA A FC ad0 σ0 rvI (j3 a1 s4) s4 55 [(1, vI a1)] []) (fun a1 s4 ra1 => ?_) (fun j3 hj3 => ?_)
      · refine g_iload_n 0 dX2_change_55 rfl ?_
        exact g_iret rfl rfl (fun _ => ra1) dX2_change_56
      · refine g_aload_n 0 dX2_change_31 rfl ?_
        refine g_getI (ci := 0) (b := 0) (N := 21) 15 rfl rfl rfl (by decide) in_X2 rfl rfl q257 dX2_change_32 (fun v5 rv5 => ?_)
        refine g_if_ne 55 dX2_change_35 (by decide) (fun _ => rv5) (fun _ => ?_) (fun _ => ?_)
        · refine g_aload_n 0 dX2_change_38 rfl ?_
          refine g_get (v := vR 11) (ci := 0) (b := 0) (N := 21) 1 rfl rfl (by decide) in_X2 rfl rfl q233 dX2_change_39 ?_
          refine g_iload_n 1 dX2_change_42 rfl ?_
          refine g_iald (id := 1) 1 rfl rfl dX2_change_43 (fun v6 rv6 => ?_)
          refine g_iload_n 2 dX2_change_44 rfl ?_
          refine g_icmp_ne 55 dX2_change_45 (by decide) (fun _ => rv6) (fun _ => ra2) (fun _ => ?_) (fun _ => ?_)
          · refine g_aload_n 0 dX2_change_48 rfl ?_
            refine g_getI (ci := 0) (b := 0) (N := 21) 17 rfl rfl rfl (by decide) in_X2 rfl rfl q259 dX2_change_49 (fun v7 rv7 => ?_)
            refine g_goto 56 dX2_change_52 (by decide) ?_
            exact g_iret rfl rfl (fun _ => rv7) dX2_change_56
          · exact g_pick [1] rfl (hj3 a1 s2 ra1)
        · exact g_pick [1] rfl (hj3 a1 s2 ra1)
    · refine g_iload_n 3 dX2_change_57 rfl ?_
      refine g_iconst dX2_change_58 ?_
      refine g_icmp_ne 112 dX2_change_59 (by decide) (fun _ => ra3) (fun _ => (inR_z (Or.inr rfl))) (fun _ => ?_) (fun _ => ?_)
      · refine g_iload_n 1 dX2_change_62 rfl ?_
        refine g_aload_n 0 dX2_change_63 rfl ?_
        refine g_getI (ci := 0) (b := 0) (N := 21) 16 rfl rfl rfl (by decide) in_X2 rfl rfl q258 dX2_change_64 (fun v8 rv8 => ?_)
        refine g_icmp_eq 74 dX2_change_67 (by decide) (fun _ => ra1) (fun _ => rv8) (fun _ => ?_) (fun _ => ?_)
        · refine g_aload_n 0 dX2_change_74 rfl ?_
          refine g_getI (ci := 0) (b := 0) (N := 21) 15 rfl rfl rfl (by decide) in_X2 rfl rfl q257 dX2_change_75 (fun v9 rv9 => ?_)
          refine g_iconst dX2_change_78 ?_
          refine g_icmp_ne 95 dX2_change_79 (by decide) (fun _ => rv9) (fun _ => (inR_z (Or.inr rfl))) (fun _ => ?_) (fun _ => ?_)
          · refine g_aload_n 0 dX2_change_82 rfl ?_
            refine g_iconst dX2_change_83 ?_
            refine g_iload_n 2 dX2_change_84 rfl ?_
            refine g_aload_n 0 dX2_change_85 rfl ?_
            refine g_getI (ci := 0) (b := 0) (N := 21) 12 rfl rfl rfl (by decide) in_X2 rfl rfl q252 dX2_change_86 (fun v10 rv10 => ?_)
            refine g_cVI (As := [vI 2, vI a2, vI v10]) (n := 3) (stk := []) (ci := 0) (b := 0) (N := 21) (hX2_make 2 a2 v10 s2) (by decide +kernel) rfl rfl (lw_V q191 q192 q193 q164 q194) (by decide +kernel) rfl (by decide) hRf hRl (fun _ => (avc (by decide : inR (2)) (avc ra2 (avc rv10 avn)))) (Nat.le_of_ble_eq_true rfl) rfl rfl dX2_change_89 (fun v11 s12 rv11 => ?_)
            refine g_goto 111 dX2_change_92 (by decide) ?_
            exact g_iret rfl rfl (fun _ => rv11) dX2_change_111
          · refine g_aload_n 0 dX2_change_95 rfl ?_
            refine g_getI (ci := 0) (b := 0) (N := 21) 15 rfl rfl rfl (by decide) in_X2 rfl rfl q257 dX2_change_96 (fun v13 rv13 => ?_)
            refine g_iconst dX2_change_99 ?_
            refine g_icmp_ne 110 dX2_change_100 (by decide) (fun _ => rv13) (fun _ => (by decide : inR (3))) (fun _ => ?_) (fun _ => ?_)
            · refine g_aload_n 0 dX2_change_103 rfl ?_
              refine g_getI (ci := 0) (b := 0) (N := 21) 17 rfl rfl rfl (by decide) in_X2 rfl rfl q259 dX2_change_104 (fun v14 rv14 => ?_)
              refine g_goto 111 dX2_change_107 (by decide) ?_
              exact g_iret rfl rfl (fun _ => rv14) dX2_change_111
            · refine g_iload_n 1 dX2_change_110 rfl ?_
              exact g_iret rfl rfl (fun _ => ra1) dX2_change_111
        · refine g_iload_n 1 dX2_change_70 rfl ?_
          refine g_goto 111 dX2_change_71 (by decide) ?_
          exact g_iret rfl rfl (fun _ => ra1) dX2_change_111
      · refine g_iload_n 3 dX2_change_112 rfl ?_
        refine g_iconst dX2_change_113 ?_
        refine g_icmp_ne 167 dX2_change_114 (by decide) (fun _ => ra3) (fun _ => (by decide : inR (3))) (fun _ => ?_) (fun _ => ?_)
        · refine g_aload_n 0 dX2_change_117 rfl ?_
          refine g_getI (ci := 0) (b := 0) (N := 21) 15 rfl rfl rfl (by decide) in_X2 rfl rfl q257 dX2_change_118 (fun v15 rv15 => ?_)
          refine g_iconst dX2_change_121 ?_
          refine g_icmp_eq 129 dX2_change_122 (by decide) (fun _ => rv15) (fun _ => (by decide : inR (2))) (fun _ => ?_) (fun _ => ?_)
          · refine g_aload_n 0 dX2_change_129 rfl ?_
            refine g_get (v := vR 11) (ci := 0) (b := 0) (N := 21) 1 rfl rfl (by decide) in_X2 rfl rfl q233 dX2_change_130 ?_
            refine g_iload_n 1 dX2_change_133 rfl ?_
            refine g_iald (id := 1) 1 rfl rfl dX2_change_134 (fun v16 rv16 => ?_)
            refine g_if_ne 145 dX2_change_135 (by decide) (fun _ => rv16) (fun _ => ?_) (fun _ => ?_)
            · refine g_aload_n 0 dX2_change_138 rfl ?_
              refine g_getI (ci := 0) (b := 0) (N := 21) 18 rfl rfl rfl (by decide) in_X2 rfl rfl q260 dX2_change_139 (fun v17 rv17 => ?_)
              refine g_goto 166 dX2_change_142 (by decide) ?_
              exact g_iret rfl rfl (fun _ => rv17) dX2_change_166
            · refine g_aload_n 0 dX2_change_145 rfl ?_
              refine g_get (v := vR 11) (ci := 0) (b := 0) (N := 21) 1 rfl rfl (by decide) in_X2 rfl rfl q233 dX2_change_146 ?_
              refine g_iload_n 1 dX2_change_149 rfl ?_
              refine g_iald (id := 1) 1 rfl rfl dX2_change_150 (fun v18 rv18 => ?_)
              refine g_iconst dX2_change_151 ?_
              refine g_icmp_ne 162 dX2_change_152 (by decide) (fun _ => rv18) (fun _ => (inR_z (Or.inr rfl))) (fun _ => ?_) (fun _ => ?_)
              · refine g_aload_n 0 dX2_change_155 rfl ?_
                refine g_getI (ci := 0) (b := 0) (N := 21) 19 rfl rfl rfl (by decide) in_X2 rfl rfl q261 dX2_change_156 (fun v19 rv19 => ?_)
                refine g_goto 166 dX2_change_159 (by decide) ?_
                exact g_iret rfl rfl (fun _ => rv19) dX2_change_166
              · refine g_aload_n 0 dX2_change_162 rfl ?_
                refine g_getI (ci := 0) (b := 0) (N := 21) 20 rfl rfl rfl (by decide) in_X2 rfl rfl q262 dX2_change_163 (fun v20 rv20 => ?_)
                exact g_iret rfl rfl (fun _ => rv20) dX2_change_166
          · refine g_iload_n 1 dX2_change_125 rfl ?_
            refine g_goto 166 dX2_change_126 (by decide) ?_
            exact g_iret rfl rfl (fun _ => ra1) dX2_change_166
        · refine g_aload_n 0 dX2_change_167 rfl ?_
          refine g_get (v := vR 13) (ci := 0) (b := 0) (N := 21) 3 rfl rfl (by decide) in_X2 rfl rfl q236 dX2_change_168 ?_
          refine g_iload_n 1 dX2_change_171 rfl ?_
          refine g_iald (id := 3) 3 rfl rfl dX2_change_172 (fun v21 rv21 => ?_)
          refine g_istore (loc' := [(4, vI v21), (0, vR 0), (1, vI a1), (2, vI a2), (3, vI a3)]) dX2_change_173 (by decide) rfl ?_
          refine g_iload 0 dX2_change_175 rfl ?_
          refine g_if_ne 182 dX2_change_177 (by decide) (fun _ => rv21) (fun _ => ?_) (fun _ => ?_)
          · refine g_iload_n 2 dX2_change_180 rfl ?_
            exact g_iret rfl rfl (fun _ => ra1) dX2_change_181
          · refine g_jn (fun j22 => ∀ (a1 a2 a3 a4 t0 : Int) (s23 : Sg), inR a1 → inR a2 → inR a3 → inR a4 → inR t0 → WG p l e R s m args below meth c JX2_change DX2_change G clA A FC ad0 σ0 rvI (j22 a1 a2 a3 a4 t0 s23) s23 194 [(0, vR 0), (1, vI a1), (2, vI a2), (3, vI a3), (4, vI a4)] [vI t0]) (fun a1 a2 a3 a4 t0 s23 ra1 ra2 ra3 ra4 rt0 => ?_) (fun j22 hj22 => ?_)
            · refine g_istore (loc' := [(5, vI t0), (0, vR 0), (1, vI a1), (2, vI a2), (3, vI a3), (4, vI a4)]) dX2_change_194 (by decide) rfl ?_
              refine g_aload_n 1 dX2_change_196 rfl ?_
              refine g_getI (ci := 0) (b := 0) (N := 21) 12 rfl rfl rfl (by decide) in_X2 rfl rfl q252 dX2_change_197 (fun v24 rv24 => ?_)
              refine g_istore (loc' := [(6, vI v24), (5, vI t0), (0, vR 0), (1, vI a1), (2, vI a2), (3, vI a3), (4, vI a4)]) dX2_change_200 (by decide) rfl ?_
              refine g_iconst dX2_change_202 ?_
              refine g_istore (loc' := [(7, vI 0), (6, vI v24), (5, vI t0), (0, vR 0), (1, vI a1), (2, vI a2), (3, vI a3), (4, vI a4)]) dX2_change_203 (by decide) rfl ?_
              refine g_pick [3, 4, 5, 6, 7, 2, 1, 0] rfl (wX2_change_L205 hd hRf hRl hX2_make hX2_push hX2_at hX2_change hX2_not hX2_and_2 _ (fun v26 v27 v28 s25 rv26 rv27 rv28 => ?_) KF a1 a2 a3 a4 t0 v24 0 s23 ra1 ra2 ra3 ra4 rt0 rv24 (inR_z (Or.inl rfl)))
              · refine g_iload_n 2 dX2_change_277 rfl ?_
                refine g_bipush (by decide +kernel) dX2_change_278 ?_
                refine g_icmp_ne 305 dX2_change_280 (by decide) (fun _ => rv27) (fun _ => (by decide : inR (16))) (fun _ => ?_) (fun _ => ?_)
                · refine g_aload_n 0 dX2_change_283 rfl ?_
                  refine g_get (v := vR 21) (ci := 0) (b := 0) (N := 21) 11 rfl rfl (by decide) in_X2 rfl rfl q250 dX2_change_284 ?_
                  refine g_iload 3 dX2_change_287 rfl ?_
                  refine g_iald (id := 11) 9 rfl rfl dX2_change_289 (fun v29 rv29 => ?_)
                  refine g_istore (loc' := [(7, vI v29), (0, vR 0), (1, vI v26), (3, vI v27), (6, vI v28)]) dX2_change_290 (by decide) rfl ?_
                  refine g_aload_n 1 dX2_change_292 rfl ?_
                  refine g_iload 4 dX2_change_293 rfl ?_
                  refine g_sIU (ci := 0) (b := 0) (N := 21) FC_ok 12 rfl rfl rfl (by decide) in_X2 tyX2 tyX2_ok nmX2 rfl rfl rfl rfl (by decide +kernel) rv28 q252 dX2_change_295 (fun s30 => ?_)
                  refine g_aload_n 1 dX2_change_298 rfl ?_
                  refine g_iload 0 dX2_change_299 rfl ?_
                  refine g_cVI (As := [vI v29]) (n := 1) (stk := []) (ci := 0) (b := 0) (N := 21) (hX2_not v29 s30) (by decide +kernel) rfl rfl (lw_V q740 q720 q721 q164 q722) (by decide +kernel) rfl (by decide) hRf hRl (fun _ => (avc rv29 avn)) (Nat.le_of_ble_eq_true rfl) rfl rfl dX2_change_301 (fun v31 s32 rv31 => ?_)
                  exact g_iret rfl rfl (fun _ => rv31) dX2_change_304
                · refine g_iload_n 2 dX2_change_305 rfl ?_
                  refine g_bipush (by decide +kernel) dX2_change_306 ?_
                  refine g_icmp_ne 318 dX2_change_308 (by decide) (fun _ => rv27) (fun _ => (by decide : inR (17))) (fun _ => ?_) (fun _ => ?_)
                  · refine g_aload_n 0 dX2_change_311 rfl ?_
                    refine g_iload 3 dX2_change_312 rfl ?_
                    refine g_cVI (As := [vI v28]) (n := 1) (stk := []) (ci := 0) (b := 0) (N := 21) (hX2_and_2 v28 s25) (by decide +kernel) rfl rfl (lw_V q728 q729 q730 q164 q731) (by decide +kernel) rfl (by decide) hRf hRl (fun _ => (avc rv28 avn)) (Nat.le_of_ble_eq_true rfl) rfl rfl dX2_change_314 (fun v33 s34 rv33 => ?_)
                    exact g_iret rfl rfl (fun _ => rv33) dX2_change_317
                  · refine g_aload_n 0 dX2_change_318 rfl ?_
                    refine g_iload_n 2 dX2_change_319 rfl ?_
                    refine g_aload_n 0 dX2_change_320 rfl ?_
                    refine g_get (v := vR 11) (ci := 0) (b := 0) (N := 21) 1 rfl rfl (by decide) in_X2 rfl rfl q233 dX2_change_321 ?_
                    refine g_iload_n 1 dX2_change_324 rfl ?_
                    refine g_iald (id := 1) 1 rfl rfl dX2_change_325 (fun v35 rv35 => ?_)
                    refine g_iload 3 dX2_change_326 rfl ?_
                    refine g_cVI (As := [vI v27, vI v35, vI v28]) (n := 3) (stk := []) (ci := 0) (b := 0) (N := 21) (hX2_make v27 v35 v28 s25) (by decide +kernel) rfl rfl (lw_V q191 q192 q193 q164 q194) (by decide +kernel) rfl (by decide) hRf hRl (fun _ => (avc rv27 (avc rv35 (avc rv28 avn)))) (Nat.le_of_ble_eq_true rfl) rfl rfl dX2_change_328 (fun v36 s37 rv36 => ?_)
                    exact g_iret rfl rfl (fun _ => rv36) dX2_change_331
            · refine g_iload_n 4 dX2_change_182 rfl ?_
              refine g_bipush (by decide +kernel) dX2_change_183 ?_
              refine g_icmp_ne 192 dX2_change_185 (by decide) (fun _ => ra3) (fun _ => (by decide : inR (8))) (fun _ => ?_) (fun _ => ?_)
              · refine g_iconst dX2_change_188 ?_
                refine g_goto 194 dX2_change_189 (by decide) ?_
                exact g_pick [1, 2, 3, 4, 0] rfl (hj22 a1 a2 a3 v21 1 s2 ra1 ra2 ra3 rv21 (inR_z (Or.inr rfl)))
              · refine g_iload 0 dX2_change_192 rfl ?_
                exact g_pick [1, 2, 3, 4, 0] rfl (hj22 a1 a2 a3 v21 v21 s2 ra1 ra2 ra3 rv21 rv21)
  · refine g_aload_n 0 dX2_change_0 rfl ?_
    refine g_get (v := vR 10) (ci := 0) (b := 0) (N := 21) 0 rfl rfl (by decide) in_X2 rfl rfl q231 dX2_change_1 ?_
    refine g_iload_n 1 dX2_change_4 rfl ?_
    refine g_iald (id := 0) 0 rfl rfl dX2_change_5 (fun v38 rv38 => ?_)
    refine g_istore_n (loc' := [(3, vI v38), (0, vR 0), (1, vI a1), (2, vI a2)]) dX2_change_6 (by decide) rfl ?_
    refine g_aload_n 1 dX2_change_7 rfl ?_
    refine g_getI (ci := 0) (b := 0) (N := 21) 15 rfl rfl rfl (by decide) in_X2 rfl rfl q257 dX2_change_8 (fun v39 rv39 => ?_)
    refine g_if_ne 26 dX2_change_11 (by decide) (fun _ => rv39) (fun _ => ?_) (fun _ => ?_)
    · refine g_aload_n 1 dX2_change_14 rfl ?_
      refine g_get (v := vR 15) (ci := 0) (b := 0) (N := 21) 5 rfl rfl (by decide) in_X2 rfl rfl q240 dX2_change_15 ?_
      refine g_iload_n 2 dX2_change_18 rfl ?_
      refine g_iald (id := 5) 5 rfl rfl dX2_change_19 (fun v40 rv40 => ?_)
      refine g_iload_n 3 dX2_change_20 rfl ?_
      refine g_icmp_gt 26 dX2_change_21 (by decide) (fun _ => rv40) (fun _ => ra2) (fun _ => ?_) (fun _ => ?_)
      · refine g_iload_n 2 dX2_change_24 rfl ?_
        exact g_iret rfl rfl (fun _ => ra1) dX2_change_25
      · exact g_pick [1, 2, 3, 0] rfl (hj1 a1 a2 v38 u ra1 ra2 rv38)
    · exact g_pick [1, 2, 3, 0] rfl (hj1 a1 a2 v38 u ra1 ra2 rv38)
end
section
variable {l : Launch} {d : Nat} {call : Nat → List Int → Sg → Option (Int × Sg)}
theorem ctX2_change (p0 : Program) (e0 : Env) (s0 : State) (m0 : MethodId) (meth0 : Method) (c0 : Code) (G0 : Gm) (hd : 2 ≤ d) (hX2_make : ∀ (a1 a2 a3 : Int) (u : Sg), Ct l d FC clA yX2_make cX2_make 13 (some .int) DX2_make rvI [vR 0, vI a1, vI a2, vI a3] u (call 94 [a1, a2, a3] u)) (hX2_push : ∀ (a1 : Int) (u : Sg), Ct l d FC clA yX2_push cX2_push 2 none DX2_push rvV [vR 0, vI a1] u (call 97 [a1] u)) (hX2_at : ∀ (a1 a2 : Int) (u : Sg), Ct l d FC clA yX2_at cX2_at 3 (some .int) DX2_at rvI [vR 0, vI a1, vI a2] u (call 98 [a1, a2] u)) (hX2_change : ∀ (a1 a2 : Int) (u : Sg), Ct l d FC clA yX2_change cX2_change 10 (some .int) DX2_change rvI [vR 0, vI a1, vI a2] u (call 108 [a1, a2] u)) (hX2_not : ∀ (a1 : Int) (u : Sg), Ct l d FC clA yX2_not cX2_not 2 (some .int) DX2_not rvI [vR 0, vI a1] u (call 102 [a1] u)) (hX2_and_2 : ∀ (a1 : Int) (u : Sg), Ct l d FC clA yX2_and_2 cX2_and_2 7 (some .int) DX2_and_2 rvI [vR 0, vI a1] u (call 104 [a1] u)) (a1 a2 : Int) (u : Sg) : Ct l (d + 1) FC clA yX2_change cX2_change 10 (some .int) DX2_change rvI [vR 0, vI a1, vI a2] u (bX2_change call a1 a2 u) :=
  Ct_of (by decide) (Nat.le_of_ble_eq_true rfl) (fun p e R s1 m args below meth c G A ad hA hRf hRl => wX2_change hd hRf hRl hX2_make hX2_push hX2_at hX2_change hX2_not hX2_and_2 a1 a2 u (hA _ (List.mem_cons_of_mem _ List.mem_cons_self)) (hA _ (List.mem_cons_of_mem _ (List.mem_cons_of_mem _ List.mem_cons_self)))) p0 e0 s0 m0 meth0 c0 G0
end
/-! RoundCheck$Store.all(II)I -/
abbrev JX2_all : Jm := (cX2_all, RX2, 3, (some .int))
def bX2_all (call : Nat → List Int → Sg → Option (Int × Sg)) (a1 a2 : Int) (u : Sg) : Option (Int × Sg) := un (gI u 13) fun v1 => if a2 = v1 then (un (gI u 13) fun v2 => some (v2, u)) else (cl (call 101 [18, 0, a1, a2] u) fun v3 s4 => some (v3, s4))
section
variable {p : Program} {l : Launch} {e : Env} {R : Room} {s : State} {m : MethodId} {args : Array Value} {below : List Frame} {meth : Method} {c : Code} {G : Gm} {A : Nat → Prop} {ad0 : Nat → Nat} {σ0 : Sg} {d : Nat} {call : Nat → List Int → Sg → Option (Int × Sg)}
theorem wX2_all (hd : 2 ≤ d) (hRf : d + 1 ≤ R.frames) (hRl : 40 * (d + 1) ≤ R.locals) (hX2_pair : ∀ (a1 a2 a3 a4 : Int) (u : Sg), Ct l d FC clA yX2_pair cX2_pair 6 (some .int) DX2_pair rvI [vR 0, vI a1, vI a2, vI a3, vI a4] u (call 101 [a1, a2, a3, a4] u)) (a1 a2 : Int) (u : Sg) (ra1 : inR a1) (ra2 : inR a2) : WG p l e R s m args below meth c JX2_all DX2_all G clA A FC ad0 σ0 rvI (bX2_all call a1 a2 u) u 0 [(0, vR 0), (1, vI a1), (2, vI a2)] [] := by
  unfold bX2_all
  refine g_iload_n 2 dX2_all_0 rfl ?_
  refine g_aload_n 0 dX2_all_1 rfl ?_
  refine g_getI (ci := 0) (b := 0) (N := 21) 13 rfl rfl rfl (by decide) in_X2 rfl rfl q253 dX2_all_2 (fun v1 rv1 => ?_)
  refine g_icmp_ne 15 dX2_all_5 (by decide) (fun _ => ra2) (fun _ => rv1) (fun _ => ?_) (fun _ => ?_)
  · refine g_aload_n 0 dX2_all_8 rfl ?_
    refine g_getI (ci := 0) (b := 0) (N := 21) 13 rfl rfl rfl (by decide) in_X2 rfl rfl q253 dX2_all_9 (fun v2 rv2 => ?_)
    refine g_goto 24 dX2_all_12 (by decide) ?_
    exact g_iret rfl rfl (fun _ => rv2) dX2_all_24
  · refine g_aload_n 0 dX2_all_15 rfl ?_
    refine g_bipush (by decide +kernel) dX2_all_16 ?_
    refine g_iconst dX2_all_18 ?_
    refine g_iload_n 1 dX2_all_19 rfl ?_
    refine g_iload_n 2 dX2_all_20 rfl ?_
    refine g_cVI (As := [vI 18, vI 0, vI a1, vI a2]) (n := 4) (stk := []) (ci := 0) (b := 0) (N := 21) (hX2_pair 18 0 a1 a2 u) (by decide +kernel) rfl rfl (lw_V q704 q705 q706 q164 q707) (by decide +kernel) rfl (by decide) hRf hRl (fun _ => (avc (by decide : inR (18)) (avc (inR_z (Or.inl rfl)) (avc ra1 (avc ra2 avn))))) (Nat.le_of_ble_eq_true rfl) rfl rfl dX2_all_21 (fun v3 s4 rv3 => ?_)
    exact g_iret rfl rfl (fun _ => rv3) dX2_all_24
end
section
variable {l : Launch} {d : Nat} {call : Nat → List Int → Sg → Option (Int × Sg)}
theorem ctX2_all (p0 : Program) (e0 : Env) (s0 : State) (m0 : MethodId) (meth0 : Method) (c0 : Code) (G0 : Gm) (hd : 2 ≤ d) (hX2_pair : ∀ (a1 a2 a3 a4 : Int) (u : Sg), Ct l d FC clA yX2_pair cX2_pair 6 (some .int) DX2_pair rvI [vR 0, vI a1, vI a2, vI a3, vI a4] u (call 101 [a1, a2, a3, a4] u)) (a1 a2 : Int) (u : Sg) : Ct l (d + 1) FC clA yX2_all cX2_all 3 (some .int) DX2_all rvI [vR 0, vI a1, vI a2] u (bX2_all call a1 a2 u) :=
  Ct_of (by decide) (Nat.le_of_ble_eq_true rfl) (fun p e R s1 m args below meth c G A ad hA hRf hRl => wX2_all hd hRf hRl hX2_pair a1 a2 u (hA _ (List.mem_cons_of_mem _ List.mem_cons_self)) (hA _ (List.mem_cons_of_mem _ (List.mem_cons_of_mem _ List.mem_cons_self)))) p0 e0 s0 m0 meth0 c0 G0
end
/-! RoundCheck$Store.put(II)I -/
abbrev JX2_put : Jm := (cX2_put, RX2, 3, (some .int))
def bX2_put (call : Nat → List Int → Sg → Option (Int × Sg)) (a1 a2 : Int) (u : Sg) : Option (Int × Sg) := un (sI u 15 0) fun s1 => un (sI s1 17 a2) fun s2 => cl (call 108 [a1, 0] s2) fun v3 s4 => some (v3, s4)
section
variable {p : Program} {l : Launch} {e : Env} {R : Room} {s : State} {m : MethodId} {args : Array Value} {below : List Frame} {meth : Method} {c : Code} {G : Gm} {A : Nat → Prop} {ad0 : Nat → Nat} {σ0 : Sg} {d : Nat} {call : Nat → List Int → Sg → Option (Int × Sg)}
theorem wX2_put (hd : 2 ≤ d) (hRf : d + 1 ≤ R.frames) (hRl : 40 * (d + 1) ≤ R.locals) (hX2_change : ∀ (a1 a2 : Int) (u : Sg), Ct l d FC clA yX2_change cX2_change 10 (some .int) DX2_change rvI [vR 0, vI a1, vI a2] u (call 108 [a1, a2] u)) (a1 a2 : Int) (u : Sg) (ra1 : inR a1) (ra2 : inR a2) : WG p l e R s m args below meth c JX2_put DX2_put G clA A FC ad0 σ0 rvI (bX2_put call a1 a2 u) u 0 [(0, vR 0), (1, vI a1), (2, vI a2)] [] := by
  unfold bX2_put
  refine g_aload_n 0 dX2_put_0 rfl ?_
  refine g_iconst dX2_put_1 ?_
  refine g_sIU (ci := 0) (b := 0) (N := 21) FC_ok 15 rfl rfl rfl (by decide) in_X2 tyX2 tyX2_ok nmX2 rfl rfl rfl rfl (by decide +kernel) (inR_z (Or.inl rfl)) q257 dX2_put_2 (fun s1 => ?_)
  refine g_aload_n 0 dX2_put_5 rfl ?_
  refine g_iload_n 2 dX2_put_6 rfl ?_
  refine g_sIU (ci := 0) (b := 0) (N := 21) FC_ok 17 rfl rfl rfl (by decide) in_X2 tyX2 tyX2_ok nmX2 rfl rfl rfl rfl (by decide +kernel) ra2 q259 dX2_put_7 (fun s2 => ?_)
  refine g_aload_n 0 dX2_put_10 rfl ?_
  refine g_iload_n 1 dX2_put_11 rfl ?_
  refine g_iconst dX2_put_12 ?_
  refine g_cVI (As := [vI a1, vI 0]) (n := 2) (stk := []) (ci := 0) (b := 0) (N := 21) (hX2_change a1 0 s2) (by decide +kernel) rfl rfl (lw_V q758 q760 qs15 q164 q761) (by decide +kernel) rfl (by decide) hRf hRl (fun _ => (avc ra1 (avc (inR_z (Or.inl rfl)) avn))) (Nat.le_of_ble_eq_true rfl) rfl rfl dX2_put_13 (fun v3 s4 rv3 => ?_)
  exact g_iret rfl rfl (fun _ => rv3) dX2_put_16
end
section
variable {l : Launch} {d : Nat} {call : Nat → List Int → Sg → Option (Int × Sg)}
theorem ctX2_put (p0 : Program) (e0 : Env) (s0 : State) (m0 : MethodId) (meth0 : Method) (c0 : Code) (G0 : Gm) (hd : 2 ≤ d) (hX2_change : ∀ (a1 a2 : Int) (u : Sg), Ct l d FC clA yX2_change cX2_change 10 (some .int) DX2_change rvI [vR 0, vI a1, vI a2] u (call 108 [a1, a2] u)) (a1 a2 : Int) (u : Sg) : Ct l (d + 1) FC clA yX2_put cX2_put 3 (some .int) DX2_put rvI [vR 0, vI a1, vI a2] u (bX2_put call a1 a2 u) :=
  Ct_of (by decide) (Nat.le_of_ble_eq_true rfl) (fun p e R s1 m args below meth c G A ad hA hRf hRl => wX2_put hd hRf hRl hX2_change a1 a2 u (hA _ (List.mem_cons_of_mem _ List.mem_cons_self)) (hA _ (List.mem_cons_of_mem _ (List.mem_cons_of_mem _ List.mem_cons_self)))) p0 e0 s0 m0 meth0 c0 G0
end
/-! RoundCheck$Store.loci(IIII)I -/
abbrev JX2_loci : Jm := (cX2_loci, RX2, 5, (some .int))
def bX2_loci (call : Nat → List Int → Sg → Option (Int × Sg)) (a1 a2 a3 a4 : Int) (u : Sg) : Option (Int × Sg) := un (sI u 15 2) fun s1 => un (sI s1 18 a2) fun s2 => un (sI s2 19 a3) fun s3 => un (sI s3 20 a4) fun s4 => if a1 = 0 then (some (0, s4)) else (cl (call 108 [a1, 0] s4) fun v5 s6 => some (v5, s6))
section
variable {p : Program} {l : Launch} {e : Env} {R : Room} {s : State} {m : MethodId} {args : Array Value} {below : List Frame} {meth : Method} {c : Code} {G : Gm} {A : Nat → Prop} {ad0 : Nat → Nat} {σ0 : Sg} {d : Nat} {call : Nat → List Int → Sg → Option (Int × Sg)}
theorem wX2_loci (hd : 2 ≤ d) (hRf : d + 1 ≤ R.frames) (hRl : 40 * (d + 1) ≤ R.locals) (hX2_change : ∀ (a1 a2 : Int) (u : Sg), Ct l d FC clA yX2_change cX2_change 10 (some .int) DX2_change rvI [vR 0, vI a1, vI a2] u (call 108 [a1, a2] u)) (a1 a2 a3 a4 : Int) (u : Sg) (ra1 : inR a1) (ra2 : inR a2) (ra3 : inR a3) (ra4 : inR a4) : WG p l e R s m args below meth c JX2_loci DX2_loci G clA A FC ad0 σ0 rvI (bX2_loci call a1 a2 a3 a4 u) u 0 [(0, vR 0), (1, vI a1), (2, vI a2), (3, vI a3), (4, vI a4)] [] := by
  unfold bX2_loci
  refine g_aload_n 0 dX2_loci_0 rfl ?_
  refine g_iconst dX2_loci_1 ?_
  refine g_sIU (ci := 0) (b := 0) (N := 21) FC_ok 15 rfl rfl rfl (by decide) in_X2 tyX2 tyX2_ok nmX2 rfl rfl rfl rfl (by decide +kernel) (by decide : inR (2)) q257 dX2_loci_2 (fun s1 => ?_)
  refine g_aload_n 0 dX2_loci_5 rfl ?_
  refine g_iload_n 2 dX2_loci_6 rfl ?_
  refine g_sIU (ci := 0) (b := 0) (N := 21) FC_ok 18 rfl rfl rfl (by decide) in_X2 tyX2 tyX2_ok nmX2 rfl rfl rfl rfl (by decide +kernel) ra2 q260 dX2_loci_7 (fun s2 => ?_)
  refine g_aload_n 0 dX2_loci_10 rfl ?_
  refine g_iload_n 3 dX2_loci_11 rfl ?_
  refine g_sIU (ci := 0) (b := 0) (N := 21) FC_ok 19 rfl rfl rfl (by decide) in_X2 tyX2 tyX2_ok nmX2 rfl rfl rfl rfl (by decide +kernel) ra3 q261 dX2_loci_12 (fun s3 => ?_)
  refine g_aload_n 0 dX2_loci_15 rfl ?_
  refine g_iload 4 dX2_loci_16 rfl ?_
  refine g_sIU (ci := 0) (b := 0) (N := 21) FC_ok 20 rfl rfl rfl (by decide) in_X2 tyX2 tyX2_ok nmX2 rfl rfl rfl rfl (by decide +kernel) ra4 q262 dX2_loci_18 (fun s4 => ?_)
  refine g_iload_n 1 dX2_loci_21 rfl ?_
  refine g_if_ne 29 dX2_loci_22 (by decide) (fun _ => ra1) (fun _ => ?_) (fun _ => ?_)
  · refine g_iconst dX2_loci_25 ?_
    refine g_goto 35 dX2_loci_26 (by decide) ?_
    exact g_iret rfl rfl (fun _ => (inR_z (Or.inl rfl))) dX2_loci_35
  · refine g_aload_n 0 dX2_loci_29 rfl ?_
    refine g_iload_n 1 dX2_loci_30 rfl ?_
    refine g_iconst dX2_loci_31 ?_
    refine g_cVI (As := [vI a1, vI 0]) (n := 2) (stk := []) (ci := 0) (b := 0) (N := 21) (hX2_change a1 0 s4) (by decide +kernel) rfl rfl (lw_V q758 q760 qs15 q164 q761) (by decide +kernel) rfl (by decide) hRf hRl (fun _ => (avc ra1 (avc (inR_z (Or.inl rfl)) avn))) (Nat.le_of_ble_eq_true rfl) rfl rfl dX2_loci_32 (fun v5 s6 rv5 => ?_)
    exact g_iret rfl rfl (fun _ => rv5) dX2_loci_35
end
section
variable {l : Launch} {d : Nat} {call : Nat → List Int → Sg → Option (Int × Sg)}
theorem ctX2_loci (p0 : Program) (e0 : Env) (s0 : State) (m0 : MethodId) (meth0 : Method) (c0 : Code) (G0 : Gm) (hd : 2 ≤ d) (hX2_change : ∀ (a1 a2 : Int) (u : Sg), Ct l d FC clA yX2_change cX2_change 10 (some .int) DX2_change rvI [vR 0, vI a1, vI a2] u (call 108 [a1, a2] u)) (a1 a2 a3 a4 : Int) (u : Sg) : Ct l (d + 1) FC clA yX2_loci cX2_loci 5 (some .int) DX2_loci rvI [vR 0, vI a1, vI a2, vI a3, vI a4] u (bX2_loci call a1 a2 a3 a4 u) :=
  Ct_of (by decide) (Nat.le_of_ble_eq_true rfl) (fun p e R s1 m args below meth c G A ad hA hRf hRl => wX2_loci hd hRf hRl hX2_change a1 a2 a3 a4 u (hA _ (List.mem_cons_of_mem _ List.mem_cons_self)) (hA _ (List.mem_cons_of_mem _ (List.mem_cons_of_mem _ List.mem_cons_self))) (hA _ (List.mem_cons_of_mem _ (List.mem_cons_of_mem _ (List.mem_cons_of_mem _ List.mem_cons_self)))) (hA _ (List.mem_cons_of_mem _ (List.mem_cons_of_mem _ (List.mem_cons_of_mem _ (List.mem_cons_of_mem _ List.mem_cons_self)))))) p0 e0 s0 m0 meth0 c0 G0
end
