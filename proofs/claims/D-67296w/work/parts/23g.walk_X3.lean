/-! RoundCheckModel.hasOf(II)Z -/
abbrev JX3_hasOf : Jm := (cX3_hasOf, RX3, 5, (some .boolean))
def bX3_hasOf_L21 (call : Nat → List Int → Sg → Option (Int × Sg)) : Nat → Int → Int → Int → Sg → (Sg → Option (Int × Sg)) → (Sg → Option (Int × Sg)) → Option (Int × Sg)
  | 0, _, _, _, _, _, _ => none
  | n + 1, a2, a3, a4, u, x99, x86 => if a4 ≤ 0 then (x99 u) else (jn (fun (a2 a3 a4 : Int) (s2 : Sg) => cl (call 77 [a4] s2) fun v3 s4 => bX3_hasOf_L21 call n a2 a3 v3 s4 x99 x86) fun j1 => cl (call 7 [a4, 0] u) fun v5 s6 => if v5 = a3 then (ld s6 31 a2 fun v7 => if v7 = 0 then (x86 s6) else (cl (call 7 [a4, 1] s6) fun v8 s9 => cl (call 80 [v8] s9) fun v10 s11 => ld s11 31 a2 fun v12 => cl (call 7 [v12, 0] s11) fun v13 s14 => ld s14 31 a2 fun v15 => cl (call 7 [v15, 1] s14) fun v16 s17 => cl (call 89 [v10, v13, v16] s17) fun v18 s19 => if v18 = 0 then (j1 a2 a3 a4 s19) else (x86 s19))) else (j1 a2 a3 a4 s6))
def bX3_hasOf (call : Nat → List Int → Sg → Option (Int × Sg)) (a1 a2 : Int) (u : Sg) : Option (Int × Sg) := ld u 30 a2 fun v1 => cl (call 7 [v1, 0] u) fun v2 s3 => if v2 = 0 then (some (1, s3)) else (bX3_hasOf_L21 call KF a2 v2 a1 s3 (fun s4 => some (0, s4)) (fun s5 => some (1, s5)))
section
variable {p : Program} {l : Launch} {e : Env} {R : Room} {s : State} {m : MethodId} {args : Array Value} {below : List Frame} {meth : Method} {c : Code} {G : Gm} {A : Nat → Prop} {ad0 : Nat → Nat} {σ0 : Sg} {d : Nat} {call : Nat → List Int → Sg → Option (Int × Sg)}
theorem wX3_hasOf_L21 (hd : 2 ≤ d) (hRf : d + 1 ≤ R.frames) (hRl : 40 * (d + 1) ≤ R.locals) (hX3_get : ∀ (a1 a2 : Int) (u : Sg), Ct l d FT clA yX3_get cX3_get 3 (some .int) DX3_get rvI [vR 0, vI a1, vI a2] u (call 7 [a1, a2] u)) (hX3_parent : ∀ (a1 : Int) (u : Sg), Ct l d FT clA yX3_parent cX3_parent 3 (some .int) DX3_parent rvI [vR 0, vI a1] u (call 77 [a1] u)) (hX3_typeOf : ∀ (a1 : Int) (u : Sg), Ct l d FT clA yX3_typeOf cX3_typeOf 2 (some .int) DX3_typeOf rvI [vR 0, vI a1] u (call 80 [a1] u)) (hX3_has : ∀ (a1 a2 a3 : Int) (u : Sg), Ct l d FT clA yX3_has cX3_has 5 (some .boolean) DX3_has rvI [vR 0, vI a1, vI a2, vI a3] u (call 89 [a1, a2, a3] u)) (x99 : Sg → Option (Int × Sg)) (x86 : Sg → Option (Int × Sg)) (hx99 : ∀ (u : Sg), WG p l e R s m args below meth c JX3_hasOf DX3_hasOf G clA A FT ad0 σ0 rvI (x99 u) u 99 [] []) (hx86 : ∀ (u : Sg), WG p l e R s m args below meth c JX3_hasOf DX3_hasOf G clA A FT ad0 σ0 rvI (x86 u) u 86 [] []) : ∀ (n : Nat) (a2 a3 a4 : Int) (u : Sg), inR a2 → inR a3 → inR a4 → WG p l e R s m args below meth c JX3_hasOf DX3_hasOf G clA A FT ad0 σ0 rvI (bX3_hasOf_L21 call n a2 a3 a4 u x99 x86) u 21 [(0, vR 0), (2, vI a2), (3, vI a3), (4, vI a4)] [] := by
  intro n
  induction n with
  | zero =>
    intro a2 a3 a4 u ra2 ra3 ra4
    exact g_none
  | succ n ih =>
    intro a2 a3 a4 u ra2 ra3 ra4
    rw [bX3_hasOf_L21]
    refine g_iload 3 dX3_hasOf_21 rfl ?_
    refine g_if_le 99 dX3_hasOf_23 (by decide) (fun _ => ra4) (fun _ => ?_) (fun _ => ?_)
    · exact g_pick [] rfl (hx99 u)
    · refine g_jn (fun j1 => ∀ (a2 a3 a4 : Int) (s2 : Sg), inR a2 → inR a3 → inR a4 → WG p l e R s m args below meth c JX3_hasOf DX3_hasOf G clA A FT ad0 σ0 rvI (j1 a2 a3 a4 s2) s2 88 [(0, vR 0), (2, vI a2), (3, vI a3), (4, vI a4)] []) (fun a2 a3 a4 s2 ra2 ra3 ra4 => ?_) (fun j1 hj1 => ?_)
      · refine g_aload_n 0 dX3_hasOf_88 rfl ?_
        refine g_iload 3 dX3_hasOf_89 rfl ?_
        refine g_cVI (As := [vI a4]) (n := 1) (stk := []) (ci := 2) (b := 0) (N := 83) (hX3_parent a4 s2) (by decide +kernel) rfl rfl (lw_V q1650 q1652 qs126 q168 q1653) (by decide +kernel) rfl (by decide) hRf hRl (fun _ => (avc ra4 avn)) (Nat.le_of_ble_eq_true rfl) rfl rfl dX3_hasOf_91 (fun v3 s4 rv3 => ?_)
        refine g_istore (loc' := [(4, vI v3), (0, vR 0), (2, vI a2), (3, vI a3)]) dX3_hasOf_94 (by decide) rfl ?_
        refine g_goto 21 dX3_hasOf_96 (by decide) ?_
        exact g_pick [1, 2, 3, 0] rfl (ih a2 a3 v3 s4 ra2 ra3 rv3)
      · refine g_aload_n 0 dX3_hasOf_26 rfl ?_
        refine g_iload 3 dX3_hasOf_27 rfl ?_
        refine g_iconst dX3_hasOf_29 ?_
        refine g_cVI (As := [vI a4, vI 0]) (n := 2) (stk := []) (ci := 2) (b := 0) (N := 83) (hX3_get a4 0 u) (by decide +kernel) rfl rfl (lw_V q1116 q1118 qs76 q168 q1119) (by decide +kernel) rfl (by decide) hRf hRl (fun _ => (avc ra4 (avc (inR_z (Or.inl rfl)) avn))) (Nat.le_of_ble_eq_true rfl) rfl rfl dX3_hasOf_30 (fun v5 s6 rv5 => ?_)
        refine g_iload_n 2 dX3_hasOf_33 rfl ?_
        refine g_icmp_ne 88 dX3_hasOf_34 (by decide) (fun _ => rv5) (fun _ => ra3) (fun _ => ?_) (fun _ => ?_)
        · refine g_aload_n 0 dX3_hasOf_37 rfl ?_
          refine g_get (v := vR 41) (ci := 2) (b := 0) (N := 83) 31 rfl rfl (by decide) in_X3 rfl rfl q1163 dX3_hasOf_38 ?_
          refine g_iload_n 1 dX3_hasOf_41 rfl ?_
          refine g_iald (id := 31) 21 rfl rfl dX3_hasOf_42 (fun v7 rv7 => ?_)
          refine g_if_eq 86 dX3_hasOf_43 (by decide) (fun _ => rv7) (fun _ => ?_) (fun _ => ?_)
          · exact g_pick [] rfl (hx86 s6)
          · refine g_aload_n 0 dX3_hasOf_46 rfl ?_
            refine g_aload_n 0 dX3_hasOf_47 rfl ?_
            refine g_aload_n 0 dX3_hasOf_48 rfl ?_
            refine g_iload 3 dX3_hasOf_49 rfl ?_
            refine g_iconst dX3_hasOf_51 ?_
            refine g_cVI (As := [vI a4, vI 1]) (n := 2) (stk := [vR 0, vR 0]) (ci := 2) (b := 0) (N := 83) (hX3_get a4 1 s6) (by decide +kernel) rfl rfl (lw_V q1116 q1118 qs76 q168 q1119) (by decide +kernel) rfl (by decide) hRf hRl (fun _ => (avc ra4 (avc (inR_z (Or.inr rfl)) avn))) (Nat.le_of_ble_eq_true rfl) rfl rfl dX3_hasOf_52 (fun v8 s9 rv8 => ?_)
            refine g_cVI (As := [vI v8]) (n := 1) (stk := [vR 0]) (ci := 2) (b := 0) (N := 83) (hX3_typeOf v8 s9) (by decide +kernel) rfl rfl (lw_V q1662 q1664 qs129 q168 q1665) (by decide +kernel) rfl (by decide) hRf hRl (fun _ => (avc rv8 avn)) (Nat.le_of_ble_eq_true rfl) rfl rfl dX3_hasOf_55 (fun v10 s11 rv10 => ?_)
            refine g_aload_n 0 dX3_hasOf_58 rfl ?_
            refine g_aload_n 0 dX3_hasOf_59 rfl ?_
            refine g_get (v := vR 41) (ci := 2) (b := 0) (N := 83) 31 rfl rfl (by decide) in_X3 rfl rfl q1163 dX3_hasOf_60 ?_
            refine g_iload_n 1 dX3_hasOf_63 rfl ?_
            refine g_iald (id := 31) 21 rfl rfl dX3_hasOf_64 (fun v12 rv12 => ?_)
            refine g_iconst dX3_hasOf_65 ?_
            refine g_cVI (As := [vI v12, vI 0]) (n := 2) (stk := [vI v10, vR 0]) (ci := 2) (b := 0) (N := 83) (hX3_get v12 0 s11) (by decide +kernel) rfl rfl (lw_V q1116 q1118 qs76 q168 q1119) (by decide +kernel) rfl (by decide) hRf hRl (fun _ => (avc rv12 (avc (inR_z (Or.inl rfl)) avn))) (Nat.le_of_ble_eq_true rfl) rfl rfl dX3_hasOf_66 (fun v13 s14 rv13 => ?_)
            refine g_aload_n 0 dX3_hasOf_69 rfl ?_
            refine g_aload_n 0 dX3_hasOf_70 rfl ?_
            refine g_get (v := vR 41) (ci := 2) (b := 0) (N := 83) 31 rfl rfl (by decide) in_X3 rfl rfl q1163 dX3_hasOf_71 ?_
            refine g_iload_n 1 dX3_hasOf_74 rfl ?_
            refine g_iald (id := 31) 21 rfl rfl dX3_hasOf_75 (fun v15 rv15 => ?_)
            refine g_iconst dX3_hasOf_76 ?_
            refine g_cVI (As := [vI v15, vI 1]) (n := 2) (stk := [vI v13, vI v10, vR 0]) (ci := 2) (b := 0) (N := 83) (hX3_get v15 1 s14) (by decide +kernel) rfl rfl (lw_V q1116 q1118 qs76 q168 q1119) (by decide +kernel) rfl (by decide) hRf hRl (fun _ => (avc rv15 (avc (inR_z (Or.inr rfl)) avn))) (Nat.le_of_ble_eq_true rfl) rfl rfl dX3_hasOf_77 (fun v16 s17 rv16 => ?_)
            refine g_cVZ (As := [vI v10, vI v13, vI v16]) (n := 3) (stk := []) (ci := 2) (b := 0) (N := 83) (hX3_has v10 v13 v16 s17) (by decide +kernel) rfl rfl (lw_V q1698 q1700 qs138 q168 q1701) (by decide +kernel) rfl (by decide) hRf hRl (fun _ => (avc rv10 (avc rv13 (avc rv16 avn)))) (Nat.le_of_ble_eq_true rfl) rfl rfl dX3_hasOf_80 (fun v18 s19 zv18 => ?_)
            refine g_if_eq 88 dX3_hasOf_83 (by decide) (fun _ => (inR_z zv18)) (fun _ => ?_) (fun _ => ?_)
            · exact g_pick [0, 1, 2, 3] rfl (hj1 a2 a3 a4 s19 ra2 ra3 ra4)
            · exact g_pick [] rfl (hx86 s19)
        · exact g_pick [0, 1, 2, 3] rfl (hj1 a2 a3 a4 s6 ra2 ra3 ra4)
theorem wX3_hasOf (hd : 2 ≤ d) (hRf : d + 1 ≤ R.frames) (hRl : 40 * (d + 1) ≤ R.locals) (hX3_get : ∀ (a1 a2 : Int) (u : Sg), Ct l d FT clA yX3_get cX3_get 3 (some .int) DX3_get rvI [vR 0, vI a1, vI a2] u (call 7 [a1, a2] u)) (hX3_parent : ∀ (a1 : Int) (u : Sg), Ct l d FT clA yX3_parent cX3_parent 3 (some .int) DX3_parent rvI [vR 0, vI a1] u (call 77 [a1] u)) (hX3_typeOf : ∀ (a1 : Int) (u : Sg), Ct l d FT clA yX3_typeOf cX3_typeOf 2 (some .int) DX3_typeOf rvI [vR 0, vI a1] u (call 80 [a1] u)) (hX3_has : ∀ (a1 a2 a3 : Int) (u : Sg), Ct l d FT clA yX3_has cX3_has 5 (some .boolean) DX3_has rvI [vR 0, vI a1, vI a2, vI a3] u (call 89 [a1, a2, a3] u)) (a1 a2 : Int) (u : Sg) (ra1 : inR a1) (ra2 : inR a2) : WG p l e R s m args below meth c JX3_hasOf DX3_hasOf G clA A FT ad0 σ0 rvI (bX3_hasOf call a1 a2 u) u 0 [(0, vR 0), (1, vI a1), (2, vI a2)] [] := by
  unfold bX3_hasOf
  refine g_aload_n 0 dX3_hasOf_0 rfl ?_
  refine g_aload_n 0 dX3_hasOf_1 rfl ?_
  refine g_get (v := vR 40) (ci := 2) (b := 0) (N := 83) 30 rfl rfl (by decide) in_X3 rfl rfl q1162 dX3_hasOf_2 ?_
  refine g_iload_n 2 dX3_hasOf_5 rfl ?_
  refine g_iald (id := 30) 20 rfl rfl dX3_hasOf_6 (fun v1 rv1 => ?_)
  refine g_iconst dX3_hasOf_7 ?_
  refine g_cVI (As := [vI v1, vI 0]) (n := 2) (stk := []) (ci := 2) (b := 0) (N := 83) (hX3_get v1 0 u) (by decide +kernel) rfl rfl (lw_V q1116 q1118 qs76 q168 q1119) (by decide +kernel) rfl (by decide) hRf hRl (fun _ => (avc rv1 (avc (inR_z (Or.inl rfl)) avn))) (Nat.le_of_ble_eq_true rfl) rfl rfl dX3_hasOf_8 (fun v2 s3 rv2 => ?_)
  refine g_istore_n (loc' := [(3, vI v2), (0, vR 0), (1, vI a1), (2, vI a2)]) dX3_hasOf_11 (by decide) rfl ?_
  refine g_iload_n 0 dX3_hasOf_12 rfl ?_
  refine g_if_ne 18 dX3_hasOf_13 (by decide) (fun _ => rv2) (fun _ => ?_) (fun _ => ?_)
  · refine g_iconst dX3_hasOf_16 ?_
    exact g_zret rfl rfl (fun _ => (Or.inr rfl)) dX3_hasOf_17
  · refine g_iload_n 2 dX3_hasOf_18 rfl ?_
    refine g_istore (loc' := [(4, vI a1), (3, vI v2), (0, vR 0), (1, vI a1), (2, vI a2)]) dX3_hasOf_19 (by decide) rfl ?_
    refine g_pick [2, 4, 1, 0] rfl (wX3_hasOf_L21 hd hRf hRl hX3_get hX3_parent hX3_typeOf hX3_has _ _ (fun s4 => ?_) (fun s5 => ?_) KF a2 v2 a1 s3 ra2 rv2 ra1)
    · refine g_iconst dX3_hasOf_99 ?_
      exact g_zret rfl rfl (fun _ => (Or.inl rfl)) dX3_hasOf_100
    · refine g_iconst dX3_hasOf_86 ?_
      exact g_zret rfl rfl (fun _ => (Or.inr rfl)) dX3_hasOf_87
end
section
variable {l : Launch} {d : Nat} {call : Nat → List Int → Sg → Option (Int × Sg)}
theorem ctX3_hasOf (p0 : Program) (e0 : Env) (s0 : State) (m0 : MethodId) (meth0 : Method) (c0 : Code) (G0 : Gm) (hd : 2 ≤ d) (hX3_get : ∀ (a1 a2 : Int) (u : Sg), Ct l d FT clA yX3_get cX3_get 3 (some .int) DX3_get rvI [vR 0, vI a1, vI a2] u (call 7 [a1, a2] u)) (hX3_parent : ∀ (a1 : Int) (u : Sg), Ct l d FT clA yX3_parent cX3_parent 3 (some .int) DX3_parent rvI [vR 0, vI a1] u (call 77 [a1] u)) (hX3_typeOf : ∀ (a1 : Int) (u : Sg), Ct l d FT clA yX3_typeOf cX3_typeOf 2 (some .int) DX3_typeOf rvI [vR 0, vI a1] u (call 80 [a1] u)) (hX3_has : ∀ (a1 a2 a3 : Int) (u : Sg), Ct l d FT clA yX3_has cX3_has 5 (some .boolean) DX3_has rvI [vR 0, vI a1, vI a2, vI a3] u (call 89 [a1, a2, a3] u)) (a1 a2 : Int) (u : Sg) : Ct l (d + 1) FT clA yX3_hasOf cX3_hasOf 5 (some .boolean) DX3_hasOf rvI [vR 0, vI a1, vI a2] u (bX3_hasOf call a1 a2 u) :=
  Ct_of (by decide) (Nat.le_of_ble_eq_true rfl) (fun p e R s1 m args below meth c G A ad hA hRf hRl => wX3_hasOf hd hRf hRl hX3_get hX3_parent hX3_typeOf hX3_has a1 a2 u (hA _ (List.mem_cons_of_mem _ List.mem_cons_self)) (hA _ (List.mem_cons_of_mem _ (List.mem_cons_of_mem _ List.mem_cons_self)))) p0 e0 s0 m0 meth0 c0 G0
end
/-! RoundCheckModel.same(II)V -/
abbrev JX3_same : Jm := (cX3_same, RX3, 3, none)
def bX3_same (call : Nat → List Int → Sg → Option (Int × Sg)) (a1 a2 : Int) (u : Sg) : Option (Int × Sg) := cl (call 64 [a2] u) fun v1 s2 => un (gI s2 57) fun v3 => if v3 ≤ 100 then (cl (call 66 [a2] s2) fun v4 s5 => cl (call 69 [a1, v4] s5) fun v6 s7 => some (0, s7)) else (some (0, s2))
section
variable {p : Program} {l : Launch} {e : Env} {R : Room} {s : State} {m : MethodId} {args : Array Value} {below : List Frame} {meth : Method} {c : Code} {G : Gm} {A : Nat → Prop} {ad0 : Nat → Nat} {σ0 : Sg} {d : Nat} {call : Nat → List Int → Sg → Option (Int × Sg)}
theorem wX3_same (hd : 2 ≤ d) (hRf : d + 1 ≤ R.frames) (hRl : 40 * (d + 1) ≤ R.locals) (hX3_terms : ∀ (a1 : Int) (u : Sg), Ct l d FT clA yX3_terms cX3_terms 4 none DX3_terms rvV [vR 0, vI a1] u (call 64 [a1] u)) (hX3_indexOf : ∀ (a1 : Int) (u : Sg), Ct l d FT clA yX3_indexOf cX3_indexOf 2 (some .int) DX3_indexOf rvI [vR 0, vI a1] u (call 66 [a1] u)) (hX3_join_2 : ∀ (a1 a2 : Int) (u : Sg), Ct l d FT clA yX3_join_2 cX3_join_2 5 none DX3_join_2 rvV [vR 0, vI a1, vI a2] u (call 69 [a1, a2] u)) (a1 a2 : Int) (u : Sg) (ra1 : inR a1) (ra2 : inR a2) : WG p l e R s m args below meth c JX3_same DX3_same G clA A FT ad0 σ0 rvV (bX3_same call a1 a2 u) u 0 [(0, vR 0), (1, vI a1), (2, vI a2)] [] := by
  unfold bX3_same
  refine g_aload_n 0 dX3_same_0 rfl ?_
  refine g_iload_n 2 dX3_same_1 rfl ?_
  refine g_cVV (As := [vI a2]) (n := 1) (stk := []) (ci := 2) (b := 0) (N := 83) (hX3_terms a2 u) (by decide +kernel) rfl rfl (lw_V q1599 q1601 qs114 q168 q1602) (by decide +kernel) rfl (by decide) hRf hRl (fun _ => (avc ra2 avn)) (Nat.le_of_ble_eq_true rfl) rfl rfl dX3_same_2 (fun v1 s2 => ?_)
  refine g_aload_n 0 dX3_same_5 rfl ?_
  refine g_getI (ci := 2) (b := 0) (N := 83) 57 rfl rfl rfl (by decide) in_X3 rfl rfl q1189 dX3_same_6 (fun v3 rv3 => ?_)
  refine g_bipush (by decide +kernel) dX3_same_9 ?_
  refine g_icmp_gt 24 dX3_same_11 (by decide) (fun _ => rv3) (fun _ => (by decide : inR (100))) (fun _ => ?_) (fun _ => ?_)
  · refine g_aload_n 0 dX3_same_14 rfl ?_
    refine g_iload_n 1 dX3_same_15 rfl ?_
    refine g_aload_n 0 dX3_same_16 rfl ?_
    refine g_iload_n 2 dX3_same_17 rfl ?_
    refine g_cVI (As := [vI a2]) (n := 1) (stk := [vI a1, vR 0]) (ci := 2) (b := 0) (N := 83) (hX3_indexOf a2 s2) (by decide +kernel) rfl rfl (lw_V q1606 q1608 qs115 q168 q1609) (by decide +kernel) rfl (by decide) hRf hRl (fun _ => (avc ra2 avn)) (Nat.le_of_ble_eq_true rfl) rfl rfl dX3_same_18 (fun v4 s5 rv4 => ?_)
    refine g_cVV (As := [vI a1, vI v4]) (n := 2) (stk := []) (ci := 2) (b := 0) (N := 83) (hX3_join_2 a1 v4 s5) (by decide +kernel) rfl rfl (lw_V q1618 q1620 qs118 q168 q1621) (by decide +kernel) rfl (by decide) hRf hRl (fun _ => (avc ra1 (avc rv4 avn))) (Nat.le_of_ble_eq_true rfl) rfl rfl dX3_same_21 (fun v6 s7 => ?_)
    exact g_vret rfl rfl dX3_same_24
  · exact g_vret rfl rfl dX3_same_24
end
section
variable {l : Launch} {d : Nat} {call : Nat → List Int → Sg → Option (Int × Sg)}
theorem ctX3_same (p0 : Program) (e0 : Env) (s0 : State) (m0 : MethodId) (meth0 : Method) (c0 : Code) (G0 : Gm) (hd : 2 ≤ d) (hX3_terms : ∀ (a1 : Int) (u : Sg), Ct l d FT clA yX3_terms cX3_terms 4 none DX3_terms rvV [vR 0, vI a1] u (call 64 [a1] u)) (hX3_indexOf : ∀ (a1 : Int) (u : Sg), Ct l d FT clA yX3_indexOf cX3_indexOf 2 (some .int) DX3_indexOf rvI [vR 0, vI a1] u (call 66 [a1] u)) (hX3_join_2 : ∀ (a1 a2 : Int) (u : Sg), Ct l d FT clA yX3_join_2 cX3_join_2 5 none DX3_join_2 rvV [vR 0, vI a1, vI a2] u (call 69 [a1, a2] u)) (a1 a2 : Int) (u : Sg) : Ct l (d + 1) FT clA yX3_same cX3_same 3 none DX3_same rvV [vR 0, vI a1, vI a2] u (bX3_same call a1 a2 u) :=
  Ct_of (by decide) (Nat.le_of_ble_eq_true rfl) (fun p e R s1 m args below meth c G A ad hA hRf hRl => wX3_same hd hRf hRl hX3_terms hX3_indexOf hX3_join_2 a1 a2 u (hA _ (List.mem_cons_of_mem _ List.mem_cons_self)) (hA _ (List.mem_cons_of_mem _ (List.mem_cons_of_mem _ List.mem_cons_self)))) p0 e0 s0 m0 meth0 c0 G0
end
/-! RoundCheckModel.isContradictory()Z -/
abbrev JX3_isContradictory : Jm := (cX3_isContradictory, RX3, 4, (some .boolean))
def bX3_isContradictory_L2 (call : Nat → List Int → Sg → Option (Int × Sg)) : Nat → Int → Sg → (Sg → Option (Int × Sg)) → (Sg → Option (Int × Sg)) → Option (Int × Sg)
  | 0, _, _, _, _ => none
  | n + 1, a1, u, x50, x42 => un (gI u 65) fun v1 => if a1 < v1 then (ld u 64 a1 fun v2 => un (o_and v2 1) fun v3 => if v3 = 0 then (ld u 63 a1 fun v4 => ld u 64 a1 fun v5 => un (o_or v5 1) fun v6 => cl (call 72 [v4, v6] u) fun v7 s8 => if v7 = 0 then (ar (a1 + 1) fun v9 => bX3_isContradictory_L2 call n v9 s8 x50 x42) else (x42 s8)) else (ar (a1 + 1) fun v10 => bX3_isContradictory_L2 call n v10 u x50 x42)) else (x50 u)
def bX3_isContradictory_L52 (call : Nat → List Int → Sg → Option (Int × Sg)) : Nat → Int → Sg → (Sg → Option (Int × Sg)) → (Sg → Option (Int × Sg)) → (Sg → Option (Int × Sg)) → (Sg → Option (Int × Sg)) → (Sg → Option (Int × Sg)) → (Sg → Option (Int × Sg)) → (Sg → Option (Int × Sg)) → Option (Int × Sg)
  | 0, _, _, _, _, _, _, _, _, _ => none
  | n + 1, a1, u, x256, x148, x169, x200, x210, x234, x248 => un (gI u 50) fun v1 => if a1 < v1 then (ld u 49 a1 fun v2 => ld u 1 v2 fun v3 => if v3 = 15 then (cl (call 7 [v2, 0] u) fun v4 s5 => ld s5 1 v4 fun v6 => if v6 = 8 then (x148 s5) else (if v6 = 9 then (cl (call 7 [v4, 0] s5) fun v7 s8 => cl (call 7 [v4, 1] s8) fun v9 s10 => cl (call 76 [v7, v9] s10) fun v11 s12 => if v11 = 0 then (ar (a1 + 1) fun v13 => bX3_isContradictory_L52 call n v13 s12 x256 x148 x169 x200 x210 x234 x248) else (x169 s12)) else (if v6 = 10 then (cl (call 101 [v4, 0] s5) fun v14 s15 => if v14 = 0 then (ar (a1 + 1) fun v16 => bX3_isContradictory_L52 call n v16 s15 x256 x148 x169 x200 x210 x234 x248) else (x248 s15)) else (if v6 = 11 then (cl (call 101 [v4, 0] s5) fun v17 s18 => if v17 = 0 then (ar (a1 + 1) fun v19 => bX3_isContradictory_L52 call n v19 s18 x256 x148 x169 x200 x210 x234 x248) else (x248 s18)) else (if v6 = 12 then (ar (a1 + 1) fun v20 => bX3_isContradictory_L52 call n v20 s5 x256 x148 x169 x200 x210 x234 x248) else (if v6 = 13 then (cl (call 7 [v4, 2] s5) fun v21 s22 => cl (call 66 [v21] s22) fun v23 s24 => cl (call 7 [v4, 0] s24) fun v25 s26 => cl (call 7 [v4, 1] s26) fun v27 s28 => cl (call 75 [v23, v25, v27] s28) fun v29 s30 => if v29 = 0 then (ar (a1 + 1) fun v31 => bX3_isContradictory_L52 call n v31 s30 x256 x148 x169 x200 x210 x234 x248) else (x200 s30)) else (if v6 = 14 then (cl (call 101 [v4, 0] s5) fun v32 s33 => if v32 = 0 then (ar (a1 + 1) fun v34 => bX3_isContradictory_L52 call n v34 s33 x256 x148 x169 x200 x210 x234 x248) else (x248 s33)) else (if v6 = 15 then (cl (call 101 [v4, 0] s5) fun v35 s36 => if v35 = 0 then (ar (a1 + 1) fun v37 => bX3_isContradictory_L52 call n v37 s36 x256 x148 x169 x200 x210 x234 x248) else (x248 s36)) else (if v6 = 16 then (cl (call 100 [v4] s5) fun v38 s39 => if v38 = 0 then (ar (a1 + 1) fun v40 => bX3_isContradictory_L52 call n v40 s39 x256 x148 x169 x200 x210 x234 x248) else (x210 s39)) else (if v6 = 17 then (un (gL s5 51 : Int) fun v41 => if v4 < v41 then (ld s5 51 v4 fun v42 => un (gI s5 54) fun v43 => if v42 = v43 then (x234 s5) else (ar (a1 + 1) fun v44 => bX3_isContradictory_L52 call n v44 s5 x256 x148 x169 x200 x210 x234 x248)) else (ar (a1 + 1) fun v45 => bX3_isContradictory_L52 call n v45 s5 x256 x148 x169 x200 x210 x234 x248)) else (cl (call 101 [v4, 0] s5) fun v46 s47 => if v46 = 0 then (ar (a1 + 1) fun v48 => bX3_isContradictory_L52 call n v48 s47 x256 x148 x169 x200 x210 x234 x248) else (x248 s47)))))))))))) else (ar (a1 + 1) fun v49 => bX3_isContradictory_L52 call n v49 u x256 x148 x169 x200 x210 x234 x248)) else (x256 u)
def bX3_isContradictory (call : Nat → List Int → Sg → Option (Int × Sg)) (u : Sg) : Option (Int × Sg) := bX3_isContradictory_L2 call KF 0 u (fun s1 => bX3_isContradictory_L52 call KF 0 s1 (fun s2 => some (0, s2)) (fun s3 => some (1, s3)) (fun s4 => some (1, s4)) (fun s5 => some (1, s5)) (fun s6 => some (1, s6)) (fun s7 => some (1, s7)) (fun s8 => some (1, s8))) (fun s9 => some (1, s9))
section
variable {p : Program} {l : Launch} {e : Env} {R : Room} {s : State} {m : MethodId} {args : Array Value} {below : List Frame} {meth : Method} {c : Code} {G : Gm} {A : Nat → Prop} {ad0 : Nat → Nat} {σ0 : Sg} {d : Nat} {call : Nat → List Int → Sg → Option (Int × Sg)}
theorem wX3_isContradictory_L2 (hd : 2 ≤ d) (hRf : d + 1 ≤ R.frames) (hRl : 40 * (d + 1) ≤ R.locals) (hX3_hasAdj : ∀ (a1 a2 : Int) (u : Sg), Ct l d FT clA yX3_hasAdj cX3_hasAdj 4 (some .boolean) DX3_hasAdj rvI [vR 0, vI a1, vI a2] u (call 72 [a1, a2] u)) (hX3_get : ∀ (a1 a2 : Int) (u : Sg), Ct l d FT clA yX3_get cX3_get 3 (some .int) DX3_get rvI [vR 0, vI a1, vI a2] u (call 7 [a1, a2] u)) (hX3_equal : ∀ (a1 a2 : Int) (u : Sg), Ct l d FT clA yX3_equal cX3_equal 5 (some .boolean) DX3_equal rvI [vR 0, vI a1, vI a2] u (call 76 [a1, a2] u)) (hX3_isKnownAtom : ∀ (a1 a2 : Int) (u : Sg), Ct l d FT clA yX3_isKnownAtom cX3_isKnownAtom 6 (some .boolean) DX3_isKnownAtom rvI [vR 0, vI a1, vI a2] u (call 101 [a1, a2] u)) (hX3_indexOf : ∀ (a1 : Int) (u : Sg), Ct l d FT clA yX3_indexOf cX3_indexOf 2 (some .int) DX3_indexOf rvI [vR 0, vI a1] u (call 66 [a1] u)) (hX3_hasHere : ∀ (a1 a2 a3 : Int) (u : Sg), Ct l d FT clA yX3_hasHere cX3_hasHere 5 (some .boolean) DX3_hasHere rvI [vR 0, vI a1, vI a2, vI a3] u (call 75 [a1, a2, a3] u)) (hX3_holds : ∀ (a1 : Int) (u : Sg), Ct l d FT clA yX3_holds cX3_holds 10 (some .boolean) DX3_holds rvI [vR 0, vI a1] u (call 100 [a1] u)) (x50 : Sg → Option (Int × Sg)) (x42 : Sg → Option (Int × Sg)) (hx50 : ∀ (u : Sg), WG p l e R s m args below meth c JX3_isContradictory DX3_isContradictory G clA A FT ad0 σ0 rvI (x50 u) u 50 [(0, vR 0)] []) (hx42 : ∀ (u : Sg), WG p l e R s m args below meth c JX3_isContradictory DX3_isContradictory G clA A FT ad0 σ0 rvI (x42 u) u 42 [] []) : ∀ (n : Nat) (a1 : Int) (u : Sg), inR a1 → WG p l e R s m args below meth c JX3_isContradictory DX3_isContradictory G clA A FT ad0 σ0 rvI (bX3_isContradictory_L2 call n a1 u x50 x42) u 2 [(0, vR 0), (1, vI a1)] [] := by
  intro n
  induction n with
  | zero =>
    intro a1 u ra1
    exact g_none
  | succ n ih =>
    intro a1 u ra1
    rw [bX3_isContradictory_L2]
    refine g_iload_n 1 dX3_isContradictory_2 rfl ?_
    refine g_aload_n 0 dX3_isContradictory_3 rfl ?_
    refine g_getI (ci := 2) (b := 0) (N := 83) 65 rfl rfl rfl (by decide) in_X3 rfl rfl q1197 dX3_isContradictory_4 (fun v1 rv1 => ?_)
    refine g_icmp_ge 50 dX3_isContradictory_7 (by decide) (fun _ => ra1) (fun _ => rv1) (fun _ => ?_) (fun _ => ?_)
    · refine g_aload_n 0 dX3_isContradictory_10 rfl ?_
      refine g_get (v := vR 74) (ci := 2) (b := 0) (N := 83) 64 rfl rfl (by decide) in_X3 rfl rfl q1196 dX3_isContradictory_11 ?_
      refine g_iload_n 1 dX3_isContradictory_14 rfl ?_
      refine g_iald (id := 64) 45 rfl rfl dX3_isContradictory_15 (fun v2 rv2 => ?_)
      refine g_iconst dX3_isContradictory_16 ?_
      refine g_iandU dX3_isContradictory_17 (fun v3 rv3 => ?_)
      refine g_if_ne 44 dX3_isContradictory_18 (by decide) (fun _ => rv3) (fun _ => ?_) (fun _ => ?_)
      · refine g_aload_n 0 dX3_isContradictory_21 rfl ?_
        refine g_aload_n 0 dX3_isContradictory_22 rfl ?_
        refine g_get (v := vR 73) (ci := 2) (b := 0) (N := 83) 63 rfl rfl (by decide) in_X3 rfl rfl q1195 dX3_isContradictory_23 ?_
        refine g_iload_n 1 dX3_isContradictory_26 rfl ?_
        refine g_iald (id := 63) 44 rfl rfl dX3_isContradictory_27 (fun v4 rv4 => ?_)
        refine g_aload_n 0 dX3_isContradictory_28 rfl ?_
        refine g_get (v := vR 74) (ci := 2) (b := 0) (N := 83) 64 rfl rfl (by decide) in_X3 rfl rfl q1196 dX3_isContradictory_29 ?_
        refine g_iload_n 1 dX3_isContradictory_32 rfl ?_
        refine g_iald (id := 64) 45 rfl rfl dX3_isContradictory_33 (fun v5 rv5 => ?_)
        refine g_iconst dX3_isContradictory_34 ?_
        refine g_iorU dX3_isContradictory_35 (fun v6 rv6 => ?_)
        refine g_cVZ (As := [vI v4, vI v6]) (n := 2) (stk := []) (ci := 2) (b := 0) (N := 83) (hX3_hasAdj v4 v6 u) (by decide +kernel) rfl rfl (lw_V q1630 q1632 qs121 q168 q1633) (by decide +kernel) rfl (by decide) hRf hRl (fun _ => (avc rv4 (avc rv6 avn))) (Nat.le_of_ble_eq_true rfl) rfl rfl dX3_isContradictory_36 (fun v7 s8 zv7 => ?_)
        refine g_if_eq 44 dX3_isContradictory_39 (by decide) (fun _ => (inR_z zv7)) (fun _ => ?_) (fun _ => ?_)
        · refine g_iinc 1 (loc' := fun v9 => [(1, vI v9), (0, vR 0)]) dX3_isContradictory_44 rfl (by decide) (fun _ => rfl) (fun v9 rv9 => ?_)
          refine g_goto 2 dX3_isContradictory_47 (by decide) ?_
          exact g_pick [1, 0] rfl (ih v9 s8 rv9)
        · exact g_pick [] rfl (hx42 s8)
      · refine g_iinc 1 (loc' := fun v10 => [(1, vI v10), (0, vR 0)]) dX3_isContradictory_44 rfl (by decide) (fun _ => rfl) (fun v10 rv10 => ?_)
        refine g_goto 2 dX3_isContradictory_47 (by decide) ?_
        exact g_pick [1, 0] rfl (ih v10 u rv10)
    · exact g_pick [0] rfl (hx50 u)
theorem wX3_isContradictory_L52 (hd : 2 ≤ d) (hRf : d + 1 ≤ R.frames) (hRl : 40 * (d + 1) ≤ R.locals) (hX3_hasAdj : ∀ (a1 a2 : Int) (u : Sg), Ct l d FT clA yX3_hasAdj cX3_hasAdj 4 (some .boolean) DX3_hasAdj rvI [vR 0, vI a1, vI a2] u (call 72 [a1, a2] u)) (hX3_get : ∀ (a1 a2 : Int) (u : Sg), Ct l d FT clA yX3_get cX3_get 3 (some .int) DX3_get rvI [vR 0, vI a1, vI a2] u (call 7 [a1, a2] u)) (hX3_equal : ∀ (a1 a2 : Int) (u : Sg), Ct l d FT clA yX3_equal cX3_equal 5 (some .boolean) DX3_equal rvI [vR 0, vI a1, vI a2] u (call 76 [a1, a2] u)) (hX3_isKnownAtom : ∀ (a1 a2 : Int) (u : Sg), Ct l d FT clA yX3_isKnownAtom cX3_isKnownAtom 6 (some .boolean) DX3_isKnownAtom rvI [vR 0, vI a1, vI a2] u (call 101 [a1, a2] u)) (hX3_indexOf : ∀ (a1 : Int) (u : Sg), Ct l d FT clA yX3_indexOf cX3_indexOf 2 (some .int) DX3_indexOf rvI [vR 0, vI a1] u (call 66 [a1] u)) (hX3_hasHere : ∀ (a1 a2 a3 : Int) (u : Sg), Ct l d FT clA yX3_hasHere cX3_hasHere 5 (some .boolean) DX3_hasHere rvI [vR 0, vI a1, vI a2, vI a3] u (call 75 [a1, a2, a3] u)) (hX3_holds : ∀ (a1 : Int) (u : Sg), Ct l d FT clA yX3_holds cX3_holds 10 (some .boolean) DX3_holds rvI [vR 0, vI a1] u (call 100 [a1] u)) (x256 : Sg → Option (Int × Sg)) (x148 : Sg → Option (Int × Sg)) (x169 : Sg → Option (Int × Sg)) (x200 : Sg → Option (Int × Sg)) (x210 : Sg → Option (Int × Sg)) (x234 : Sg → Option (Int × Sg)) (x248 : Sg → Option (Int × Sg)) (hx256 : ∀ (u : Sg), WG p l e R s m args below meth c JX3_isContradictory DX3_isContradictory G clA A FT ad0 σ0 rvI (x256 u) u 256 [] []) (hx148 : ∀ (u : Sg), WG p l e R s m args below meth c JX3_isContradictory DX3_isContradictory G clA A FT ad0 σ0 rvI (x148 u) u 148 [] []) (hx169 : ∀ (u : Sg), WG p l e R s m args below meth c JX3_isContradictory DX3_isContradictory G clA A FT ad0 σ0 rvI (x169 u) u 169 [] []) (hx200 : ∀ (u : Sg), WG p l e R s m args below meth c JX3_isContradictory DX3_isContradictory G clA A FT ad0 σ0 rvI (x200 u) u 200 [] []) (hx210 : ∀ (u : Sg), WG p l e R s m args below meth c JX3_isContradictory DX3_isContradictory G clA A FT ad0 σ0 rvI (x210 u) u 210 [] []) (hx234 : ∀ (u : Sg), WG p l e R s m args below meth c JX3_isContradictory DX3_isContradictory G clA A FT ad0 σ0 rvI (x234 u) u 234 [] []) (hx248 : ∀ (u : Sg), WG p l e R s m args below meth c JX3_isContradictory DX3_isContradictory G clA A FT ad0 σ0 rvI (x248 u) u 248 [] []) : ∀ (n : Nat) (a1 : Int) (u : Sg), inR a1 → WG p l e R s m args below meth c JX3_isContradictory DX3_isContradictory G clA A FT ad0 σ0 rvI (bX3_isContradictory_L52 call n a1 u x256 x148 x169 x200 x210 x234 x248) u 52 [(0, vR 0), (1, vI a1)] [] := by
  intro n
  induction n with
  | zero =>
    intro a1 u ra1
    exact g_none
  | succ n ih =>
    intro a1 u ra1
    rw [bX3_isContradictory_L52]
    refine g_iload_n 1 dX3_isContradictory_52 rfl ?_
    refine g_aload_n 0 dX3_isContradictory_53 rfl ?_
    refine g_getI (ci := 2) (b := 0) (N := 83) 50 rfl rfl rfl (by decide) in_X3 rfl rfl q1182 dX3_isContradictory_54 (fun v1 rv1 => ?_)
    refine g_icmp_ge 256 dX3_isContradictory_57 (by decide) (fun _ => ra1) (fun _ => rv1) (fun _ => ?_) (fun _ => ?_)
    · refine g_aload_n 0 dX3_isContradictory_60 rfl ?_
      refine g_get (v := vR 59) (ci := 2) (b := 0) (N := 83) 49 rfl rfl (by decide) in_X3 rfl rfl q1181 dX3_isContradictory_61 ?_
      refine g_iload_n 1 dX3_isContradictory_64 rfl ?_
      refine g_iald (id := 49) 35 rfl rfl dX3_isContradictory_65 (fun v2 rv2 => ?_)
      refine g_istore_n (loc' := [(2, vI v2), (0, vR 0), (1, vI a1)]) dX3_isContradictory_66 (by decide) rfl ?_
      refine g_aload_n 1 dX3_isContradictory_67 rfl ?_
      refine g_get (v := vR 11) (ci := 2) (b := 0) (N := 83) 1 rfl rfl (by decide) in_X3 rfl rfl q1133 dX3_isContradictory_68 ?_
      refine g_iload_n 0 dX3_isContradictory_71 rfl ?_
      refine g_iald (id := 1) 0 rfl rfl dX3_isContradictory_72 (fun v3 rv3 => ?_)
      refine g_bipush (by decide +kernel) dX3_isContradictory_73 ?_
      refine g_icmp_eq 81 dX3_isContradictory_75 (by decide) (fun _ => rv3) (fun _ => (by decide : inR (15))) (fun _ => ?_) (fun _ => ?_)
      · refine g_aload_n 1 dX3_isContradictory_81 rfl ?_
        refine g_iload_n 0 dX3_isContradictory_82 rfl ?_
        refine g_iconst dX3_isContradictory_83 ?_
        refine g_cVI (As := [vI v2, vI 0]) (n := 2) (stk := []) (ci := 2) (b := 0) (N := 83) (hX3_get v2 0 u) (by decide +kernel) rfl rfl (lw_V q1116 q1118 qs76 q168 q1119) (by decide +kernel) rfl (by decide) hRf hRl (fun _ => (avc rv2 (avc (inR_z (Or.inl rfl)) avn))) (Nat.le_of_ble_eq_true rfl) rfl rfl dX3_isContradictory_84 (fun v4 s5 rv4 => ?_)
        refine g_istore_n (loc' := [(3, vI v4), (2, vI v2), (0, vR 0), (1, vI a1)]) dX3_isContradictory_87 (by decide) rfl ?_
        refine g_aload_n 2 dX3_isContradictory_88 rfl ?_
        refine g_get (v := vR 11) (ci := 2) (b := 0) (N := 83) 1 rfl rfl (by decide) in_X3 rfl rfl q1133 dX3_isContradictory_89 ?_
        refine g_iload_n 0 dX3_isContradictory_92 rfl ?_
        refine g_iald (id := 1) 0 rfl rfl dX3_isContradictory_93 (fun v6 rv6 => ?_)
        refine WG.byc (fun e0 => ?_) (fun n0 => ?_)
        · refine g_tswIn 148 8 dX3_isContradictory_94 (by decide) rfl (by decide) e0 ?_
          exact g_pick [] rfl (hx148 s5)
        · skip
          refine WG.byc (fun e1 => ?_) (fun n1 => ?_)
          · refine g_tswIn 150 9 dX3_isContradictory_94 (by decide) rfl (by decide) e1 ?_
            refine g_aload_n 2 dX3_isContradictory_150 rfl ?_
            refine g_aload_n 2 dX3_isContradictory_151 rfl ?_
            refine g_iload_n 0 dX3_isContradictory_152 rfl ?_
            refine g_iconst dX3_isContradictory_153 ?_
            refine g_cVI (As := [vI v4, vI 0]) (n := 2) (stk := [vR 0]) (ci := 2) (b := 0) (N := 83) (hX3_get v4 0 s5) (by decide +kernel) rfl rfl (lw_V q1116 q1118 qs76 q168 q1119) (by decide +kernel) rfl (by decide) hRf hRl (fun _ => (avc rv4 (avc (inR_z (Or.inl rfl)) avn))) (Nat.le_of_ble_eq_true rfl) rfl rfl dX3_isContradictory_154 (fun v7 s8 rv7 => ?_)
            refine g_aload_n 2 dX3_isContradictory_157 rfl ?_
            refine g_iload_n 0 dX3_isContradictory_158 rfl ?_
            refine g_iconst dX3_isContradictory_159 ?_
            refine g_cVI (As := [vI v4, vI 1]) (n := 2) (stk := [vI v7, vR 0]) (ci := 2) (b := 0) (N := 83) (hX3_get v4 1 s8) (by decide +kernel) rfl rfl (lw_V q1116 q1118 qs76 q168 q1119) (by decide +kernel) rfl (by decide) hRf hRl (fun _ => (avc rv4 (avc (inR_z (Or.inr rfl)) avn))) (Nat.le_of_ble_eq_true rfl) rfl rfl dX3_isContradictory_160 (fun v9 s10 rv9 => ?_)
            refine g_cVZ (As := [vI v7, vI v9]) (n := 2) (stk := []) (ci := 2) (b := 0) (N := 83) (hX3_equal v7 v9 s10) (by decide +kernel) rfl rfl (lw_V q1646 q1648 qs125 q168 q1649) (by decide +kernel) rfl (by decide) hRf hRl (fun _ => (avc rv7 (avc rv9 avn))) (Nat.le_of_ble_eq_true rfl) rfl rfl dX3_isContradictory_163 (fun v11 s12 zv11 => ?_)
            refine g_if_eq 250 dX3_isContradictory_166 (by decide) (fun _ => (inR_z zv11)) (fun _ => ?_) (fun _ => ?_)
            · refine g_iinc 3 (loc' := fun v13 => [(1, vI v13), (3, vI v4), (2, vI v2), (0, vR 0)]) dX3_isContradictory_250 rfl (by decide) (fun _ => rfl) (fun v13 rv13 => ?_)
              refine g_goto 52 dX3_isContradictory_253 (by decide) ?_
              exact g_pick [3, 0] rfl (ih v13 s12 rv13)
            · exact g_pick [] rfl (hx169 s12)
          · skip
            refine WG.byc (fun e2 => ?_) (fun n2 => ?_)
            · refine g_tswIn 239 10 dX3_isContradictory_94 (by decide) rfl (by decide) e2 ?_
              refine g_aload_n 2 dX3_isContradictory_239 rfl ?_
              refine g_iload_n 0 dX3_isContradictory_240 rfl ?_
              refine g_iconst dX3_isContradictory_241 ?_
              refine g_cVZ (As := [vI v4, vI 0]) (n := 2) (stk := []) (ci := 2) (b := 0) (N := 83) (hX3_isKnownAtom v4 0 s5) (by decide +kernel) rfl rfl (lw_V q1746 q1748 qs150 q168 q1749) (by decide +kernel) rfl (by decide) hRf hRl (fun _ => (avc rv4 (avc (inR_z (Or.inl rfl)) avn))) (Nat.le_of_ble_eq_true rfl) rfl rfl dX3_isContradictory_242 (fun v14 s15 zv14 => ?_)
              refine g_if_eq 250 dX3_isContradictory_245 (by decide) (fun _ => (inR_z zv14)) (fun _ => ?_) (fun _ => ?_)
              · refine g_iinc 3 (loc' := fun v16 => [(1, vI v16), (3, vI v4), (2, vI v2), (0, vR 0)]) dX3_isContradictory_250 rfl (by decide) (fun _ => rfl) (fun v16 rv16 => ?_)
                refine g_goto 52 dX3_isContradictory_253 (by decide) ?_
                exact g_pick [3, 0] rfl (ih v16 s15 rv16)
              · exact g_pick [] rfl (hx248 s15)
            · skip
              refine WG.byc (fun e3 => ?_) (fun n3 => ?_)
              · refine g_tswIn 239 11 dX3_isContradictory_94 (by decide) rfl (by decide) e3 ?_
                refine g_aload_n 2 dX3_isContradictory_239 rfl ?_
                refine g_iload_n 0 dX3_isContradictory_240 rfl ?_
                refine g_iconst dX3_isContradictory_241 ?_
                refine g_cVZ (As := [vI v4, vI 0]) (n := 2) (stk := []) (ci := 2) (b := 0) (N := 83) (hX3_isKnownAtom v4 0 s5) (by decide +kernel) rfl rfl (lw_V q1746 q1748 qs150 q168 q1749) (by decide +kernel) rfl (by decide) hRf hRl (fun _ => (avc rv4 (avc (inR_z (Or.inl rfl)) avn))) (Nat.le_of_ble_eq_true rfl) rfl rfl dX3_isContradictory_242 (fun v17 s18 zv17 => ?_)
                refine g_if_eq 250 dX3_isContradictory_245 (by decide) (fun _ => (inR_z zv17)) (fun _ => ?_) (fun _ => ?_)
                · refine g_iinc 3 (loc' := fun v19 => [(1, vI v19), (3, vI v4), (2, vI v2), (0, vR 0)]) dX3_isContradictory_250 rfl (by decide) (fun _ => rfl) (fun v19 rv19 => ?_)
                  refine g_goto 52 dX3_isContradictory_253 (by decide) ?_
                  exact g_pick [3, 0] rfl (ih v19 s18 rv19)
                · exact g_pick [] rfl (hx248 s18)
              · skip
                refine WG.byc (fun e4 => ?_) (fun n4 => ?_)
                · refine g_tswIn 236 12 dX3_isContradictory_94 (by decide) rfl (by decide) e4 ?_
                  refine g_goto 250 dX3_isContradictory_236 (by decide) ?_
                  refine g_iinc 3 (loc' := fun v20 => [(1, vI v20), (3, vI v4), (2, vI v2), (0, vR 0)]) dX3_isContradictory_250 rfl (by decide) (fun _ => rfl) (fun v20 rv20 => ?_)
                  refine g_goto 52 dX3_isContradictory_253 (by decide) ?_
                  exact g_pick [3, 0] rfl (ih v20 s5 rv20)
                · skip
                  refine WG.byc (fun e5 => ?_) (fun n5 => ?_)
                  · refine g_tswIn 171 13 dX3_isContradictory_94 (by decide) rfl (by decide) e5 ?_
                    refine g_aload_n 2 dX3_isContradictory_171 rfl ?_
                    refine g_aload_n 2 dX3_isContradictory_172 rfl ?_
                    refine g_aload_n 2 dX3_isContradictory_173 rfl ?_
                    refine g_iload_n 0 dX3_isContradictory_174 rfl ?_
                    refine g_iconst dX3_isContradictory_175 ?_
                    refine g_cVI (As := [vI v4, vI 2]) (n := 2) (stk := [vR 0, vR 0]) (ci := 2) (b := 0) (N := 83) (hX3_get v4 2 s5) (by decide +kernel) rfl rfl (lw_V q1116 q1118 qs76 q168 q1119) (by decide +kernel) rfl (by decide) hRf hRl (fun _ => (avc rv4 (avc (by decide : inR (2)) avn))) (Nat.le_of_ble_eq_true rfl) rfl rfl dX3_isContradictory_176 (fun v21 s22 rv21 => ?_)
                    refine g_cVI (As := [vI v21]) (n := 1) (stk := [vR 0]) (ci := 2) (b := 0) (N := 83) (hX3_indexOf v21 s22) (by decide +kernel) rfl rfl (lw_V q1606 q1608 qs115 q168 q1609) (by decide +kernel) rfl (by decide) hRf hRl (fun _ => (avc rv21 avn)) (Nat.le_of_ble_eq_true rfl) rfl rfl dX3_isContradictory_179 (fun v23 s24 rv23 => ?_)
                    refine g_aload_n 2 dX3_isContradictory_182 rfl ?_
                    refine g_iload_n 0 dX3_isContradictory_183 rfl ?_
                    refine g_iconst dX3_isContradictory_184 ?_
                    refine g_cVI (As := [vI v4, vI 0]) (n := 2) (stk := [vI v23, vR 0]) (ci := 2) (b := 0) (N := 83) (hX3_get v4 0 s24) (by decide +kernel) rfl rfl (lw_V q1116 q1118 qs76 q168 q1119) (by decide +kernel) rfl (by decide) hRf hRl (fun _ => (avc rv4 (avc (inR_z (Or.inl rfl)) avn))) (Nat.le_of_ble_eq_true rfl) rfl rfl dX3_isContradictory_185 (fun v25 s26 rv25 => ?_)
                    refine g_aload_n 2 dX3_isContradictory_188 rfl ?_
                    refine g_iload_n 0 dX3_isContradictory_189 rfl ?_
                    refine g_iconst dX3_isContradictory_190 ?_
                    refine g_cVI (As := [vI v4, vI 1]) (n := 2) (stk := [vI v25, vI v23, vR 0]) (ci := 2) (b := 0) (N := 83) (hX3_get v4 1 s26) (by decide +kernel) rfl rfl (lw_V q1116 q1118 qs76 q168 q1119) (by decide +kernel) rfl (by decide) hRf hRl (fun _ => (avc rv4 (avc (inR_z (Or.inr rfl)) avn))) (Nat.le_of_ble_eq_true rfl) rfl rfl dX3_isContradictory_191 (fun v27 s28 rv27 => ?_)
                    refine g_cVZ (As := [vI v23, vI v25, vI v27]) (n := 3) (stk := []) (ci := 2) (b := 0) (N := 83) (hX3_hasHere v23 v25 v27 s28) (by decide +kernel) rfl rfl (lw_V q1642 q1644 qs124 q168 q1645) (by decide +kernel) rfl (by decide) hRf hRl (fun _ => (avc rv23 (avc rv25 (avc rv27 avn)))) (Nat.le_of_ble_eq_true rfl) rfl rfl dX3_isContradictory_194 (fun v29 s30 zv29 => ?_)
                    refine g_if_eq 250 dX3_isContradictory_197 (by decide) (fun _ => (inR_z zv29)) (fun _ => ?_) (fun _ => ?_)
                    · refine g_iinc 3 (loc' := fun v31 => [(1, vI v31), (3, vI v4), (2, vI v2), (0, vR 0)]) dX3_isContradictory_250 rfl (by decide) (fun _ => rfl) (fun v31 rv31 => ?_)
                      refine g_goto 52 dX3_isContradictory_253 (by decide) ?_
                      exact g_pick [3, 0] rfl (ih v31 s30 rv31)
                    · exact g_pick [] rfl (hx200 s30)
                  · skip
                    refine WG.byc (fun e6 => ?_) (fun n6 => ?_)
                    · refine g_tswIn 239 14 dX3_isContradictory_94 (by decide) rfl (by decide) e6 ?_
                      refine g_aload_n 2 dX3_isContradictory_239 rfl ?_
                      refine g_iload_n 0 dX3_isContradictory_240 rfl ?_
                      refine g_iconst dX3_isContradictory_241 ?_
                      refine g_cVZ (As := [vI v4, vI 0]) (n := 2) (stk := []) (ci := 2) (b := 0) (N := 83) (hX3_isKnownAtom v4 0 s5) (by decide +kernel) rfl rfl (lw_V q1746 q1748 qs150 q168 q1749) (by decide +kernel) rfl (by decide) hRf hRl (fun _ => (avc rv4 (avc (inR_z (Or.inl rfl)) avn))) (Nat.le_of_ble_eq_true rfl) rfl rfl dX3_isContradictory_242 (fun v32 s33 zv32 => ?_)
                      refine g_if_eq 250 dX3_isContradictory_245 (by decide) (fun _ => (inR_z zv32)) (fun _ => ?_) (fun _ => ?_)
                      · refine g_iinc 3 (loc' := fun v34 => [(1, vI v34), (3, vI v4), (2, vI v2), (0, vR 0)]) dX3_isContradictory_250 rfl (by decide) (fun _ => rfl) (fun v34 rv34 => ?_)
                        refine g_goto 52 dX3_isContradictory_253 (by decide) ?_
                        exact g_pick [3, 0] rfl (ih v34 s33 rv34)
                      · exact g_pick [] rfl (hx248 s33)
                    · skip
                      refine WG.byc (fun e7 => ?_) (fun n7 => ?_)
                      · refine g_tswIn 239 15 dX3_isContradictory_94 (by decide) rfl (by decide) e7 ?_
                        refine g_aload_n 2 dX3_isContradictory_239 rfl ?_
                        refine g_iload_n 0 dX3_isContradictory_240 rfl ?_
                        refine g_iconst dX3_isContradictory_241 ?_
                        refine g_cVZ (As := [vI v4, vI 0]) (n := 2) (stk := []) (ci := 2) (b := 0) (N := 83) (hX3_isKnownAtom v4 0 s5) (by decide +kernel) rfl rfl (lw_V q1746 q1748 qs150 q168 q1749) (by decide +kernel) rfl (by decide) hRf hRl (fun _ => (avc rv4 (avc (inR_z (Or.inl rfl)) avn))) (Nat.le_of_ble_eq_true rfl) rfl rfl dX3_isContradictory_242 (fun v35 s36 zv35 => ?_)
                        refine g_if_eq 250 dX3_isContradictory_245 (by decide) (fun _ => (inR_z zv35)) (fun _ => ?_) (fun _ => ?_)
                        · refine g_iinc 3 (loc' := fun v37 => [(1, vI v37), (3, vI v4), (2, vI v2), (0, vR 0)]) dX3_isContradictory_250 rfl (by decide) (fun _ => rfl) (fun v37 rv37 => ?_)
                          refine g_goto 52 dX3_isContradictory_253 (by decide) ?_
                          exact g_pick [3, 0] rfl (ih v37 s36 rv37)
                        · exact g_pick [] rfl (hx248 s36)
                      · skip
                        refine WG.byc (fun e8 => ?_) (fun n8 => ?_)
                        · refine g_tswIn 202 16 dX3_isContradictory_94 (by decide) rfl (by decide) e8 ?_
                          refine g_aload_n 2 dX3_isContradictory_202 rfl ?_
                          refine g_iload_n 0 dX3_isContradictory_203 rfl ?_
                          refine g_cVZ (As := [vI v4]) (n := 1) (stk := []) (ci := 2) (b := 0) (N := 83) (hX3_holds v4 s5) (by decide +kernel) rfl rfl (lw_V q1742 q1744 qs149 q168 q1745) (by decide +kernel) rfl (by decide) hRf hRl (fun _ => (avc rv4 avn)) (Nat.le_of_ble_eq_true rfl) rfl rfl dX3_isContradictory_204 (fun v38 s39 zv38 => ?_)
                          refine g_if_eq 250 dX3_isContradictory_207 (by decide) (fun _ => (inR_z zv38)) (fun _ => ?_) (fun _ => ?_)
                          · refine g_iinc 3 (loc' := fun v40 => [(1, vI v40), (3, vI v4), (2, vI v2), (0, vR 0)]) dX3_isContradictory_250 rfl (by decide) (fun _ => rfl) (fun v40 rv40 => ?_)
                            refine g_goto 52 dX3_isContradictory_253 (by decide) ?_
                            exact g_pick [3, 0] rfl (ih v40 s39 rv40)
                          · exact g_pick [] rfl (hx210 s39)
                        · skip
                          refine WG.byc (fun e9 => ?_) (fun n9 => ?_)
                          · refine g_tswIn 212 17 dX3_isContradictory_94 (by decide) rfl (by decide) e9 ?_
                            refine g_iload_n 0 dX3_isContradictory_212 rfl ?_
                            refine g_aload_n 2 dX3_isContradictory_213 rfl ?_
                            refine g_get (v := vR 61) (ci := 2) (b := 0) (N := 83) 51 rfl rfl (by decide) in_X3 rfl rfl q1183 dX3_isContradictory_214 ?_
                            refine g_alenU (id := 51) 36 rfl (Or.inl rfl) dX3_isContradictory_217 (fun v41 rv41 => ?_)
                            refine g_icmp_ge 250 dX3_isContradictory_218 (by decide) (fun _ => rv4) (fun _ => rv41) (fun _ => ?_) (fun _ => ?_)
                            · refine g_aload_n 2 dX3_isContradictory_221 rfl ?_
                              refine g_get (v := vR 61) (ci := 2) (b := 0) (N := 83) 51 rfl rfl (by decide) in_X3 rfl rfl q1183 dX3_isContradictory_222 ?_
                              refine g_iload_n 0 dX3_isContradictory_225 rfl ?_
                              refine g_iald (id := 51) 36 rfl rfl dX3_isContradictory_226 (fun v42 rv42 => ?_)
                              refine g_aload_n 2 dX3_isContradictory_227 rfl ?_
                              refine g_getI (ci := 2) (b := 0) (N := 83) 54 rfl rfl rfl (by decide) in_X3 rfl rfl q1186 dX3_isContradictory_228 (fun v43 rv43 => ?_)
                              refine g_icmp_ne 250 dX3_isContradictory_231 (by decide) (fun _ => rv42) (fun _ => rv43) (fun _ => ?_) (fun _ => ?_)
                              · exact g_pick [] rfl (hx234 s5)
                              · refine g_iinc 3 (loc' := fun v44 => [(1, vI v44), (3, vI v4), (2, vI v2), (0, vR 0)]) dX3_isContradictory_250 rfl (by decide) (fun _ => rfl) (fun v44 rv44 => ?_)
                                refine g_goto 52 dX3_isContradictory_253 (by decide) ?_
                                exact g_pick [3, 0] rfl (ih v44 s5 rv44)
                            · refine g_iinc 3 (loc' := fun v45 => [(1, vI v45), (3, vI v4), (2, vI v2), (0, vR 0)]) dX3_isContradictory_250 rfl (by decide) (fun _ => rfl) (fun v45 rv45 => ?_)
                              refine g_goto 52 dX3_isContradictory_253 (by decide) ?_
                              exact g_pick [3, 0] rfl (ih v45 s5 rv45)
                          · skip
                            refine g_tswOut 239 dX3_isContradictory_94 (fun _ => rv6) (by omega) (by decide) ?_
                            refine g_aload_n 2 dX3_isContradictory_239 rfl ?_
                            refine g_iload_n 0 dX3_isContradictory_240 rfl ?_
                            refine g_iconst dX3_isContradictory_241 ?_
                            refine g_cVZ (As := [vI v4, vI 0]) (n := 2) (stk := []) (ci := 2) (b := 0) (N := 83) (hX3_isKnownAtom v4 0 s5) (by decide +kernel) rfl rfl (lw_V q1746 q1748 qs150 q168 q1749) (by decide +kernel) rfl (by decide) hRf hRl (fun _ => (avc rv4 (avc (inR_z (Or.inl rfl)) avn))) (Nat.le_of_ble_eq_true rfl) rfl rfl dX3_isContradictory_242 (fun v46 s47 zv46 => ?_)
                            refine g_if_eq 250 dX3_isContradictory_245 (by decide) (fun _ => (inR_z zv46)) (fun _ => ?_) (fun _ => ?_)
                            · refine g_iinc 3 (loc' := fun v48 => [(1, vI v48), (3, vI v4), (2, vI v2), (0, vR 0)]) dX3_isContradictory_250 rfl (by decide) (fun _ => rfl) (fun v48 rv48 => ?_)
                              refine g_goto 52 dX3_isContradictory_253 (by decide) ?_
                              exact g_pick [3, 0] rfl (ih v48 s47 rv48)
                            · exact g_pick [] rfl (hx248 s47)
      · refine g_goto 250 dX3_isContradictory_78 (by decide) ?_
        refine g_iinc 2 (loc' := fun v49 => [(1, vI v49), (2, vI v2), (0, vR 0)]) dX3_isContradictory_250 rfl (by decide) (fun _ => rfl) (fun v49 rv49 => ?_)
        refine g_goto 52 dX3_isContradictory_253 (by decide) ?_
        exact g_pick [2, 0] rfl (ih v49 u rv49)
    · exact g_pick [] rfl (hx256 u)
theorem wX3_isContradictory (hd : 2 ≤ d) (hRf : d + 1 ≤ R.frames) (hRl : 40 * (d + 1) ≤ R.locals) (hX3_hasAdj : ∀ (a1 a2 : Int) (u : Sg), Ct l d FT clA yX3_hasAdj cX3_hasAdj 4 (some .boolean) DX3_hasAdj rvI [vR 0, vI a1, vI a2] u (call 72 [a1, a2] u)) (hX3_get : ∀ (a1 a2 : Int) (u : Sg), Ct l d FT clA yX3_get cX3_get 3 (some .int) DX3_get rvI [vR 0, vI a1, vI a2] u (call 7 [a1, a2] u)) (hX3_equal : ∀ (a1 a2 : Int) (u : Sg), Ct l d FT clA yX3_equal cX3_equal 5 (some .boolean) DX3_equal rvI [vR 0, vI a1, vI a2] u (call 76 [a1, a2] u)) (hX3_isKnownAtom : ∀ (a1 a2 : Int) (u : Sg), Ct l d FT clA yX3_isKnownAtom cX3_isKnownAtom 6 (some .boolean) DX3_isKnownAtom rvI [vR 0, vI a1, vI a2] u (call 101 [a1, a2] u)) (hX3_indexOf : ∀ (a1 : Int) (u : Sg), Ct l d FT clA yX3_indexOf cX3_indexOf 2 (some .int) DX3_indexOf rvI [vR 0, vI a1] u (call 66 [a1] u)) (hX3_hasHere : ∀ (a1 a2 a3 : Int) (u : Sg), Ct l d FT clA yX3_hasHere cX3_hasHere 5 (some .boolean) DX3_hasHere rvI [vR 0, vI a1, vI a2, vI a3] u (call 75 [a1, a2, a3] u)) (hX3_holds : ∀ (a1 : Int) (u : Sg), Ct l d FT clA yX3_holds cX3_holds 10 (some .boolean) DX3_holds rvI [vR 0, vI a1] u (call 100 [a1] u)) (u : Sg) : WG p l e R s m args below meth c JX3_isContradictory DX3_isContradictory G clA A FT ad0 σ0 rvI (bX3_isContradictory call u) u 0 [(0, vR 0)] [] := by
  unfold bX3_isContradictory
  refine g_iconst dX3_isContradictory_0 ?_
  refine g_istore_n (loc' := [(1, vI 0), (0, vR 0)]) dX3_isContradictory_1 (by decide) rfl ?_
  refine g_pick [1, 0] rfl (wX3_isContradictory_L2 hd hRf hRl hX3_hasAdj hX3_get hX3_equal hX3_isKnownAtom hX3_indexOf hX3_hasHere hX3_holds _ _ (fun s1 => ?_) (fun s9 => ?_) KF 0 u (inR_z (Or.inl rfl)))
  · refine g_iconst dX3_isContradictory_50 ?_
    refine g_istore_n (loc' := [(1, vI 0), (0, vR 0)]) dX3_isContradictory_51 (by decide) rfl ?_
    refine g_pick [1, 0] rfl (wX3_isContradictory_L52 hd hRf hRl hX3_hasAdj hX3_get hX3_equal hX3_isKnownAtom hX3_indexOf hX3_hasHere hX3_holds _ _ _ _ _ _ _ (fun s2 => ?_) (fun s3 => ?_) (fun s4 => ?_) (fun s5 => ?_) (fun s6 => ?_) (fun s7 => ?_) (fun s8 => ?_) KF 0 s1 (inR_z (Or.inl rfl)))
    · refine g_iconst dX3_isContradictory_256 ?_
      exact g_zret rfl rfl (fun _ => (Or.inl rfl)) dX3_isContradictory_257
    · refine g_iconst dX3_isContradictory_148 ?_
      exact g_zret rfl rfl (fun _ => (Or.inr rfl)) dX3_isContradictory_149
    · refine g_iconst dX3_isContradictory_169 ?_
      exact g_zret rfl rfl (fun _ => (Or.inr rfl)) dX3_isContradictory_170
    · refine g_iconst dX3_isContradictory_200 ?_
      exact g_zret rfl rfl (fun _ => (Or.inr rfl)) dX3_isContradictory_201
    · refine g_iconst dX3_isContradictory_210 ?_
      exact g_zret rfl rfl (fun _ => (Or.inr rfl)) dX3_isContradictory_211
    · refine g_iconst dX3_isContradictory_234 ?_
      exact g_zret rfl rfl (fun _ => (Or.inr rfl)) dX3_isContradictory_235
    · refine g_iconst dX3_isContradictory_248 ?_
      exact g_zret rfl rfl (fun _ => (Or.inr rfl)) dX3_isContradictory_249
  · refine g_iconst dX3_isContradictory_42 ?_
    exact g_zret rfl rfl (fun _ => (Or.inr rfl)) dX3_isContradictory_43
end
section
variable {l : Launch} {d : Nat} {call : Nat → List Int → Sg → Option (Int × Sg)}
theorem ctX3_isContradictory (p0 : Program) (e0 : Env) (s0 : State) (m0 : MethodId) (meth0 : Method) (c0 : Code) (G0 : Gm) (hd : 2 ≤ d) (hX3_hasAdj : ∀ (a1 a2 : Int) (u : Sg), Ct l d FT clA yX3_hasAdj cX3_hasAdj 4 (some .boolean) DX3_hasAdj rvI [vR 0, vI a1, vI a2] u (call 72 [a1, a2] u)) (hX3_get : ∀ (a1 a2 : Int) (u : Sg), Ct l d FT clA yX3_get cX3_get 3 (some .int) DX3_get rvI [vR 0, vI a1, vI a2] u (call 7 [a1, a2] u)) (hX3_equal : ∀ (a1 a2 : Int) (u : Sg), Ct l d FT clA yX3_equal cX3_equal 5 (some .boolean) DX3_equal rvI [vR 0, vI a1, vI a2] u (call 76 [a1, a2] u)) (hX3_isKnownAtom : ∀ (a1 a2 : Int) (u : Sg), Ct l d FT clA yX3_isKnownAtom cX3_isKnownAtom 6 (some .boolean) DX3_isKnownAtom rvI [vR 0, vI a1, vI a2] u (call 101 [a1, a2] u)) (hX3_indexOf : ∀ (a1 : Int) (u : Sg), Ct l d FT clA yX3_indexOf cX3_indexOf 2 (some .int) DX3_indexOf rvI [vR 0, vI a1] u (call 66 [a1] u)) (hX3_hasHere : ∀ (a1 a2 a3 : Int) (u : Sg), Ct l d FT clA yX3_hasHere cX3_hasHere 5 (some .boolean) DX3_hasHere rvI [vR 0, vI a1, vI a2, vI a3] u (call 75 [a1, a2, a3] u)) (hX3_holds : ∀ (a1 : Int) (u : Sg), Ct l d FT clA yX3_holds cX3_holds 10 (some .boolean) DX3_holds rvI [vR 0, vI a1] u (call 100 [a1] u)) (u : Sg) : Ct l (d + 1) FT clA yX3_isContradictory cX3_isContradictory 4 (some .boolean) DX3_isContradictory rvI [vR 0] u (bX3_isContradictory call u) :=
  Ct_of (by decide) (Nat.le_of_ble_eq_true rfl) (fun p e R s1 m args below meth c G A ad hA hRf hRl => wX3_isContradictory hd hRf hRl hX3_hasAdj hX3_get hX3_equal hX3_isKnownAtom hX3_indexOf hX3_hasHere hX3_holds u) p0 e0 s0 m0 meth0 c0 G0
end
/-! RoundCheckModel.holds(I)Z -/
abbrev JX3_holds : Jm := (cX3_holds, RX3, 10, (some .boolean))
def bX3_holds_L23 (call : Nat → List Int → Sg → Option (Int × Sg)) : Nat → Int → Int → Sg → (Sg → Option (Int × Sg)) → (Sg → Option (Int × Sg)) → Option (Int × Sg)
  | 0, _, _, _, _, _ => none
  | n + 1, a1, a3, u, x54, x46 => ld u 3 a1 fun v1 => if a3 < v1 then (cl (call 7 [a1, a3] u) fun v2 s3 => cl (call 100 [v2] s3) fun v4 s5 => if v4 = 0 then (x46 s5) else (ar (a3 + 1) fun v6 => bX3_holds_L23 call n a1 v6 s5 x54 x46)) else (x54 u)
def bX3_holds_L101 (call : Nat → List Int → Sg → Option (Int × Sg)) : Nat → Int → Int → Sg → (Sg → Option (Int × Sg)) → (Sg → Option (Int × Sg)) → Option (Int × Sg)
  | 0, _, _, _, _, _ => none
  | n + 1, a4, a5, u, x140, x132 => ld u 3 a4 fun v1 => if a5 < v1 then (cl (call 7 [a4, a5] u) fun v2 s3 => cl (call 36 [v2] s3) fun v4 s5 => cl (call 100 [v4] s5) fun v6 s7 => if v6 = 0 then (ar (a5 + 1) fun v8 => bX3_holds_L101 call n a4 v8 s7 x140 x132) else (x132 s7)) else (x140 u)
def bX3_holds_L224 (call : Nat → List Int → Sg → Option (Int × Sg)) : Nat → Int → Int → Int → Sg → (Sg → Option (Int × Sg)) → (Sg → Option (Int × Sg)) → Option (Int × Sg)
  | 0, _, _, _, _, _, _ => none
  | n + 1, a5, a6, a7, u, x355, x347 => un (gI u 50) fun v1 => if a7 < v1 then (ld u 49 a7 fun v2 => ld u 1 v2 fun v3 => if v3 = 15 then (cl (call 7 [v2, 0] u) fun v4 s5 => gd (keeps [1] u s5 = true) (ld s5 1 v4 fun v6 => if v6 = 9 then (jn (fun (a5 a6 a7 a9 : Int) (s8 : Sg) => cl (call 7 [a9, 0] s8) fun v9 s10 => cl (call 76 [v9, a6] s10) fun v11 s12 => if v11 = 0 then (ar (a7 + 1) fun v13 => bX3_holds_L224 call n a5 a6 v13 s12 x355 x347) else (cl (call 7 [a9, 1] s12) fun v14 s15 => cl (call 76 [v14, a5] s15) fun v16 s17 => if v16 = 0 then (ar (a7 + 1) fun v18 => bX3_holds_L224 call n a5 a6 v18 s17 x355 x347) else (x347 s17))) fun j7 => cl (call 7 [v2, 0] s5) fun v19 s20 => cl (call 7 [v19, 0] s20) fun v21 s22 => cl (call 76 [v21, a5] s22) fun v23 s24 => if v23 = 0 then (j7 a5 a6 a7 v19 s24) else (cl (call 7 [v19, 1] s24) fun v25 s26 => cl (call 76 [v25, a6] s26) fun v27 s28 => if v27 = 0 then (j7 a5 a6 a7 v19 s28) else (x347 s28))) else (ar (a7 + 1) fun v29 => bX3_holds_L224 call n a5 a6 v29 s5 x355 x347))) else (ar (a7 + 1) fun v30 => bX3_holds_L224 call n a5 a6 v30 u x355 x347)) else (x355 u)
def bX3_holds (call : Nat → List Int → Sg → Option (Int × Sg)) (a1 : Int) (u : Sg) : Option (Int × Sg) := ld u 1 a1 fun v1 => if v1 = 8 then (some (1, u)) else (if v1 = 16 then (bX3_holds_L23 call KF a1 0 u (fun s2 => some (1, s2)) (fun s3 => some (0, s3))) else (jn (fun (a1 t0 : Int) (s5 : Sg) => jn (fun (a1 a3 t0 : Int) (s7 : Sg) => ld s7 1 t0 fun v8 => if v8 = 16 then (bX3_holds_L101 call KF t0 0 s7 (fun s9 => some (0, s9)) (fun s10 => some (1, s10))) else (if v8 = 17 then (jn (fun (s12 : Sg) => some (0, s12)) fun j11 => un (gL s7 51 : Int) fun v13 => if a1 < v13 then (ld s7 51 a1 fun v14 => un (gI s7 54) fun v15 => if v14 = v15 then (some (1, s7)) else (j11 s7)) else (j11 s7)) else (if v8 = 8 then (some (0, s7)) else (if v8 = 9 then (cl (call 7 [t0, 0] s7) fun v16 s17 => cl (call 7 [t0, 1] s17) fun v18 s19 => if a3 = 0 then (cl (call 76 [v16, v18] s19) fun v20 s21 => some (v20, s21)) else (bX3_holds_L224 call KF v16 v18 0 s19 (fun s22 => some (0, s22)) (fun s23 => some (1, s23)))) else (if v8 = 12 then (jn (fun (s25 : Sg) => some (0, s25)) fun j24 => cl (call 7 [t0, 1] s7) fun v26 s27 => cl (call 66 [v26] s27) fun v28 s29 => if v28 < 0 then (j24 s29) else (jn (fun (t1 t2 t3 : Int) (s31 : Sg) => ar (t2 + t3) fun v32 => cl (call 72 [t1, v32] s31) fun v33 s34 => if v33 = 0 then (j24 s34) else (some (1, s34))) fun j30 => cl (call 7 [t0, 0] s29) fun v35 s36 => ar (2 * v35) fun v37 => if a3 = 0 then (j30 v28 v37 0 s36) else (j30 v28 v37 1 s36))) else (jn (fun (a3 a4 : Int) (s39 : Sg) => cl (call 101 [a4, a3] s39) fun v40 s41 => some (v40, s41)) fun j38 => if v8 = 13 then (if a3 = 0 then (jn (fun (s43 : Sg) => some (0, s43)) fun j42 => cl (call 7 [t0, 2] s7) fun v44 s45 => cl (call 66 [v44] s45) fun v46 s47 => if v46 < 0 then (j42 s47) else (cl (call 7 [t0, 0] s47) fun v48 s49 => cl (call 7 [t0, 1] s49) fun v50 s51 => cl (call 75 [v46, v48, v50] s51) fun v52 s53 => if v52 = 0 then (j42 s53) else (some (1, s53)))) else (j38 a3 t0 s7)) else (j38 a3 t0 s7))))))) fun j6 => if t0 = 0 then (j6 a1 t0 a1 s5) else (cl (call 7 [a1, 0] s5) fun v54 s55 => j6 a1 t0 v54 s55)) fun j4 => if v1 = 15 then (j4 a1 1 u) else (j4 a1 0 u)))
section
variable {p : Program} {l : Launch} {e : Env} {R : Room} {s : State} {m : MethodId} {args : Array Value} {below : List Frame} {meth : Method} {c : Code} {G : Gm} {A : Nat → Prop} {ad0 : Nat → Nat} {σ0 : Sg} {d : Nat} {call : Nat → List Int → Sg → Option (Int × Sg)}
theorem wX3_holds_L23 (hd : 2 ≤ d) (hRf : d + 1 ≤ R.frames) (hRl : 40 * (d + 1) ≤ R.locals) (hX3_get : ∀ (a1 a2 : Int) (u : Sg), Ct l d FT clA yX3_get cX3_get 3 (some .int) DX3_get rvI [vR 0, vI a1, vI a2] u (call 7 [a1, a2] u)) (hX3_holds : ∀ (a1 : Int) (u : Sg), Ct l d FT clA yX3_holds cX3_holds 10 (some .boolean) DX3_holds rvI [vR 0, vI a1] u (call 100 [a1] u)) (hX3_not : ∀ (a1 : Int) (u : Sg), Ct l d FT clA yX3_not cX3_not 2 (some .int) DX3_not rvI [vR 0, vI a1] u (call 36 [a1] u)) (hX3_equal : ∀ (a1 a2 : Int) (u : Sg), Ct l d FT clA yX3_equal cX3_equal 5 (some .boolean) DX3_equal rvI [vR 0, vI a1, vI a2] u (call 76 [a1, a2] u)) (hX3_indexOf : ∀ (a1 : Int) (u : Sg), Ct l d FT clA yX3_indexOf cX3_indexOf 2 (some .int) DX3_indexOf rvI [vR 0, vI a1] u (call 66 [a1] u)) (hX3_hasAdj : ∀ (a1 a2 : Int) (u : Sg), Ct l d FT clA yX3_hasAdj cX3_hasAdj 4 (some .boolean) DX3_hasAdj rvI [vR 0, vI a1, vI a2] u (call 72 [a1, a2] u)) (hX3_isKnownAtom : ∀ (a1 a2 : Int) (u : Sg), Ct l d FT clA yX3_isKnownAtom cX3_isKnownAtom 6 (some .boolean) DX3_isKnownAtom rvI [vR 0, vI a1, vI a2] u (call 101 [a1, a2] u)) (hX3_hasHere : ∀ (a1 a2 a3 : Int) (u : Sg), Ct l d FT clA yX3_hasHere cX3_hasHere 5 (some .boolean) DX3_hasHere rvI [vR 0, vI a1, vI a2, vI a3] u (call 75 [a1, a2, a3] u)) (x54 : Sg → Option (Int × Sg)) (x46 : Sg → Option (Int × Sg)) (hx54 : ∀ (u : Sg), WG p l e R s m args below meth c JX3_holds DX3_holds G clA A FT ad0 σ0 rvI (x54 u) u 54 [] []) (hx46 : ∀ (u : Sg), WG p l e R s m args below meth c JX3_holds DX3_holds G clA A FT ad0 σ0 rvI (x46 u) u 46 [] []) : ∀ (n : Nat) (a1 a3 : Int) (u : Sg), inR a1 → inR a3 → WG p l e R s m args below meth c JX3_holds DX3_holds G clA A FT ad0 σ0 rvI (bX3_holds_L23 call n a1 a3 u x54 x46) u 23 [(0, vR 0), (1, vI a1), (3, vI a3)] [] := by
  intro n
  induction n with
  | zero =>
    intro a1 a3 u ra1 ra3
    exact g_none
  | succ n ih =>
    intro a1 a3 u ra1 ra3
    rw [bX3_holds_L23]
    refine g_iload_n 2 dX3_holds_23 rfl ?_
    refine g_aload_n 0 dX3_holds_24 rfl ?_
    refine g_get (v := vR 13) (ci := 2) (b := 0) (N := 83) 3 rfl rfl (by decide) in_X3 rfl rfl q1135 dX3_holds_25 ?_
    refine g_iload_n 1 dX3_holds_28 rfl ?_
    refine g_iald (id := 3) 2 rfl rfl dX3_holds_29 (fun v1 rv1 => ?_)
    refine g_icmp_ge 54 dX3_holds_30 (by decide) (fun _ => ra3) (fun _ => rv1) (fun _ => ?_) (fun _ => ?_)
    · refine g_aload_n 0 dX3_holds_33 rfl ?_
      refine g_aload_n 0 dX3_holds_34 rfl ?_
      refine g_iload_n 1 dX3_holds_35 rfl ?_
      refine g_iload_n 2 dX3_holds_36 rfl ?_
      refine g_cVI (As := [vI a1, vI a3]) (n := 2) (stk := [vR 0]) (ci := 2) (b := 0) (N := 83) (hX3_get a1 a3 u) (by decide +kernel) rfl rfl (lw_V q1116 q1118 qs76 q168 q1119) (by decide +kernel) rfl (by decide) hRf hRl (fun _ => (avc ra1 (avc ra3 avn))) (Nat.le_of_ble_eq_true rfl) rfl rfl dX3_holds_37 (fun v2 s3 rv2 => ?_)
      refine g_cVZ (As := [vI v2]) (n := 1) (stk := []) (ci := 2) (b := 0) (N := 83) (hX3_holds v2 s3) (by decide +kernel) rfl rfl (lw_V q1742 q1744 qs149 q168 q1745) (by decide +kernel) rfl (by decide) hRf hRl (fun _ => (avc rv2 avn)) (Nat.le_of_ble_eq_true rfl) rfl rfl dX3_holds_40 (fun v4 s5 zv4 => ?_)
      refine g_if_ne 48 dX3_holds_43 (by decide) (fun _ => (inR_z zv4)) (fun _ => ?_) (fun _ => ?_)
      · exact g_pick [] rfl (hx46 s5)
      · refine g_iinc 2 (loc' := fun v6 => [(3, vI v6), (0, vR 0), (1, vI a1)]) dX3_holds_48 rfl (by decide) (fun _ => rfl) (fun v6 rv6 => ?_)
        refine g_goto 23 dX3_holds_51 (by decide) ?_
        exact g_pick [1, 2, 0] rfl (ih a1 v6 s5 ra1 rv6)
    · exact g_pick [] rfl (hx54 u)
theorem wX3_holds_L101 (hd : 2 ≤ d) (hRf : d + 1 ≤ R.frames) (hRl : 40 * (d + 1) ≤ R.locals) (hX3_get : ∀ (a1 a2 : Int) (u : Sg), Ct l d FT clA yX3_get cX3_get 3 (some .int) DX3_get rvI [vR 0, vI a1, vI a2] u (call 7 [a1, a2] u)) (hX3_holds : ∀ (a1 : Int) (u : Sg), Ct l d FT clA yX3_holds cX3_holds 10 (some .boolean) DX3_holds rvI [vR 0, vI a1] u (call 100 [a1] u)) (hX3_not : ∀ (a1 : Int) (u : Sg), Ct l d FT clA yX3_not cX3_not 2 (some .int) DX3_not rvI [vR 0, vI a1] u (call 36 [a1] u)) (hX3_equal : ∀ (a1 a2 : Int) (u : Sg), Ct l d FT clA yX3_equal cX3_equal 5 (some .boolean) DX3_equal rvI [vR 0, vI a1, vI a2] u (call 76 [a1, a2] u)) (hX3_indexOf : ∀ (a1 : Int) (u : Sg), Ct l d FT clA yX3_indexOf cX3_indexOf 2 (some .int) DX3_indexOf rvI [vR 0, vI a1] u (call 66 [a1] u)) (hX3_hasAdj : ∀ (a1 a2 : Int) (u : Sg), Ct l d FT clA yX3_hasAdj cX3_hasAdj 4 (some .boolean) DX3_hasAdj rvI [vR 0, vI a1, vI a2] u (call 72 [a1, a2] u)) (hX3_isKnownAtom : ∀ (a1 a2 : Int) (u : Sg), Ct l d FT clA yX3_isKnownAtom cX3_isKnownAtom 6 (some .boolean) DX3_isKnownAtom rvI [vR 0, vI a1, vI a2] u (call 101 [a1, a2] u)) (hX3_hasHere : ∀ (a1 a2 a3 : Int) (u : Sg), Ct l d FT clA yX3_hasHere cX3_hasHere 5 (some .boolean) DX3_hasHere rvI [vR 0, vI a1, vI a2, vI a3] u (call 75 [a1, a2, a3] u)) (x140 : Sg → Option (Int × Sg)) (x132 : Sg → Option (Int × Sg)) (hx140 : ∀ (u : Sg), WG p l e R s m args below meth c JX3_holds DX3_holds G clA A FT ad0 σ0 rvI (x140 u) u 140 [] []) (hx132 : ∀ (u : Sg), WG p l e R s m args below meth c JX3_holds DX3_holds G clA A FT ad0 σ0 rvI (x132 u) u 132 [] []) : ∀ (n : Nat) (a4 a5 : Int) (u : Sg), inR a4 → inR a5 → WG p l e R s m args below meth c JX3_holds DX3_holds G clA A FT ad0 σ0 rvI (bX3_holds_L101 call n a4 a5 u x140 x132) u 101 [(0, vR 0), (4, vI a4), (5, vI a5)] [] := by
  intro n
  induction n with
  | zero =>
    intro a4 a5 u ra4 ra5
    exact g_none
  | succ n ih =>
    intro a4 a5 u ra4 ra5
    rw [bX3_holds_L101]
    refine g_iload 2 dX3_holds_101 rfl ?_
    refine g_aload_n 0 dX3_holds_103 rfl ?_
    refine g_get (v := vR 13) (ci := 2) (b := 0) (N := 83) 3 rfl rfl (by decide) in_X3 rfl rfl q1135 dX3_holds_104 ?_
    refine g_iload 1 dX3_holds_107 rfl ?_
    refine g_iald (id := 3) 2 rfl rfl dX3_holds_109 (fun v1 rv1 => ?_)
    refine g_icmp_ge 140 dX3_holds_110 (by decide) (fun _ => ra5) (fun _ => rv1) (fun _ => ?_) (fun _ => ?_)
    · refine g_aload_n 0 dX3_holds_113 rfl ?_
      refine g_aload_n 0 dX3_holds_114 rfl ?_
      refine g_aload_n 0 dX3_holds_115 rfl ?_
      refine g_iload 1 dX3_holds_116 rfl ?_
      refine g_iload 2 dX3_holds_118 rfl ?_
      refine g_cVI (As := [vI a4, vI a5]) (n := 2) (stk := [vR 0, vR 0]) (ci := 2) (b := 0) (N := 83) (hX3_get a4 a5 u) (by decide +kernel) rfl rfl (lw_V q1116 q1118 qs76 q168 q1119) (by decide +kernel) rfl (by decide) hRf hRl (fun _ => (avc ra4 (avc ra5 avn))) (Nat.le_of_ble_eq_true rfl) rfl rfl dX3_holds_120 (fun v2 s3 rv2 => ?_)
      refine g_cVI (As := [vI v2]) (n := 1) (stk := [vR 0]) (ci := 2) (b := 0) (N := 83) (hX3_not v2 s3) (by decide +kernel) rfl rfl (lw_V q1483 q1485 qs93 q168 q1486) (by decide +kernel) rfl (by decide) hRf hRl (fun _ => (avc rv2 avn)) (Nat.le_of_ble_eq_true rfl) rfl rfl dX3_holds_123 (fun v4 s5 rv4 => ?_)
      refine g_cVZ (As := [vI v4]) (n := 1) (stk := []) (ci := 2) (b := 0) (N := 83) (hX3_holds v4 s5) (by decide +kernel) rfl rfl (lw_V q1742 q1744 qs149 q168 q1745) (by decide +kernel) rfl (by decide) hRf hRl (fun _ => (avc rv4 avn)) (Nat.le_of_ble_eq_true rfl) rfl rfl dX3_holds_126 (fun v6 s7 zv6 => ?_)
      refine g_if_eq 134 dX3_holds_129 (by decide) (fun _ => (inR_z zv6)) (fun _ => ?_) (fun _ => ?_)
      · refine g_iinc 2 (loc' := fun v8 => [(5, vI v8), (0, vR 0), (4, vI a4)]) dX3_holds_134 rfl (by decide) (fun _ => rfl) (fun v8 rv8 => ?_)
        refine g_goto 101 dX3_holds_137 (by decide) ?_
        exact g_pick [1, 2, 0] rfl (ih a4 v8 s7 ra4 rv8)
      · exact g_pick [] rfl (hx132 s7)
    · exact g_pick [] rfl (hx140 u)
theorem wX3_holds_L224 (hd : 2 ≤ d) (hRf : d + 1 ≤ R.frames) (hRl : 40 * (d + 1) ≤ R.locals) (hX3_get : ∀ (a1 a2 : Int) (u : Sg), Ct l d FT clA yX3_get cX3_get 3 (some .int) DX3_get rvI [vR 0, vI a1, vI a2] u (call 7 [a1, a2] u)) (hX3_holds : ∀ (a1 : Int) (u : Sg), Ct l d FT clA yX3_holds cX3_holds 10 (some .boolean) DX3_holds rvI [vR 0, vI a1] u (call 100 [a1] u)) (hX3_not : ∀ (a1 : Int) (u : Sg), Ct l d FT clA yX3_not cX3_not 2 (some .int) DX3_not rvI [vR 0, vI a1] u (call 36 [a1] u)) (hX3_equal : ∀ (a1 a2 : Int) (u : Sg), Ct l d FT clA yX3_equal cX3_equal 5 (some .boolean) DX3_equal rvI [vR 0, vI a1, vI a2] u (call 76 [a1, a2] u)) (hX3_indexOf : ∀ (a1 : Int) (u : Sg), Ct l d FT clA yX3_indexOf cX3_indexOf 2 (some .int) DX3_indexOf rvI [vR 0, vI a1] u (call 66 [a1] u)) (hX3_hasAdj : ∀ (a1 a2 : Int) (u : Sg), Ct l d FT clA yX3_hasAdj cX3_hasAdj 4 (some .boolean) DX3_hasAdj rvI [vR 0, vI a1, vI a2] u (call 72 [a1, a2] u)) (hX3_isKnownAtom : ∀ (a1 a2 : Int) (u : Sg), Ct l d FT clA yX3_isKnownAtom cX3_isKnownAtom 6 (some .boolean) DX3_isKnownAtom rvI [vR 0, vI a1, vI a2] u (call 101 [a1, a2] u)) (hX3_hasHere : ∀ (a1 a2 a3 : Int) (u : Sg), Ct l d FT clA yX3_hasHere cX3_hasHere 5 (some .boolean) DX3_hasHere rvI [vR 0, vI a1, vI a2, vI a3] u (call 75 [a1, a2, a3] u)) (x355 : Sg → Option (Int × Sg)) (x347 : Sg → Option (Int × Sg)) (hx355 : ∀ (u : Sg), WG p l e R s m args below meth c JX3_holds DX3_holds G clA A FT ad0 σ0 rvI (x355 u) u 355 [] []) (hx347 : ∀ (u : Sg), WG p l e R s m args below meth c JX3_holds DX3_holds G clA A FT ad0 σ0 rvI (x347 u) u 347 [] []) : ∀ (n : Nat) (a5 a6 a7 : Int) (u : Sg), inR a5 → inR a6 → inR a7 → WG p l e R s m args below meth c JX3_holds DX3_holds G clA A FT ad0 σ0 rvI (bX3_holds_L224 call n a5 a6 a7 u x355 x347) u 224 [(0, vR 0), (5, vI a5), (6, vI a6), (7, vI a7)] [] := by
  intro n
  induction n with
  | zero =>
    intro a5 a6 a7 u ra5 ra6 ra7
    exact g_none
  | succ n ih =>
    intro a5 a6 a7 u ra5 ra6 ra7
    rw [bX3_holds_L224]
    refine g_iload 3 dX3_holds_224 rfl ?_
    refine g_aload_n 0 dX3_holds_226 rfl ?_
    refine g_getI (ci := 2) (b := 0) (N := 83) 50 rfl rfl rfl (by decide) in_X3 rfl rfl q1182 dX3_holds_227 (fun v1 rv1 => ?_)
    refine g_icmp_ge 355 dX3_holds_230 (by decide) (fun _ => ra7) (fun _ => rv1) (fun _ => ?_) (fun _ => ?_)
    · refine g_aload_n 0 dX3_holds_233 rfl ?_
      refine g_get (v := vR 59) (ci := 2) (b := 0) (N := 83) 49 rfl rfl (by decide) in_X3 rfl rfl q1181 dX3_holds_234 ?_
      refine g_iload 3 dX3_holds_237 rfl ?_
      refine g_iald (id := 49) 35 rfl rfl dX3_holds_239 (fun v2 rv2 => ?_)
      refine g_istore (loc' := [(8, vI v2), (0, vR 0), (5, vI a5), (6, vI a6), (7, vI a7)]) dX3_holds_240 (by decide) rfl ?_
      refine g_aload_n 1 dX3_holds_242 rfl ?_
      refine g_get (v := vR 11) (ci := 2) (b := 0) (N := 83) 1 rfl rfl (by decide) in_X3 rfl rfl q1133 dX3_holds_243 ?_
      refine g_iload 0 dX3_holds_246 rfl ?_
      refine g_iald (id := 1) 0 rfl rfl dX3_holds_248 (fun v3 rv3 => ?_)
      refine g_bipush (by decide +kernel) dX3_holds_249 ?_
      refine g_icmp_ne 349 dX3_holds_251 (by decide) (fun _ => rv3) (fun _ => (by decide : inR (15))) (fun _ => ?_) (fun _ => ?_)
      · refine g_aload_n 1 dX3_holds_254 rfl ?_
        refine g_get (v := vR 11) (ci := 2) (b := 0) (N := 83) 1 rfl rfl (by decide) in_X3 rfl rfl q1133 dX3_holds_255 ?_
        refine g_aload_n 1 dX3_holds_258 rfl ?_
        refine g_iload 0 dX3_holds_259 rfl ?_
        refine g_iconst dX3_holds_261 ?_
        refine g_cVIk [1] (As := [vI v2, vI 0]) (n := 2) (stk := [vR 11]) (ci := 2) (b := 0) (N := 83) (hX3_get v2 0 u) (by decide +kernel) rfl rfl (lw_V q1116 q1118 qs76 q168 q1119) (by decide +kernel) rfl (by decide) hRf hRl (fun _ => (avc rv2 (avc (inR_z (Or.inl rfl)) avn))) (Nat.le_of_ble_eq_true rfl) rfl rfl dX3_holds_262 (fun v4 s5 rv4 => ?_)
        refine g_iald (id := 1) 0 rfl rfl dX3_holds_265 (fun v6 rv6 => ?_)
        refine g_bipush (by decide +kernel) dX3_holds_266 ?_
        refine g_icmp_eq 274 dX3_holds_268 (by decide) (fun _ => rv6) (fun _ => (by decide : inR (9))) (fun _ => ?_) (fun _ => ?_)
        · refine g_jn (fun j7 => ∀ (a5 a6 a7 a9 : Int) (s8 : Sg), inR a5 → inR a6 → inR a7 → inR a9 → WG p l e R s m args below meth c JX3_holds DX3_holds G clA A FT ad0 σ0 rvI (j7 a5 a6 a7 a9 s8) s8 315 [(0, vR 0), (5, vI a5), (6, vI a6), (7, vI a7), (9, vI a9)] []) (fun a5 a6 a7 a9 s8 ra5 ra6 ra7 ra9 => ?_) (fun j7 hj7 => ?_)
          · refine g_aload_n 0 dX3_holds_315 rfl ?_
            refine g_aload_n 0 dX3_holds_316 rfl ?_
            refine g_iload 4 dX3_holds_317 rfl ?_
            refine g_iconst dX3_holds_319 ?_
            refine g_cVI (As := [vI a9, vI 0]) (n := 2) (stk := [vR 0]) (ci := 2) (b := 0) (N := 83) (hX3_get a9 0 s8) (by decide +kernel) rfl rfl (lw_V q1116 q1118 qs76 q168 q1119) (by decide +kernel) rfl (by decide) hRf hRl (fun _ => (avc ra9 (avc (inR_z (Or.inl rfl)) avn))) (Nat.le_of_ble_eq_true rfl) rfl rfl dX3_holds_320 (fun v9 s10 rv9 => ?_)
            refine g_iload 2 dX3_holds_323 rfl ?_
            refine g_cVZ (As := [vI v9, vI a6]) (n := 2) (stk := []) (ci := 2) (b := 0) (N := 83) (hX3_equal v9 a6 s10) (by decide +kernel) rfl rfl (lw_V q1646 q1648 qs125 q168 q1649) (by decide +kernel) rfl (by decide) hRf hRl (fun _ => (avc rv9 (avc ra6 avn))) (Nat.le_of_ble_eq_true rfl) rfl rfl dX3_holds_325 (fun v11 s12 zv11 => ?_)
            refine g_if_eq 349 dX3_holds_328 (by decide) (fun _ => (inR_z zv11)) (fun _ => ?_) (fun _ => ?_)
            · refine g_iinc 3 (loc' := fun v13 => [(7, vI v13), (0, vR 0), (5, vI a5), (6, vI a6), (9, vI a9)]) dX3_holds_349 rfl (by decide) (fun _ => rfl) (fun v13 rv13 => ?_)
              refine g_goto 224 dX3_holds_352 (by decide) ?_
              exact g_pick [1, 2, 3, 0] rfl (ih a5 a6 v13 s12 ra5 ra6 rv13)
            · refine g_aload_n 0 dX3_holds_331 rfl ?_
              refine g_aload_n 0 dX3_holds_332 rfl ?_
              refine g_iload 4 dX3_holds_333 rfl ?_
              refine g_iconst dX3_holds_335 ?_
              refine g_cVI (As := [vI a9, vI 1]) (n := 2) (stk := [vR 0]) (ci := 2) (b := 0) (N := 83) (hX3_get a9 1 s12) (by decide +kernel) rfl rfl (lw_V q1116 q1118 qs76 q168 q1119) (by decide +kernel) rfl (by decide) hRf hRl (fun _ => (avc ra9 (avc (inR_z (Or.inr rfl)) avn))) (Nat.le_of_ble_eq_true rfl) rfl rfl dX3_holds_336 (fun v14 s15 rv14 => ?_)
              refine g_iload 1 dX3_holds_339 rfl ?_
              refine g_cVZ (As := [vI v14, vI a5]) (n := 2) (stk := []) (ci := 2) (b := 0) (N := 83) (hX3_equal v14 a5 s15) (by decide +kernel) rfl rfl (lw_V q1646 q1648 qs125 q168 q1649) (by decide +kernel) rfl (by decide) hRf hRl (fun _ => (avc rv14 (avc ra5 avn))) (Nat.le_of_ble_eq_true rfl) rfl rfl dX3_holds_341 (fun v16 s17 zv16 => ?_)
              refine g_if_eq 349 dX3_holds_344 (by decide) (fun _ => (inR_z zv16)) (fun _ => ?_) (fun _ => ?_)
              · refine g_iinc 3 (loc' := fun v18 => [(7, vI v18), (0, vR 0), (5, vI a5), (6, vI a6), (9, vI a9)]) dX3_holds_349 rfl (by decide) (fun _ => rfl) (fun v18 rv18 => ?_)
                refine g_goto 224 dX3_holds_352 (by decide) ?_
                exact g_pick [1, 2, 3, 0] rfl (ih a5 a6 v18 s17 ra5 ra6 rv18)
              · exact g_pick [] rfl (hx347 s17)
          · refine g_aload_n 1 dX3_holds_274 rfl ?_
            refine g_iload 0 dX3_holds_275 rfl ?_
            refine g_iconst dX3_holds_277 ?_
            refine g_cVI (As := [vI v2, vI 0]) (n := 2) (stk := []) (ci := 2) (b := 0) (N := 83) (hX3_get v2 0 s5) (by decide +kernel) rfl rfl (lw_V q1116 q1118 qs76 q168 q1119) (by decide +kernel) rfl (by decide) hRf hRl (fun _ => (avc rv2 (avc (inR_z (Or.inl rfl)) avn))) (Nat.le_of_ble_eq_true rfl) rfl rfl dX3_holds_278 (fun v19 s20 rv19 => ?_)
            refine g_istore (loc' := [(9, vI v19), (8, vI v2), (0, vR 0), (5, vI a5), (6, vI a6), (7, vI a7)]) dX3_holds_281 (by decide) rfl ?_
            refine g_aload_n 2 dX3_holds_283 rfl ?_
            refine g_aload_n 2 dX3_holds_284 rfl ?_
            refine g_iload 0 dX3_holds_285 rfl ?_
            refine g_iconst dX3_holds_287 ?_
            refine g_cVI (As := [vI v19, vI 0]) (n := 2) (stk := [vR 0]) (ci := 2) (b := 0) (N := 83) (hX3_get v19 0 s20) (by decide +kernel) rfl rfl (lw_V q1116 q1118 qs76 q168 q1119) (by decide +kernel) rfl (by decide) hRf hRl (fun _ => (avc rv19 (avc (inR_z (Or.inl rfl)) avn))) (Nat.le_of_ble_eq_true rfl) rfl rfl dX3_holds_288 (fun v21 s22 rv21 => ?_)
            refine g_iload 3 dX3_holds_291 rfl ?_
            refine g_cVZ (As := [vI v21, vI a5]) (n := 2) (stk := []) (ci := 2) (b := 0) (N := 83) (hX3_equal v21 a5 s22) (by decide +kernel) rfl rfl (lw_V q1646 q1648 qs125 q168 q1649) (by decide +kernel) rfl (by decide) hRf hRl (fun _ => (avc rv21 (avc ra5 avn))) (Nat.le_of_ble_eq_true rfl) rfl rfl dX3_holds_293 (fun v23 s24 zv23 => ?_)
            refine g_if_eq 315 dX3_holds_296 (by decide) (fun _ => (inR_z zv23)) (fun _ => ?_) (fun _ => ?_)
            · exact g_pick [2, 3, 4, 5, 0] rfl (hj7 a5 a6 a7 v19 s24 ra5 ra6 ra7 rv19)
            · refine g_aload_n 2 dX3_holds_299 rfl ?_
              refine g_aload_n 2 dX3_holds_300 rfl ?_
              refine g_iload 0 dX3_holds_301 rfl ?_
              refine g_iconst dX3_holds_303 ?_
              refine g_cVI (As := [vI v19, vI 1]) (n := 2) (stk := [vR 0]) (ci := 2) (b := 0) (N := 83) (hX3_get v19 1 s24) (by decide +kernel) rfl rfl (lw_V q1116 q1118 qs76 q168 q1119) (by decide +kernel) rfl (by decide) hRf hRl (fun _ => (avc rv19 (avc (inR_z (Or.inr rfl)) avn))) (Nat.le_of_ble_eq_true rfl) rfl rfl dX3_holds_304 (fun v25 s26 rv25 => ?_)
              refine g_iload 4 dX3_holds_307 rfl ?_
              refine g_cVZ (As := [vI v25, vI a6]) (n := 2) (stk := []) (ci := 2) (b := 0) (N := 83) (hX3_equal v25 a6 s26) (by decide +kernel) rfl rfl (lw_V q1646 q1648 qs125 q168 q1649) (by decide +kernel) rfl (by decide) hRf hRl (fun _ => (avc rv25 (avc ra6 avn))) (Nat.le_of_ble_eq_true rfl) rfl rfl dX3_holds_309 (fun v27 s28 zv27 => ?_)
              refine g_if_ne 347 dX3_holds_312 (by decide) (fun _ => (inR_z zv27)) (fun _ => ?_) (fun _ => ?_)
              · exact g_pick [2, 3, 4, 5, 0] rfl (hj7 a5 a6 a7 v19 s28 ra5 ra6 ra7 rv19)
              · exact g_pick [] rfl (hx347 s28)
        · refine g_goto 349 dX3_holds_271 (by decide) ?_
          refine g_iinc 4 (loc' := fun v29 => [(7, vI v29), (8, vI v2), (0, vR 0), (5, vI a5), (6, vI a6)]) dX3_holds_349 rfl (by decide) (fun _ => rfl) (fun v29 rv29 => ?_)
          refine g_goto 224 dX3_holds_352 (by decide) ?_
          exact g_pick [2, 3, 4, 0] rfl (ih a5 a6 v29 s5 ra5 ra6 rv29)
      · refine g_iinc 4 (loc' := fun v30 => [(7, vI v30), (8, vI v2), (0, vR 0), (5, vI a5), (6, vI a6)]) dX3_holds_349 rfl (by decide) (fun _ => rfl) (fun v30 rv30 => ?_)
        refine g_goto 224 dX3_holds_352 (by decide) ?_
        exact g_pick [2, 3, 4, 0] rfl (ih a5 a6 v30 u ra5 ra6 rv30)
    · exact g_pick [] rfl (hx355 u)
theorem wX3_holds (hd : 2 ≤ d) (hRf : d + 1 ≤ R.frames) (hRl : 40 * (d + 1) ≤ R.locals) (hX3_get : ∀ (a1 a2 : Int) (u : Sg), Ct l d FT clA yX3_get cX3_get 3 (some .int) DX3_get rvI [vR 0, vI a1, vI a2] u (call 7 [a1, a2] u)) (hX3_holds : ∀ (a1 : Int) (u : Sg), Ct l d FT clA yX3_holds cX3_holds 10 (some .boolean) DX3_holds rvI [vR 0, vI a1] u (call 100 [a1] u)) (hX3_not : ∀ (a1 : Int) (u : Sg), Ct l d FT clA yX3_not cX3_not 2 (some .int) DX3_not rvI [vR 0, vI a1] u (call 36 [a1] u)) (hX3_equal : ∀ (a1 a2 : Int) (u : Sg), Ct l d FT clA yX3_equal cX3_equal 5 (some .boolean) DX3_equal rvI [vR 0, vI a1, vI a2] u (call 76 [a1, a2] u)) (hX3_indexOf : ∀ (a1 : Int) (u : Sg), Ct l d FT clA yX3_indexOf cX3_indexOf 2 (some .int) DX3_indexOf rvI [vR 0, vI a1] u (call 66 [a1] u)) (hX3_hasAdj : ∀ (a1 a2 : Int) (u : Sg), Ct l d FT clA yX3_hasAdj cX3_hasAdj 4 (some .boolean) DX3_hasAdj rvI [vR 0, vI a1, vI a2] u (call 72 [a1, a2] u)) (hX3_isKnownAtom : ∀ (a1 a2 : Int) (u : Sg), Ct l d FT clA yX3_isKnownAtom cX3_isKnownAtom 6 (some .boolean) DX3_isKnownAtom rvI [vR 0, vI a1, vI a2] u (call 101 [a1, a2] u)) (hX3_hasHere : ∀ (a1 a2 a3 : Int) (u : Sg), Ct l d FT clA yX3_hasHere cX3_hasHere 5 (some .boolean) DX3_hasHere rvI [vR 0, vI a1, vI a2, vI a3] u (call 75 [a1, a2, a3] u)) (a1 : Int) (u : Sg) (ra1 : inR a1) : WG p l e R s m args below meth c JX3_holds DX3_holds G clA A FT ad0 σ0 rvI (bX3_holds call a1 u) u 0 [(0, vR 0), (1, vI a1)] [] := by
  unfold bX3_holds
  refine g_aload_n 0 dX3_holds_0 rfl ?_
  refine g_get (v := vR 11) (ci := 2) (b := 0) (N := 83) 1 rfl rfl (by decide) in_X3 rfl rfl q1133 dX3_holds_1 ?_
  refine g_iload_n 1 dX3_holds_4 rfl ?_
  refine g_iald (id := 1) 0 rfl rfl dX3_holds_5 (fun v1 rv1 => ?_)
  refine g_istore_n (loc' := [(2, vI v1), (0, vR 0), (1, vI a1)]) dX3_holds_6 (by decide) rfl ?_
  refine g_iload_n 0 dX3_holds_7 rfl ?_
  refine g_bipush (by decide +kernel) dX3_holds_8 ?_
  refine g_icmp_ne 15 dX3_holds_10 (by decide) (fun _ => rv1) (fun _ => (by decide : inR (8))) (fun _ => ?_) (fun _ => ?_)
  · refine g_iconst dX3_holds_13 ?_
    exact g_zret rfl rfl (fun _ => (Or.inr rfl)) dX3_holds_14
  · refine g_iload_n 0 dX3_holds_15 rfl ?_
    refine g_bipush (by decide +kernel) dX3_holds_16 ?_
    refine g_icmp_ne 56 dX3_holds_18 (by decide) (fun _ => rv1) (fun _ => (by decide : inR (16))) (fun _ => ?_) (fun _ => ?_)
    · refine g_iconst dX3_holds_21 ?_
      refine g_istore_n (loc' := [(3, vI 0), (2, vI v1), (0, vR 0), (1, vI a1)]) dX3_holds_22 (by decide) rfl ?_
      refine g_pick [2, 3, 0] rfl (wX3_holds_L23 hd hRf hRl hX3_get hX3_holds hX3_not hX3_equal hX3_indexOf hX3_hasAdj hX3_isKnownAtom hX3_hasHere _ _ (fun s2 => ?_) (fun s3 => ?_) KF a1 0 u ra1 (inR_z (Or.inl rfl)))
      · refine g_iconst dX3_holds_54 ?_
        exact g_zret rfl rfl (fun _ => (Or.inr rfl)) dX3_holds_55
      · refine g_iconst dX3_holds_46 ?_
        exact g_zret rfl rfl (fun _ => (Or.inl rfl)) dX3_holds_47
    · refine g_jn (fun j4 => ∀ (a1 t0 : Int) (s5 : Sg), inR a1 → (t0 = 0 ∨ t0 = 1) → WG p l e R s m args below meth c JX3_holds DX3_holds G clA A FT ad0 σ0 rvI (j4 a1 t0 s5) s5 67 [(0, vR 0), (1, vI a1)] [vI t0]) (fun a1 t0 s5 ra1 zt0 => ?_) (fun j4 hj4 => ?_)
      · refine g_jn (fun j6 => ∀ (a1 a3 t0 : Int) (s7 : Sg), inR a1 → (a3 = 0 ∨ a3 = 1) → inR t0 → WG p l e R s m args below meth c JX3_holds DX3_holds G clA A FT ad0 σ0 rvI (j6 a1 a3 t0 s7) s7 82 [(0, vR 0), (1, vI a1), (3, vI a3)] [vI t0]) (fun a1 a3 t0 s7 ra1 za3 rt0 => ?_) (fun j6 hj6 => ?_)
        · refine g_istore (loc' := [(4, vI t0), (0, vR 0), (1, vI a1), (3, vI a3)]) dX3_holds_82 (by decide) rfl ?_
          refine g_aload_n 1 dX3_holds_84 rfl ?_
          refine g_get (v := vR 11) (ci := 2) (b := 0) (N := 83) 1 rfl rfl (by decide) in_X3 rfl rfl q1133 dX3_holds_85 ?_
          refine g_iload 0 dX3_holds_88 rfl ?_
          refine g_iald (id := 1) 0 rfl rfl dX3_holds_90 (fun v8 rv8 => ?_)
          refine g_istore_n (loc' := [(2, vI v8), (4, vI t0), (0, vR 0), (1, vI a1), (3, vI a3)]) dX3_holds_91 (by decide) rfl ?_
          refine g_iload_n 0 dX3_holds_92 rfl ?_
          refine g_bipush (by decide +kernel) dX3_holds_93 ?_
          refine g_icmp_ne 142 dX3_holds_95 (by decide) (fun _ => rv8) (fun _ => (by decide : inR (16))) (fun _ => ?_) (fun _ => ?_)
          · refine g_iconst dX3_holds_98 ?_
            refine g_istore (loc' := [(5, vI 0), (2, vI v8), (4, vI t0), (0, vR 0), (1, vI a1), (3, vI a3)]) dX3_holds_99 (by decide) rfl ?_
            refine g_pick [3, 2, 0] rfl (wX3_holds_L101 hd hRf hRl hX3_get hX3_holds hX3_not hX3_equal hX3_indexOf hX3_hasAdj hX3_isKnownAtom hX3_hasHere _ _ (fun s9 => ?_) (fun s10 => ?_) KF t0 0 s7 rt0 (inR_z (Or.inl rfl)))
            · refine g_iconst dX3_holds_140 ?_
              exact g_zret rfl rfl (fun _ => (Or.inl rfl)) dX3_holds_141
            · refine g_iconst dX3_holds_132 ?_
              exact g_zret rfl rfl (fun _ => (Or.inr rfl)) dX3_holds_133
          · refine g_iload_n 0 dX3_holds_142 rfl ?_
            refine g_bipush (by decide +kernel) dX3_holds_143 ?_
            refine g_icmp_ne 176 dX3_holds_145 (by decide) (fun _ => rv8) (fun _ => (by decide : inR (17))) (fun _ => ?_) (fun _ => ?_)
            · refine g_jn (fun j11 => ∀ (s12 : Sg), WG p l e R s m args below meth c JX3_holds DX3_holds G clA A FT ad0 σ0 rvI (j11 s12) s12 174 [] []) (fun s12 => ?_) (fun j11 hj11 => ?_)
              · refine g_iconst dX3_holds_174 ?_
                exact g_zret rfl rfl (fun _ => (Or.inl rfl)) dX3_holds_175
              · refine g_iload_n 3 dX3_holds_148 rfl ?_
                refine g_aload_n 2 dX3_holds_149 rfl ?_
                refine g_get (v := vR 61) (ci := 2) (b := 0) (N := 83) 51 rfl rfl (by decide) in_X3 rfl rfl q1183 dX3_holds_150 ?_
                refine g_alenU (id := 51) 36 rfl (Or.inl rfl) dX3_holds_153 (fun v13 rv13 => ?_)
                refine g_icmp_ge 174 dX3_holds_154 (by decide) (fun _ => ra1) (fun _ => rv13) (fun _ => ?_) (fun _ => ?_)
                · refine g_aload_n 2 dX3_holds_157 rfl ?_
                  refine g_get (v := vR 61) (ci := 2) (b := 0) (N := 83) 51 rfl rfl (by decide) in_X3 rfl rfl q1183 dX3_holds_158 ?_
                  refine g_iload_n 3 dX3_holds_161 rfl ?_
                  refine g_iald (id := 51) 36 rfl rfl dX3_holds_162 (fun v14 rv14 => ?_)
                  refine g_aload_n 2 dX3_holds_163 rfl ?_
                  refine g_getI (ci := 2) (b := 0) (N := 83) 54 rfl rfl rfl (by decide) in_X3 rfl rfl q1186 dX3_holds_164 (fun v15 rv15 => ?_)
                  refine g_icmp_ne 174 dX3_holds_167 (by decide) (fun _ => rv14) (fun _ => rv15) (fun _ => ?_) (fun _ => ?_)
                  · refine g_iconst dX3_holds_170 ?_
                    refine g_goto 175 dX3_holds_171 (by decide) ?_
                    exact g_zret rfl rfl (fun _ => (Or.inr rfl)) dX3_holds_175
                  · exact g_pick [] rfl (hj11 s7)
                · exact g_pick [] rfl (hj11 s7)
            · refine g_iload_n 0 dX3_holds_176 rfl ?_
              refine g_bipush (by decide +kernel) dX3_holds_177 ?_
              refine g_icmp_ne 184 dX3_holds_179 (by decide) (fun _ => rv8) (fun _ => (by decide : inR (8))) (fun _ => ?_) (fun _ => ?_)
              · refine g_iconst dX3_holds_182 ?_
                exact g_zret rfl rfl (fun _ => (Or.inl rfl)) dX3_holds_183
              · refine g_iload_n 0 dX3_holds_184 rfl ?_
                refine g_bipush (by decide +kernel) dX3_holds_185 ?_
                refine g_icmp_ne 357 dX3_holds_187 (by decide) (fun _ => rv8) (fun _ => (by decide : inR (9))) (fun _ => ?_) (fun _ => ?_)
                · refine g_aload_n 2 dX3_holds_190 rfl ?_
                  refine g_iload 1 dX3_holds_191 rfl ?_
                  refine g_iconst dX3_holds_193 ?_
                  refine g_cVI (As := [vI t0, vI 0]) (n := 2) (stk := []) (ci := 2) (b := 0) (N := 83) (hX3_get t0 0 s7) (by decide +kernel) rfl rfl (lw_V q1116 q1118 qs76 q168 q1119) (by decide +kernel) rfl (by decide) hRf hRl (fun _ => (avc rt0 (avc (inR_z (Or.inl rfl)) avn))) (Nat.le_of_ble_eq_true rfl) rfl rfl dX3_holds_194 (fun v16 s17 rv16 => ?_)
                  refine g_istore (loc' := [(5, vI v16), (2, vI v8), (4, vI t0), (0, vR 0), (1, vI a1), (3, vI a3)]) dX3_holds_197 (by decide) rfl ?_
                  refine g_aload_n 3 dX3_holds_199 rfl ?_
                  refine g_iload 2 dX3_holds_200 rfl ?_
                  refine g_iconst dX3_holds_202 ?_
                  refine g_cVI (As := [vI t0, vI 1]) (n := 2) (stk := []) (ci := 2) (b := 0) (N := 83) (hX3_get t0 1 s17) (by decide +kernel) rfl rfl (lw_V q1116 q1118 qs76 q168 q1119) (by decide +kernel) rfl (by decide) hRf hRl (fun _ => (avc rt0 (avc (inR_z (Or.inr rfl)) avn))) (Nat.le_of_ble_eq_true rfl) rfl rfl dX3_holds_203 (fun v18 s19 rv18 => ?_)
                  refine g_istore (loc' := [(6, vI v18), (5, vI v16), (2, vI v8), (4, vI t0), (0, vR 0), (1, vI a1), (3, vI a3)]) dX3_holds_206 (by decide) rfl ?_
                  refine g_iload_n 6 dX3_holds_208 rfl ?_
                  refine g_if_ne 221 dX3_holds_209 (by decide) (fun _ => (inR_z za3)) (fun _ => ?_) (fun _ => ?_)
                  · refine g_aload_n 4 dX3_holds_212 rfl ?_
                    refine g_iload 1 dX3_holds_213 rfl ?_
                    refine g_iload 0 dX3_holds_215 rfl ?_
                    refine g_cVZ (As := [vI v16, vI v18]) (n := 2) (stk := []) (ci := 2) (b := 0) (N := 83) (hX3_equal v16 v18 s19) (by decide +kernel) rfl rfl (lw_V q1646 q1648 qs125 q168 q1649) (by decide +kernel) rfl (by decide) hRf hRl (fun _ => (avc rv16 (avc rv18 avn))) (Nat.le_of_ble_eq_true rfl) rfl rfl dX3_holds_217 (fun v20 s21 zv20 => ?_)
                    exact g_zret rfl rfl (fun _ => zv20) dX3_holds_220
                  · refine g_iconst dX3_holds_221 ?_
                    refine g_istore (loc' := [(7, vI 0), (6, vI v18), (5, vI v16), (2, vI v8), (4, vI t0), (0, vR 0), (1, vI a1), (3, vI a3)]) dX3_holds_222 (by decide) rfl ?_
                    refine g_pick [5, 2, 1, 0] rfl (wX3_holds_L224 hd hRf hRl hX3_get hX3_holds hX3_not hX3_equal hX3_indexOf hX3_hasAdj hX3_isKnownAtom hX3_hasHere _ _ (fun s22 => ?_) (fun s23 => ?_) KF v16 v18 0 s19 rv16 rv18 (inR_z (Or.inl rfl)))
                    · refine g_iconst dX3_holds_355 ?_
                      exact g_zret rfl rfl (fun _ => (Or.inl rfl)) dX3_holds_356
                    · refine g_iconst dX3_holds_347 ?_
                      exact g_zret rfl rfl (fun _ => (Or.inr rfl)) dX3_holds_348
                · refine g_iload_n 0 dX3_holds_357 rfl ?_
                  refine g_bipush (by decide +kernel) dX3_holds_358 ?_
                  refine g_icmp_ne 415 dX3_holds_360 (by decide) (fun _ => rv8) (fun _ => (by decide : inR (12))) (fun _ => ?_) (fun _ => ?_)
                  · refine g_jn (fun j24 => ∀ (s25 : Sg), WG p l e R s m args below meth c JX3_holds DX3_holds G clA A FT ad0 σ0 rvI (j24 s25) s25 413 [] []) (fun s25 => ?_) (fun j24 hj24 => ?_)
                    · refine g_iconst dX3_holds_413 ?_
                      exact g_zret rfl rfl (fun _ => (Or.inl rfl)) dX3_holds_414
                    · refine g_aload_n 2 dX3_holds_363 rfl ?_
                      refine g_aload_n 2 dX3_holds_364 rfl ?_
                      refine g_iload 1 dX3_holds_365 rfl ?_
                      refine g_iconst dX3_holds_367 ?_
                      refine g_cVI (As := [vI t0, vI 1]) (n := 2) (stk := [vR 0]) (ci := 2) (b := 0) (N := 83) (hX3_get t0 1 s7) (by decide +kernel) rfl rfl (lw_V q1116 q1118 qs76 q168 q1119) (by decide +kernel) rfl (by decide) hRf hRl (fun _ => (avc rt0 (avc (inR_z (Or.inr rfl)) avn))) (Nat.le_of_ble_eq_true rfl) rfl rfl dX3_holds_368 (fun v26 s27 rv26 => ?_)
                      refine g_cVI (As := [vI v26]) (n := 1) (stk := []) (ci := 2) (b := 0) (N := 83) (hX3_indexOf v26 s27) (by decide +kernel) rfl rfl (lw_V q1606 q1608 qs115 q168 q1609) (by decide +kernel) rfl (by decide) hRf hRl (fun _ => (avc rv26 avn)) (Nat.le_of_ble_eq_true rfl) rfl rfl dX3_holds_371 (fun v28 s29 rv28 => ?_)
                      refine g_istore (loc' := [(5, vI v28), (2, vI v8), (4, vI t0), (0, vR 0), (1, vI a1), (3, vI a3)]) dX3_holds_374 (by decide) rfl ?_
                      refine g_iload 0 dX3_holds_376 rfl ?_
                      refine g_if_lt 413 dX3_holds_378 (by decide) (fun _ => rv28) (fun _ => ?_) (fun _ => ?_)
                      · exact g_pick [] rfl (hj24 s29)
                      · refine g_jn (fun j30 => ∀ (t1 t2 t3 : Int) (s31 : Sg), inR t1 → inR t2 → (t3 = 0 ∨ t3 = 1) → WG p l e R s m args below meth c JX3_holds DX3_holds G clA A FT ad0 σ0 rvI (j30 t1 t2 t3 s31) s31 402 [] [vI t3, vI t2, vI t1, vR 0]) (fun t1 t2 t3 s31 rt1 rt2 zt3 => ?_) (fun j30 hj30 => ?_)
                        · refine g_iadd dX3_holds_402 (fun v32 rv32 => ?_)
                          refine g_cVZ (As := [vI t1, vI v32]) (n := 2) (stk := []) (ci := 2) (b := 0) (N := 83) (hX3_hasAdj t1 v32 s31) (by decide +kernel) rfl rfl (lw_V q1630 q1632 qs121 q168 q1633) (by decide +kernel) rfl (by decide) hRf hRl (fun _ => (avc rt1 (avc rv32 avn))) (Nat.le_of_ble_eq_true rfl) rfl rfl dX3_holds_403 (fun v33 s34 zv33 => ?_)
                          refine g_if_eq 413 dX3_holds_406 (by decide) (fun _ => (inR_z zv33)) (fun _ => ?_) (fun _ => ?_)
                          · exact g_pick [] rfl (hj24 s34)
                          · refine g_iconst dX3_holds_409 ?_
                            refine g_goto 414 dX3_holds_410 (by decide) ?_
                            exact g_zret rfl rfl (fun _ => (Or.inr rfl)) dX3_holds_414
                        · refine g_aload_n 3 dX3_holds_381 rfl ?_
                          refine g_iload 0 dX3_holds_382 rfl ?_
                          refine g_iconst dX3_holds_384 ?_
                          refine g_aload_n 3 dX3_holds_385 rfl ?_
                          refine g_iload 2 dX3_holds_386 rfl ?_
                          refine g_iconst dX3_holds_388 ?_
                          refine g_cVI (As := [vI t0, vI 0]) (n := 2) (stk := [vI 2, vI v28, vR 0]) (ci := 2) (b := 0) (N := 83) (hX3_get t0 0 s29) (by decide +kernel) rfl rfl (lw_V q1116 q1118 qs76 q168 q1119) (by decide +kernel) rfl (by decide) hRf hRl (fun _ => (avc rt0 (avc (inR_z (Or.inl rfl)) avn))) (Nat.le_of_ble_eq_true rfl) rfl rfl dX3_holds_389 (fun v35 s36 rv35 => ?_)
                          refine g_imul dX3_holds_392 (fun v37 rv37 => ?_)
                          refine g_iload_n 5 dX3_holds_393 rfl ?_
                          refine g_if_eq 401 dX3_holds_394 (by decide) (fun _ => (inR_z za3)) (fun _ => ?_) (fun _ => ?_)
                          · refine g_iconst dX3_holds_401 ?_
                            exact g_pick [] rfl (hj30 v28 v37 0 s36 rv28 rv37 (Or.inl rfl))
                          · refine g_iconst dX3_holds_397 ?_
                            refine g_goto 402 dX3_holds_398 (by decide) ?_
                            exact g_pick [] rfl (hj30 v28 v37 1 s36 rv28 rv37 (Or.inr rfl))
                  · refine g_jn (fun j38 => ∀ (a3 a4 : Int) (s39 : Sg), (a3 = 0 ∨ a3 = 1) → inR a4 → WG p l e R s m args below meth c JX3_holds DX3_holds G clA A FT ad0 σ0 rvI (j38 a3 a4 s39) s39 472 [(0, vR 0), (3, vI a3), (4, vI a4)] []) (fun a3 a4 s39 za3 ra4 => ?_) (fun j38 hj38 => ?_)
                    · refine g_aload_n 0 dX3_holds_472 rfl ?_
                      refine g_iload 2 dX3_holds_473 rfl ?_
                      refine g_iload_n 1 dX3_holds_475 rfl ?_
                      refine g_cVZ (As := [vI a4, vI a3]) (n := 2) (stk := []) (ci := 2) (b := 0) (N := 83) (hX3_isKnownAtom a4 a3 s39) (by decide +kernel) rfl rfl (lw_V q1746 q1748 qs150 q168 q1749) (by decide +kernel) rfl (by decide) hRf hRl (fun _ => (avc ra4 (avc (inR_z za3) avn))) (Nat.le_of_ble_eq_true rfl) rfl rfl dX3_holds_476 (fun v40 s41 zv40 => ?_)
                      exact g_zret rfl rfl (fun _ => zv40) dX3_holds_479
                    · refine g_iload_n 0 dX3_holds_415 rfl ?_
                      refine g_bipush (by decide +kernel) dX3_holds_416 ?_
                      refine g_icmp_ne 472 dX3_holds_418 (by decide) (fun _ => rv8) (fun _ => (by decide : inR (13))) (fun _ => ?_) (fun _ => ?_)
                      · refine g_iload_n 4 dX3_holds_421 rfl ?_
                        refine g_if_ne 472 dX3_holds_422 (by decide) (fun _ => (inR_z za3)) (fun _ => ?_) (fun _ => ?_)
                        · refine g_jn (fun j42 => ∀ (s43 : Sg), WG p l e R s m args below meth c JX3_holds DX3_holds G clA A FT ad0 σ0 rvI (j42 s43) s43 470 [] []) (fun s43 => ?_) (fun j42 hj42 => ?_)
                          · refine g_iconst dX3_holds_470 ?_
                            exact g_zret rfl rfl (fun _ => (Or.inl rfl)) dX3_holds_471
                          · refine g_aload_n 2 dX3_holds_425 rfl ?_
                            refine g_aload_n 2 dX3_holds_426 rfl ?_
                            refine g_iload 1 dX3_holds_427 rfl ?_
                            refine g_iconst dX3_holds_429 ?_
                            refine g_cVI (As := [vI t0, vI 2]) (n := 2) (stk := [vR 0]) (ci := 2) (b := 0) (N := 83) (hX3_get t0 2 s7) (by decide +kernel) rfl rfl (lw_V q1116 q1118 qs76 q168 q1119) (by decide +kernel) rfl (by decide) hRf hRl (fun _ => (avc rt0 (avc (by decide : inR (2)) avn))) (Nat.le_of_ble_eq_true rfl) rfl rfl dX3_holds_430 (fun v44 s45 rv44 => ?_)
                            refine g_cVI (As := [vI v44]) (n := 1) (stk := []) (ci := 2) (b := 0) (N := 83) (hX3_indexOf v44 s45) (by decide +kernel) rfl rfl (lw_V q1606 q1608 qs115 q168 q1609) (by decide +kernel) rfl (by decide) hRf hRl (fun _ => (avc rv44 avn)) (Nat.le_of_ble_eq_true rfl) rfl rfl dX3_holds_433 (fun v46 s47 rv46 => ?_)
                            refine g_istore (loc' := [(5, vI v46), (2, vI v8), (4, vI t0), (0, vR 0), (1, vI a1), (3, vI a3)]) dX3_holds_436 (by decide) rfl ?_
                            refine g_iload 0 dX3_holds_438 rfl ?_
                            refine g_if_lt 470 dX3_holds_440 (by decide) (fun _ => rv46) (fun _ => ?_) (fun _ => ?_)
                            · exact g_pick [] rfl (hj42 s47)
                            · refine g_aload_n 3 dX3_holds_443 rfl ?_
                              refine g_iload 0 dX3_holds_444 rfl ?_
                              refine g_aload_n 3 dX3_holds_446 rfl ?_
                              refine g_iload 2 dX3_holds_447 rfl ?_
                              refine g_iconst dX3_holds_449 ?_
                              refine g_cVI (As := [vI t0, vI 0]) (n := 2) (stk := [vI v46, vR 0]) (ci := 2) (b := 0) (N := 83) (hX3_get t0 0 s47) (by decide +kernel) rfl rfl (lw_V q1116 q1118 qs76 q168 q1119) (by decide +kernel) rfl (by decide) hRf hRl (fun _ => (avc rt0 (avc (inR_z (Or.inl rfl)) avn))) (Nat.le_of_ble_eq_true rfl) rfl rfl dX3_holds_450 (fun v48 s49 rv48 => ?_)
                              refine g_aload_n 3 dX3_holds_453 rfl ?_
                              refine g_iload 2 dX3_holds_454 rfl ?_
                              refine g_iconst dX3_holds_456 ?_
                              refine g_cVI (As := [vI t0, vI 1]) (n := 2) (stk := [vI v48, vI v46, vR 0]) (ci := 2) (b := 0) (N := 83) (hX3_get t0 1 s49) (by decide +kernel) rfl rfl (lw_V q1116 q1118 qs76 q168 q1119) (by decide +kernel) rfl (by decide) hRf hRl (fun _ => (avc rt0 (avc (inR_z (Or.inr rfl)) avn))) (Nat.le_of_ble_eq_true rfl) rfl rfl dX3_holds_457 (fun v50 s51 rv50 => ?_)
                              refine g_cVZ (As := [vI v46, vI v48, vI v50]) (n := 3) (stk := []) (ci := 2) (b := 0) (N := 83) (hX3_hasHere v46 v48 v50 s51) (by decide +kernel) rfl rfl (lw_V q1642 q1644 qs124 q168 q1645) (by decide +kernel) rfl (by decide) hRf hRl (fun _ => (avc rv46 (avc rv48 (avc rv50 avn)))) (Nat.le_of_ble_eq_true rfl) rfl rfl dX3_holds_460 (fun v52 s53 zv52 => ?_)
                              refine g_if_eq 470 dX3_holds_463 (by decide) (fun _ => (inR_z zv52)) (fun _ => ?_) (fun _ => ?_)
                              · exact g_pick [] rfl (hj42 s53)
                              · refine g_iconst dX3_holds_466 ?_
                                refine g_goto 471 dX3_holds_467 (by decide) ?_
                                exact g_zret rfl rfl (fun _ => (Or.inr rfl)) dX3_holds_471
                        · exact g_pick [2, 4, 1] rfl (hj38 a3 t0 s7 za3 rt0)
                      · exact g_pick [2, 4, 1] rfl (hj38 a3 t0 s7 za3 rt0)
        · refine g_istore_n (loc' := [(3, vI t0), (0, vR 0), (1, vI a1)]) dX3_holds_67 (by decide) rfl ?_
          refine g_iload_n 0 dX3_holds_68 rfl ?_
          refine g_if_eq 81 dX3_holds_69 (by decide) (fun _ => (inR_z zt0)) (fun _ => ?_) (fun _ => ?_)
          · refine g_iload_n 2 dX3_holds_81 rfl ?_
            exact g_pick [1, 2, 0] rfl (hj6 a1 t0 a1 s5 ra1 zt0 ra1)
          · refine g_aload_n 1 dX3_holds_72 rfl ?_
            refine g_iload_n 2 dX3_holds_73 rfl ?_
            refine g_iconst dX3_holds_74 ?_
            refine g_cVI (As := [vI a1, vI 0]) (n := 2) (stk := []) (ci := 2) (b := 0) (N := 83) (hX3_get a1 0 s5) (by decide +kernel) rfl rfl (lw_V q1116 q1118 qs76 q168 q1119) (by decide +kernel) rfl (by decide) hRf hRl (fun _ => (avc ra1 (avc (inR_z (Or.inl rfl)) avn))) (Nat.le_of_ble_eq_true rfl) rfl rfl dX3_holds_75 (fun v54 s55 rv54 => ?_)
            refine g_goto 82 dX3_holds_78 (by decide) ?_
            exact g_pick [1, 2, 0] rfl (hj6 a1 t0 v54 s55 ra1 zt0 rv54)
      · refine g_iload_n 0 dX3_holds_56 rfl ?_
        refine g_bipush (by decide +kernel) dX3_holds_57 ?_
        refine g_icmp_ne 66 dX3_holds_59 (by decide) (fun _ => rv1) (fun _ => (by decide : inR (15))) (fun _ => ?_) (fun _ => ?_)
        · refine g_iconst dX3_holds_62 ?_
          refine g_goto 67 dX3_holds_63 (by decide) ?_
          exact g_pick [1, 2] rfl (hj4 a1 1 u ra1 (Or.inr rfl))
        · refine g_iconst dX3_holds_66 ?_
          exact g_pick [1, 2] rfl (hj4 a1 0 u ra1 (Or.inl rfl))
end
section
variable {l : Launch} {d : Nat} {call : Nat → List Int → Sg → Option (Int × Sg)}
theorem ctX3_holds (p0 : Program) (e0 : Env) (s0 : State) (m0 : MethodId) (meth0 : Method) (c0 : Code) (G0 : Gm) (hd : 2 ≤ d) (hX3_get : ∀ (a1 a2 : Int) (u : Sg), Ct l d FT clA yX3_get cX3_get 3 (some .int) DX3_get rvI [vR 0, vI a1, vI a2] u (call 7 [a1, a2] u)) (hX3_holds : ∀ (a1 : Int) (u : Sg), Ct l d FT clA yX3_holds cX3_holds 10 (some .boolean) DX3_holds rvI [vR 0, vI a1] u (call 100 [a1] u)) (hX3_not : ∀ (a1 : Int) (u : Sg), Ct l d FT clA yX3_not cX3_not 2 (some .int) DX3_not rvI [vR 0, vI a1] u (call 36 [a1] u)) (hX3_equal : ∀ (a1 a2 : Int) (u : Sg), Ct l d FT clA yX3_equal cX3_equal 5 (some .boolean) DX3_equal rvI [vR 0, vI a1, vI a2] u (call 76 [a1, a2] u)) (hX3_indexOf : ∀ (a1 : Int) (u : Sg), Ct l d FT clA yX3_indexOf cX3_indexOf 2 (some .int) DX3_indexOf rvI [vR 0, vI a1] u (call 66 [a1] u)) (hX3_hasAdj : ∀ (a1 a2 : Int) (u : Sg), Ct l d FT clA yX3_hasAdj cX3_hasAdj 4 (some .boolean) DX3_hasAdj rvI [vR 0, vI a1, vI a2] u (call 72 [a1, a2] u)) (hX3_isKnownAtom : ∀ (a1 a2 : Int) (u : Sg), Ct l d FT clA yX3_isKnownAtom cX3_isKnownAtom 6 (some .boolean) DX3_isKnownAtom rvI [vR 0, vI a1, vI a2] u (call 101 [a1, a2] u)) (hX3_hasHere : ∀ (a1 a2 a3 : Int) (u : Sg), Ct l d FT clA yX3_hasHere cX3_hasHere 5 (some .boolean) DX3_hasHere rvI [vR 0, vI a1, vI a2, vI a3] u (call 75 [a1, a2, a3] u)) (a1 : Int) (u : Sg) : Ct l (d + 1) FT clA yX3_holds cX3_holds 10 (some .boolean) DX3_holds rvI [vR 0, vI a1] u (bX3_holds call a1 u) :=
  Ct_of (by decide) (Nat.le_of_ble_eq_true rfl) (fun p e R s1 m args below meth c G A ad hA hRf hRl => wX3_holds hd hRf hRl hX3_get hX3_holds hX3_not hX3_equal hX3_indexOf hX3_hasAdj hX3_isKnownAtom hX3_hasHere a1 u (hA _ (List.mem_cons_of_mem _ List.mem_cons_self))) p0 e0 s0 m0 meth0 c0 G0
end
/-! RoundCheckModel.isKnownAtom(IZ)Z -/
abbrev JX3_isKnownAtom : Jm := (cX3_isKnownAtom, RX3, 6, (some .boolean))
def bX3_isKnownAtom_L2 (call : Nat → List Int → Sg → Option (Int × Sg)) : Nat → Int → Int → Int → Sg → (Sg → Option (Int × Sg)) → (Sg → Option (Int × Sg)) → Option (Int × Sg)
  | 0, _, _, _, _, _, _ => none
  | n + 1, a1, a2, a3, u, x87, x79 => un (gI u 50) fun v1 => if a3 < v1 then (jn (fun (a1 a2 a3 a4 t0 t1 : Int) (s3 : Sg) => if t0 = t1 then (jn (fun (a1 a2 a3 t0 : Int) (s5 : Sg) => cl (call 102 [t0] s5) fun v6 s7 => if v6 = 0 then (ar (a3 + 1) fun v8 => bX3_isKnownAtom_L2 call n a1 a2 v8 s7 x87 x79) else (cl (call 103 [t0, a1] s7) fun v9 s10 => if v9 = 0 then (ar (a3 + 1) fun v11 => bX3_isKnownAtom_L2 call n a1 a2 v11 s10 x87 x79) else (x79 s10))) fun j4 => if a2 = 0 then (j4 a1 a2 a3 a4 s3) else (cl (call 7 [a4, 0] s3) fun v12 s13 => j4 a1 a2 a3 v12 s13)) else (ar (a3 + 1) fun v14 => bX3_isKnownAtom_L2 call n a1 a2 v14 s3 x87 x79)) fun j2 => ld u 49 a3 fun v15 => ld u 1 v15 fun v16 => if v16 = 15 then (j2 a1 a2 a3 v15 a2 1 u) else (j2 a1 a2 a3 v15 a2 0 u)) else (x87 u)
def bX3_isKnownAtom (call : Nat → List Int → Sg → Option (Int × Sg)) (a1 a2 : Int) (u : Sg) : Option (Int × Sg) := gd (a2 = 0 ∨ a2 = 1) (bX3_isKnownAtom_L2 call KF a1 a2 0 u (fun s1 => some (0, s1)) (fun s2 => some (1, s2)))
section
variable {p : Program} {l : Launch} {e : Env} {R : Room} {s : State} {m : MethodId} {args : Array Value} {below : List Frame} {meth : Method} {c : Code} {G : Gm} {A : Nat → Prop} {ad0 : Nat → Nat} {σ0 : Sg} {d : Nat} {call : Nat → List Int → Sg → Option (Int × Sg)}
theorem wX3_isKnownAtom_L2 (hd : 2 ≤ d) (hRf : d + 1 ≤ R.frames) (hRl : 40 * (d + 1) ≤ R.locals) (hX3_isAtom : ∀ (a1 : Int) (u : Sg), Ct l d FT clA yX3_isAtom cX3_isAtom 2 (some .boolean) DX3_isAtom rvI [vR 0, vI a1] u (call 102 [a1] u)) (hX3_isAlike : ∀ (a1 a2 : Int) (u : Sg), Ct l d FT clA yX3_isAlike cX3_isAlike 5 (some .boolean) DX3_isAlike rvI [vR 0, vI a1, vI a2] u (call 103 [a1, a2] u)) (hX3_get : ∀ (a1 a2 : Int) (u : Sg), Ct l d FT clA yX3_get cX3_get 3 (some .int) DX3_get rvI [vR 0, vI a1, vI a2] u (call 7 [a1, a2] u)) (x87 : Sg → Option (Int × Sg)) (x79 : Sg → Option (Int × Sg)) (hx87 : ∀ (u : Sg), WG p l e R s m args below meth c JX3_isKnownAtom DX3_isKnownAtom G clA A FT ad0 σ0 rvI (x87 u) u 87 [] []) (hx79 : ∀ (u : Sg), WG p l e R s m args below meth c JX3_isKnownAtom DX3_isKnownAtom G clA A FT ad0 σ0 rvI (x79 u) u 79 [] []) : ∀ (n : Nat) (a1 a2 a3 : Int) (u : Sg), inR a1 → (a2 = 0 ∨ a2 = 1) → inR a3 → WG p l e R s m args below meth c JX3_isKnownAtom DX3_isKnownAtom G clA A FT ad0 σ0 rvI (bX3_isKnownAtom_L2 call n a1 a2 a3 u x87 x79) u 2 [(0, vR 0), (1, vI a1), (2, vI a2), (3, vI a3)] [] := by
  intro n
  induction n with
  | zero =>
    intro a1 a2 a3 u ra1 za2 ra3
    exact g_none
  | succ n ih =>
    intro a1 a2 a3 u ra1 za2 ra3
    rw [bX3_isKnownAtom_L2]
    refine g_iload_n 3 dX3_isKnownAtom_2 rfl ?_
    refine g_aload_n 0 dX3_isKnownAtom_3 rfl ?_
    refine g_getI (ci := 2) (b := 0) (N := 83) 50 rfl rfl rfl (by decide) in_X3 rfl rfl q1182 dX3_isKnownAtom_4 (fun v1 rv1 => ?_)
    refine g_icmp_ge 87 dX3_isKnownAtom_7 (by decide) (fun _ => ra3) (fun _ => rv1) (fun _ => ?_) (fun _ => ?_)
    · refine g_jn (fun j2 => ∀ (a1 a2 a3 a4 t0 t1 : Int) (s3 : Sg), inR a1 → (a2 = 0 ∨ a2 = 1) → inR a3 → inR a4 → (t0 = 0 ∨ t0 = 1) → (t1 = 0 ∨ t1 = 1) → WG p l e R s m args below meth c JX3_isKnownAtom DX3_isKnownAtom G clA A FT ad0 σ0 rvI (j2 a1 a2 a3 a4 t0 t1 s3) s3 36 [(0, vR 0), (1, vI a1), (2, vI a2), (3, vI a3), (4, vI a4)] [vI t1, vI t0]) (fun a1 a2 a3 a4 t0 t1 s3 ra1 za2 ra3 ra4 zt0 zt1 => ?_) (fun j2 hj2 => ?_)
      · refine g_icmp_eq 42 dX3_isKnownAtom_36 (by decide) (fun _ => (inR_z zt0)) (fun _ => (inR_z zt1)) (fun _ => ?_) (fun _ => ?_)
        · refine g_jn (fun j4 => ∀ (a1 a2 a3 t0 : Int) (s5 : Sg), inR a1 → (a2 = 0 ∨ a2 = 1) → inR a3 → inR t0 → WG p l e R s m args below meth c JX3_isKnownAtom DX3_isKnownAtom G clA A FT ad0 σ0 rvI (j4 a1 a2 a3 t0 s5) s5 58 [(0, vR 0), (1, vI a1), (2, vI a2), (3, vI a3)] [vI t0]) (fun a1 a2 a3 t0 s5 ra1 za2 ra3 rt0 => ?_) (fun j4 hj4 => ?_)
          · refine g_istore (loc' := [(5, vI t0), (0, vR 0), (1, vI a1), (2, vI a2), (3, vI a3)]) dX3_isKnownAtom_58 (by decide) rfl ?_
            refine g_aload_n 1 dX3_isKnownAtom_60 rfl ?_
            refine g_iload 0 dX3_isKnownAtom_61 rfl ?_
            refine g_cVZ (As := [vI t0]) (n := 1) (stk := []) (ci := 2) (b := 0) (N := 83) (hX3_isAtom t0 s5) (by decide +kernel) rfl rfl (lw_V q1750 q1752 qs151 q168 q1753) (by decide +kernel) rfl (by decide) hRf hRl (fun _ => (avc rt0 avn)) (Nat.le_of_ble_eq_true rfl) rfl rfl dX3_isKnownAtom_63 (fun v6 s7 zv6 => ?_)
            refine g_if_eq 81 dX3_isKnownAtom_66 (by decide) (fun _ => (inR_z zv6)) (fun _ => ?_) (fun _ => ?_)
            · refine g_iinc 4 (loc' := fun v8 => [(3, vI v8), (5, vI t0), (0, vR 0), (1, vI a1), (2, vI a2)]) dX3_isKnownAtom_81 rfl (by decide) (fun _ => rfl) (fun v8 rv8 => ?_)
              refine g_goto 2 dX3_isKnownAtom_84 (by decide) ?_
              exact g_pick [2, 3, 4, 0] rfl (ih a1 a2 v8 s7 ra1 za2 rv8)
            · refine g_aload_n 1 dX3_isKnownAtom_69 rfl ?_
              refine g_iload 0 dX3_isKnownAtom_70 rfl ?_
              refine g_iload_n 2 dX3_isKnownAtom_72 rfl ?_
              refine g_cVZ (As := [vI t0, vI a1]) (n := 2) (stk := []) (ci := 2) (b := 0) (N := 83) (hX3_isAlike t0 a1 s7) (by decide +kernel) rfl rfl (lw_V q1754 q1756 qs152 q168 q1757) (by decide +kernel) rfl (by decide) hRf hRl (fun _ => (avc rt0 (avc ra1 avn))) (Nat.le_of_ble_eq_true rfl) rfl rfl dX3_isKnownAtom_73 (fun v9 s10 zv9 => ?_)
              refine g_if_eq 81 dX3_isKnownAtom_76 (by decide) (fun _ => (inR_z zv9)) (fun _ => ?_) (fun _ => ?_)
              · refine g_iinc 4 (loc' := fun v11 => [(3, vI v11), (5, vI t0), (0, vR 0), (1, vI a1), (2, vI a2)]) dX3_isKnownAtom_81 rfl (by decide) (fun _ => rfl) (fun v11 rv11 => ?_)
                refine g_goto 2 dX3_isKnownAtom_84 (by decide) ?_
                exact g_pick [2, 3, 4, 0] rfl (ih a1 a2 v11 s10 ra1 za2 rv11)
              · exact g_pick [] rfl (hx79 s10)
          · refine g_iload_n 2 dX3_isKnownAtom_42 rfl ?_
            refine g_if_eq 56 dX3_isKnownAtom_43 (by decide) (fun _ => (inR_z za2)) (fun _ => ?_) (fun _ => ?_)
            · refine g_iload 4 dX3_isKnownAtom_56 rfl ?_
              exact g_pick [0, 1, 2, 3] rfl (hj4 a1 a2 a3 a4 s3 ra1 za2 ra3 ra4)
            · refine g_aload_n 0 dX3_isKnownAtom_46 rfl ?_
              refine g_iload 4 dX3_isKnownAtom_47 rfl ?_
              refine g_iconst dX3_isKnownAtom_49 ?_
              refine g_cVI (As := [vI a4, vI 0]) (n := 2) (stk := []) (ci := 2) (b := 0) (N := 83) (hX3_get a4 0 s3) (by decide +kernel) rfl rfl (lw_V q1116 q1118 qs76 q168 q1119) (by decide +kernel) rfl (by decide) hRf hRl (fun _ => (avc ra4 (avc (inR_z (Or.inl rfl)) avn))) (Nat.le_of_ble_eq_true rfl) rfl rfl dX3_isKnownAtom_50 (fun v12 s13 rv12 => ?_)
              refine g_goto 58 dX3_isKnownAtom_53 (by decide) ?_
              exact g_pick [0, 1, 2, 3] rfl (hj4 a1 a2 a3 v12 s13 ra1 za2 ra3 rv12)
        · refine g_goto 81 dX3_isKnownAtom_39 (by decide) ?_
          refine g_iinc 3 (loc' := fun v14 => [(3, vI v14), (0, vR 0), (1, vI a1), (2, vI a2), (4, vI a4)]) dX3_isKnownAtom_81 rfl (by decide) (fun _ => rfl) (fun v14 rv14 => ?_)
          refine g_goto 2 dX3_isKnownAtom_84 (by decide) ?_
          exact g_pick [1, 2, 3, 0] rfl (ih a1 a2 v14 s3 ra1 za2 rv14)
      · refine g_aload_n 0 dX3_isKnownAtom_10 rfl ?_
        refine g_get (v := vR 59) (ci := 2) (b := 0) (N := 83) 49 rfl rfl (by decide) in_X3 rfl rfl q1181 dX3_isKnownAtom_11 ?_
        refine g_iload_n 3 dX3_isKnownAtom_14 rfl ?_
        refine g_iald (id := 49) 35 rfl rfl dX3_isKnownAtom_15 (fun v15 rv15 => ?_)
        refine g_istore (loc' := [(4, vI v15), (0, vR 0), (1, vI a1), (2, vI a2), (3, vI a3)]) dX3_isKnownAtom_16 (by decide) rfl ?_
        refine g_iload_n 3 dX3_isKnownAtom_18 rfl ?_
        refine g_aload_n 1 dX3_isKnownAtom_19 rfl ?_
        refine g_get (v := vR 11) (ci := 2) (b := 0) (N := 83) 1 rfl rfl (by decide) in_X3 rfl rfl q1133 dX3_isKnownAtom_20 ?_
        refine g_iload 0 dX3_isKnownAtom_23 rfl ?_
        refine g_iald (id := 1) 0 rfl rfl dX3_isKnownAtom_25 (fun v16 rv16 => ?_)
        refine g_bipush (by decide +kernel) dX3_isKnownAtom_26 ?_
        refine g_icmp_ne 35 dX3_isKnownAtom_28 (by decide) (fun _ => rv16) (fun _ => (by decide : inR (15))) (fun _ => ?_) (fun _ => ?_)
        · refine g_iconst dX3_isKnownAtom_31 ?_
          refine g_goto 36 dX3_isKnownAtom_32 (by decide) ?_
          exact g_pick [1, 2, 3, 4, 0] rfl (hj2 a1 a2 a3 v15 a2 1 u ra1 za2 ra3 rv15 za2 (Or.inr rfl))
        · refine g_iconst dX3_isKnownAtom_35 ?_
          exact g_pick [1, 2, 3, 4, 0] rfl (hj2 a1 a2 a3 v15 a2 0 u ra1 za2 ra3 rv15 za2 (Or.inl rfl))
    · exact g_pick [] rfl (hx87 u)
theorem wX3_isKnownAtom (hd : 2 ≤ d) (hRf : d + 1 ≤ R.frames) (hRl : 40 * (d + 1) ≤ R.locals) (hX3_isAtom : ∀ (a1 : Int) (u : Sg), Ct l d FT clA yX3_isAtom cX3_isAtom 2 (some .boolean) DX3_isAtom rvI [vR 0, vI a1] u (call 102 [a1] u)) (hX3_isAlike : ∀ (a1 a2 : Int) (u : Sg), Ct l d FT clA yX3_isAlike cX3_isAlike 5 (some .boolean) DX3_isAlike rvI [vR 0, vI a1, vI a2] u (call 103 [a1, a2] u)) (hX3_get : ∀ (a1 a2 : Int) (u : Sg), Ct l d FT clA yX3_get cX3_get 3 (some .int) DX3_get rvI [vR 0, vI a1, vI a2] u (call 7 [a1, a2] u)) (a1 a2 : Int) (u : Sg) (ra1 : inR a1) (ra2 : inR a2) : WG p l e R s m args below meth c JX3_isKnownAtom DX3_isKnownAtom G clA A FT ad0 σ0 rvI (bX3_isKnownAtom call a1 a2 u) u 0 [(0, vR 0), (1, vI a1), (2, vI a2)] [] := by
  unfold bX3_isKnownAtom
  refine g_gd (fun za2 => ?_)
  refine g_iconst dX3_isKnownAtom_0 ?_
  refine g_istore_n (loc' := [(3, vI 0), (0, vR 0), (1, vI a1), (2, vI a2)]) dX3_isKnownAtom_1 (by decide) rfl ?_
  refine g_pick [1, 2, 3, 0] rfl (wX3_isKnownAtom_L2 hd hRf hRl hX3_isAtom hX3_isAlike hX3_get _ _ (fun s1 => ?_) (fun s2 => ?_) KF a1 a2 0 u ra1 za2 (inR_z (Or.inl rfl)))
  · refine g_iconst dX3_isKnownAtom_87 ?_
    exact g_zret rfl rfl (fun _ => (Or.inl rfl)) dX3_isKnownAtom_88
  · refine g_iconst dX3_isKnownAtom_79 ?_
    exact g_zret rfl rfl (fun _ => (Or.inr rfl)) dX3_isKnownAtom_80
end
section
variable {l : Launch} {d : Nat} {call : Nat → List Int → Sg → Option (Int × Sg)}
theorem ctX3_isKnownAtom (p0 : Program) (e0 : Env) (s0 : State) (m0 : MethodId) (meth0 : Method) (c0 : Code) (G0 : Gm) (hd : 2 ≤ d) (hX3_isAtom : ∀ (a1 : Int) (u : Sg), Ct l d FT clA yX3_isAtom cX3_isAtom 2 (some .boolean) DX3_isAtom rvI [vR 0, vI a1] u (call 102 [a1] u)) (hX3_isAlike : ∀ (a1 a2 : Int) (u : Sg), Ct l d FT clA yX3_isAlike cX3_isAlike 5 (some .boolean) DX3_isAlike rvI [vR 0, vI a1, vI a2] u (call 103 [a1, a2] u)) (hX3_get : ∀ (a1 a2 : Int) (u : Sg), Ct l d FT clA yX3_get cX3_get 3 (some .int) DX3_get rvI [vR 0, vI a1, vI a2] u (call 7 [a1, a2] u)) (a1 a2 : Int) (u : Sg) : Ct l (d + 1) FT clA yX3_isKnownAtom cX3_isKnownAtom 6 (some .boolean) DX3_isKnownAtom rvI [vR 0, vI a1, vI a2] u (bX3_isKnownAtom call a1 a2 u) :=
  Ct_of (by decide) (Nat.le_of_ble_eq_true rfl) (fun p e R s1 m args below meth c G A ad hA hRf hRl => wX3_isKnownAtom hd hRf hRl hX3_isAtom hX3_isAlike hX3_get a1 a2 u (hA _ (List.mem_cons_of_mem _ List.mem_cons_self)) (hA _ (List.mem_cons_of_mem _ (List.mem_cons_of_mem _ List.mem_cons_self)))) p0 e0 s0 m0 meth0 c0 G0
end
/-! RoundCheckModel.isAtom(I)Z -/
abbrev JX3_isAtom : Jm := (cX3_isAtom, RX3, 2, (some .boolean))
def bX3_isAtom (call : Nat → List Int → Sg → Option (Int × Sg)) (a1 : Int) (u : Sg) : Option (Int × Sg) := jn (fun (s2 : Sg) => some (0, s2)) fun j1 => ld u 1 a1 fun v3 => if v3 < 10 then (j1 u) else (ld u 1 a1 fun v4 => if v4 ≤ 14 then (some (1, u)) else (j1 u))
section
variable {p : Program} {l : Launch} {e : Env} {R : Room} {s : State} {m : MethodId} {args : Array Value} {below : List Frame} {meth : Method} {c : Code} {G : Gm} {A : Nat → Prop} {ad0 : Nat → Nat} {σ0 : Sg} {d : Nat} {call : Nat → List Int → Sg → Option (Int × Sg)}
theorem wX3_isAtom (hd : 2 ≤ d) (hRf : d + 1 ≤ R.frames) (hRl : 40 * (d + 1) ≤ R.locals) (a1 : Int) (u : Sg) (ra1 : inR a1) : WG p l e R s m args below meth c JX3_isAtom DX3_isAtom G clA A FT ad0 σ0 rvI (bX3_isAtom call a1 u) u 0 [(0, vR 0), (1, vI a1)] [] := by
  unfold bX3_isAtom
  refine g_jn (fun j1 => ∀ (s2 : Sg), WG p l e R s m args below meth c JX3_isAtom DX3_isAtom G clA A FT ad0 σ0 rvI (j1 s2) s2 26 [] []) (fun s2 => ?_) (fun j1 hj1 => ?_)
  · refine g_iconst dX3_isAtom_26 ?_
    exact g_zret rfl rfl (fun _ => (Or.inl rfl)) dX3_isAtom_27
  · refine g_aload_n 0 dX3_isAtom_0 rfl ?_
    refine g_get (v := vR 11) (ci := 2) (b := 0) (N := 83) 1 rfl rfl (by decide) in_X3 rfl rfl q1133 dX3_isAtom_1 ?_
    refine g_iload_n 1 dX3_isAtom_4 rfl ?_
    refine g_iald (id := 1) 0 rfl rfl dX3_isAtom_5 (fun v3 rv3 => ?_)
    refine g_bipush (by decide +kernel) dX3_isAtom_6 ?_
    refine g_icmp_lt 26 dX3_isAtom_8 (by decide) (fun _ => rv3) (fun _ => (by decide : inR (10))) (fun _ => ?_) (fun _ => ?_)
    · exact g_pick [] rfl (hj1 u)
    · refine g_aload_n 0 dX3_isAtom_11 rfl ?_
      refine g_get (v := vR 11) (ci := 2) (b := 0) (N := 83) 1 rfl rfl (by decide) in_X3 rfl rfl q1133 dX3_isAtom_12 ?_
      refine g_iload_n 1 dX3_isAtom_15 rfl ?_
      refine g_iald (id := 1) 0 rfl rfl dX3_isAtom_16 (fun v4 rv4 => ?_)
      refine g_bipush (by decide +kernel) dX3_isAtom_17 ?_
      refine g_icmp_gt 26 dX3_isAtom_19 (by decide) (fun _ => rv4) (fun _ => (by decide : inR (14))) (fun _ => ?_) (fun _ => ?_)
      · refine g_iconst dX3_isAtom_22 ?_
        refine g_goto 27 dX3_isAtom_23 (by decide) ?_
        exact g_zret rfl rfl (fun _ => (Or.inr rfl)) dX3_isAtom_27
      · exact g_pick [] rfl (hj1 u)
end
section
variable {l : Launch} {d : Nat} {call : Nat → List Int → Sg → Option (Int × Sg)}
theorem ctX3_isAtom (p0 : Program) (e0 : Env) (s0 : State) (m0 : MethodId) (meth0 : Method) (c0 : Code) (G0 : Gm) (hd : 2 ≤ d) (a1 : Int) (u : Sg) : Ct l (d + 1) FT clA yX3_isAtom cX3_isAtom 2 (some .boolean) DX3_isAtom rvI [vR 0, vI a1] u (bX3_isAtom call a1 u) :=
  Ct_of (by decide) (Nat.le_of_ble_eq_true rfl) (fun p e R s1 m args below meth c G A ad hA hRf hRl => wX3_isAtom hd hRf hRl a1 u (hA _ (List.mem_cons_of_mem _ List.mem_cons_self))) p0 e0 s0 m0 meth0 c0 G0
end
/-! RoundCheckModel.isAlike(II)Z -/
abbrev JX3_isAlike : Jm := (cX3_isAlike, RX3, 5, (some .boolean))
def bX3_isAlike_L37 (call : Nat → List Int → Sg → Option (Int × Sg)) : Nat → Int → Int → Int → Int → Sg → (Sg → Option (Int × Sg)) → (Sg → Option (Int × Sg)) → (Sg → Option (Int × Sg)) → Option (Int × Sg)
  | 0, _, _, _, _, _, _, _, _ => none
  | n + 1, a1, a2, a3, a4, u, x106, x74, x98 => ld u 3 a1 fun v1 => if a4 < v1 then (cl (call 8 [a3] u) fun v2 s3 => if a4 < v2 then (cl (call 7 [a1, a4] s3) fun v4 s5 => cl (call 7 [a2, a4] s5) fun v6 s7 => if v4 = v6 then (ar (a4 + 1) fun v8 => bX3_isAlike_L37 call n a1 a2 a3 v8 s7 x106 x74 x98) else (x74 s7)) else (cl (call 7 [a1, a4] s3) fun v9 s10 => cl (call 7 [a2, a4] s10) fun v11 s12 => cl (call 76 [v9, v11] s12) fun v13 s14 => if v13 = 0 then (x98 s14) else (ar (a4 + 1) fun v15 => bX3_isAlike_L37 call n a1 a2 a3 v15 s14 x106 x74 x98))) else (x106 u)
def bX3_isAlike (call : Nat → List Int → Sg → Option (Int × Sg)) (a1 a2 : Int) (u : Sg) : Option (Int × Sg) := ld u 1 a1 fun v1 => ld u 1 a2 fun v2 => if v1 = v2 then (ld u 3 a1 fun v3 => ld u 3 a2 fun v4 => if v3 = v4 then (bX3_isAlike_L37 call KF a1 a2 v1 0 u (fun s5 => some (1, s5)) (fun s6 => some (0, s6)) (fun s7 => some (0, s7))) else (some (0, u))) else (some (0, u))
section
variable {p : Program} {l : Launch} {e : Env} {R : Room} {s : State} {m : MethodId} {args : Array Value} {below : List Frame} {meth : Method} {c : Code} {G : Gm} {A : Nat → Prop} {ad0 : Nat → Nat} {σ0 : Sg} {d : Nat} {call : Nat → List Int → Sg → Option (Int × Sg)}
theorem wX3_isAlike_L37 (hd : 2 ≤ d) (hRf : d + 1 ≤ R.frames) (hRl : 40 * (d + 1) ≤ R.locals) (hX3_first : ∀ (a1 : Int) (u : Sg), Ct l d FT clA yX3_first cX3_first 1 (some .int) DX3_first rvI [vI a1] u (call 8 [a1] u)) (hX3_get : ∀ (a1 a2 : Int) (u : Sg), Ct l d FT clA yX3_get cX3_get 3 (some .int) DX3_get rvI [vR 0, vI a1, vI a2] u (call 7 [a1, a2] u)) (hX3_equal : ∀ (a1 a2 : Int) (u : Sg), Ct l d FT clA yX3_equal cX3_equal 5 (some .boolean) DX3_equal rvI [vR 0, vI a1, vI a2] u (call 76 [a1, a2] u)) (x106 : Sg → Option (Int × Sg)) (x74 : Sg → Option (Int × Sg)) (x98 : Sg → Option (Int × Sg)) (hx106 : ∀ (u : Sg), WG p l e R s m args below meth c JX3_isAlike DX3_isAlike G clA A FT ad0 σ0 rvI (x106 u) u 106 [] []) (hx74 : ∀ (u : Sg), WG p l e R s m args below meth c JX3_isAlike DX3_isAlike G clA A FT ad0 σ0 rvI (x74 u) u 74 [] []) (hx98 : ∀ (u : Sg), WG p l e R s m args below meth c JX3_isAlike DX3_isAlike G clA A FT ad0 σ0 rvI (x98 u) u 98 [] []) : ∀ (n : Nat) (a1 a2 a3 a4 : Int) (u : Sg), inR a1 → inR a2 → inR a3 → inR a4 → WG p l e R s m args below meth c JX3_isAlike DX3_isAlike G clA A FT ad0 σ0 rvI (bX3_isAlike_L37 call n a1 a2 a3 a4 u x106 x74 x98) u 37 [(0, vR 0), (1, vI a1), (2, vI a2), (3, vI a3), (4, vI a4)] [] := by
  intro n
  induction n with
  | zero =>
    intro a1 a2 a3 a4 u ra1 ra2 ra3 ra4
    exact g_none
  | succ n ih =>
    intro a1 a2 a3 a4 u ra1 ra2 ra3 ra4
    rw [bX3_isAlike_L37]
    refine g_iload 4 dX3_isAlike_37 rfl ?_
    refine g_aload_n 0 dX3_isAlike_39 rfl ?_
    refine g_get (v := vR 13) (ci := 2) (b := 0) (N := 83) 3 rfl rfl (by decide) in_X3 rfl rfl q1135 dX3_isAlike_40 ?_
    refine g_iload_n 1 dX3_isAlike_43 rfl ?_
    refine g_iald (id := 3) 2 rfl rfl dX3_isAlike_44 (fun v1 rv1 => ?_)
    refine g_icmp_ge 106 dX3_isAlike_45 (by decide) (fun _ => ra4) (fun _ => rv1) (fun _ => ?_) (fun _ => ?_)
    · refine g_iload 4 dX3_isAlike_48 rfl ?_
      refine g_iload_n 3 dX3_isAlike_50 rfl ?_
      refine g_cSI (As := [vI a3]) (n := 1) (stk := [vI a4]) (hX3_first a3 u) (by decide +kernel) (lw_S q1120 q1121 q168 q1122) (by decide +kernel) rfl (by decide) hRf hRl (fun _ => (avc ra3 avn)) (Nat.le_of_ble_eq_true rfl) rfl rfl dX3_isAlike_51 (fun v2 s3 rv2 => ?_)
      refine g_icmp_ge 77 dX3_isAlike_54 (by decide) (fun _ => ra4) (fun _ => rv2) (fun _ => ?_) (fun _ => ?_)
      · refine g_aload_n 0 dX3_isAlike_57 rfl ?_
        refine g_iload_n 1 dX3_isAlike_58 rfl ?_
        refine g_iload 4 dX3_isAlike_59 rfl ?_
        refine g_cVI (As := [vI a1, vI a4]) (n := 2) (stk := []) (ci := 2) (b := 0) (N := 83) (hX3_get a1 a4 s3) (by decide +kernel) rfl rfl (lw_V q1116 q1118 qs76 q168 q1119) (by decide +kernel) rfl (by decide) hRf hRl (fun _ => (avc ra1 (avc ra4 avn))) (Nat.le_of_ble_eq_true rfl) rfl rfl dX3_isAlike_61 (fun v4 s5 rv4 => ?_)
        refine g_aload_n 0 dX3_isAlike_64 rfl ?_
        refine g_iload_n 2 dX3_isAlike_65 rfl ?_
        refine g_iload 4 dX3_isAlike_66 rfl ?_
        refine g_cVI (As := [vI a2, vI a4]) (n := 2) (stk := [vI v4]) (ci := 2) (b := 0) (N := 83) (hX3_get a2 a4 s5) (by decide +kernel) rfl rfl (lw_V q1116 q1118 qs76 q168 q1119) (by decide +kernel) rfl (by decide) hRf hRl (fun _ => (avc ra2 (avc ra4 avn))) (Nat.le_of_ble_eq_true rfl) rfl rfl dX3_isAlike_68 (fun v6 s7 rv6 => ?_)
        refine g_icmp_eq 100 dX3_isAlike_71 (by decide) (fun _ => rv4) (fun _ => rv6) (fun _ => ?_) (fun _ => ?_)
        · refine g_iinc 4 (loc' := fun v8 => [(4, vI v8), (0, vR 0), (1, vI a1), (2, vI a2), (3, vI a3)]) dX3_isAlike_100 rfl (by decide) (fun _ => rfl) (fun v8 rv8 => ?_)
          refine g_goto 37 dX3_isAlike_103 (by decide) ?_
          exact g_pick [1, 2, 3, 4, 0] rfl (ih a1 a2 a3 v8 s7 ra1 ra2 ra3 rv8)
        · exact g_pick [] rfl (hx74 s7)
      · refine g_aload_n 0 dX3_isAlike_77 rfl ?_
        refine g_aload_n 0 dX3_isAlike_78 rfl ?_
        refine g_iload_n 1 dX3_isAlike_79 rfl ?_
        refine g_iload 4 dX3_isAlike_80 rfl ?_
        refine g_cVI (As := [vI a1, vI a4]) (n := 2) (stk := [vR 0]) (ci := 2) (b := 0) (N := 83) (hX3_get a1 a4 s3) (by decide +kernel) rfl rfl (lw_V q1116 q1118 qs76 q168 q1119) (by decide +kernel) rfl (by decide) hRf hRl (fun _ => (avc ra1 (avc ra4 avn))) (Nat.le_of_ble_eq_true rfl) rfl rfl dX3_isAlike_82 (fun v9 s10 rv9 => ?_)
        refine g_aload_n 0 dX3_isAlike_85 rfl ?_
        refine g_iload_n 2 dX3_isAlike_86 rfl ?_
        refine g_iload 4 dX3_isAlike_87 rfl ?_
        refine g_cVI (As := [vI a2, vI a4]) (n := 2) (stk := [vI v9, vR 0]) (ci := 2) (b := 0) (N := 83) (hX3_get a2 a4 s10) (by decide +kernel) rfl rfl (lw_V q1116 q1118 qs76 q168 q1119) (by decide +kernel) rfl (by decide) hRf hRl (fun _ => (avc ra2 (avc ra4 avn))) (Nat.le_of_ble_eq_true rfl) rfl rfl dX3_isAlike_89 (fun v11 s12 rv11 => ?_)
        refine g_cVZ (As := [vI v9, vI v11]) (n := 2) (stk := []) (ci := 2) (b := 0) (N := 83) (hX3_equal v9 v11 s12) (by decide +kernel) rfl rfl (lw_V q1646 q1648 qs125 q168 q1649) (by decide +kernel) rfl (by decide) hRf hRl (fun _ => (avc rv9 (avc rv11 avn))) (Nat.le_of_ble_eq_true rfl) rfl rfl dX3_isAlike_92 (fun v13 s14 zv13 => ?_)
        refine g_if_ne 100 dX3_isAlike_95 (by decide) (fun _ => (inR_z zv13)) (fun _ => ?_) (fun _ => ?_)
        · exact g_pick [] rfl (hx98 s14)
        · refine g_iinc 4 (loc' := fun v15 => [(4, vI v15), (0, vR 0), (1, vI a1), (2, vI a2), (3, vI a3)]) dX3_isAlike_100 rfl (by decide) (fun _ => rfl) (fun v15 rv15 => ?_)
          refine g_goto 37 dX3_isAlike_103 (by decide) ?_
          exact g_pick [1, 2, 3, 4, 0] rfl (ih a1 a2 a3 v15 s14 ra1 ra2 ra3 rv15)
    · exact g_pick [] rfl (hx106 u)
theorem wX3_isAlike (hd : 2 ≤ d) (hRf : d + 1 ≤ R.frames) (hRl : 40 * (d + 1) ≤ R.locals) (hX3_first : ∀ (a1 : Int) (u : Sg), Ct l d FT clA yX3_first cX3_first 1 (some .int) DX3_first rvI [vI a1] u (call 8 [a1] u)) (hX3_get : ∀ (a1 a2 : Int) (u : Sg), Ct l d FT clA yX3_get cX3_get 3 (some .int) DX3_get rvI [vR 0, vI a1, vI a2] u (call 7 [a1, a2] u)) (hX3_equal : ∀ (a1 a2 : Int) (u : Sg), Ct l d FT clA yX3_equal cX3_equal 5 (some .boolean) DX3_equal rvI [vR 0, vI a1, vI a2] u (call 76 [a1, a2] u)) (a1 a2 : Int) (u : Sg) (ra1 : inR a1) (ra2 : inR a2) : WG p l e R s m args below meth c JX3_isAlike DX3_isAlike G clA A FT ad0 σ0 rvI (bX3_isAlike call a1 a2 u) u 0 [(0, vR 0), (1, vI a1), (2, vI a2)] [] := by
  unfold bX3_isAlike
  refine g_aload_n 0 dX3_isAlike_0 rfl ?_
  refine g_get (v := vR 11) (ci := 2) (b := 0) (N := 83) 1 rfl rfl (by decide) in_X3 rfl rfl q1133 dX3_isAlike_1 ?_
  refine g_iload_n 1 dX3_isAlike_4 rfl ?_
  refine g_iald (id := 1) 0 rfl rfl dX3_isAlike_5 (fun v1 rv1 => ?_)
  refine g_istore_n (loc' := [(3, vI v1), (0, vR 0), (1, vI a1), (2, vI a2)]) dX3_isAlike_6 (by decide) rfl ?_
  refine g_iload_n 0 dX3_isAlike_7 rfl ?_
  refine g_aload_n 1 dX3_isAlike_8 rfl ?_
  refine g_get (v := vR 11) (ci := 2) (b := 0) (N := 83) 1 rfl rfl (by decide) in_X3 rfl rfl q1133 dX3_isAlike_9 ?_
  refine g_iload_n 3 dX3_isAlike_12 rfl ?_
  refine g_iald (id := 1) 0 rfl rfl dX3_isAlike_13 (fun v2 rv2 => ?_)
  refine g_icmp_ne 32 dX3_isAlike_14 (by decide) (fun _ => rv1) (fun _ => rv2) (fun _ => ?_) (fun _ => ?_)
  · refine g_aload_n 1 dX3_isAlike_17 rfl ?_
    refine g_get (v := vR 13) (ci := 2) (b := 0) (N := 83) 3 rfl rfl (by decide) in_X3 rfl rfl q1135 dX3_isAlike_18 ?_
    refine g_iload_n 2 dX3_isAlike_21 rfl ?_
    refine g_iald (id := 3) 2 rfl rfl dX3_isAlike_22 (fun v3 rv3 => ?_)
    refine g_aload_n 1 dX3_isAlike_23 rfl ?_
    refine g_get (v := vR 13) (ci := 2) (b := 0) (N := 83) 3 rfl rfl (by decide) in_X3 rfl rfl q1135 dX3_isAlike_24 ?_
    refine g_iload_n 3 dX3_isAlike_27 rfl ?_
    refine g_iald (id := 3) 2 rfl rfl dX3_isAlike_28 (fun v4 rv4 => ?_)
    refine g_icmp_eq 34 dX3_isAlike_29 (by decide) (fun _ => rv3) (fun _ => rv4) (fun _ => ?_) (fun _ => ?_)
    · refine g_iconst dX3_isAlike_34 ?_
      refine g_istore (loc' := [(4, vI 0), (3, vI v1), (0, vR 0), (1, vI a1), (2, vI a2)]) dX3_isAlike_35 (by decide) rfl ?_
      refine g_pick [2, 3, 4, 1, 0] rfl (wX3_isAlike_L37 hd hRf hRl hX3_first hX3_get hX3_equal _ _ _ (fun s5 => ?_) (fun s6 => ?_) (fun s7 => ?_) KF a1 a2 v1 0 u ra1 ra2 rv1 (inR_z (Or.inl rfl)))
      · refine g_iconst dX3_isAlike_106 ?_
        exact g_zret rfl rfl (fun _ => (Or.inr rfl)) dX3_isAlike_107
      · refine g_goto 98 dX3_isAlike_74 (by decide) ?_
        refine g_iconst dX3_isAlike_98 ?_
        exact g_zret rfl rfl (fun _ => (Or.inl rfl)) dX3_isAlike_99
      · refine g_iconst dX3_isAlike_98 ?_
        exact g_zret rfl rfl (fun _ => (Or.inl rfl)) dX3_isAlike_99
    · refine g_iconst dX3_isAlike_32 ?_
      exact g_zret rfl rfl (fun _ => (Or.inl rfl)) dX3_isAlike_33
  · refine g_iconst dX3_isAlike_32 ?_
    exact g_zret rfl rfl (fun _ => (Or.inl rfl)) dX3_isAlike_33
end
section
variable {l : Launch} {d : Nat} {call : Nat → List Int → Sg → Option (Int × Sg)}
theorem ctX3_isAlike (p0 : Program) (e0 : Env) (s0 : State) (m0 : MethodId) (meth0 : Method) (c0 : Code) (G0 : Gm) (hd : 2 ≤ d) (hX3_first : ∀ (a1 : Int) (u : Sg), Ct l d FT clA yX3_first cX3_first 1 (some .int) DX3_first rvI [vI a1] u (call 8 [a1] u)) (hX3_get : ∀ (a1 a2 : Int) (u : Sg), Ct l d FT clA yX3_get cX3_get 3 (some .int) DX3_get rvI [vR 0, vI a1, vI a2] u (call 7 [a1, a2] u)) (hX3_equal : ∀ (a1 a2 : Int) (u : Sg), Ct l d FT clA yX3_equal cX3_equal 5 (some .boolean) DX3_equal rvI [vR 0, vI a1, vI a2] u (call 76 [a1, a2] u)) (a1 a2 : Int) (u : Sg) : Ct l (d + 1) FT clA yX3_isAlike cX3_isAlike 5 (some .boolean) DX3_isAlike rvI [vR 0, vI a1, vI a2] u (bX3_isAlike call a1 a2 u) :=
  Ct_of (by decide) (Nat.le_of_ble_eq_true rfl) (fun p e R s1 m args below meth c G A ad hA hRf hRl => wX3_isAlike hd hRf hRl hX3_first hX3_get hX3_equal a1 a2 u (hA _ (List.mem_cons_of_mem _ List.mem_cons_self)) (hA _ (List.mem_cons_of_mem _ (List.mem_cons_of_mem _ List.mem_cons_self)))) p0 e0 s0 m0 meth0 c0 G0
end
/-! RoundCheckModel.brings(II)V -/
abbrev JX3_brings : Jm := (cX3_brings, RX3, 4, none)
def bX3_brings_L23 (call : Nat → List Int → Sg → Option (Int × Sg)) : Nat → Int → Sg → (Sg → Option (Int × Sg)) → Option (Int × Sg)
  | 0, _, _, _ => none
  | n + 1, a3, u, x47 => un (gI u 75) fun v1 => if a3 < v1 then (ld u 73 a3 fun v2 => cl (call 63 [v2] u) fun v3 s4 => ar (a3 + 1) fun v5 => bX3_brings_L23 call n v5 s4 x47) else (x47 u)
def bX3_brings (call : Nat → List Int → Sg → Option (Int × Sg)) (a1 a2 : Int) (u : Sg) : Option (Int × Sg) := un (sI u 75 0) fun s1 => un (gI s1 76) fun v2 => ar (v2 + 1) fun v3 => un (sI s1 76 v3) fun s4 => cl (call 105 [a1, a2] s4) fun v5 s6 => bX3_brings_L23 call KF 0 s6 (fun s7 => some (0, s7))
section
variable {p : Program} {l : Launch} {e : Env} {R : Room} {s : State} {m : MethodId} {args : Array Value} {below : List Frame} {meth : Method} {c : Code} {G : Gm} {A : Nat → Prop} {ad0 : Nat → Nat} {σ0 : Sg} {d : Nat} {call : Nat → List Int → Sg → Option (Int × Sg)}
theorem wX3_brings_L23 (hd : 2 ≤ d) (hRf : d + 1 ≤ R.frames) (hRl : 40 * (d + 1) ≤ R.locals) (hX3_bringsOf : ∀ (a1 a2 : Int) (u : Sg), Ct l d FT clA yX3_bringsOf cX3_bringsOf 10 none DX3_bringsOf rvV [vR 0, vI a1, vI a2] u (call 105 [a1, a2] u)) (hX3_knows : ∀ (a1 : Int) (u : Sg), Ct l d FT clA yX3_knows cX3_knows 2 none DX3_knows rvV [vR 0, vI a1] u (call 63 [a1] u)) (x47 : Sg → Option (Int × Sg)) (hx47 : ∀ (u : Sg), WG p l e R s m args below meth c JX3_brings DX3_brings G clA A FT ad0 σ0 rvV (x47 u) u 47 [] []) : ∀ (n : Nat) (a3 : Int) (u : Sg), inR a3 → WG p l e R s m args below meth c JX3_brings DX3_brings G clA A FT ad0 σ0 rvV (bX3_brings_L23 call n a3 u x47) u 23 [(0, vR 0), (3, vI a3)] [] := by
  intro n
  induction n with
  | zero =>
    intro a3 u ra3
    exact g_none
  | succ n ih =>
    intro a3 u ra3
    rw [bX3_brings_L23]
    refine g_iload_n 1 dX3_brings_23 rfl ?_
    refine g_aload_n 0 dX3_brings_24 rfl ?_
    refine g_getI (ci := 2) (b := 0) (N := 83) 75 rfl rfl rfl (by decide) in_X3 rfl rfl q1207 dX3_brings_25 (fun v1 rv1 => ?_)
    refine g_icmp_ge 47 dX3_brings_28 (by decide) (fun _ => ra3) (fun _ => rv1) (fun _ => ?_) (fun _ => ?_)
    · refine g_aload_n 0 dX3_brings_31 rfl ?_
      refine g_aload_n 0 dX3_brings_32 rfl ?_
      refine g_get (v := vR 83) (ci := 2) (b := 0) (N := 83) 73 rfl rfl (by decide) in_X3 rfl rfl q1205 dX3_brings_33 ?_
      refine g_iload_n 1 dX3_brings_36 rfl ?_
      refine g_iald (id := 73) 47 rfl rfl dX3_brings_37 (fun v2 rv2 => ?_)
      refine g_cVV (As := [vI v2]) (n := 1) (stk := []) (ci := 2) (b := 0) (N := 83) (hX3_knows v2 u) (by decide +kernel) rfl rfl (lw_V q1595 q1597 qs113 q168 q1598) (by decide +kernel) rfl (by decide) hRf hRl (fun _ => (avc rv2 avn)) (Nat.le_of_ble_eq_true rfl) rfl rfl dX3_brings_38 (fun v3 s4 => ?_)
      refine g_iinc 1 (loc' := fun v5 => [(3, vI v5), (0, vR 0)]) dX3_brings_41 rfl (by decide) (fun _ => rfl) (fun v5 rv5 => ?_)
      refine g_goto 23 dX3_brings_44 (by decide) ?_
      exact g_pick [1, 0] rfl (ih v5 s4 rv5)
    · exact g_pick [] rfl (hx47 u)
theorem wX3_brings (hd : 2 ≤ d) (hRf : d + 1 ≤ R.frames) (hRl : 40 * (d + 1) ≤ R.locals) (hX3_bringsOf : ∀ (a1 a2 : Int) (u : Sg), Ct l d FT clA yX3_bringsOf cX3_bringsOf 10 none DX3_bringsOf rvV [vR 0, vI a1, vI a2] u (call 105 [a1, a2] u)) (hX3_knows : ∀ (a1 : Int) (u : Sg), Ct l d FT clA yX3_knows cX3_knows 2 none DX3_knows rvV [vR 0, vI a1] u (call 63 [a1] u)) (a1 a2 : Int) (u : Sg) (ra1 : inR a1) (ra2 : inR a2) : WG p l e R s m args below meth c JX3_brings DX3_brings G clA A FT ad0 σ0 rvV (bX3_brings call a1 a2 u) u 0 [(0, vR 0), (1, vI a1), (2, vI a2)] [] := by
  unfold bX3_brings
  refine g_aload_n 0 dX3_brings_0 rfl ?_
  refine g_iconst dX3_brings_1 ?_
  refine g_sIU (ci := 2) (b := 0) (N := 83) FT_ok 75 rfl rfl rfl (by decide) in_X3 tyX3 tyX3_ok nmX3 rfl rfl rfl rfl (by decide +kernel) (inR_z (Or.inl rfl)) q1207 dX3_brings_2 (fun s1 => ?_)
  refine g_aload_n 0 dX3_brings_5 rfl ?_
  refine g_dup rfl dX3_brings_6 ?_
  refine g_getI (ci := 2) (b := 0) (N := 83) 76 rfl rfl rfl (by decide) in_X3 rfl rfl q1208 dX3_brings_7 (fun v2 rv2 => ?_)
  refine g_iconst dX3_brings_10 ?_
  refine g_iadd dX3_brings_11 (fun v3 rv3 => ?_)
  refine g_sIU (ci := 2) (b := 0) (N := 83) FT_ok 76 rfl rfl rfl (by decide) in_X3 tyX3 tyX3_ok nmX3 rfl rfl rfl rfl (by decide +kernel) rv3 q1208 dX3_brings_12 (fun s4 => ?_)
  refine g_aload_n 0 dX3_brings_15 rfl ?_
  refine g_iload_n 1 dX3_brings_16 rfl ?_
  refine g_iload_n 2 dX3_brings_17 rfl ?_
  refine g_cVV (As := [vI a1, vI a2]) (n := 2) (stk := []) (ci := 2) (b := 0) (N := 83) (hX3_bringsOf a1 a2 s4) (by decide +kernel) rfl rfl (lw_V q1762 q1764 qs154 q168 q1765) (by decide +kernel) rfl (by decide) hRf hRl (fun _ => (avc ra1 (avc ra2 avn))) (Nat.le_of_ble_eq_true rfl) rfl rfl dX3_brings_18 (fun v5 s6 => ?_)
  refine g_iconst dX3_brings_21 ?_
  refine g_istore_n (loc' := [(3, vI 0), (0, vR 0), (1, vI a1), (2, vI a2)]) dX3_brings_22 (by decide) rfl ?_
  refine g_pick [1, 0] rfl (wX3_brings_L23 hd hRf hRl hX3_bringsOf hX3_knows _ (fun s7 => ?_) KF 0 s6 (inR_z (Or.inl rfl)))
  · exact g_vret rfl rfl dX3_brings_47
end
section
variable {l : Launch} {d : Nat} {call : Nat → List Int → Sg → Option (Int × Sg)}
theorem ctX3_brings (p0 : Program) (e0 : Env) (s0 : State) (m0 : MethodId) (meth0 : Method) (c0 : Code) (G0 : Gm) (hd : 2 ≤ d) (hX3_bringsOf : ∀ (a1 a2 : Int) (u : Sg), Ct l d FT clA yX3_bringsOf cX3_bringsOf 10 none DX3_bringsOf rvV [vR 0, vI a1, vI a2] u (call 105 [a1, a2] u)) (hX3_knows : ∀ (a1 : Int) (u : Sg), Ct l d FT clA yX3_knows cX3_knows 2 none DX3_knows rvV [vR 0, vI a1] u (call 63 [a1] u)) (a1 a2 : Int) (u : Sg) : Ct l (d + 1) FT clA yX3_brings cX3_brings 4 none DX3_brings rvV [vR 0, vI a1, vI a2] u (bX3_brings call a1 a2 u) :=
  Ct_of (by decide) (Nat.le_of_ble_eq_true rfl) (fun p e R s1 m args below meth c G A ad hA hRf hRl => wX3_brings hd hRf hRl hX3_bringsOf hX3_knows a1 a2 u (hA _ (List.mem_cons_of_mem _ List.mem_cons_self)) (hA _ (List.mem_cons_of_mem _ (List.mem_cons_of_mem _ List.mem_cons_self)))) p0 e0 s0 m0 meth0 c0 G0
end
