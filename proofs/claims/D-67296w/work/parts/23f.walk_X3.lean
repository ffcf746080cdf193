/-! RoundCheckModel.byRegistrations()V -/
abbrev JX3_byRegistrations : Jm := (cX3_byRegistrations, RX3, 5, none)
def bX3_byRegistrations_L17 (call : Nat → List Int → Sg → Option (Int × Sg)) : Nat → Int → Int → Int → Sg → (Int → Sg → Option (Int × Sg)) → Option (Int × Sg)
  | 0, _, _, _, _, _ => none
  | n + 1, a1, a2, a3, u, x158 => if a3 < a2 then (un (gI u 57) fun v1 => if v1 ≤ 100 then (ld u 29 a1 fun v2 => if v2 = 1 then (cl (call 70 [a3] u) fun v3 s4 => if v3 = a3 then (cl (call 84 [a1, a3] s4) fun v5 s6 => ar (a3 + 1) fun v7 => bX3_byRegistrations_L17 call n a1 a2 v7 s6 x158) else (ar (a3 + 1) fun v8 => bX3_byRegistrations_L17 call n a1 a2 v8 s4 x158)) else (ld u 55 a3 fun v9 => ld u 1 v9 fun v10 => if v10 = 4 then (cl (call 7 [v9, 0] u) fun v11 s12 => ld s12 32 a1 fun v13 => if v11 = v13 then (cl (call 86 [a1, v9] s12) fun v14 s15 => if v14 = 0 then (ar (a3 + 1) fun v16 => bX3_byRegistrations_L17 call n a1 a2 v16 s15 x158) else (ld s15 29 a1 fun v17 => if v17 = 2 then (ld s15 35 a1 fun v18 => cl (call 85 [a3, v18] s15) fun v19 s20 => ar (a3 + 1) fun v21 => bX3_byRegistrations_L17 call n a1 a2 v21 s20 x158) else (cl (call 81 [v9] s15) fun v22 s23 => ld s23 36 a1 fun v24 => cl (call 78 [v24] s23) fun v25 s26 => cl (call 98 [a3, v25] s26) fun v27 s28 => ar (a3 + 1) fun v29 => bX3_byRegistrations_L17 call n a1 a2 v29 s28 x158))) else (ar (a3 + 1) fun v30 => bX3_byRegistrations_L17 call n a1 a2 v30 s12 x158)) else (ar (a3 + 1) fun v31 => bX3_byRegistrations_L17 call n a1 a2 v31 u x158))) else (x158 a1 u)) else (x158 a1 u)
def bX3_byRegistrations_L2 (call : Nat → List Int → Sg → Option (Int × Sg)) : Nat → Int → Sg → (Sg → Option (Int × Sg)) → Option (Int × Sg)
  | 0, _, _, _ => none
  | n + 1, a1, u, x164 => un (gI u 37) fun v1 => if a1 < v1 then (un (gI u 57) fun v2 => bX3_byRegistrations_L17 call KF a1 v2 0 u (fun v4 s3 => ar (v4 + 1) fun v5 => bX3_byRegistrations_L2 call n v5 s3 x164)) else (x164 u)
def bX3_byRegistrations (call : Nat → List Int → Sg → Option (Int × Sg)) (u : Sg) : Option (Int × Sg) := bX3_byRegistrations_L2 call KF 0 u (fun s1 => some (0, s1))
section
variable {p : Program} {l : Launch} {e : Env} {R : Room} {s : State} {m : MethodId} {args : Array Value} {below : List Frame} {meth : Method} {c : Code} {G : Gm} {A : Nat → Prop} {ad0 : Nat → Nat} {σ0 : Sg} {d : Nat} {call : Nat → List Int → Sg → Option (Int × Sg)}
theorem wX3_byRegistrations_L17 (hd : 2 ≤ d) (hRf : d + 1 ≤ R.frames) (hRl : 40 * (d + 1) ≤ R.locals) (hX3_top : ∀ (a1 : Int) (u : Sg), Ct l d FT clA yX3_top cX3_top 2 (some .int) DX3_top rvI [vR 0, vI a1] u (call 70 [a1] u)) (hX3_conditional : ∀ (a1 a2 : Int) (u : Sg), Ct l d FT clA yX3_conditional cX3_conditional 7 none DX3_conditional rvV [vR 0, vI a1, vI a2] u (call 84 [a1, a2] u)) (hX3_get : ∀ (a1 a2 : Int) (u : Sg), Ct l d FT clA yX3_get cX3_get 3 (some .int) DX3_get rvI [vR 0, vI a1, vI a2] u (call 7 [a1, a2] u)) (hX3_termsFit : ∀ (a1 a2 : Int) (u : Sg), Ct l d FT clA yX3_termsFit cX3_termsFit 4 (some .boolean) DX3_termsFit rvI [vR 0, vI a1, vI a2] u (call 86 [a1, a2] u)) (hX3_adjs : ∀ (a1 a2 : Int) (u : Sg), Ct l d FT clA yX3_adjs cX3_adjs 4 none DX3_adjs rvV [vR 0, vI a1, vI a2] u (call 85 [a1, a2] u)) (hX3_moveLoci : ∀ (a1 : Int) (u : Sg), Ct l d FT clA yX3_moveLoci cX3_moveLoci 3 none DX3_moveLoci rvV [vR 0, vI a1] u (call 81 [a1] u)) (hX3_move : ∀ (a1 : Int) (u : Sg), Ct l d FT clA yX3_move cX3_move 2 (some .int) DX3_move rvI [vR 0, vI a1] u (call 78 [a1] u)) (hX3_same : ∀ (a1 a2 : Int) (u : Sg), Ct l d FT clA yX3_same cX3_same 3 none DX3_same rvV [vR 0, vI a1, vI a2] u (call 98 [a1, a2] u)) (x158 : Int → Sg → Option (Int × Sg)) (hx158 : ∀ (a1 : Int) (u : Sg), inR a1 → WG p l e R s m args below meth c JX3_byRegistrations DX3_byRegistrations G clA A FT ad0 σ0 rvV (x158 a1 u) u 158 [(0, vR 0), (1, vI a1)] []) : ∀ (n : Nat) (a1 a2 a3 : Int) (u : Sg), inR a1 → inR a2 → inR a3 → WG p l e R s m args below meth c JX3_byRegistrations DX3_byRegistrations G clA A FT ad0 σ0 rvV (bX3_byRegistrations_L17 call n a1 a2 a3 u x158) u 17 [(0, vR 0), (1, vI a1), (2, vI a2), (3, vI a3)] [] := by
  intro n
  induction n with
  | zero =>
    intro a1 a2 a3 u ra1 ra2 ra3
    exact g_none
  | succ n ih =>
    intro a1 a2 a3 u ra1 ra2 ra3
    rw [bX3_byRegistrations_L17]
    refine g_iload_n 3 dX3_byRegistrations_17 rfl ?_
    refine g_iload_n 2 dX3_byRegistrations_18 rfl ?_
    refine g_icmp_ge 158 dX3_byRegistrations_19 (by decide) (fun _ => ra3) (fun _ => ra2) (fun _ => ?_) (fun _ => ?_)
    · refine g_aload_n 0 dX3_byRegistrations_22 rfl ?_
      refine g_getI (ci := 2) (b := 0) (N := 83) 57 rfl rfl rfl (by decide) in_X3 rfl rfl q1189 dX3_byRegistrations_23 (fun v1 rv1 => ?_)
      refine g_bipush (by decide +kernel) dX3_byRegistrations_26 ?_
      refine g_icmp_gt 158 dX3_byRegistrations_28 (by decide) (fun _ => rv1) (fun _ => (by decide : inR (100))) (fun _ => ?_) (fun _ => ?_)
      · refine g_aload_n 0 dX3_byRegistrations_31 rfl ?_
        refine g_get (v := vR 39) (ci := 2) (b := 0) (N := 83) 29 rfl rfl (by decide) in_X3 rfl rfl q1161 dX3_byRegistrations_32 ?_
        refine g_iload_n 1 dX3_byRegistrations_35 rfl ?_
        refine g_iald (id := 29) 19 rfl rfl dX3_byRegistrations_36 (fun v2 rv2 => ?_)
        refine g_iconst dX3_byRegistrations_37 ?_
        refine g_icmp_ne 59 dX3_byRegistrations_38 (by decide) (fun _ => rv2) (fun _ => (inR_z (Or.inr rfl))) (fun _ => ?_) (fun _ => ?_)
        · refine g_aload_n 0 dX3_byRegistrations_41 rfl ?_
          refine g_iload_n 3 dX3_byRegistrations_42 rfl ?_
          refine g_cVI (As := [vI a3]) (n := 1) (stk := []) (ci := 2) (b := 0) (N := 83) (hX3_top a3 u) (by decide +kernel) rfl rfl (lw_V q1622 q1624 qs119 q168 q1625) (by decide +kernel) rfl (by decide) hRf hRl (fun _ => (avc ra3 avn)) (Nat.le_of_ble_eq_true rfl) rfl rfl dX3_byRegistrations_43 (fun v3 s4 rv3 => ?_)
          refine g_iload_n 3 dX3_byRegistrations_46 rfl ?_
          refine g_icmp_ne 152 dX3_byRegistrations_47 (by decide) (fun _ => rv3) (fun _ => ra3) (fun _ => ?_) (fun _ => ?_)
          · refine g_aload_n 0 dX3_byRegistrations_50 rfl ?_
            refine g_iload_n 1 dX3_byRegistrations_51 rfl ?_
            refine g_iload_n 3 dX3_byRegistrations_52 rfl ?_
            refine g_cVV (As := [vI a1, vI a3]) (n := 2) (stk := []) (ci := 2) (b := 0) (N := 83) (hX3_conditional a1 a3 s4) (by decide +kernel) rfl rfl (lw_V q1678 q1680 qs133 q168 q1681) (by decide +kernel) rfl (by decide) hRf hRl (fun _ => (avc ra1 (avc ra3 avn))) (Nat.le_of_ble_eq_true rfl) rfl rfl dX3_byRegistrations_53 (fun v5 s6 => ?_)
            refine g_goto 152 dX3_byRegistrations_56 (by decide) ?_
            refine g_iinc 3 (loc' := fun v7 => [(3, vI v7), (0, vR 0), (1, vI a1), (2, vI a2)]) dX3_byRegistrations_152 rfl (by decide) (fun _ => rfl) (fun v7 rv7 => ?_)
            refine g_goto 17 dX3_byRegistrations_155 (by decide) ?_
            exact g_pick [1, 2, 3, 0] rfl (ih a1 a2 v7 s6 ra1 ra2 rv7)
          · refine g_iinc 3 (loc' := fun v8 => [(3, vI v8), (0, vR 0), (1, vI a1), (2, vI a2)]) dX3_byRegistrations_152 rfl (by decide) (fun _ => rfl) (fun v8 rv8 => ?_)
            refine g_goto 17 dX3_byRegistrations_155 (by decide) ?_
            exact g_pick [1, 2, 3, 0] rfl (ih a1 a2 v8 s4 ra1 ra2 rv8)
        · refine g_aload_n 0 dX3_byRegistrations_59 rfl ?_
          refine g_get (v := vR 65) (ci := 2) (b := 0) (N := 83) 55 rfl rfl (by decide) in_X3 rfl rfl q1187 dX3_byRegistrations_60 ?_
          refine g_iload_n 3 dX3_byRegistrations_63 rfl ?_
          refine g_iald (id := 55) 39 rfl rfl dX3_byRegistrations_64 (fun v9 rv9 => ?_)
          refine g_istore (loc' := [(4, vI v9), (0, vR 0), (1, vI a1), (2, vI a2), (3, vI a3)]) dX3_byRegistrations_65 (by decide) rfl ?_
          refine g_aload_n 1 dX3_byRegistrations_67 rfl ?_
          refine g_get (v := vR 11) (ci := 2) (b := 0) (N := 83) 1 rfl rfl (by decide) in_X3 rfl rfl q1133 dX3_byRegistrations_68 ?_
          refine g_iload 0 dX3_byRegistrations_71 rfl ?_
          refine g_iald (id := 1) 0 rfl rfl dX3_byRegistrations_73 (fun v10 rv10 => ?_)
          refine g_iconst dX3_byRegistrations_74 ?_
          refine g_icmp_ne 152 dX3_byRegistrations_75 (by decide) (fun _ => rv10) (fun _ => (by decide : inR (4))) (fun _ => ?_) (fun _ => ?_)
          · refine g_aload_n 1 dX3_byRegistrations_78 rfl ?_
            refine g_iload 0 dX3_byRegistrations_79 rfl ?_
            refine g_iconst dX3_byRegistrations_81 ?_
            refine g_cVI (As := [vI v9, vI 0]) (n := 2) (stk := []) (ci := 2) (b := 0) (N := 83) (hX3_get v9 0 u) (by decide +kernel) rfl rfl (lw_V q1116 q1118 qs76 q168 q1119) (by decide +kernel) rfl (by decide) hRf hRl (fun _ => (avc rv9 (avc (inR_z (Or.inl rfl)) avn))) (Nat.le_of_ble_eq_true rfl) rfl rfl dX3_byRegistrations_82 (fun v11 s12 rv11 => ?_)
            refine g_aload_n 1 dX3_byRegistrations_85 rfl ?_
            refine g_get (v := vR 42) (ci := 2) (b := 0) (N := 83) 32 rfl rfl (by decide) in_X3 rfl rfl q1164 dX3_byRegistrations_86 ?_
            refine g_iload_n 2 dX3_byRegistrations_89 rfl ?_
            refine g_iald (id := 32) 22 rfl rfl dX3_byRegistrations_90 (fun v13 rv13 => ?_)
            refine g_icmp_ne 152 dX3_byRegistrations_91 (by decide) (fun _ => rv11) (fun _ => rv13) (fun _ => ?_) (fun _ => ?_)
            · refine g_aload_n 1 dX3_byRegistrations_94 rfl ?_
              refine g_iload_n 2 dX3_byRegistrations_95 rfl ?_
              refine g_iload 0 dX3_byRegistrations_96 rfl ?_
              refine g_cVZ (As := [vI a1, vI v9]) (n := 2) (stk := []) (ci := 2) (b := 0) (N := 83) (hX3_termsFit a1 v9 s12) (by decide +kernel) rfl rfl (lw_V q1686 q1688 qs135 q168 q1689) (by decide +kernel) rfl (by decide) hRf hRl (fun _ => (avc ra1 (avc rv9 avn))) (Nat.le_of_ble_eq_true rfl) rfl rfl dX3_byRegistrations_98 (fun v14 s15 zv14 => ?_)
              refine g_if_ne 107 dX3_byRegistrations_101 (by decide) (fun _ => (inR_z zv14)) (fun _ => ?_) (fun _ => ?_)
              · refine g_goto 152 dX3_byRegistrations_104 (by decide) ?_
                refine g_iinc 4 (loc' := fun v16 => [(3, vI v16), (4, vI v9), (0, vR 0), (1, vI a1), (2, vI a2)]) dX3_byRegistrations_152 rfl (by decide) (fun _ => rfl) (fun v16 rv16 => ?_)
                refine g_goto 17 dX3_byRegistrations_155 (by decide) ?_
                exact g_pick [2, 3, 4, 0] rfl (ih a1 a2 v16 s15 ra1 ra2 rv16)
              · refine g_aload_n 1 dX3_byRegistrations_107 rfl ?_
                refine g_get (v := vR 39) (ci := 2) (b := 0) (N := 83) 29 rfl rfl (by decide) in_X3 rfl rfl q1161 dX3_byRegistrations_108 ?_
                refine g_iload_n 2 dX3_byRegistrations_111 rfl ?_
                refine g_iald (id := 29) 19 rfl rfl dX3_byRegistrations_112 (fun v17 rv17 => ?_)
                refine g_iconst dX3_byRegistrations_113 ?_
                refine g_icmp_ne 131 dX3_byRegistrations_114 (by decide) (fun _ => rv17) (fun _ => (by decide : inR (2))) (fun _ => ?_) (fun _ => ?_)
                · refine g_aload_n 1 dX3_byRegistrations_117 rfl ?_
                  refine g_iload_n 4 dX3_byRegistrations_118 rfl ?_
                  refine g_aload_n 1 dX3_byRegistrations_119 rfl ?_
                  refine g_get (v := vR 45) (ci := 2) (b := 0) (N := 83) 35 rfl rfl (by decide) in_X3 rfl rfl q1167 dX3_byRegistrations_120 ?_
                  refine g_iload_n 2 dX3_byRegistrations_123 rfl ?_
                  refine g_iald (id := 35) 25 rfl rfl dX3_byRegistrations_124 (fun v18 rv18 => ?_)
                  refine g_cVV (As := [vI a3, vI v18]) (n := 2) (stk := []) (ci := 2) (b := 0) (N := 83) (hX3_adjs a3 v18 s15) (by decide +kernel) rfl rfl (lw_V q1682 q1684 qs134 q168 q1685) (by decide +kernel) rfl (by decide) hRf hRl (fun _ => (avc ra3 (avc rv18 avn))) (Nat.le_of_ble_eq_true rfl) rfl rfl dX3_byRegistrations_125 (fun v19 s20 => ?_)
                  refine g_goto 152 dX3_byRegistrations_128 (by decide) ?_
                  refine g_iinc 4 (loc' := fun v21 => [(3, vI v21), (4, vI v9), (0, vR 0), (1, vI a1), (2, vI a2)]) dX3_byRegistrations_152 rfl (by decide) (fun _ => rfl) (fun v21 rv21 => ?_)
                  refine g_goto 17 dX3_byRegistrations_155 (by decide) ?_
                  exact g_pick [2, 3, 4, 0] rfl (ih a1 a2 v21 s20 ra1 ra2 rv21)
                · refine g_aload_n 1 dX3_byRegistrations_131 rfl ?_
                  refine g_iload 0 dX3_byRegistrations_132 rfl ?_
                  refine g_cVV (As := [vI v9]) (n := 1) (stk := []) (ci := 2) (b := 0) (N := 83) (hX3_moveLoci v9 s15) (by decide +kernel) rfl rfl (lw_V q1666 q1668 qs130 q168 q1669) (by decide +kernel) rfl (by decide) hRf hRl (fun _ => (avc rv9 avn)) (Nat.le_of_ble_eq_true rfl) rfl rfl dX3_byRegistrations_134 (fun v22 s23 => ?_)
                  refine g_aload_n 1 dX3_byRegistrations_137 rfl ?_
                  refine g_iload_n 4 dX3_byRegistrations_138 rfl ?_
                  refine g_aload_n 1 dX3_byRegistrations_139 rfl ?_
                  refine g_aload_n 1 dX3_byRegistrations_140 rfl ?_
                  refine g_get (v := vR 46) (ci := 2) (b := 0) (N := 83) 36 rfl rfl (by decide) in_X3 rfl rfl q1168 dX3_byRegistrations_141 ?_
                  refine g_iload_n 2 dX3_byRegistrations_144 rfl ?_
                  refine g_iald (id := 36) 26 rfl rfl dX3_byRegistrations_145 (fun v24 rv24 => ?_)
                  refine g_cVI (As := [vI v24]) (n := 1) (stk := [vI a3, vR 0]) (ci := 2) (b := 0) (N := 83) (hX3_move v24 s23) (by decide +kernel) rfl rfl (lw_V q1654 q1656 qs127 q168 q1657) (by decide +kernel) rfl (by decide) hRf hRl (fun _ => (avc rv24 avn)) (Nat.le_of_ble_eq_true rfl) rfl rfl dX3_byRegistrations_146 (fun v25 s26 rv25 => ?_)
                  refine g_cVV (As := [vI a3, vI v25]) (n := 2) (stk := []) (ci := 2) (b := 0) (N := 83) (hX3_same a3 v25 s26) (by decide +kernel) rfl rfl (lw_V q1734 q1736 qs147 q168 q1737) (by decide +kernel) rfl (by decide) hRf hRl (fun _ => (avc ra3 (avc rv25 avn))) (Nat.le_of_ble_eq_true rfl) rfl rfl dX3_byRegistrations_149 (fun v27 s28 => ?_)
                  refine g_iinc 4 (loc' := fun v29 => [(3, vI v29), (4, vI v9), (0, vR 0), (1, vI a1), (2, vI a2)]) dX3_byRegistrations_152 rfl (by decide) (fun _ => rfl) (fun v29 rv29 => ?_)
                  refine g_goto 17 dX3_byRegistrations_155 (by decide) ?_
                  exact g_pick [2, 3, 4, 0] rfl (ih a1 a2 v29 s28 ra1 ra2 rv29)
            · refine g_iinc 4 (loc' := fun v30 => [(3, vI v30), (4, vI v9), (0, vR 0), (1, vI a1), (2, vI a2)]) dX3_byRegistrations_152 rfl (by decide) (fun _ => rfl) (fun v30 rv30 => ?_)
              refine g_goto 17 dX3_byRegistrations_155 (by decide) ?_
              exact g_pick [2, 3, 4, 0] rfl (ih a1 a2 v30 s12 ra1 ra2 rv30)
          · refine g_iinc 4 (loc' := fun v31 => [(3, vI v31), (4, vI v9), (0, vR 0), (1, vI a1), (2, vI a2)]) dX3_byRegistrations_152 rfl (by decide) (fun _ => rfl) (fun v31 rv31 => ?_)
            refine g_goto 17 dX3_byRegistrations_155 (by decide) ?_
            exact g_pick [2, 3, 4, 0] rfl (ih a1 a2 v31 u ra1 ra2 rv31)
      · exact g_pick [0, 1] rfl (hx158 a1 u ra1)
    · exact g_pick [0, 1] rfl (hx158 a1 u ra1)
theorem wX3_byRegistrations_L2 (hd : 2 ≤ d) (hRf : d + 1 ≤ R.frames) (hRl : 40 * (d + 1) ≤ R.locals) (hX3_top : ∀ (a1 : Int) (u : Sg), Ct l d FT clA yX3_top cX3_top 2 (some .int) DX3_top rvI [vR 0, vI a1] u (call 70 [a1] u)) (hX3_conditional : ∀ (a1 a2 : Int) (u : Sg), Ct l d FT clA yX3_conditional cX3_conditional 7 none DX3_conditional rvV [vR 0, vI a1, vI a2] u (call 84 [a1, a2] u)) (hX3_get : ∀ (a1 a2 : Int) (u : Sg), Ct l d FT clA yX3_get cX3_get 3 (some .int) DX3_get rvI [vR 0, vI a1, vI a2] u (call 7 [a1, a2] u)) (hX3_termsFit : ∀ (a1 a2 : Int) (u : Sg), Ct l d FT clA yX3_termsFit cX3_termsFit 4 (some .boolean) DX3_termsFit rvI [vR 0, vI a1, vI a2] u (call 86 [a1, a2] u)) (hX3_adjs : ∀ (a1 a2 : Int) (u : Sg), Ct l d FT clA yX3_adjs cX3_adjs 4 none DX3_adjs rvV [vR 0, vI a1, vI a2] u (call 85 [a1, a2] u)) (hX3_moveLoci : ∀ (a1 : Int) (u : Sg), Ct l d FT clA yX3_moveLoci cX3_moveLoci 3 none DX3_moveLoci rvV [vR 0, vI a1] u (call 81 [a1] u)) (hX3_move : ∀ (a1 : Int) (u : Sg), Ct l d FT clA yX3_move cX3_move 2 (some .int) DX3_move rvI [vR 0, vI a1] u (call 78 [a1] u)) (hX3_same : ∀ (a1 a2 : Int) (u : Sg), Ct l d FT clA yX3_same cX3_same 3 none DX3_same rvV [vR 0, vI a1, vI a2] u (call 98 [a1, a2] u)) (x164 : Sg → Option (Int × Sg)) (hx164 : ∀ (u : Sg), WG p l e R s m args below meth c JX3_byRegistrations DX3_byRegistrations G clA A FT ad0 σ0 rvV (x164 u) u 164 [] []) : ∀ (n : Nat) (a1 : Int) (u : Sg), inR a1 → WG p l e R s m args below meth c JX3_byRegistrations DX3_byRegistrations G clA A FT ad0 σ0 rvV (bX3_byRegistrations_L2 call n a1 u x164) u 2 [(0, vR 0), (1, vI a1)] [] := by
  intro n
  induction n with
  | zero =>
    intro a1 u ra1
    exact g_none
  | succ n ih =>
    intro a1 u ra1
    rw [bX3_byRegistrations_L2]
    refine g_iload_n 1 dX3_byRegistrations_2 rfl ?_
    refine g_aload_n 0 dX3_byRegistrations_3 rfl ?_
    refine g_getI (ci := 2) (b := 0) (N := 83) 37 rfl rfl rfl (by decide) in_X3 rfl rfl q1169 dX3_byRegistrations_4 (fun v1 rv1 => ?_)
    refine g_icmp_ge 164 dX3_byRegistrations_7 (by decide) (fun _ => ra1) (fun _ => rv1) (fun _ => ?_) (fun _ => ?_)
    · refine g_aload_n 0 dX3_byRegistrations_10 rfl ?_
      refine g_getI (ci := 2) (b := 0) (N := 83) 57 rfl rfl rfl (by decide) in_X3 rfl rfl q1189 dX3_byRegistrations_11 (fun v2 rv2 => ?_)
      refine g_istore_n (loc' := [(2, vI v2), (0, vR 0), (1, vI a1)]) dX3_byRegistrations_14 (by decide) rfl ?_
      refine g_iconst dX3_byRegistrations_15 ?_
      refine g_istore_n (loc' := [(3, vI 0), (2, vI v2), (0, vR 0), (1, vI a1)]) dX3_byRegistrations_16 (by decide) rfl ?_
      refine g_pick [2, 3, 1, 0] rfl (wX3_byRegistrations_L17 hd hRf hRl hX3_top hX3_conditional hX3_get hX3_termsFit hX3_adjs hX3_moveLoci hX3_move hX3_same _ (fun v4 s3 rv4 => ?_) KF a1 v2 0 u ra1 rv2 (inR_z (Or.inl rfl)))
      · refine g_iinc 1 (loc' := fun v5 => [(1, vI v5), (0, vR 0)]) dX3_byRegistrations_158 rfl (by decide) (fun _ => rfl) (fun v5 rv5 => ?_)
        refine g_goto 2 dX3_byRegistrations_161 (by decide) ?_
        exact g_pick [1, 0] rfl (ih v5 s3 rv5)
    · exact g_pick [] rfl (hx164 u)
theorem wX3_byRegistrations (hd : 2 ≤ d) (hRf : d + 1 ≤ R.frames) (hRl : 40 * (d + 1) ≤ R.locals) (hX3_top : ∀ (a1 : Int) (u : Sg), Ct l d FT clA yX3_top cX3_top 2 (some .int) DX3_top rvI [vR 0, vI a1] u (call 70 [a1] u)) (hX3_conditional : ∀ (a1 a2 : Int) (u : Sg), Ct l d FT clA yX3_conditional cX3_conditional 7 none DX3_conditional rvV [vR 0, vI a1, vI a2] u (call 84 [a1, a2] u)) (hX3_get : ∀ (a1 a2 : Int) (u : Sg), Ct l d FT clA yX3_get cX3_get 3 (some .int) DX3_get rvI [vR 0, vI a1, vI a2] u (call 7 [a1, a2] u)) (hX3_termsFit : ∀ (a1 a2 : Int) (u : Sg), Ct l d FT clA yX3_termsFit cX3_termsFit 4 (some .boolean) DX3_termsFit rvI [vR 0, vI a1, vI a2] u (call 86 [a1, a2] u)) (hX3_adjs : ∀ (a1 a2 : Int) (u : Sg), Ct l d FT clA yX3_adjs cX3_adjs 4 none DX3_adjs rvV [vR 0, vI a1, vI a2] u (call 85 [a1, a2] u)) (hX3_moveLoci : ∀ (a1 : Int) (u : Sg), Ct l d FT clA yX3_moveLoci cX3_moveLoci 3 none DX3_moveLoci rvV [vR 0, vI a1] u (call 81 [a1] u)) (hX3_move : ∀ (a1 : Int) (u : Sg), Ct l d FT clA yX3_move cX3_move 2 (some .int) DX3_move rvI [vR 0, vI a1] u (call 78 [a1] u)) (hX3_same : ∀ (a1 a2 : Int) (u : Sg), Ct l d FT clA yX3_same cX3_same 3 none DX3_same rvV [vR 0, vI a1, vI a2] u (call 98 [a1, a2] u)) (u : Sg) : WG p l e R s m args below meth c JX3_byRegistrations DX3_byRegistrations G clA A FT ad0 σ0 rvV (bX3_byRegistrations call u) u 0 [(0, vR 0)] [] := by
  unfold bX3_byRegistrations
  refine g_iconst dX3_byRegistrations_0 ?_
  refine g_istore_n (loc' := [(1, vI 0), (0, vR 0)]) dX3_byRegistrations_1 (by decide) rfl ?_
  refine g_pick [1, 0] rfl (wX3_byRegistrations_L2 hd hRf hRl hX3_top hX3_conditional hX3_get hX3_termsFit hX3_adjs hX3_moveLoci hX3_move hX3_same _ (fun s1 => ?_) KF 0 u (inR_z (Or.inl rfl)))
  · exact g_vret rfl rfl dX3_byRegistrations_164
end
section
variable {l : Launch} {d : Nat} {call : Nat → List Int → Sg → Option (Int × Sg)}
theorem ctX3_byRegistrations (p0 : Program) (e0 : Env) (s0 : State) (m0 : MethodId) (meth0 : Method) (c0 : Code) (G0 : Gm) (hd : 2 ≤ d) (hX3_top : ∀ (a1 : Int) (u : Sg), Ct l d FT clA yX3_top cX3_top 2 (some .int) DX3_top rvI [vR 0, vI a1] u (call 70 [a1] u)) (hX3_conditional : ∀ (a1 a2 : Int) (u : Sg), Ct l d FT clA yX3_conditional cX3_conditional 7 none DX3_conditional rvV [vR 0, vI a1, vI a2] u (call 84 [a1, a2] u)) (hX3_get : ∀ (a1 a2 : Int) (u : Sg), Ct l d FT clA yX3_get cX3_get 3 (some .int) DX3_get rvI [vR 0, vI a1, vI a2] u (call 7 [a1, a2] u)) (hX3_termsFit : ∀ (a1 a2 : Int) (u : Sg), Ct l d FT clA yX3_termsFit cX3_termsFit 4 (some .boolean) DX3_termsFit rvI [vR 0, vI a1, vI a2] u (call 86 [a1, a2] u)) (hX3_adjs : ∀ (a1 a2 : Int) (u : Sg), Ct l d FT clA yX3_adjs cX3_adjs 4 none DX3_adjs rvV [vR 0, vI a1, vI a2] u (call 85 [a1, a2] u)) (hX3_moveLoci : ∀ (a1 : Int) (u : Sg), Ct l d FT clA yX3_moveLoci cX3_moveLoci 3 none DX3_moveLoci rvV [vR 0, vI a1] u (call 81 [a1] u)) (hX3_move : ∀ (a1 : Int) (u : Sg), Ct l d FT clA yX3_move cX3_move 2 (some .int) DX3_move rvI [vR 0, vI a1] u (call 78 [a1] u)) (hX3_same : ∀ (a1 a2 : Int) (u : Sg), Ct l d FT clA yX3_same cX3_same 3 none DX3_same rvV [vR 0, vI a1, vI a2] u (call 98 [a1, a2] u)) (u : Sg) : Ct l (d + 1) FT clA yX3_byRegistrations cX3_byRegistrations 5 none DX3_byRegistrations rvV [vR 0] u (bX3_byRegistrations call u) :=
  Ct_of (by decide) (Nat.le_of_ble_eq_true rfl) (fun p e R s1 m args below meth c G A ad hA hRf hRl => wX3_byRegistrations hd hRf hRl hX3_top hX3_conditional hX3_get hX3_termsFit hX3_adjs hX3_moveLoci hX3_move hX3_same u) p0 e0 s0 m0 meth0 c0 G0
end
/-! RoundCheckModel.conditional(II)V -/
abbrev JX3_conditional : Jm := (cX3_conditional, RX3, 7, none)
def bX3_conditional_L18 (call : Nat → List Int → Sg → Option (Int × Sg)) : Nat → Int → Int → Int → Int → Int → Sg → (Int → Int → Int → Sg → Option (Int × Sg)) → (Sg → Option (Int × Sg)) → Option (Int × Sg)
  | 0, _, _, _, _, _, _, _, _ => none
  | n + 1, a1, a2, a3, a4, a5, u, x51, x44 => ld u 3 a3 fun v1 => if a5 < v1 then (cl (call 7 [a3, a5] u) fun v2 s3 => cl (call 72 [a2, v2] s3) fun v4 s5 => if v4 = 0 then (x44 s5) else (ar (a5 + 1) fun v6 => bX3_conditional_L18 call n a1 a2 a3 a4 v6 s5 x51 x44)) else (x51 a1 a2 a4 u)
def bX3_conditional_L66 (call : Nat → List Int → Sg → Option (Int × Sg)) : Nat → Int → Int → Int → Int → Int → Sg → (Int → Int → Int → Sg → Option (Int × Sg)) → Option (Int × Sg)
  | 0, _, _, _, _, _, _, _ => none
  | n + 1, a1, a2, a4, a5, a6, u, x169 => un (gI u 62) fun v1 => if a6 < v1 then (if a5 = 0 then (ld u 60 a6 fun v2 => if v2 = a4 then (ld u 59 a6 fun v3 => cl (call 70 [v3] u) fun v4 s5 => if v4 = a2 then (jn (fun (a1 a2 a4 a6 t0 : Int) (s7 : Sg) => ar (a6 + 1) fun v8 => bX3_conditional_L66 call n a1 a2 a4 t0 v8 s7 x169) fun j6 => jn (fun (a1 a2 a4 a6 : Int) (s10 : Sg) => j6 a1 a2 a4 a6 1 s10) fun j9 => ld s5 31 a1 fun v11 => if v11 = 0 then (j9 a1 a2 a4 a6 s5) else (ld s5 61 a6 fun v12 => cl (call 66 [v12] s5) fun v13 s14 => ld s14 31 a1 fun v15 => cl (call 7 [v15, 0] s14) fun v16 s17 => ld s17 31 a1 fun v18 => cl (call 7 [v18, 1] s17) fun v19 s20 => cl (call 75 [v13, v16, v19] s20) fun v21 s22 => if v21 = 0 then (j6 a1 a2 a4 a6 0 s22) else (j9 a1 a2 a4 a6 s22))) else (ar (a6 + 1) fun v23 => bX3_conditional_L66 call n a1 a2 a4 a5 v23 s5 x169)) else (ar (a6 + 1) fun v24 => bX3_conditional_L66 call n a1 a2 a4 a5 v24 u x169)) else (x169 a1 a2 a5 u)) else (x169 a1 a2 a5 u)
def bX3_conditional (call : Nat → List Int → Sg → Option (Int × Sg)) (a1 a2 : Int) (u : Sg) : Option (Int × Sg) := ld u 30 a1 fun v1 => cl (call 7 [v1, 0] u) fun v2 s3 => bX3_conditional_L18 call KF a1 a2 v1 v2 2 s3 (fun v5 v6 v7 s4 => jn (fun (a1 a2 a4 t0 : Int) (s9 : Sg) => bX3_conditional_L66 call KF a1 a2 a4 t0 0 s9 (fun v11 v12 v13 s10 => if v13 = 0 then (some (0, s10)) else (ld s10 35 v11 fun v14 => cl (call 85 [v12, v14] s10) fun v15 s16 => some (0, s16)))) fun j8 => if v7 = 0 then (j8 v5 v6 v7 1 s4) else (j8 v5 v6 v7 0 s4)) (fun s17 => some (0, s17))
section
variable {p : Program} {l : Launch} {e : Env} {R : Room} {s : State} {m : MethodId} {args : Array Value} {below : List Frame} {meth : Method} {c : Code} {G : Gm} {A : Nat → Prop} {ad0 : Nat → Nat} {σ0 : Sg} {d : Nat} {call : Nat → List Int → Sg → Option (Int × Sg)}
theorem wX3_conditional_L18 (hd : 2 ≤ d) (hRf : d + 1 ≤ R.frames) (hRl : 40 * (d + 1) ≤ R.locals) (hX3_get : ∀ (a1 a2 : Int) (u : Sg), Ct l d FT clA yX3_get cX3_get 3 (some .int) DX3_get rvI [vR 0, vI a1, vI a2] u (call 7 [a1, a2] u)) (hX3_hasAdj : ∀ (a1 a2 : Int) (u : Sg), Ct l d FT clA yX3_hasAdj cX3_hasAdj 4 (some .boolean) DX3_hasAdj rvI [vR 0, vI a1, vI a2] u (call 72 [a1, a2] u)) (hX3_top : ∀ (a1 : Int) (u : Sg), Ct l d FT clA yX3_top cX3_top 2 (some .int) DX3_top rvI [vR 0, vI a1] u (call 70 [a1] u)) (hX3_indexOf : ∀ (a1 : Int) (u : Sg), Ct l d FT clA yX3_indexOf cX3_indexOf 2 (some .int) DX3_indexOf rvI [vR 0, vI a1] u (call 66 [a1] u)) (hX3_hasHere : ∀ (a1 a2 a3 : Int) (u : Sg), Ct l d FT clA yX3_hasHere cX3_hasHere 5 (some .boolean) DX3_hasHere rvI [vR 0, vI a1, vI a2, vI a3] u (call 75 [a1, a2, a3] u)) (hX3_adjs : ∀ (a1 a2 : Int) (u : Sg), Ct l d FT clA yX3_adjs cX3_adjs 4 none DX3_adjs rvV [vR 0, vI a1, vI a2] u (call 85 [a1, a2] u)) (x51 : Int → Int → Int → Sg → Option (Int × Sg)) (x44 : Sg → Option (Int × Sg)) (hx51 : ∀ (a1 a2 a4 : Int) (u : Sg), inR a1 → inR a2 → inR a4 → WG p l e R s m args below meth c JX3_conditional DX3_conditional G clA A FT ad0 σ0 rvV (x51 a1 a2 a4 u) u 51 [(0, vR 0), (1, vI a1), (2, vI a2), (4, vI a4)] []) (hx44 : ∀ (u : Sg), WG p l e R s m args below meth c JX3_conditional DX3_conditional G clA A FT ad0 σ0 rvV (x44 u) u 44 [] []) : ∀ (n : Nat) (a1 a2 a3 a4 a5 : Int) (u : Sg), inR a1 → inR a2 → inR a3 → inR a4 → inR a5 → WG p l e R s m args below meth c JX3_conditional DX3_conditional G clA A FT ad0 σ0 rvV (bX3_conditional_L18 call n a1 a2 a3 a4 a5 u x51 x44) u 18 [(0, vR 0), (1, vI a1), (2, vI a2), (3, vI a3), (4, vI a4), (5, vI a5)] [] := by
  intro n
  induction n with
  | zero =>
    intro a1 a2 a3 a4 a5 u ra1 ra2 ra3 ra4 ra5
    exact g_none
  | succ n ih =>
    intro a1 a2 a3 a4 a5 u ra1 ra2 ra3 ra4 ra5
    rw [bX3_conditional_L18]
    refine g_iload 5 dX3_conditional_18 rfl ?_
    refine g_aload_n 0 dX3_conditional_20 rfl ?_
    refine g_get (v := vR 13) (ci := 2) (b := 0) (N := 83) 3 rfl rfl (by decide) in_X3 rfl rfl q1135 dX3_conditional_21 ?_
    refine g_iload_n 3 dX3_conditional_24 rfl ?_
    refine g_iald (id := 3) 2 rfl rfl dX3_conditional_25 (fun v1 rv1 => ?_)
    refine g_icmp_ge 51 dX3_conditional_26 (by decide) (fun _ => ra5) (fun _ => rv1) (fun _ => ?_) (fun _ => ?_)
    · refine g_aload_n 0 dX3_conditional_29 rfl ?_
      refine g_iload_n 2 dX3_conditional_30 rfl ?_
      refine g_aload_n 0 dX3_conditional_31 rfl ?_
      refine g_iload_n 3 dX3_conditional_32 rfl ?_
      refine g_iload 5 dX3_conditional_33 rfl ?_
      refine g_cVI (As := [vI a3, vI a5]) (n := 2) (stk := [vI a2, vR 0]) (ci := 2) (b := 0) (N := 83) (hX3_get a3 a5 u) (by decide +kernel) rfl rfl (lw_V q1116 q1118 qs76 q168 q1119) (by decide +kernel) rfl (by decide) hRf hRl (fun _ => (avc ra3 (avc ra5 avn))) (Nat.le_of_ble_eq_true rfl) rfl rfl dX3_conditional_35 (fun v2 s3 rv2 => ?_)
      refine g_cVZ (As := [vI a2, vI v2]) (n := 2) (stk := []) (ci := 2) (b := 0) (N := 83) (hX3_hasAdj a2 v2 s3) (by decide +kernel) rfl rfl (lw_V q1630 q1632 qs121 q168 q1633) (by decide +kernel) rfl (by decide) hRf hRl (fun _ => (avc ra2 (avc rv2 avn))) (Nat.le_of_ble_eq_true rfl) rfl rfl dX3_conditional_38 (fun v4 s5 zv4 => ?_)
      refine g_if_ne 45 dX3_conditional_41 (by decide) (fun _ => (inR_z zv4)) (fun _ => ?_) (fun _ => ?_)
      · exact g_pick [] rfl (hx44 s5)
      · refine g_iinc 5 (loc' := fun v6 => [(5, vI v6), (0, vR 0), (1, vI a1), (2, vI a2), (3, vI a3), (4, vI a4)]) dX3_conditional_45 rfl (by decide) (fun _ => rfl) (fun v6 rv6 => ?_)
        refine g_goto 18 dX3_conditional_48 (by decide) ?_
        exact g_pick [1, 2, 3, 4, 5, 0] rfl (ih a1 a2 a3 a4 v6 s5 ra1 ra2 ra3 ra4 rv6)
    · exact g_pick [0, 1, 2, 4] rfl (hx51 a1 a2 a4 u ra1 ra2 ra4)
theorem wX3_conditional_L66 (hd : 2 ≤ d) (hRf : d + 1 ≤ R.frames) (hRl : 40 * (d + 1) ≤ R.locals) (hX3_get : ∀ (a1 a2 : Int) (u : Sg), Ct l d FT clA yX3_get cX3_get 3 (some .int) DX3_get rvI [vR 0, vI a1, vI a2] u (call 7 [a1, a2] u)) (hX3_hasAdj : ∀ (a1 a2 : Int) (u : Sg), Ct l d FT clA yX3_hasAdj cX3_hasAdj 4 (some .boolean) DX3_hasAdj rvI [vR 0, vI a1, vI a2] u (call 72 [a1, a2] u)) (hX3_top : ∀ (a1 : Int) (u : Sg), Ct l d FT clA yX3_top cX3_top 2 (some .int) DX3_top rvI [vR 0, vI a1] u (call 70 [a1] u)) (hX3_indexOf : ∀ (a1 : Int) (u : Sg), Ct l d FT clA yX3_indexOf cX3_indexOf 2 (some .int) DX3_indexOf rvI [vR 0, vI a1] u (call 66 [a1] u)) (hX3_hasHere : ∀ (a1 a2 a3 : Int) (u : Sg), Ct l d FT clA yX3_hasHere cX3_hasHere 5 (some .boolean) DX3_hasHere rvI [vR 0, vI a1, vI a2, vI a3] u (call 75 [a1, a2, a3] u)) (hX3_adjs : ∀ (a1 a2 : Int) (u : Sg), Ct l d FT clA yX3_adjs cX3_adjs 4 none DX3_adjs rvV [vR 0, vI a1, vI a2] u (call 85 [a1, a2] u)) (x169 : Int → Int → Int → Sg → Option (Int × Sg)) (hx169 : ∀ (a1 a2 a5 : Int) (u : Sg), inR a1 → inR a2 → (a5 = 0 ∨ a5 = 1) → WG p l e R s m args below meth c JX3_conditional DX3_conditional G clA A FT ad0 σ0 rvV (x169 a1 a2 a5 u) u 169 [(0, vR 0), (1, vI a1), (2, vI a2), (5, vI a5)] []) : ∀ (n : Nat) (a1 a2 a4 a5 a6 : Int) (u : Sg), inR a1 → inR a2 → inR a4 → (a5 = 0 ∨ a5 = 1) → inR a6 → WG p l e R s m args below meth c JX3_conditional DX3_conditional G clA A FT ad0 σ0 rvV (bX3_conditional_L66 call n a1 a2 a4 a5 a6 u x169) u 66 [(0, vR 0), (1, vI a1), (2, vI a2), (4, vI a4), (5, vI a5), (6, vI a6)] [] := by
  intro n
  induction n with
  | zero =>
    intro a1 a2 a4 a5 a6 u ra1 ra2 ra4 za5 ra6
    exact g_none
  | succ n ih =>
    intro a1 a2 a4 a5 a6 u ra1 ra2 ra4 za5 ra6
    rw [bX3_conditional_L66]
    refine g_iload 5 dX3_conditional_66 rfl ?_
    refine g_aload_n 0 dX3_conditional_68 rfl ?_
    refine g_getI (ci := 2) (b := 0) (N := 83) 62 rfl rfl rfl (by decide) in_X3 rfl rfl q1194 dX3_conditional_69 (fun v1 rv1 => ?_)
    refine g_icmp_ge 169 dX3_conditional_72 (by decide) (fun _ => ra6) (fun _ => rv1) (fun _ => ?_) (fun _ => ?_)
    · refine g_iload 4 dX3_conditional_75 rfl ?_
      refine g_if_ne 169 dX3_conditional_77 (by decide) (fun _ => (inR_z za5)) (fun _ => ?_) (fun _ => ?_)
      · refine g_aload_n 0 dX3_conditional_80 rfl ?_
        refine g_get (v := vR 70) (ci := 2) (b := 0) (N := 83) 60 rfl rfl (by decide) in_X3 rfl rfl q1192 dX3_conditional_81 ?_
        refine g_iload 5 dX3_conditional_84 rfl ?_
        refine g_iald (id := 60) 42 rfl rfl dX3_conditional_86 (fun v2 rv2 => ?_)
        refine g_iload 3 dX3_conditional_87 rfl ?_
        refine g_icmp_ne 163 dX3_conditional_89 (by decide) (fun _ => rv2) (fun _ => ra4) (fun _ => ?_) (fun _ => ?_)
        · refine g_aload_n 0 dX3_conditional_92 rfl ?_
          refine g_aload_n 0 dX3_conditional_93 rfl ?_
          refine g_get (v := vR 69) (ci := 2) (b := 0) (N := 83) 59 rfl rfl (by decide) in_X3 rfl rfl q1191 dX3_conditional_94 ?_
          refine g_iload 5 dX3_conditional_97 rfl ?_
          refine g_iald (id := 59) 41 rfl rfl dX3_conditional_99 (fun v3 rv3 => ?_)
          refine g_cVI (As := [vI v3]) (n := 1) (stk := []) (ci := 2) (b := 0) (N := 83) (hX3_top v3 u) (by decide +kernel) rfl rfl (lw_V q1622 q1624 qs119 q168 q1625) (by decide +kernel) rfl (by decide) hRf hRl (fun _ => (avc rv3 avn)) (Nat.le_of_ble_eq_true rfl) rfl rfl dX3_conditional_100 (fun v4 s5 rv4 => ?_)
          refine g_iload_n 2 dX3_conditional_103 rfl ?_
          refine g_icmp_ne 163 dX3_conditional_104 (by decide) (fun _ => rv4) (fun _ => ra2) (fun _ => ?_) (fun _ => ?_)
          · refine g_jn (fun j6 => ∀ (a1 a2 a4 a6 t0 : Int) (s7 : Sg), inR a1 → inR a2 → inR a4 → inR a6 → (t0 = 0 ∨ t0 = 1) → WG p l e R s m args below meth c JX3_conditional DX3_conditional G clA A FT ad0 σ0 rvV (j6 a1 a2 a4 a6 t0 s7) s7 161 [(0, vR 0), (1, vI a1), (2, vI a2), (4, vI a4), (6, vI a6)] [vI t0]) (fun a1 a2 a4 a6 t0 s7 ra1 ra2 ra4 ra6 zt0 => ?_) (fun j6 hj6 => ?_)
            · refine g_istore (loc' := [(5, vI t0), (0, vR 0), (1, vI a1), (2, vI a2), (4, vI a4), (6, vI a6)]) dX3_conditional_161 (by decide) rfl ?_
              refine g_iinc 5 (loc' := fun v8 => [(6, vI v8), (5, vI t0), (0, vR 0), (1, vI a1), (2, vI a2), (4, vI a4)]) dX3_conditional_163 rfl (by decide) (fun _ => rfl) (fun v8 rv8 => ?_)
              refine g_goto 66 dX3_conditional_166 (by decide) ?_
              exact g_pick [2, 3, 4, 5, 1, 0] rfl (ih a1 a2 a4 t0 v8 s7 ra1 ra2 ra4 zt0 rv8)
            · refine g_jn (fun j9 => ∀ (a1 a2 a4 a6 : Int) (s10 : Sg), inR a1 → inR a2 → inR a4 → inR a6 → WG p l e R s m args below meth c JX3_conditional DX3_conditional G clA A FT ad0 σ0 rvV (j9 a1 a2 a4 a6 s10) s10 156 [(0, vR 0), (1, vI a1), (2, vI a2), (4, vI a4), (6, vI a6)] []) (fun a1 a2 a4 a6 s10 ra1 ra2 ra4 ra6 => ?_) (fun j9 hj9 => ?_)
              · refine g_iconst dX3_conditional_156 ?_
                refine g_goto 161 dX3_conditional_157 (by decide) ?_
                exact g_pick [0, 1, 2, 3, 4] rfl (hj6 a1 a2 a4 a6 1 s10 ra1 ra2 ra4 ra6 (Or.inr rfl))
              · refine g_aload_n 0 dX3_conditional_107 rfl ?_
                refine g_get (v := vR 41) (ci := 2) (b := 0) (N := 83) 31 rfl rfl (by decide) in_X3 rfl rfl q1163 dX3_conditional_108 ?_
                refine g_iload_n 1 dX3_conditional_111 rfl ?_
                refine g_iald (id := 31) 21 rfl rfl dX3_conditional_112 (fun v11 rv11 => ?_)
                refine g_if_eq 156 dX3_conditional_113 (by decide) (fun _ => rv11) (fun _ => ?_) (fun _ => ?_)
                · exact g_pick [0, 1, 2, 3, 5] rfl (hj9 a1 a2 a4 a6 s5 ra1 ra2 ra4 ra6)
                · refine g_aload_n 0 dX3_conditional_116 rfl ?_
                  refine g_aload_n 0 dX3_conditional_117 rfl ?_
                  refine g_aload_n 0 dX3_conditional_118 rfl ?_
                  refine g_get (v := vR 71) (ci := 2) (b := 0) (N := 83) 61 rfl rfl (by decide) in_X3 rfl rfl q1193 dX3_conditional_119 ?_
                  refine g_iload 5 dX3_conditional_122 rfl ?_
                  refine g_iald (id := 61) 43 rfl rfl dX3_conditional_124 (fun v12 rv12 => ?_)
                  refine g_cVI (As := [vI v12]) (n := 1) (stk := [vR 0]) (ci := 2) (b := 0) (N := 83) (hX3_indexOf v12 s5) (by decide +kernel) rfl rfl (lw_V q1606 q1608 qs115 q168 q1609) (by decide +kernel) rfl (by decide) hRf hRl (fun _ => (avc rv12 avn)) (Nat.le_of_ble_eq_true rfl) rfl rfl dX3_conditional_125 (fun v13 s14 rv13 => ?_)
                  refine g_aload_n 0 dX3_conditional_128 rfl ?_
                  refine g_aload_n 0 dX3_conditional_129 rfl ?_
                  refine g_get (v := vR 41) (ci := 2) (b := 0) (N := 83) 31 rfl rfl (by decide) in_X3 rfl rfl q1163 dX3_conditional_130 ?_
                  refine g_iload_n 1 dX3_conditional_133 rfl ?_
                  refine g_iald (id := 31) 21 rfl rfl dX3_conditional_134 (fun v15 rv15 => ?_)
                  refine g_iconst dX3_conditional_135 ?_
                  refine g_cVI (As := [vI v15, vI 0]) (n := 2) (stk := [vI v13, vR 0]) (ci := 2) (b := 0) (N := 83) (hX3_get v15 0 s14) (by decide +kernel) rfl rfl (lw_V q1116 q1118 qs76 q168 q1119) (by decide +kernel) rfl (by decide) hRf hRl (fun _ => (avc rv15 (avc (inR_z (Or.inl rfl)) avn))) (Nat.le_of_ble_eq_true rfl) rfl rfl dX3_conditional_136 (fun v16 s17 rv16 => ?_)
                  refine g_aload_n 0 dX3_conditional_139 rfl ?_
                  refine g_aload_n 0 dX3_conditional_140 rfl ?_
                  refine g_get (v := vR 41) (ci := 2) (b := 0) (N := 83) 31 rfl rfl (by decide) in_X3 rfl rfl q1163 dX3_conditional_141 ?_
                  refine g_iload_n 1 dX3_conditional_144 rfl ?_
                  refine g_iald (id := 31) 21 rfl rfl dX3_conditional_145 (fun v18 rv18 => ?_)
                  refine g_iconst dX3_conditional_146 ?_
                  refine g_cVI (As := [vI v18, vI 1]) (n := 2) (stk := [vI v16, vI v13, vR 0]) (ci := 2) (b := 0) (N := 83) (hX3_get v18 1 s17) (by decide +kernel) rfl rfl (lw_V q1116 q1118 qs76 q168 q1119) (by decide +kernel) rfl (by decide) hRf hRl (fun _ => (avc rv18 (avc (inR_z (Or.inr rfl)) avn))) (Nat.le_of_ble_eq_true rfl) rfl rfl dX3_conditional_147 (fun v19 s20 rv19 => ?_)
                  refine g_cVZ (As := [vI v13, vI v16, vI v19]) (n := 3) (stk := []) (ci := 2) (b := 0) (N := 83) (hX3_hasHere v13 v16 v19 s20) (by decide +kernel) rfl rfl (lw_V q1642 q1644 qs124 q168 q1645) (by decide +kernel) rfl (by decide) hRf hRl (fun _ => (avc rv13 (avc rv16 (avc rv19 avn)))) (Nat.le_of_ble_eq_true rfl) rfl rfl dX3_conditional_150 (fun v21 s22 zv21 => ?_)
                  refine g_if_eq 160 dX3_conditional_153 (by decide) (fun _ => (inR_z zv21)) (fun _ => ?_) (fun _ => ?_)
                  · refine g_iconst dX3_conditional_160 ?_
                    exact g_pick [0, 1, 2, 3, 5] rfl (hj6 a1 a2 a4 a6 0 s22 ra1 ra2 ra4 ra6 (Or.inl rfl))
                  · exact g_pick [0, 1, 2, 3, 5] rfl (hj9 a1 a2 a4 a6 s22 ra1 ra2 ra4 ra6)
          · refine g_iinc 5 (loc' := fun v23 => [(6, vI v23), (0, vR 0), (1, vI a1), (2, vI a2), (4, vI a4), (5, vI a5)]) dX3_conditional_163 rfl (by decide) (fun _ => rfl) (fun v23 rv23 => ?_)
            refine g_goto 66 dX3_conditional_166 (by decide) ?_
            exact g_pick [1, 2, 3, 4, 5, 0] rfl (ih a1 a2 a4 a5 v23 s5 ra1 ra2 ra4 za5 rv23)
        · refine g_iinc 5 (loc' := fun v24 => [(6, vI v24), (0, vR 0), (1, vI a1), (2, vI a2), (4, vI a4), (5, vI a5)]) dX3_conditional_163 rfl (by decide) (fun _ => rfl) (fun v24 rv24 => ?_)
          refine g_goto 66 dX3_conditional_166 (by decide) ?_
          exact g_pick [1, 2, 3, 4, 5, 0] rfl (ih a1 a2 a4 a5 v24 u ra1 ra2 ra4 za5 rv24)
      · exact g_pick [0, 1, 2, 4] rfl (hx169 a1 a2 a5 u ra1 ra2 za5)
    · exact g_pick [0, 1, 2, 4] rfl (hx169 a1 a2 a5 u ra1 ra2 za5)
theorem wX3_conditional (hd : 2 ≤ d) (hRf : d + 1 ≤ R.frames) (hRl : 40 * (d + 1) ≤ R.locals) (hX3_get : ∀ (a1 a2 : Int) (u : Sg), Ct l d FT clA yX3_get cX3_get 3 (some .int) DX3_get rvI [vR 0, vI a1, vI a2] u (call 7 [a1, a2] u)) (hX3_hasAdj : ∀ (a1 a2 : Int) (u : Sg), Ct l d FT clA yX3_hasAdj cX3_hasAdj 4 (some .boolean) DX3_hasAdj rvI [vR 0, vI a1, vI a2] u (call 72 [a1, a2] u)) (hX3_top : ∀ (a1 : Int) (u : Sg), Ct l d FT clA yX3_top cX3_top 2 (some .int) DX3_top rvI [vR 0, vI a1] u (call 70 [a1] u)) (hX3_indexOf : ∀ (a1 : Int) (u : Sg), Ct l d FT clA yX3_indexOf cX3_indexOf 2 (some .int) DX3_indexOf rvI [vR 0, vI a1] u (call 66 [a1] u)) (hX3_hasHere : ∀ (a1 a2 a3 : Int) (u : Sg), Ct l d FT clA yX3_hasHere cX3_hasHere 5 (some .boolean) DX3_hasHere rvI [vR 0, vI a1, vI a2, vI a3] u (call 75 [a1, a2, a3] u)) (hX3_adjs : ∀ (a1 a2 : Int) (u : Sg), Ct l d FT clA yX3_adjs cX3_adjs 4 none DX3_adjs rvV [vR 0, vI a1, vI a2] u (call 85 [a1, a2] u)) (a1 a2 : Int) (u : Sg) (ra1 : inR a1) (ra2 : inR a2) : WG p l e R s m args below meth c JX3_conditional DX3_conditional G clA A FT ad0 σ0 rvV (bX3_conditional call a1 a2 u) u 0 [(0, vR 0), (1, vI a1), (2, vI a2)] [] := by
  unfold bX3_conditional
  refine g_aload_n 0 dX3_conditional_0 rfl ?_
  refine g_get (v := vR 40) (ci := 2) (b := 0) (N := 83) 30 rfl rfl (by decide) in_X3 rfl rfl q1162 dX3_conditional_1 ?_
  refine g_iload_n 1 dX3_conditional_4 rfl ?_
  refine g_iald (id := 30) 20 rfl rfl dX3_conditional_5 (fun v1 rv1 => ?_)
  refine g_istore_n (loc' := [(3, vI v1), (0, vR 0), (1, vI a1), (2, vI a2)]) dX3_conditional_6 (by decide) rfl ?_
  refine g_aload_n 1 dX3_conditional_7 rfl ?_
  refine g_iload_n 0 dX3_conditional_8 rfl ?_
  refine g_iconst dX3_conditional_9 ?_
  refine g_cVI (As := [vI v1, vI 0]) (n := 2) (stk := []) (ci := 2) (b := 0) (N := 83) (hX3_get v1 0 u) (by decide +kernel) rfl rfl (lw_V q1116 q1118 qs76 q168 q1119) (by decide +kernel) rfl (by decide) hRf hRl (fun _ => (avc rv1 (avc (inR_z (Or.inl rfl)) avn))) (Nat.le_of_ble_eq_true rfl) rfl rfl dX3_conditional_10 (fun v2 s3 rv2 => ?_)
  refine g_istore (loc' := [(4, vI v2), (3, vI v1), (0, vR 0), (1, vI a1), (2, vI a2)]) dX3_conditional_13 (by decide) rfl ?_
  refine g_iconst dX3_conditional_15 ?_
  refine g_istore (loc' := [(5, vI 2), (4, vI v2), (3, vI v1), (0, vR 0), (1, vI a1), (2, vI a2)]) dX3_conditional_16 (by decide) rfl ?_
  refine g_pick [3, 4, 5, 2, 1, 0] rfl (wX3_conditional_L18 hd hRf hRl hX3_get hX3_hasAdj hX3_top hX3_indexOf hX3_hasHere hX3_adjs _ _ (fun v5 v6 v7 s4 rv5 rv6 rv7 => ?_) (fun s17 => ?_) KF a1 a2 v1 v2 2 s3 ra1 ra2 rv1 rv2 (by decide : inR (2)))
  · refine g_jn (fun j8 => ∀ (a1 a2 a4 t0 : Int) (s9 : Sg), inR a1 → inR a2 → inR a4 → (t0 = 0 ∨ t0 = 1) → WG p l e R s m args below meth c JX3_conditional DX3_conditional G clA A FT ad0 σ0 rvV (j8 a1 a2 a4 t0 s9) s9 61 [(0, vR 0), (1, vI a1), (2, vI a2), (4, vI a4)] [vI t0]) (fun a1 a2 a4 t0 s9 ra1 ra2 ra4 zt0 => ?_) (fun j8 hj8 => ?_)
    · refine g_istore (loc' := [(5, vI t0), (0, vR 0), (1, vI a1), (2, vI a2), (4, vI a4)]) dX3_conditional_61 (by decide) rfl ?_
      refine g_iconst dX3_conditional_63 ?_
      refine g_istore (loc' := [(6, vI 0), (5, vI t0), (0, vR 0), (1, vI a1), (2, vI a2), (4, vI a4)]) dX3_conditional_64 (by decide) rfl ?_
      refine g_pick [2, 3, 4, 5, 1, 0] rfl (wX3_conditional_L66 hd hRf hRl hX3_get hX3_hasAdj hX3_top hX3_indexOf hX3_hasHere hX3_adjs _ (fun v11 v12 v13 s10 rv11 rv12 zv13 => ?_) KF a1 a2 a4 t0 0 s9 ra1 ra2 ra4 zt0 (inR_z (Or.inl rfl)))
      · refine g_iload 3 dX3_conditional_169 rfl ?_
        refine g_if_eq 185 dX3_conditional_171 (by decide) (fun _ => (inR_z zv13)) (fun _ => ?_) (fun _ => ?_)
        · exact g_vret rfl rfl dX3_conditional_185
        · refine g_aload_n 0 dX3_conditional_174 rfl ?_
          refine g_iload_n 2 dX3_conditional_175 rfl ?_
          refine g_aload_n 0 dX3_conditional_176 rfl ?_
          refine g_get (v := vR 45) (ci := 2) (b := 0) (N := 83) 35 rfl rfl (by decide) in_X3 rfl rfl q1167 dX3_conditional_177 ?_
          refine g_iload_n 1 dX3_conditional_180 rfl ?_
          refine g_iald (id := 35) 25 rfl rfl dX3_conditional_181 (fun v14 rv14 => ?_)
          refine g_cVV (As := [vI v12, vI v14]) (n := 2) (stk := []) (ci := 2) (b := 0) (N := 83) (hX3_adjs v12 v14 s10) (by decide +kernel) rfl rfl (lw_V q1682 q1684 qs134 q168 q1685) (by decide +kernel) rfl (by decide) hRf hRl (fun _ => (avc rv12 (avc rv14 avn))) (Nat.le_of_ble_eq_true rfl) rfl rfl dX3_conditional_182 (fun v15 s16 => ?_)
          exact g_vret rfl rfl dX3_conditional_185
    · refine g_iload 3 dX3_conditional_51 rfl ?_
      refine g_if_ne 60 dX3_conditional_53 (by decide) (fun _ => rv7) (fun _ => ?_) (fun _ => ?_)
      · refine g_iconst dX3_conditional_56 ?_
        refine g_goto 61 dX3_conditional_57 (by decide) ?_
        exact g_pick [0, 1, 2, 3] rfl (hj8 v5 v6 v7 1 s4 rv5 rv6 rv7 (Or.inr rfl))
      · refine g_iconst dX3_conditional_60 ?_
        exact g_pick [0, 1, 2, 3] rfl (hj8 v5 v6 v7 0 s4 rv5 rv6 rv7 (Or.inl rfl))
  · exact g_vret rfl rfl dX3_conditional_44
end
section
variable {l : Launch} {d : Nat} {call : Nat → List Int → Sg → Option (Int × Sg)}
theorem ctX3_conditional (p0 : Program) (e0 : Env) (s0 : State) (m0 : MethodId) (meth0 : Method) (c0 : Code) (G0 : Gm) (hd : 2 ≤ d) (hX3_get : ∀ (a1 a2 : Int) (u : Sg), Ct l d FT clA yX3_get cX3_get 3 (some .int) DX3_get rvI [vR 0, vI a1, vI a2] u (call 7 [a1, a2] u)) (hX3_hasAdj : ∀ (a1 a2 : Int) (u : Sg), Ct l d FT clA yX3_hasAdj cX3_hasAdj 4 (some .boolean) DX3_hasAdj rvI [vR 0, vI a1, vI a2] u (call 72 [a1, a2] u)) (hX3_top : ∀ (a1 : Int) (u : Sg), Ct l d FT clA yX3_top cX3_top 2 (some .int) DX3_top rvI [vR 0, vI a1] u (call 70 [a1] u)) (hX3_indexOf : ∀ (a1 : Int) (u : Sg), Ct l d FT clA yX3_indexOf cX3_indexOf 2 (some .int) DX3_indexOf rvI [vR 0, vI a1] u (call 66 [a1] u)) (hX3_hasHere : ∀ (a1 a2 a3 : Int) (u : Sg), Ct l d FT clA yX3_hasHere cX3_hasHere 5 (some .boolean) DX3_hasHere rvI [vR 0, vI a1, vI a2, vI a3] u (call 75 [a1, a2, a3] u)) (hX3_adjs : ∀ (a1 a2 : Int) (u : Sg), Ct l d FT clA yX3_adjs cX3_adjs 4 none DX3_adjs rvV [vR 0, vI a1, vI a2] u (call 85 [a1, a2] u)) (a1 a2 : Int) (u : Sg) : Ct l (d + 1) FT clA yX3_conditional cX3_conditional 7 none DX3_conditional rvV [vR 0, vI a1, vI a2] u (bX3_conditional call a1 a2 u) :=
  Ct_of (by decide) (Nat.le_of_ble_eq_true rfl) (fun p e R s1 m args below meth c G A ad hA hRf hRl => wX3_conditional hd hRf hRl hX3_get hX3_hasAdj hX3_top hX3_indexOf hX3_hasHere hX3_adjs a1 a2 u (hA _ (List.mem_cons_of_mem _ List.mem_cons_self)) (hA _ (List.mem_cons_of_mem _ (List.mem_cons_of_mem _ List.mem_cons_self)))) p0 e0 s0 m0 meth0 c0 G0
end
/-! RoundCheckModel.adjs(II)V -/
abbrev JX3_adjs : Jm := (cX3_adjs, RX3, 4, none)
def bX3_adjs_L2 (call : Nat → List Int → Sg → Option (Int × Sg)) : Nat → Int → Int → Int → Sg → (Sg → Option (Int × Sg)) → Option (Int × Sg)
  | 0, _, _, _, _, _ => none
  | n + 1, a1, a2, a3, u, x29 => if a3 < 31 then (un (o_shr a2 a3) fun v1 => un (o_and v1 1) fun v2 => if v2 = 1 then (cl (call 71 [a1, a3] u) fun v3 s4 => ar (a3 + 1) fun v5 => bX3_adjs_L2 call n a1 a2 v5 s4 x29) else (ar (a3 + 1) fun v6 => bX3_adjs_L2 call n a1 a2 v6 u x29)) else (x29 u)
def bX3_adjs (call : Nat → List Int → Sg → Option (Int × Sg)) (a1 a2 : Int) (u : Sg) : Option (Int × Sg) := bX3_adjs_L2 call KF a1 a2 0 u (fun s1 => some (0, s1))
section
variable {p : Program} {l : Launch} {e : Env} {R : Room} {s : State} {m : MethodId} {args : Array Value} {below : List Frame} {meth : Method} {c : Code} {G : Gm} {A : Nat → Prop} {ad0 : Nat → Nat} {σ0 : Sg} {d : Nat} {call : Nat → List Int → Sg → Option (Int × Sg)}
theorem wX3_adjs_L2 (hd : 2 ≤ d) (hRf : d + 1 ≤ R.frames) (hRl : 40 * (d + 1) ≤ R.locals) (hX3_adj : ∀ (a1 a2 : Int) (u : Sg), Ct l d FT clA yX3_adj cX3_adj 3 none DX3_adj rvV [vR 0, vI a1, vI a2] u (call 71 [a1, a2] u)) (x29 : Sg → Option (Int × Sg)) (hx29 : ∀ (u : Sg), WG p l e R s m args below meth c JX3_adjs DX3_adjs G clA A FT ad0 σ0 rvV (x29 u) u 29 [] []) : ∀ (n : Nat) (a1 a2 a3 : Int) (u : Sg), inR a1 → inR a2 → inR a3 → WG p l e R s m args below meth c JX3_adjs DX3_adjs G clA A FT ad0 σ0 rvV (bX3_adjs_L2 call n a1 a2 a3 u x29) u 2 [(0, vR 0), (1, vI a1), (2, vI a2), (3, vI a3)] [] := by
  intro n
  induction n with
  | zero =>
    intro a1 a2 a3 u ra1 ra2 ra3
    exact g_none
  | succ n ih =>
    intro a1 a2 a3 u ra1 ra2 ra3
    rw [bX3_adjs_L2]
    refine g_iload_n 3 dX3_adjs_2 rfl ?_
    refine g_bipush (by decide +kernel) dX3_adjs_3 ?_
    refine g_icmp_ge 29 dX3_adjs_5 (by decide) (fun _ => ra3) (fun _ => (by decide : inR (31))) (fun _ => ?_) (fun _ => ?_)
    · refine g_iload_n 2 dX3_adjs_8 rfl ?_
      refine g_iload_n 3 dX3_adjs_9 rfl ?_
      refine g_ishrU dX3_adjs_10 (fun v1 rv1 => ?_)
      refine g_iconst dX3_adjs_11 ?_
      refine g_iandU dX3_adjs_12 (fun v2 rv2 => ?_)
      refine g_iconst dX3_adjs_13 ?_
      refine g_icmp_ne 23 dX3_adjs_14 (by decide) (fun _ => rv2) (fun _ => (inR_z (Or.inr rfl))) (fun _ => ?_) (fun _ => ?_)
      · refine g_aload_n 0 dX3_adjs_17 rfl ?_
        refine g_iload_n 1 dX3_adjs_18 rfl ?_
        refine g_iload_n 3 dX3_adjs_19 rfl ?_
        refine g_cVV (As := [vI a1, vI a3]) (n := 2) (stk := []) (ci := 2) (b := 0) (N := 83) (hX3_adj a1 a3 u) (by decide +kernel) rfl rfl (lw_V q1626 q1628 qs120 q168 q1629) (by decide +kernel) rfl (by decide) hRf hRl (fun _ => (avc ra1 (avc ra3 avn))) (Nat.le_of_ble_eq_true rfl) rfl rfl dX3_adjs_20 (fun v3 s4 => ?_)
        refine g_iinc 3 (loc' := fun v5 => [(3, vI v5), (0, vR 0), (1, vI a1), (2, vI a2)]) dX3_adjs_23 rfl (by decide) (fun _ => rfl) (fun v5 rv5 => ?_)
        refine g_goto 2 dX3_adjs_26 (by decide) ?_
        exact g_pick [1, 2, 3, 0] rfl (ih a1 a2 v5 s4 ra1 ra2 rv5)
      · refine g_iinc 3 (loc' := fun v6 => [(3, vI v6), (0, vR 0), (1, vI a1), (2, vI a2)]) dX3_adjs_23 rfl (by decide) (fun _ => rfl) (fun v6 rv6 => ?_)
        refine g_goto 2 dX3_adjs_26 (by decide) ?_
        exact g_pick [1, 2, 3, 0] rfl (ih a1 a2 v6 u ra1 ra2 rv6)
    · exact g_pick [] rfl (hx29 u)
theorem wX3_adjs (hd : 2 ≤ d) (hRf : d + 1 ≤ R.frames) (hRl : 40 * (d + 1) ≤ R.locals) (hX3_adj : ∀ (a1 a2 : Int) (u : Sg), Ct l d FT clA yX3_adj cX3_adj 3 none DX3_adj rvV [vR 0, vI a1, vI a2] u (call 71 [a1, a2] u)) (a1 a2 : Int) (u : Sg) (ra1 : inR a1) (ra2 : inR a2) : WG p l e R s m args below meth c JX3_adjs DX3_adjs G clA A FT ad0 σ0 rvV (bX3_adjs call a1 a2 u) u 0 [(0, vR 0), (1, vI a1), (2, vI a2)] [] := by
  unfold bX3_adjs
  refine g_iconst dX3_adjs_0 ?_
  refine g_istore_n (loc' := [(3, vI 0), (0, vR 0), (1, vI a1), (2, vI a2)]) dX3_adjs_1 (by decide) rfl ?_
  refine g_pick [1, 2, 3, 0] rfl (wX3_adjs_L2 hd hRf hRl hX3_adj _ (fun s1 => ?_) KF a1 a2 0 u ra1 ra2 (inR_z (Or.inl rfl)))
  · exact g_vret rfl rfl dX3_adjs_29
end
section
variable {l : Launch} {d : Nat} {call : Nat → List Int → Sg → Option (Int × Sg)}
theorem ctX3_adjs (p0 : Program) (e0 : Env) (s0 : State) (m0 : MethodId) (meth0 : Method) (c0 : Code) (G0 : Gm) (hd : 2 ≤ d) (hX3_adj : ∀ (a1 a2 : Int) (u : Sg), Ct l d FT clA yX3_adj cX3_adj 3 none DX3_adj rvV [vR 0, vI a1, vI a2] u (call 71 [a1, a2] u)) (a1 a2 : Int) (u : Sg) : Ct l (d + 1) FT clA yX3_adjs cX3_adjs 4 none DX3_adjs rvV [vR 0, vI a1, vI a2] u (bX3_adjs call a1 a2 u) :=
  Ct_of (by decide) (Nat.le_of_ble_eq_true rfl) (fun p e R s1 m args below meth c G A ad hA hRf hRl => wX3_adjs hd hRf hRl hX3_adj a1 a2 u (hA _ (List.mem_cons_of_mem _ List.mem_cons_self)) (hA _ (List.mem_cons_of_mem _ (List.mem_cons_of_mem _ List.mem_cons_self)))) p0 e0 s0 m0 meth0 c0 G0
end
/-! RoundCheckModel.termsFit(II)Z -/
abbrev JX3_termsFit : Jm := (cX3_termsFit, RX3, 4, (some .boolean))
def bX3_termsFit_L2 (call : Nat → List Int → Sg → Option (Int × Sg)) : Nat → Int → Int → Int → Sg → (Sg → Option (Int × Sg)) → (Sg → Option (Int × Sg)) → Option (Int × Sg)
  | 0, _, _, _, _, _, _ => none
  | n + 1, a1, a2, a3, u, x62, x54 => ld u 3 a2 fun v1 => if a3 < v1 then (jn (fun (a1 a2 a3 t1 t3 : Int) (s3 : Sg) => cl (call 78 [t3] s3) fun v4 s5 => cl (call 87 [t1, v4] s5) fun v6 s7 => if v6 = 0 then (x54 s7) else (ar (a3 + 1) fun v8 => bX3_termsFit_L2 call n a1 a2 v8 s7 x62 x54)) fun j2 => cl (call 81 [a2] u) fun v9 s10 => cl (call 7 [a2, a3] s10) fun v11 s12 => if a3 = 1 then (ld s12 33 a1 fun v13 => j2 a1 a2 a3 v11 v13 s12) else (ld s12 34 a1 fun v14 => j2 a1 a2 a3 v11 v14 s12)) else (x62 u)
def bX3_termsFit (call : Nat → List Int → Sg → Option (Int × Sg)) (a1 a2 : Int) (u : Sg) : Option (Int × Sg) := bX3_termsFit_L2 call KF a1 a2 1 u (fun s1 => some (1, s1)) (fun s2 => some (0, s2))
section
variable {p : Program} {l : Launch} {e : Env} {R : Room} {s : State} {m : MethodId} {args : Array Value} {below : List Frame} {meth : Method} {c : Code} {G : Gm} {A : Nat → Prop} {ad0 : Nat → Nat} {σ0 : Sg} {d : Nat} {call : Nat → List Int → Sg → Option (Int × Sg)}
theorem wX3_termsFit_L2 (hd : 2 ≤ d) (hRf : d + 1 ≤ R.frames) (hRl : 40 * (d + 1) ≤ R.locals) (hX3_move : ∀ (a1 : Int) (u : Sg), Ct l d FT clA yX3_move cX3_move 2 (some .int) DX3_move rvI [vR 0, vI a1] u (call 78 [a1] u)) (hX3_fitsHere : ∀ (a1 a2 : Int) (u : Sg), Ct l d FT clA yX3_fitsHere cX3_fitsHere 5 (some .boolean) DX3_fitsHere rvI [vR 0, vI a1, vI a2] u (call 87 [a1, a2] u)) (hX3_moveLoci : ∀ (a1 : Int) (u : Sg), Ct l d FT clA yX3_moveLoci cX3_moveLoci 3 none DX3_moveLoci rvV [vR 0, vI a1] u (call 81 [a1] u)) (hX3_get : ∀ (a1 a2 : Int) (u : Sg), Ct l d FT clA yX3_get cX3_get 3 (some .int) DX3_get rvI [vR 0, vI a1, vI a2] u (call 7 [a1, a2] u)) (x62 : Sg → Option (Int × Sg)) (x54 : Sg → Option (Int × Sg)) (hx62 : ∀ (u : Sg), WG p l e R s m args below meth c JX3_termsFit DX3_termsFit G clA A FT ad0 σ0 rvI (x62 u) u 62 [] []) (hx54 : ∀ (u : Sg), WG p l e R s m args below meth c JX3_termsFit DX3_termsFit G clA A FT ad0 σ0 rvI (x54 u) u 54 [] []) : ∀ (n : Nat) (a1 a2 a3 : Int) (u : Sg), inR a1 → inR a2 → inR a3 → WG p l e R s m args below meth c JX3_termsFit DX3_termsFit G clA A FT ad0 σ0 rvI (bX3_termsFit_L2 call n a1 a2 a3 u x62 x54) u 2 [(0, vR 0), (1, vI a1), (2, vI a2), (3, vI a3)] [] := by
  intro n
  induction n with
  | zero =>
    intro a1 a2 a3 u ra1 ra2 ra3
    exact g_none
  | succ n ih =>
    intro a1 a2 a3 u ra1 ra2 ra3
    rw [bX3_termsFit_L2]
    refine g_iload_n 3 dX3_termsFit_2 rfl ?_
    refine g_aload_n 0 dX3_termsFit_3 rfl ?_
    refine g_get (v := vR 13) (ci := 2) (b := 0) (N := 83) 3 rfl rfl (by decide) in_X3 rfl rfl q1135 dX3_termsFit_4 ?_
    refine g_iload_n 2 dX3_termsFit_7 rfl ?_
    refine g_iald (id := 3) 2 rfl rfl dX3_termsFit_8 (fun v1 rv1 => ?_)
    refine g_icmp_ge 62 dX3_termsFit_9 (by decide) (fun _ => ra3) (fun _ => rv1) (fun _ => ?_) (fun _ => ?_)
    · refine g_jn (fun j2 => ∀ (a1 a2 a3 t1 t3 : Int) (s3 : Sg), inR a1 → inR a2 → inR a3 → inR t1 → inR t3 → WG p l e R s m args below meth c JX3_termsFit DX3_termsFit G clA A FT ad0 σ0 rvI (j2 a1 a2 a3 t1 t3 s3) s3 45 [(0, vR 0), (1, vI a1), (2, vI a2), (3, vI a3)] [vI t3, vR 0, vI t1, vR 0]) (fun a1 a2 a3 t1 t3 s3 ra1 ra2 ra3 rt1 rt3 => ?_) (fun j2 hj2 => ?_)
      · refine g_cVI (As := [vI t3]) (n := 1) (stk := [vI t1, vR 0]) (ci := 2) (b := 0) (N := 83) (hX3_move t3 s3) (by decide +kernel) rfl rfl (lw_V q1654 q1656 qs127 q168 q1657) (by decide +kernel) rfl (by decide) hRf hRl (fun _ => (avc rt3 avn)) (Nat.le_of_ble_eq_true rfl) rfl rfl dX3_termsFit_45 (fun v4 s5 rv4 => ?_)
        refine g_cVZ (As := [vI t1, vI v4]) (n := 2) (stk := []) (ci := 2) (b := 0) (N := 83) (hX3_fitsHere t1 v4 s5) (by decide +kernel) rfl rfl (lw_V q1690 q1692 qs136 q168 q1693) (by decide +kernel) rfl (by decide) hRf hRl (fun _ => (avc rt1 (avc rv4 avn))) (Nat.le_of_ble_eq_true rfl) rfl rfl dX3_termsFit_48 (fun v6 s7 zv6 => ?_)
        refine g_if_ne 56 dX3_termsFit_51 (by decide) (fun _ => (inR_z zv6)) (fun _ => ?_) (fun _ => ?_)
        · exact g_pick [] rfl (hx54 s7)
        · refine g_iinc 3 (loc' := fun v8 => [(3, vI v8), (0, vR 0), (1, vI a1), (2, vI a2)]) dX3_termsFit_56 rfl (by decide) (fun _ => rfl) (fun v8 rv8 => ?_)
          refine g_goto 2 dX3_termsFit_59 (by decide) ?_
          exact g_pick [1, 2, 3, 0] rfl (ih a1 a2 v8 s7 ra1 ra2 rv8)
      · refine g_aload_n 0 dX3_termsFit_12 rfl ?_
        refine g_iload_n 2 dX3_termsFit_13 rfl ?_
        refine g_cVV (As := [vI a2]) (n := 1) (stk := []) (ci := 2) (b := 0) (N := 83) (hX3_moveLoci a2 u) (by decide +kernel) rfl rfl (lw_V q1666 q1668 qs130 q168 q1669) (by decide +kernel) rfl (by decide) hRf hRl (fun _ => (avc ra2 avn)) (Nat.le_of_ble_eq_true rfl) rfl rfl dX3_termsFit_14 (fun v9 s10 => ?_)
        refine g_aload_n 0 dX3_termsFit_17 rfl ?_
        refine g_aload_n 0 dX3_termsFit_18 rfl ?_
        refine g_iload_n 2 dX3_termsFit_19 rfl ?_
        refine g_iload_n 3 dX3_termsFit_20 rfl ?_
        refine g_cVI (As := [vI a2, vI a3]) (n := 2) (stk := [vR 0]) (ci := 2) (b := 0) (N := 83) (hX3_get a2 a3 s10) (by decide +kernel) rfl rfl (lw_V q1116 q1118 qs76 q168 q1119) (by decide +kernel) rfl (by decide) hRf hRl (fun _ => (avc ra2 (avc ra3 avn))) (Nat.le_of_ble_eq_true rfl) rfl rfl dX3_termsFit_21 (fun v11 s12 rv11 => ?_)
        refine g_aload_n 0 dX3_termsFit_24 rfl ?_
        refine g_iload_n 3 dX3_termsFit_25 rfl ?_
        refine g_iconst dX3_termsFit_26 ?_
        refine g_icmp_ne 39 dX3_termsFit_27 (by decide) (fun _ => ra3) (fun _ => (inR_z (Or.inr rfl))) (fun _ => ?_) (fun _ => ?_)
        · refine g_aload_n 0 dX3_termsFit_30 rfl ?_
          refine g_get (v := vR 43) (ci := 2) (b := 0) (N := 83) 33 rfl rfl (by decide) in_X3 rfl rfl q1165 dX3_termsFit_31 ?_
          refine g_iload_n 1 dX3_termsFit_34 rfl ?_
          refine g_iald (id := 33) 23 rfl rfl dX3_termsFit_35 (fun v13 rv13 => ?_)
          refine g_goto 45 dX3_termsFit_36 (by decide) ?_
          exact g_pick [0, 1, 2, 3] rfl (hj2 a1 a2 a3 v11 v13 s12 ra1 ra2 ra3 rv11 rv13)
        · refine g_aload_n 0 dX3_termsFit_39 rfl ?_
          refine g_get (v := vR 44) (ci := 2) (b := 0) (N := 83) 34 rfl rfl (by decide) in_X3 rfl rfl q1166 dX3_termsFit_40 ?_
          refine g_iload_n 1 dX3_termsFit_43 rfl ?_
          refine g_iald (id := 34) 24 rfl rfl dX3_termsFit_44 (fun v14 rv14 => ?_)
          exact g_pick [0, 1, 2, 3] rfl (hj2 a1 a2 a3 v11 v14 s12 ra1 ra2 ra3 rv11 rv14)
    · exact g_pick [] rfl (hx62 u)
theorem wX3_termsFit (hd : 2 ≤ d) (hRf : d + 1 ≤ R.frames) (hRl : 40 * (d + 1) ≤ R.locals) (hX3_move : ∀ (a1 : Int) (u : Sg), Ct l d FT clA yX3_move cX3_move 2 (some .int) DX3_move rvI [vR 0, vI a1] u (call 78 [a1] u)) (hX3_fitsHere : ∀ (a1 a2 : Int) (u : Sg), Ct l d FT clA yX3_fitsHere cX3_fitsHere 5 (some .boolean) DX3_fitsHere rvI [vR 0, vI a1, vI a2] u (call 87 [a1, a2] u)) (hX3_moveLoci : ∀ (a1 : Int) (u : Sg), Ct l d FT clA yX3_moveLoci cX3_moveLoci 3 none DX3_moveLoci rvV [vR 0, vI a1] u (call 81 [a1] u)) (hX3_get : ∀ (a1 a2 : Int) (u : Sg), Ct l d FT clA yX3_get cX3_get 3 (some .int) DX3_get rvI [vR 0, vI a1, vI a2] u (call 7 [a1, a2] u)) (a1 a2 : Int) (u : Sg) (ra1 : inR a1) (ra2 : inR a2) : WG p l e R s m args below meth c JX3_termsFit DX3_termsFit G clA A FT ad0 σ0 rvI (bX3_termsFit call a1 a2 u) u 0 [(0, vR 0), (1, vI a1), (2, vI a2)] [] := by
  unfold bX3_termsFit
  refine g_iconst dX3_termsFit_0 ?_
  refine g_istore_n (loc' := [(3, vI 1), (0, vR 0), (1, vI a1), (2, vI a2)]) dX3_termsFit_1 (by decide) rfl ?_
  refine g_pick [1, 2, 3, 0] rfl (wX3_termsFit_L2 hd hRf hRl hX3_move hX3_fitsHere hX3_moveLoci hX3_get _ _ (fun s1 => ?_) (fun s2 => ?_) KF a1 a2 1 u ra1 ra2 (inR_z (Or.inr rfl)))
  · refine g_iconst dX3_termsFit_62 ?_
    exact g_zret rfl rfl (fun _ => (Or.inr rfl)) dX3_termsFit_63
  · refine g_iconst dX3_termsFit_54 ?_
    exact g_zret rfl rfl (fun _ => (Or.inl rfl)) dX3_termsFit_55
end
section
variable {l : Launch} {d : Nat} {call : Nat → List Int → Sg → Option (Int × Sg)}
theorem ctX3_termsFit (p0 : Program) (e0 : Env) (s0 : State) (m0 : MethodId) (meth0 : Method) (c0 : Code) (G0 : Gm) (hd : 2 ≤ d) (hX3_move : ∀ (a1 : Int) (u : Sg), Ct l d FT clA yX3_move cX3_move 2 (some .int) DX3_move rvI [vR 0, vI a1] u (call 78 [a1] u)) (hX3_fitsHere : ∀ (a1 a2 : Int) (u : Sg), Ct l d FT clA yX3_fitsHere cX3_fitsHere 5 (some .boolean) DX3_fitsHere rvI [vR 0, vI a1, vI a2] u (call 87 [a1, a2] u)) (hX3_moveLoci : ∀ (a1 : Int) (u : Sg), Ct l d FT clA yX3_moveLoci cX3_moveLoci 3 none DX3_moveLoci rvV [vR 0, vI a1] u (call 81 [a1] u)) (hX3_get : ∀ (a1 a2 : Int) (u : Sg), Ct l d FT clA yX3_get cX3_get 3 (some .int) DX3_get rvI [vR 0, vI a1, vI a2] u (call 7 [a1, a2] u)) (a1 a2 : Int) (u : Sg) : Ct l (d + 1) FT clA yX3_termsFit cX3_termsFit 4 (some .boolean) DX3_termsFit rvI [vR 0, vI a1, vI a2] u (bX3_termsFit call a1 a2 u) :=
  Ct_of (by decide) (Nat.le_of_ble_eq_true rfl) (fun p e R s1 m args below meth c G A ad hA hRf hRl => wX3_termsFit hd hRf hRl hX3_move hX3_fitsHere hX3_moveLoci hX3_get a1 a2 u (hA _ (List.mem_cons_of_mem _ List.mem_cons_self)) (hA _ (List.mem_cons_of_mem _ (List.mem_cons_of_mem _ List.mem_cons_self)))) p0 e0 s0 m0 meth0 c0 G0
end
/-! RoundCheckModel.fitsHere(II)Z -/
abbrev JX3_fitsHere : Jm := (cX3_fitsHere, RX3, 5, (some .boolean))
def bX3_fitsHere_L42 (call : Nat → List Int → Sg → Option (Int × Sg)) : Nat → Int → Int → Int → Sg → (Sg → Option (Int × Sg)) → (Sg → Option (Int × Sg)) → Option (Int × Sg)
  | 0, _, _, _, _, _, _ => none
  | n + 1, a2, a3, a4, u, x76, x68 => ld u 3 a2 fun v1 => if a4 < v1 then (cl (call 7 [a2, a4] u) fun v2 s3 => cl (call 72 [a3, v2] s3) fun v4 s5 => if v4 = 0 then (x68 s5) else (ar (a4 + 1) fun v6 => bX3_fitsHere_L42 call n a2 a3 v6 s5 x76 x68)) else (x76 u)
def bX3_fitsHere (call : Nat → List Int → Sg → Option (Int × Sg)) (a1 a2 : Int) (u : Sg) : Option (Int × Sg) := cl (call 66 [a1] u) fun v1 s2 => if v1 < 0 then (cl (call 88 [a1, a2] s2) fun v3 s4 => some (v3, s4)) else (cl (call 7 [a2, 0] s2) fun v5 s6 => cl (call 7 [a2, 1] s6) fun v7 s8 => cl (call 75 [v1, v5, v7] s8) fun v9 s10 => if v9 = 0 then (some (0, s10)) else (bX3_fitsHere_L42 call KF a2 v1 2 s10 (fun s11 => some (1, s11)) (fun s12 => some (0, s12))))
section
variable {p : Program} {l : Launch} {e : Env} {R : Room} {s : State} {m : MethodId} {args : Array Value} {below : List Frame} {meth : Method} {c : Code} {G : Gm} {A : Nat → Prop} {ad0 : Nat → Nat} {σ0 : Sg} {d : Nat} {call : Nat → List Int → Sg → Option (Int × Sg)}
theorem wX3_fitsHere_L42 (hd : 2 ≤ d) (hRf : d + 1 ≤ R.frames) (hRl : 40 * (d + 1) ≤ R.locals) (hX3_indexOf : ∀ (a1 : Int) (u : Sg), Ct l d FT clA yX3_indexOf cX3_indexOf 2 (some .int) DX3_indexOf rvI [vR 0, vI a1] u (call 66 [a1] u)) (hX3_suits : ∀ (a1 a2 : Int) (u : Sg), Ct l d FT clA yX3_suits cX3_suits 4 (some .boolean) DX3_suits rvI [vR 0, vI a1, vI a2] u (call 88 [a1, a2] u)) (hX3_get : ∀ (a1 a2 : Int) (u : Sg), Ct l d FT clA yX3_get cX3_get 3 (some .int) DX3_get rvI [vR 0, vI a1, vI a2] u (call 7 [a1, a2] u)) (hX3_hasHere : ∀ (a1 a2 a3 : Int) (u : Sg), Ct l d FT clA yX3_hasHere cX3_hasHere 5 (some .boolean) DX3_hasHere rvI [vR 0, vI a1, vI a2, vI a3] u (call 75 [a1, a2, a3] u)) (hX3_hasAdj : ∀ (a1 a2 : Int) (u : Sg), Ct l d FT clA yX3_hasAdj cX3_hasAdj 4 (some .boolean) DX3_hasAdj rvI [vR 0, vI a1, vI a2] u (call 72 [a1, a2] u)) (x76 : Sg → Option (Int × Sg)) (x68 : Sg → Option (Int × Sg)) (hx76 : ∀ (u : Sg), WG p l e R s m args below meth c JX3_fitsHere DX3_fitsHere G clA A FT ad0 σ0 rvI (x76 u) u 76 [] []) (hx68 : ∀ (u : Sg), WG p l e R s m args below meth c JX3_fitsHere DX3_fitsHere G clA A FT ad0 σ0 rvI (x68 u) u 68 [] []) : ∀ (n : Nat) (a2 a3 a4 : Int) (u : Sg), inR a2 → inR a3 → inR a4 → WG p l e R s m args below meth c JX3_fitsHere DX3_fitsHere G clA A FT ad0 σ0 rvI (bX3_fitsHere_L42 call n a2 a3 a4 u x76 x68) u 42 [(0, vR 0), (2, vI a2), (3, vI a3), (4, vI a4)] [] := by
  intro n
  induction n with
  | zero =>
    intro a2 a3 a4 u ra2 ra3 ra4
    exact g_none
  | succ n ih =>
    intro a2 a3 a4 u ra2 ra3 ra4
    rw [bX3_fitsHere_L42]
    refine g_iload 3 dX3_fitsHere_42 rfl ?_
    refine g_aload_n 0 dX3_fitsHere_44 rfl ?_
    refine g_get (v := vR 13) (ci := 2) (b := 0) (N := 83) 3 rfl rfl (by decide) in_X3 rfl rfl q1135 dX3_fitsHere_45 ?_
    refine g_iload_n 1 dX3_fitsHere_48 rfl ?_
    refine g_iald (id := 3) 2 rfl rfl dX3_fitsHere_49 (fun v1 rv1 => ?_)
    refine g_icmp_ge 76 dX3_fitsHere_50 (by decide) (fun _ => ra4) (fun _ => rv1) (fun _ => ?_) (fun _ => ?_)
    · refine g_aload_n 0 dX3_fitsHere_53 rfl ?_
      refine g_iload_n 2 dX3_fitsHere_54 rfl ?_
      refine g_aload_n 0 dX3_fitsHere_55 rfl ?_
      refine g_iload_n 1 dX3_fitsHere_56 rfl ?_
      refine g_iload 3 dX3_fitsHere_57 rfl ?_
      refine g_cVI (As := [vI a2, vI a4]) (n := 2) (stk := [vI a3, vR 0]) (ci := 2) (b := 0) (N := 83) (hX3_get a2 a4 u) (by decide +kernel) rfl rfl (lw_V q1116 q1118 qs76 q168 q1119) (by decide +kernel) rfl (by decide) hRf hRl (fun _ => (avc ra2 (avc ra4 avn))) (Nat.le_of_ble_eq_true rfl) rfl rfl dX3_fitsHere_59 (fun v2 s3 rv2 => ?_)
      refine g_cVZ (As := [vI a3, vI v2]) (n := 2) (stk := []) (ci := 2) (b := 0) (N := 83) (hX3_hasAdj a3 v2 s3) (by decide +kernel) rfl rfl (lw_V q1630 q1632 qs121 q168 q1633) (by decide +kernel) rfl (by decide) hRf hRl (fun _ => (avc ra3 (avc rv2 avn))) (Nat.le_of_ble_eq_true rfl) rfl rfl dX3_fitsHere_62 (fun v4 s5 zv4 => ?_)
      refine g_if_ne 70 dX3_fitsHere_65 (by decide) (fun _ => (inR_z zv4)) (fun _ => ?_) (fun _ => ?_)
      · exact g_pick [] rfl (hx68 s5)
      · refine g_iinc 3 (loc' := fun v6 => [(4, vI v6), (0, vR 0), (2, vI a2), (3, vI a3)]) dX3_fitsHere_70 rfl (by decide) (fun _ => rfl) (fun v6 rv6 => ?_)
        refine g_goto 42 dX3_fitsHere_73 (by decide) ?_
        exact g_pick [1, 2, 3, 0] rfl (ih a2 a3 v6 s5 ra2 ra3 rv6)
    · exact g_pick [] rfl (hx76 u)
theorem wX3_fitsHere (hd : 2 ≤ d) (hRf : d + 1 ≤ R.frames) (hRl : 40 * (d + 1) ≤ R.locals) (hX3_indexOf : ∀ (a1 : Int) (u : Sg), Ct l d FT clA yX3_indexOf cX3_indexOf 2 (some .int) DX3_indexOf rvI [vR 0, vI a1] u (call 66 [a1] u)) (hX3_suits : ∀ (a1 a2 : Int) (u : Sg), Ct l d FT clA yX3_suits cX3_suits 4 (some .boolean) DX3_suits rvI [vR 0, vI a1, vI a2] u (call 88 [a1, a2] u)) (hX3_get : ∀ (a1 a2 : Int) (u : Sg), Ct l d FT clA yX3_get cX3_get 3 (some .int) DX3_get rvI [vR 0, vI a1, vI a2] u (call 7 [a1, a2] u)) (hX3_hasHere : ∀ (a1 a2 a3 : Int) (u : Sg), Ct l d FT clA yX3_hasHere cX3_hasHere 5 (some .boolean) DX3_hasHere rvI [vR 0, vI a1, vI a2, vI a3] u (call 75 [a1, a2, a3] u)) (hX3_hasAdj : ∀ (a1 a2 : Int) (u : Sg), Ct l d FT clA yX3_hasAdj cX3_hasAdj 4 (some .boolean) DX3_hasAdj rvI [vR 0, vI a1, vI a2] u (call 72 [a1, a2] u)) (a1 a2 : Int) (u : Sg) (ra1 : inR a1) (ra2 : inR a2) : WG p l e R s m args below meth c JX3_fitsHere DX3_fitsHere G clA A FT ad0 σ0 rvI (bX3_fitsHere call a1 a2 u) u 0 [(0, vR 0), (1, vI a1), (2, vI a2)] [] := by
  unfold bX3_fitsHere
  refine g_aload_n 0 dX3_fitsHere_0 rfl ?_
  refine g_iload_n 1 dX3_fitsHere_1 rfl ?_
  refine g_cVI (As := [vI a1]) (n := 1) (stk := []) (ci := 2) (b := 0) (N := 83) (hX3_indexOf a1 u) (by decide +kernel) rfl rfl (lw_V q1606 q1608 qs115 q168 q1609) (by decide +kernel) rfl (by decide) hRf hRl (fun _ => (avc ra1 avn)) (Nat.le_of_ble_eq_true rfl) rfl rfl dX3_fitsHere_2 (fun v1 s2 rv1 => ?_)
  refine g_istore_n (loc' := [(3, vI v1), (0, vR 0), (1, vI a1), (2, vI a2)]) dX3_fitsHere_5 (by decide) rfl ?_
  refine g_iload_n 0 dX3_fitsHere_6 rfl ?_
  refine g_if_ge 17 dX3_fitsHere_7 (by decide) (fun _ => rv1) (fun _ => ?_) (fun _ => ?_)
  · refine g_aload_n 1 dX3_fitsHere_10 rfl ?_
    refine g_iload_n 2 dX3_fitsHere_11 rfl ?_
    refine g_iload_n 3 dX3_fitsHere_12 rfl ?_
    refine g_cVZ (As := [vI a1, vI a2]) (n := 2) (stk := []) (ci := 2) (b := 0) (N := 83) (hX3_suits a1 a2 s2) (by decide +kernel) rfl rfl (lw_V q1694 q1696 qs137 q168 q1697) (by decide +kernel) rfl (by decide) hRf hRl (fun _ => (avc ra1 (avc ra2 avn))) (Nat.le_of_ble_eq_true rfl) rfl rfl dX3_fitsHere_13 (fun v3 s4 zv3 => ?_)
    exact g_zret rfl rfl (fun _ => zv3) dX3_fitsHere_16
  · refine g_aload_n 1 dX3_fitsHere_17 rfl ?_
    refine g_iload_n 0 dX3_fitsHere_18 rfl ?_
    refine g_aload_n 1 dX3_fitsHere_19 rfl ?_
    refine g_iload_n 3 dX3_fitsHere_20 rfl ?_
    refine g_iconst dX3_fitsHere_21 ?_
    refine g_cVI (As := [vI a2, vI 0]) (n := 2) (stk := [vI v1, vR 0]) (ci := 2) (b := 0) (N := 83) (hX3_get a2 0 s2) (by decide +kernel) rfl rfl (lw_V q1116 q1118 qs76 q168 q1119) (by decide +kernel) rfl (by decide) hRf hRl (fun _ => (avc ra2 (avc (inR_z (Or.inl rfl)) avn))) (Nat.le_of_ble_eq_true rfl) rfl rfl dX3_fitsHere_22 (fun v5 s6 rv5 => ?_)
    refine g_aload_n 1 dX3_fitsHere_25 rfl ?_
    refine g_iload_n 3 dX3_fitsHere_26 rfl ?_
    refine g_iconst dX3_fitsHere_27 ?_
    refine g_cVI (As := [vI a2, vI 1]) (n := 2) (stk := [vI v5, vI v1, vR 0]) (ci := 2) (b := 0) (N := 83) (hX3_get a2 1 s6) (by decide +kernel) rfl rfl (lw_V q1116 q1118 qs76 q168 q1119) (by decide +kernel) rfl (by decide) hRf hRl (fun _ => (avc ra2 (avc (inR_z (Or.inr rfl)) avn))) (Nat.le_of_ble_eq_true rfl) rfl rfl dX3_fitsHere_28 (fun v7 s8 rv7 => ?_)
    refine g_cVZ (As := [vI v1, vI v5, vI v7]) (n := 3) (stk := []) (ci := 2) (b := 0) (N := 83) (hX3_hasHere v1 v5 v7 s8) (by decide +kernel) rfl rfl (lw_V q1642 q1644 qs124 q168 q1645) (by decide +kernel) rfl (by decide) hRf hRl (fun _ => (avc rv1 (avc rv5 (avc rv7 avn)))) (Nat.le_of_ble_eq_true rfl) rfl rfl dX3_fitsHere_31 (fun v9 s10 zv9 => ?_)
    refine g_if_ne 39 dX3_fitsHere_34 (by decide) (fun _ => (inR_z zv9)) (fun _ => ?_) (fun _ => ?_)
    · refine g_iconst dX3_fitsHere_37 ?_
      exact g_zret rfl rfl (fun _ => (Or.inl rfl)) dX3_fitsHere_38
    · refine g_iconst dX3_fitsHere_39 ?_
      refine g_istore (loc' := [(4, vI 2), (3, vI v1), (0, vR 0), (1, vI a1), (2, vI a2)]) dX3_fitsHere_40 (by decide) rfl ?_
      refine g_pick [2, 4, 1, 0] rfl (wX3_fitsHere_L42 hd hRf hRl hX3_indexOf hX3_suits hX3_get hX3_hasHere hX3_hasAdj _ _ (fun s11 => ?_) (fun s12 => ?_) KF a2 v1 2 s10 ra2 rv1 (by decide : inR (2)))
      · refine g_iconst dX3_fitsHere_76 ?_
        exact g_zret rfl rfl (fun _ => (Or.inr rfl)) dX3_fitsHere_77
      · refine g_iconst dX3_fitsHere_68 ?_
        exact g_zret rfl rfl (fun _ => (Or.inl rfl)) dX3_fitsHere_69
end
section
variable {l : Launch} {d : Nat} {call : Nat → List Int → Sg → Option (Int × Sg)}
theorem ctX3_fitsHere (p0 : Program) (e0 : Env) (s0 : State) (m0 : MethodId) (meth0 : Method) (c0 : Code) (G0 : Gm) (hd : 2 ≤ d) (hX3_indexOf : ∀ (a1 : Int) (u : Sg), Ct l d FT clA yX3_indexOf cX3_indexOf 2 (some .int) DX3_indexOf rvI [vR 0, vI a1] u (call 66 [a1] u)) (hX3_suits : ∀ (a1 a2 : Int) (u : Sg), Ct l d FT clA yX3_suits cX3_suits 4 (some .boolean) DX3_suits rvI [vR 0, vI a1, vI a2] u (call 88 [a1, a2] u)) (hX3_get : ∀ (a1 a2 : Int) (u : Sg), Ct l d FT clA yX3_get cX3_get 3 (some .int) DX3_get rvI [vR 0, vI a1, vI a2] u (call 7 [a1, a2] u)) (hX3_hasHere : ∀ (a1 a2 a3 : Int) (u : Sg), Ct l d FT clA yX3_hasHere cX3_hasHere 5 (some .boolean) DX3_hasHere rvI [vR 0, vI a1, vI a2, vI a3] u (call 75 [a1, a2, a3] u)) (hX3_hasAdj : ∀ (a1 a2 : Int) (u : Sg), Ct l d FT clA yX3_hasAdj cX3_hasAdj 4 (some .boolean) DX3_hasAdj rvI [vR 0, vI a1, vI a2] u (call 72 [a1, a2] u)) (a1 a2 : Int) (u : Sg) : Ct l (d + 1) FT clA yX3_fitsHere cX3_fitsHere 5 (some .boolean) DX3_fitsHere rvI [vR 0, vI a1, vI a2] u (bX3_fitsHere call a1 a2 u) :=
  Ct_of (by decide) (Nat.le_of_ble_eq_true rfl) (fun p e R s1 m args below meth c G A ad hA hRf hRl => wX3_fitsHere hd hRf hRl hX3_indexOf hX3_suits hX3_get hX3_hasHere hX3_hasAdj a1 a2 u (hA _ (List.mem_cons_of_mem _ List.mem_cons_self)) (hA _ (List.mem_cons_of_mem _ (List.mem_cons_of_mem _ List.mem_cons_self)))) p0 e0 s0 m0 meth0 c0 G0
end
/-! RoundCheckModel.suits(II)Z -/
abbrev JX3_suits : Jm := (cX3_suits, RX3, 4, (some .boolean))
def bX3_suits (call : Nat → List Int → Sg → Option (Int × Sg)) (a1 a2 : Int) (u : Sg) : Option (Int × Sg) := cl (call 80 [a1] u) fun v1 s2 => cl (call 7 [a2, 0] s2) fun v3 s4 => cl (call 7 [a2, 1] s4) fun v5 s6 => cl (call 89 [v1, v3, v5] s6) fun v7 s8 => if v7 = 0 then (some (0, s8)) else (jn (fun (s10 : Sg) => some (1, s10)) fun j9 => cl (call 90 [a2] s8) fun v11 s12 => if v11 = 0 then (j9 s12) else (cl (call 91 [a1] s12) fun v13 s14 => un (o_xor v13 (-1)) fun v15 => un (o_and v11 v15) fun v16 => if v16 = 0 then (j9 s14) else (some (0, s14))))
section
variable {p : Program} {l : Launch} {e : Env} {R : Room} {s : State} {m : MethodId} {args : Array Value} {below : List Frame} {meth : Method} {c : Code} {G : Gm} {A : Nat → Prop} {ad0 : Nat → Nat} {σ0 : Sg} {d : Nat} {call : Nat → List Int → Sg → Option (Int × Sg)}
theorem wX3_suits (hd : 2 ≤ d) (hRf : d + 1 ≤ R.frames) (hRl : 40 * (d + 1) ≤ R.locals) (hX3_typeOf : ∀ (a1 : Int) (u : Sg), Ct l d FT clA yX3_typeOf cX3_typeOf 2 (some .int) DX3_typeOf rvI [vR 0, vI a1] u (call 80 [a1] u)) (hX3_get : ∀ (a1 a2 : Int) (u : Sg), Ct l d FT clA yX3_get cX3_get 3 (some .int) DX3_get rvI [vR 0, vI a1, vI a2] u (call 7 [a1, a2] u)) (hX3_has : ∀ (a1 a2 a3 : Int) (u : Sg), Ct l d FT clA yX3_has cX3_has 5 (some .boolean) DX3_has rvI [vR 0, vI a1, vI a2, vI a3] u (call 89 [a1, a2, a3] u)) (hX3_setOf : ∀ (a1 : Int) (u : Sg), Ct l d FT clA yX3_setOf cX3_setOf 4 (some .int) DX3_setOf rvI [vR 0, vI a1] u (call 90 [a1] u)) (hX3_allOf : ∀ (a1 : Int) (u : Sg), Ct l d FT clA yX3_allOf cX3_allOf 6 (some .int) DX3_allOf rvI [vR 0, vI a1] u (call 91 [a1] u)) (a1 a2 : Int) (u : Sg) (ra1 : inR a1) (ra2 : inR a2) : WG p l e R s m args below meth c JX3_suits DX3_suits G clA A FT ad0 σ0 rvI (bX3_suits call a1 a2 u) u 0 [(0, vR 0), (1, vI a1), (2, vI a2)] [] := by
  unfold bX3_suits
  refine g_aload_n 0 dX3_suits_0 rfl ?_
  refine g_aload_n 0 dX3_suits_1 rfl ?_
  refine g_iload_n 1 dX3_suits_2 rfl ?_
  refine g_cVI (As := [vI a1]) (n := 1) (stk := [vR 0]) (ci := 2) (b := 0) (N := 83) (hX3_typeOf a1 u) (by decide +kernel) rfl rfl (lw_V q1662 q1664 qs129 q168 q1665) (by decide +kernel) rfl (by decide) hRf hRl (fun _ => (avc ra1 avn)) (Nat.le_of_ble_eq_true rfl) rfl rfl dX3_suits_3 (fun v1 s2 rv1 => ?_)
  refine g_aload_n 0 dX3_suits_6 rfl ?_
  refine g_iload_n 2 dX3_suits_7 rfl ?_
  refine g_iconst dX3_suits_8 ?_
  refine g_cVI (As := [vI a2, vI 0]) (n := 2) (stk := [vI v1, vR 0]) (ci := 2) (b := 0) (N := 83) (hX3_get a2 0 s2) (by decide +kernel) rfl rfl (lw_V q1116 q1118 qs76 q168 q1119) (by decide +kernel) rfl (by decide) hRf hRl (fun _ => (avc ra2 (avc (inR_z (Or.inl rfl)) avn))) (Nat.le_of_ble_eq_true rfl) rfl rfl dX3_suits_9 (fun v3 s4 rv3 => ?_)
  refine g_aload_n 0 dX3_suits_12 rfl ?_
  refine g_iload_n 2 dX3_suits_13 rfl ?_
  refine g_iconst dX3_suits_14 ?_
  refine g_cVI (As := [vI a2, vI 1]) (n := 2) (stk := [vI v3, vI v1, vR 0]) (ci := 2) (b := 0) (N := 83) (hX3_get a2 1 s4) (by decide +kernel) rfl rfl (lw_V q1116 q1118 qs76 q168 q1119) (by decide +kernel) rfl (by decide) hRf hRl (fun _ => (avc ra2 (avc (inR_z (Or.inr rfl)) avn))) (Nat.le_of_ble_eq_true rfl) rfl rfl dX3_suits_15 (fun v5 s6 rv5 => ?_)
  refine g_cVZ (As := [vI v1, vI v3, vI v5]) (n := 3) (stk := []) (ci := 2) (b := 0) (N := 83) (hX3_has v1 v3 v5 s6) (by decide +kernel) rfl rfl (lw_V q1698 q1700 qs138 q168 q1701) (by decide +kernel) rfl (by decide) hRf hRl (fun _ => (avc rv1 (avc rv3 (avc rv5 avn)))) (Nat.le_of_ble_eq_true rfl) rfl rfl dX3_suits_18 (fun v7 s8 zv7 => ?_)
  refine g_if_ne 26 dX3_suits_21 (by decide) (fun _ => (inR_z zv7)) (fun _ => ?_) (fun _ => ?_)
  · refine g_iconst dX3_suits_24 ?_
    exact g_zret rfl rfl (fun _ => (Or.inl rfl)) dX3_suits_25
  · refine g_jn (fun j9 => ∀ (s10 : Sg), WG p l e R s m args below meth c JX3_suits DX3_suits G clA A FT ad0 σ0 rvI (j9 s10) s10 48 [] []) (fun s10 => ?_) (fun j9 hj9 => ?_)
    · refine g_iconst dX3_suits_48 ?_
      refine g_goto 53 dX3_suits_49 (by decide) ?_
      exact g_zret rfl rfl (fun _ => (Or.inr rfl)) dX3_suits_53
    · refine g_aload_n 0 dX3_suits_26 rfl ?_
      refine g_iload_n 2 dX3_suits_27 rfl ?_
      refine g_cVI (As := [vI a2]) (n := 1) (stk := []) (ci := 2) (b := 0) (N := 83) (hX3_setOf a2 s8) (by decide +kernel) rfl rfl (lw_V q1702 q1704 qs139 q168 q1705) (by decide +kernel) rfl (by decide) hRf hRl (fun _ => (avc ra2 avn)) (Nat.le_of_ble_eq_true rfl) rfl rfl dX3_suits_28 (fun v11 s12 rv11 => ?_)
      refine g_istore_n (loc' := [(3, vI v11), (0, vR 0), (1, vI a1), (2, vI a2)]) dX3_suits_31 (by decide) rfl ?_
      refine g_iload_n 0 dX3_suits_32 rfl ?_
      refine g_if_eq 48 dX3_suits_33 (by decide) (fun _ => rv11) (fun _ => ?_) (fun _ => ?_)
      · exact g_pick [] rfl (hj9 s12)
      · refine g_iload_n 0 dX3_suits_36 rfl ?_
        refine g_aload_n 1 dX3_suits_37 rfl ?_
        refine g_iload_n 2 dX3_suits_38 rfl ?_
        refine g_cVI (As := [vI a1]) (n := 1) (stk := [vI v11]) (ci := 2) (b := 0) (N := 83) (hX3_allOf a1 s12) (by decide +kernel) rfl rfl (lw_V q1706 q1708 qs140 q168 q1709) (by decide +kernel) rfl (by decide) hRf hRl (fun _ => (avc ra1 avn)) (Nat.le_of_ble_eq_true rfl) rfl rfl dX3_suits_39 (fun v13 s14 rv13 => ?_)
        refine g_iconst dX3_suits_42 ?_
        refine g_ixorU dX3_suits_43 (fun v15 rv15 => ?_)
        refine g_iandU dX3_suits_44 (fun v16 rv16 => ?_)
        refine g_if_ne 52 dX3_suits_45 (by decide) (fun _ => rv16) (fun _ => ?_) (fun _ => ?_)
        · exact g_pick [] rfl (hj9 s14)
        · refine g_iconst dX3_suits_52 ?_
          exact g_zret rfl rfl (fun _ => (Or.inl rfl)) dX3_suits_53
end
section
variable {l : Launch} {d : Nat} {call : Nat → List Int → Sg → Option (Int × Sg)}
theorem ctX3_suits (p0 : Program) (e0 : Env) (s0 : State) (m0 : MethodId) (meth0 : Method) (c0 : Code) (G0 : Gm) (hd : 2 ≤ d) (hX3_typeOf : ∀ (a1 : Int) (u : Sg), Ct l d FT clA yX3_typeOf cX3_typeOf 2 (some .int) DX3_typeOf rvI [vR 0, vI a1] u (call 80 [a1] u)) (hX3_get : ∀ (a1 a2 : Int) (u : Sg), Ct l d FT clA yX3_get cX3_get 3 (some .int) DX3_get rvI [vR 0, vI a1, vI a2] u (call 7 [a1, a2] u)) (hX3_has : ∀ (a1 a2 a3 : Int) (u : Sg), Ct l d FT clA yX3_has cX3_has 5 (some .boolean) DX3_has rvI [vR 0, vI a1, vI a2, vI a3] u (call 89 [a1, a2, a3] u)) (hX3_setOf : ∀ (a1 : Int) (u : Sg), Ct l d FT clA yX3_setOf cX3_setOf 4 (some .int) DX3_setOf rvI [vR 0, vI a1] u (call 90 [a1] u)) (hX3_allOf : ∀ (a1 : Int) (u : Sg), Ct l d FT clA yX3_allOf cX3_allOf 6 (some .int) DX3_allOf rvI [vR 0, vI a1] u (call 91 [a1] u)) (a1 a2 : Int) (u : Sg) : Ct l (d + 1) FT clA yX3_suits cX3_suits 4 (some .boolean) DX3_suits rvI [vR 0, vI a1, vI a2] u (bX3_suits call a1 a2 u) :=
  Ct_of (by decide) (Nat.le_of_ble_eq_true rfl) (fun p e R s1 m args below meth c G A ad hA hRf hRl => wX3_suits hd hRf hRl hX3_typeOf hX3_get hX3_has hX3_setOf hX3_allOf a1 a2 u (hA _ (List.mem_cons_of_mem _ List.mem_cons_self)) (hA _ (List.mem_cons_of_mem _ (List.mem_cons_of_mem _ List.mem_cons_self)))) p0 e0 s0 m0 meth0 c0 G0
end
/-! RoundCheckModel.has(III)Z -/
abbrev JX3_has : Jm := (cX3_has, RX3, 5, (some .boolean))
def bX3_has_L9 (call : Nat → List Int → Sg → Option (Int × Sg)) : Nat → Int → Int → Int → Sg → (Sg → Option (Int × Sg)) → (Sg → Option (Int × Sg)) → Option (Int × Sg)
  | 0, _, _, _, _, _, _ => none
  | n + 1, a2, a3, a4, u, x49, x36 => if a4 ≤ 0 then (x49 u) else (jn (fun (a2 a3 a4 : Int) (s2 : Sg) => cl (call 77 [a4] s2) fun v3 s4 => bX3_has_L9 call n a2 a3 v3 s4 x49 x36) fun j1 => cl (call 7 [a4, 0] u) fun v5 s6 => if v5 = a2 then (cl (call 7 [a4, 1] s6) fun v7 s8 => if v7 = a3 then (x36 s8) else (j1 a2 a3 a4 s8)) else (j1 a2 a3 a4 s6))
def bX3_has (call : Nat → List Int → Sg → Option (Int × Sg)) (a1 a2 a3 : Int) (u : Sg) : Option (Int × Sg) := if a2 = 0 then (some (1, u)) else (bX3_has_L9 call KF a2 a3 a1 u (fun s1 => some (0, s1)) (fun s2 => some (1, s2)))
section
variable {p : Program} {l : Launch} {e : Env} {R : Room} {s : State} {m : MethodId} {args : Array Value} {below : List Frame} {meth : Method} {c : Code} {G : Gm} {A : Nat → Prop} {ad0 : Nat → Nat} {σ0 : Sg} {d : Nat} {call : Nat → List Int → Sg → Option (Int × Sg)}
theorem wX3_has_L9 (hd : 2 ≤ d) (hRf : d + 1 ≤ R.frames) (hRl : 40 * (d + 1) ≤ R.locals) (hX3_parent : ∀ (a1 : Int) (u : Sg), Ct l d FT clA yX3_parent cX3_parent 3 (some .int) DX3_parent rvI [vR 0, vI a1] u (call 77 [a1] u)) (hX3_get : ∀ (a1 a2 : Int) (u : Sg), Ct l d FT clA yX3_get cX3_get 3 (some .int) DX3_get rvI [vR 0, vI a1, vI a2] u (call 7 [a1, a2] u)) (x49 : Sg → Option (Int × Sg)) (x36 : Sg → Option (Int × Sg)) (hx49 : ∀ (u : Sg), WG p l e R s m args below meth c JX3_has DX3_has G clA A FT ad0 σ0 rvI (x49 u) u 49 [] []) (hx36 : ∀ (u : Sg), WG p l e R s m args below meth c JX3_has DX3_has G clA A FT ad0 σ0 rvI (x36 u) u 36 [] []) : ∀ (n : Nat) (a2 a3 a4 : Int) (u : Sg), inR a2 → inR a3 → inR a4 → WG p l e R s m args below meth c JX3_has DX3_has G clA A FT ad0 σ0 rvI (bX3_has_L9 call n a2 a3 a4 u x49 x36) u 9 [(0, vR 0), (2, vI a2), (3, vI a3), (4, vI a4)] [] := by
  intro n
  induction n with
  | zero =>
    intro a2 a3 a4 u ra2 ra3 ra4
    exact g_none
  | succ n ih =>
    intro a2 a3 a4 u ra2 ra3 ra4
    rw [bX3_has_L9]
    refine g_iload 3 dX3_has_9 rfl ?_
    refine g_if_le 49 dX3_has_11 (by decide) (fun _ => ra4) (fun _ => ?_) (fun _ => ?_)
    · exact g_pick [] rfl (hx49 u)
    · refine g_jn (fun j1 => ∀ (a2 a3 a4 : Int) (s2 : Sg), inR a2 → inR a3 → inR a4 → WG p l e R s m args below meth c JX3_has DX3_has G clA A FT ad0 σ0 rvI (j1 a2 a3 a4 s2) s2 38 [(0, vR 0), (2, vI a2), (3, vI a3), (4, vI a4)] []) (fun a2 a3 a4 s2 ra2 ra3 ra4 => ?_) (fun j1 hj1 => ?_)
      · refine g_aload_n 0 dX3_has_38 rfl ?_
        refine g_iload 3 dX3_has_39 rfl ?_
        refine g_cVI (As := [vI a4]) (n := 1) (stk := []) (ci := 2) (b := 0) (N := 83) (hX3_parent a4 s2) (by decide +kernel) rfl rfl (lw_V q1650 q1652 qs126 q168 q1653) (by decide +kernel) rfl (by decide) hRf hRl (fun _ => (avc ra4 avn)) (Nat.le_of_ble_eq_true rfl) rfl rfl dX3_has_41 (fun v3 s4 rv3 => ?_)
        refine g_istore (loc' := [(4, vI v3), (0, vR 0), (2, vI a2), (3, vI a3)]) dX3_has_44 (by decide) rfl ?_
        refine g_goto 9 dX3_has_46 (by decide) ?_
        exact g_pick [1, 2, 3, 0] rfl (ih a2 a3 v3 s4 ra2 ra3 rv3)
      · refine g_aload_n 0 dX3_has_14 rfl ?_
        refine g_iload 3 dX3_has_15 rfl ?_
        refine g_iconst dX3_has_17 ?_
        refine g_cVI (As := [vI a4, vI 0]) (n := 2) (stk := []) (ci := 2) (b := 0) (N := 83) (hX3_get a4 0 u) (by decide +kernel) rfl rfl (lw_V q1116 q1118 qs76 q168 q1119) (by decide +kernel) rfl (by decide) hRf hRl (fun _ => (avc ra4 (avc (inR_z (Or.inl rfl)) avn))) (Nat.le_of_ble_eq_true rfl) rfl rfl dX3_has_18 (fun v5 s6 rv5 => ?_)
        refine g_iload_n 1 dX3_has_21 rfl ?_
        refine g_icmp_ne 38 dX3_has_22 (by decide) (fun _ => rv5) (fun _ => ra2) (fun _ => ?_) (fun _ => ?_)
        · refine g_aload_n 0 dX3_has_25 rfl ?_
          refine g_iload 3 dX3_has_26 rfl ?_
          refine g_iconst dX3_has_28 ?_
          refine g_cVI (As := [vI a4, vI 1]) (n := 2) (stk := []) (ci := 2) (b := 0) (N := 83) (hX3_get a4 1 s6) (by decide +kernel) rfl rfl (lw_V q1116 q1118 qs76 q168 q1119) (by decide +kernel) rfl (by decide) hRf hRl (fun _ => (avc ra4 (avc (inR_z (Or.inr rfl)) avn))) (Nat.le_of_ble_eq_true rfl) rfl rfl dX3_has_29 (fun v7 s8 rv7 => ?_)
          refine g_iload_n 2 dX3_has_32 rfl ?_
          refine g_icmp_ne 38 dX3_has_33 (by decide) (fun _ => rv7) (fun _ => ra3) (fun _ => ?_) (fun _ => ?_)
          · exact g_pick [] rfl (hx36 s8)
          · exact g_pick [0, 1, 2, 3] rfl (hj1 a2 a3 a4 s8 ra2 ra3 ra4)
        · exact g_pick [0, 1, 2, 3] rfl (hj1 a2 a3 a4 s6 ra2 ra3 ra4)
theorem wX3_has (hd : 2 ≤ d) (hRf : d + 1 ≤ R.frames) (hRl : 40 * (d + 1) ≤ R.locals) (hX3_parent : ∀ (a1 : Int) (u : Sg), Ct l d FT clA yX3_parent cX3_parent 3 (some .int) DX3_parent rvI [vR 0, vI a1] u (call 77 [a1] u)) (hX3_get : ∀ (a1 a2 : Int) (u : Sg), Ct l d FT clA yX3_get cX3_get 3 (some .int) DX3_get rvI [vR 0, vI a1, vI a2] u (call 7 [a1, a2] u)) (a1 a2 a3 : Int) (u : Sg) (ra1 : inR a1) (ra2 : inR a2) (ra3 : inR a3) : WG p l e R s m args below meth c JX3_has DX3_has G clA A FT ad0 σ0 rvI (bX3_has call a1 a2 a3 u) u 0 [(0, vR 0), (1, vI a1), (2, vI a2), (3, vI a3)] [] := by
  unfold bX3_has
  refine g_iload_n 2 dX3_has_0 rfl ?_
  refine g_if_ne 6 dX3_has_1 (by decide) (fun _ => ra2) (fun _ => ?_) (fun _ => ?_)
  · refine g_iconst dX3_has_4 ?_
    exact g_zret rfl rfl (fun _ => (Or.inr rfl)) dX3_has_5
  · refine g_iload_n 1 dX3_has_6 rfl ?_
    refine g_istore (loc' := [(4, vI a1), (0, vR 0), (1, vI a1), (2, vI a2), (3, vI a3)]) dX3_has_7 (by decide) rfl ?_
    refine g_pick [1, 3, 4, 0] rfl (wX3_has_L9 hd hRf hRl hX3_parent hX3_get _ _ (fun s1 => ?_) (fun s2 => ?_) KF a2 a3 a1 u ra2 ra3 ra1)
    · refine g_iconst dX3_has_49 ?_
      exact g_zret rfl rfl (fun _ => (Or.inl rfl)) dX3_has_50
    · refine g_iconst dX3_has_36 ?_
      exact g_zret rfl rfl (fun _ => (Or.inr rfl)) dX3_has_37
end
section
variable {l : Launch} {d : Nat} {call : Nat → List Int → Sg → Option (Int × Sg)}
theorem ctX3_has (p0 : Program) (e0 : Env) (s0 : State) (m0 : MethodId) (meth0 : Method) (c0 : Code) (G0 : Gm) (hd : 2 ≤ d) (hX3_parent : ∀ (a1 : Int) (u : Sg), Ct l d FT clA yX3_parent cX3_parent 3 (some .int) DX3_parent rvI [vR 0, vI a1] u (call 77 [a1] u)) (hX3_get : ∀ (a1 a2 : Int) (u : Sg), Ct l d FT clA yX3_get cX3_get 3 (some .int) DX3_get rvI [vR 0, vI a1, vI a2] u (call 7 [a1, a2] u)) (a1 a2 a3 : Int) (u : Sg) : Ct l (d + 1) FT clA yX3_has cX3_has 5 (some .boolean) DX3_has rvI [vR 0, vI a1, vI a2, vI a3] u (bX3_has call a1 a2 a3 u) :=
  Ct_of (by decide) (Nat.le_of_ble_eq_true rfl) (fun p e R s1 m args below meth c G A ad hA hRf hRl => wX3_has hd hRf hRl hX3_parent hX3_get a1 a2 a3 u (hA _ (List.mem_cons_of_mem _ List.mem_cons_self)) (hA _ (List.mem_cons_of_mem _ (List.mem_cons_of_mem _ List.mem_cons_self))) (hA _ (List.mem_cons_of_mem _ (List.mem_cons_of_mem _ (List.mem_cons_of_mem _ List.mem_cons_self))))) p0 e0 s0 m0 meth0 c0 G0
end
/-! RoundCheckModel.setOf(I)I -/
abbrev JX3_setOf : Jm := (cX3_setOf, RX3, 4, (some .int))
def bX3_setOf_L4 (call : Nat → List Int → Sg → Option (Int × Sg)) : Nat → Int → Int → Int → Sg → (Int → Sg → Option (Int × Sg)) → Option (Int × Sg)
  | 0, _, _, _, _, _ => none
  | n + 1, a1, a2, a3, u, x31 => ld u 3 a1 fun v1 => if a3 < v1 then (cl (call 7 [a1, a3] u) fun v2 s3 => un (o_shl 1 v2) fun v4 => un (o_or a2 v4) fun v5 => ar (a3 + 1) fun v6 => bX3_setOf_L4 call n a1 v5 v6 s3 x31) else (x31 a2 u)
def bX3_setOf (call : Nat → List Int → Sg → Option (Int × Sg)) (a1 : Int) (u : Sg) : Option (Int × Sg) := bX3_setOf_L4 call KF a1 0 2 u (fun v2 s1 => some (v2, s1))
section
variable {p : Program} {l : Launch} {e : Env} {R : Room} {s : State} {m : MethodId} {args : Array Value} {below : List Frame} {meth : Method} {c : Code} {G : Gm} {A : Nat → Prop} {ad0 : Nat → Nat} {σ0 : Sg} {d : Nat} {call : Nat → List Int → Sg → Option (Int × Sg)}
theorem wX3_setOf_L4 (hd : 2 ≤ d) (hRf : d + 1 ≤ R.frames) (hRl : 40 * (d + 1) ≤ R.locals) (hX3_get : ∀ (a1 a2 : Int) (u : Sg), Ct l d FT clA yX3_get cX3_get 3 (some .int) DX3_get rvI [vR 0, vI a1, vI a2] u (call 7 [a1, a2] u)) (x31 : Int → Sg → Option (Int × Sg)) (hx31 : ∀ (a2 : Int) (u : Sg), inR a2 → WG p l e R s m args below meth c JX3_setOf DX3_setOf G clA A FT ad0 σ0 rvI (x31 a2 u) u 31 [(2, vI a2)] []) : ∀ (n : Nat) (a1 a2 a3 : Int) (u : Sg), inR a1 → inR a2 → inR a3 → WG p l e R s m args below meth c JX3_setOf DX3_setOf G clA A FT ad0 σ0 rvI (bX3_setOf_L4 call n a1 a2 a3 u x31) u 4 [(0, vR 0), (1, vI a1), (2, vI a2), (3, vI a3)] [] := by
  intro n
  induction n with
  | zero =>
    intro a1 a2 a3 u ra1 ra2 ra3
    exact g_none
  | succ n ih =>
    intro a1 a2 a3 u ra1 ra2 ra3
    rw [bX3_setOf_L4]
    refine g_iload_n 3 dX3_setOf_4 rfl ?_
    refine g_aload_n 0 dX3_setOf_5 rfl ?_
    refine g_get (v := vR 13) (ci := 2) (b := 0) (N := 83) 3 rfl rfl (by decide) in_X3 rfl rfl q1135 dX3_setOf_6 ?_
    refine g_iload_n 1 dX3_setOf_9 rfl ?_
    refine g_iald (id := 3) 2 rfl rfl dX3_setOf_10 (fun v1 rv1 => ?_)
    refine g_icmp_ge 31 dX3_setOf_11 (by decide) (fun _ => ra3) (fun _ => rv1) (fun _ => ?_) (fun _ => ?_)
    · refine g_iload_n 2 dX3_setOf_14 rfl ?_
      refine g_iconst dX3_setOf_15 ?_
      refine g_aload_n 0 dX3_setOf_16 rfl ?_
      refine g_iload_n 1 dX3_setOf_17 rfl ?_
      refine g_iload_n 3 dX3_setOf_18 rfl ?_
      refine g_cVI (As := [vI a1, vI a3]) (n := 2) (stk := [vI 1, vI a2]) (ci := 2) (b := 0) (N := 83) (hX3_get a1 a3 u) (by decide +kernel) rfl rfl (lw_V q1116 q1118 qs76 q168 q1119) (by decide +kernel) rfl (by decide) hRf hRl (fun _ => (avc ra1 (avc ra3 avn))) (Nat.le_of_ble_eq_true rfl) rfl rfl dX3_setOf_19 (fun v2 s3 rv2 => ?_)
      refine g_ishlU dX3_setOf_22 (fun v4 rv4 => ?_)
      refine g_iorU dX3_setOf_23 (fun v5 rv5 => ?_)
      refine g_istore_n (loc' := [(2, vI v5), (0, vR 0), (1, vI a1), (3, vI a3)]) dX3_setOf_24 (by decide) rfl ?_
      refine g_iinc 3 (loc' := fun v6 => [(3, vI v6), (2, vI v5), (0, vR 0), (1, vI a1)]) dX3_setOf_25 rfl (by decide) (fun _ => rfl) (fun v6 rv6 => ?_)
      refine g_goto 4 dX3_setOf_28 (by decide) ?_
      exact g_pick [2, 3, 1, 0] rfl (ih a1 v5 v6 s3 ra1 rv5 rv6)
    · exact g_pick [2] rfl (hx31 a2 u ra2)
theorem wX3_setOf (hd : 2 ≤ d) (hRf : d + 1 ≤ R.frames) (hRl : 40 * (d + 1) ≤ R.locals) (hX3_get : ∀ (a1 a2 : Int) (u : Sg), Ct l d FT clA yX3_get cX3_get 3 (some .int) DX3_get rvI [vR 0, vI a1, vI a2] u (call 7 [a1, a2] u)) (a1 : Int) (u : Sg) (ra1 : inR a1) : WG p l e R s m args below meth c JX3_setOf DX3_setOf G clA A FT ad0 σ0 rvI (bX3_setOf call a1 u) u 0 [(0, vR 0), (1, vI a1)] [] := by
  unfold bX3_setOf
  refine g_iconst dX3_setOf_0 ?_
  refine g_istore_n (loc' := [(2, vI 0), (0, vR 0), (1, vI a1)]) dX3_setOf_1 (by decide) rfl ?_
  refine g_iconst dX3_setOf_2 ?_
  refine g_istore_n (loc' := [(3, vI 2), (2, vI 0), (0, vR 0), (1, vI a1)]) dX3_setOf_3 (by decide) rfl ?_
  refine g_pick [2, 3, 1, 0] rfl (wX3_setOf_L4 hd hRf hRl hX3_get _ (fun v2 s1 rv2 => ?_) KF a1 0 2 u ra1 (inR_z (Or.inl rfl)) (by decide : inR (2)))
  · refine g_iload_n 0 dX3_setOf_31 rfl ?_
    exact g_iret rfl rfl (fun _ => rv2) dX3_setOf_32
end
section
variable {l : Launch} {d : Nat} {call : Nat → List Int → Sg → Option (Int × Sg)}
theorem ctX3_setOf (p0 : Program) (e0 : Env) (s0 : State) (m0 : MethodId) (meth0 : Method) (c0 : Code) (G0 : Gm) (hd : 2 ≤ d) (hX3_get : ∀ (a1 a2 : Int) (u : Sg), Ct l d FT clA yX3_get cX3_get 3 (some .int) DX3_get rvI [vR 0, vI a1, vI a2] u (call 7 [a1, a2] u)) (a1 : Int) (u : Sg) : Ct l (d + 1) FT clA yX3_setOf cX3_setOf 4 (some .int) DX3_setOf rvI [vR 0, vI a1] u (bX3_setOf call a1 u) :=
  Ct_of (by decide) (Nat.le_of_ble_eq_true rfl) (fun p e R s1 m args below meth c G A ad hA hRf hRl => wX3_setOf hd hRf hRl hX3_get a1 u (hA _ (List.mem_cons_of_mem _ List.mem_cons_self))) p0 e0 s0 m0 meth0 c0 G0
end
/-! RoundCheckModel.allOf(I)I -/
abbrev JX3_allOf : Jm := (cX3_allOf, RX3, 6, (some .int))
def bX3_allOf_L70 (call : Nat → List Int → Sg → Option (Int × Sg)) : Nat → Int → Int → Int → Int → Int → Sg → (Int → Int → Int → Int → Sg → Option (Int × Sg)) → Option (Int × Sg)
  | 0, _, _, _, _, _, _, _ => none
  | n + 1, a1, a2, a3, a4, a5, u, x98 => ld u 3 a3 fun v1 => if a5 < v1 then (cl (call 7 [a3, a5] u) fun v2 s3 => cl (call 92 [v2] s3) fun v4 s5 => ar (a5 + 1) fun v6 => bX3_allOf_L70 call n a1 a2 a3 a4 v6 s5 x98) else (x98 a1 a2 a3 a4 u)
def bX3_allOf_L10 (call : Nat → List Int → Sg → Option (Int × Sg)) : Nat → Int → Int → Sg → (Int → Sg → Option (Int × Sg)) → Option (Int × Sg)
  | 0, _, _, _, _ => none
  | n + 1, a1, a2, u, x178 => un (gI u 42) fun v1 => if v1 ≤ a2 then (x178 a1 u) else (un (gI u 42) fun v2 => ar (v2 - 1) fun v3 => ld u 41 v3 fun v4 => un (gI u 42) fun v5 => cl (call 93 [v4] u) fun v6 s7 => if v6 = 0 then (jn (fun (a1 a2 a3 a4 : Int) (s9 : Sg) => un (gI s9 42) fun v10 => if v10 ≤ a4 then (cl (call 94 [a3] s9) fun v11 s12 => un (gI s12 8) fun v13 => mor s12 38 v13 fun s14 => un (gI s14 8) fun v15 => mor s14 39 v15 fun s16 => stA s16 38 a3 v11 fun s17 => un (gI s17 40) fun v18 => stA s17 39 a3 v18 fun s19 => un (gI s19 42) fun v20 => ar (v20 - 1) fun v21 => un (sI s19 42 v21) fun s22 => bX3_allOf_L10 call n a1 a2 s22 x178) else (bX3_allOf_L10 call n a1 a2 s9 x178)) fun j8 => ld s7 1 v4 fun v23 => if v23 = 4 then (bX3_allOf_L70 call KF a1 a2 v4 v5 1 s7 (fun v25 v26 v27 v28 s24 => j8 v25 v26 v27 v28 s24)) else (j8 a1 a2 v4 v5 s7)) else (un (gI s7 42) fun v29 => ar (v29 - 1) fun v30 => un (sI s7 42 v30) fun s31 => bX3_allOf_L10 call n a1 a2 s31 x178))
def bX3_allOf (call : Nat → List Int → Sg → Option (Int × Sg)) (a1 : Int) (u : Sg) : Option (Int × Sg) := un (gI u 42) fun v1 => cl (call 92 [a1] u) fun v2 s3 => bX3_allOf_L10 call KF a1 v1 s3 (fun v5 s4 => ld s4 38 v5 fun v6 => some (v6, s4))
section
variable {p : Program} {l : Launch} {e : Env} {R : Room} {s : State} {m : MethodId} {args : Array Value} {below : List Frame} {meth : Method} {c : Code} {G : Gm} {A : Nat → Prop} {ad0 : Nat → Nat} {σ0 : Sg} {d : Nat} {call : Nat → List Int → Sg → Option (Int × Sg)}
theorem wX3_allOf_L70 (hd : 2 ≤ d) (hRf : d + 1 ≤ R.frames) (hRl : 40 * (d + 1) ≤ R.locals) (hX3_wants : ∀ (a1 : Int) (u : Sg), Ct l d FT clA yX3_wants cX3_wants 2 none DX3_wants rvV [vR 0, vI a1] u (call 92 [a1] u)) (hX3_isRemembered : ∀ (a1 : Int) (u : Sg), Ct l d FT clA yX3_isRemembered cX3_isRemembered 2 (some .boolean) DX3_isRemembered rvI [vR 0, vI a1] u (call 93 [a1] u)) (hX3_found : ∀ (a1 : Int) (u : Sg), Ct l d FT clA yX3_found cX3_found 6 (some .int) DX3_found rvI [vR 0, vI a1] u (call 94 [a1] u)) (hX3_get : ∀ (a1 a2 : Int) (u : Sg), Ct l d FT clA yX3_get cX3_get 3 (some .int) DX3_get rvI [vR 0, vI a1, vI a2] u (call 7 [a1, a2] u)) (x98 : Int → Int → Int → Int → Sg → Option (Int × Sg)) (hx98 : ∀ (a1 a2 a3 a4 : Int) (u : Sg), inR a1 → inR a2 → inR a3 → inR a4 → WG p l e R s m args below meth c JX3_allOf DX3_allOf G clA A FT ad0 σ0 rvI (x98 a1 a2 a3 a4 u) u 98 [(0, vR 0), (1, vI a1), (2, vI a2), (3, vI a3), (4, vI a4)] []) : ∀ (n : Nat) (a1 a2 a3 a4 a5 : Int) (u : Sg), inR a1 → inR a2 → inR a3 → inR a4 → inR a5 → WG p l e R s m args below meth c JX3_allOf DX3_allOf G clA A FT ad0 σ0 rvI (bX3_allOf_L70 call n a1 a2 a3 a4 a5 u x98) u 70 [(0, vR 0), (1, vI a1), (2, vI a2), (3, vI a3), (4, vI a4), (5, vI a5)] [] := by
  intro n
  induction n with
  | zero =>
    intro a1 a2 a3 a4 a5 u ra1 ra2 ra3 ra4 ra5
    exact g_none
  | succ n ih =>
    intro a1 a2 a3 a4 a5 u ra1 ra2 ra3 ra4 ra5
    rw [bX3_allOf_L70]
    refine g_iload 5 dX3_allOf_70 rfl ?_
    refine g_aload_n 0 dX3_allOf_72 rfl ?_
    refine g_get (v := vR 13) (ci := 2) (b := 0) (N := 83) 3 rfl rfl (by decide) in_X3 rfl rfl q1135 dX3_allOf_73 ?_
    refine g_iload_n 3 dX3_allOf_76 rfl ?_
    refine g_iald (id := 3) 2 rfl rfl dX3_allOf_77 (fun v1 rv1 => ?_)
    refine g_icmp_ge 98 dX3_allOf_78 (by decide) (fun _ => ra5) (fun _ => rv1) (fun _ => ?_) (fun _ => ?_)
    · refine g_aload_n 0 dX3_allOf_81 rfl ?_
      refine g_aload_n 0 dX3_allOf_82 rfl ?_
      refine g_iload_n 3 dX3_allOf_83 rfl ?_
      refine g_iload 5 dX3_allOf_84 rfl ?_
      refine g_cVI (As := [vI a3, vI a5]) (n := 2) (stk := [vR 0]) (ci := 2) (b := 0) (N := 83) (hX3_get a3 a5 u) (by decide +kernel) rfl rfl (lw_V q1116 q1118 qs76 q168 q1119) (by decide +kernel) rfl (by decide) hRf hRl (fun _ => (avc ra3 (avc ra5 avn))) (Nat.le_of_ble_eq_true rfl) rfl rfl dX3_allOf_86 (fun v2 s3 rv2 => ?_)
      refine g_cVV (As := [vI v2]) (n := 1) (stk := []) (ci := 2) (b := 0) (N := 83) (hX3_wants v2 s3) (by decide +kernel) rfl rfl (lw_V q1710 q1712 qs141 q168 q1713) (by decide +kernel) rfl (by decide) hRf hRl (fun _ => (avc rv2 avn)) (Nat.le_of_ble_eq_true rfl) rfl rfl dX3_allOf_89 (fun v4 s5 => ?_)
      refine g_iinc 5 (loc' := fun v6 => [(5, vI v6), (0, vR 0), (1, vI a1), (2, vI a2), (3, vI a3), (4, vI a4)]) dX3_allOf_92 rfl (by decide) (fun _ => rfl) (fun v6 rv6 => ?_)
      refine g_goto 70 dX3_allOf_95 (by decide) ?_
      exact g_pick [1, 2, 3, 4, 5, 0] rfl (ih a1 a2 a3 a4 v6 s5 ra1 ra2 ra3 ra4 rv6)
    · exact g_pick [0, 1, 2, 3, 4] rfl (hx98 a1 a2 a3 a4 u ra1 ra2 ra3 ra4)
theorem wX3_allOf_L10 (hd : 2 ≤ d) (hRf : d + 1 ≤ R.frames) (hRl : 40 * (d + 1) ≤ R.locals) (hX3_wants : ∀ (a1 : Int) (u : Sg), Ct l d FT clA yX3_wants cX3_wants 2 none DX3_wants rvV [vR 0, vI a1] u (call 92 [a1] u)) (hX3_isRemembered : ∀ (a1 : Int) (u : Sg), Ct l d FT clA yX3_isRemembered cX3_isRemembered 2 (some .boolean) DX3_isRemembered rvI [vR 0, vI a1] u (call 93 [a1] u)) (hX3_found : ∀ (a1 : Int) (u : Sg), Ct l d FT clA yX3_found cX3_found 6 (some .int) DX3_found rvI [vR 0, vI a1] u (call 94 [a1] u)) (hX3_get : ∀ (a1 a2 : Int) (u : Sg), Ct l d FT clA yX3_get cX3_get 3 (some .int) DX3_get rvI [vR 0, vI a1, vI a2] u (call 7 [a1, a2] u)) (x178 : Int → Sg → Option (Int × Sg)) (hx178 : ∀ (a1 : Int) (u : Sg), inR a1 → WG p l e R s m args below meth c JX3_allOf DX3_allOf G clA A FT ad0 σ0 rvI (x178 a1 u) u 178 [(0, vR 0), (1, vI a1)] []) : ∀ (n : Nat) (a1 a2 : Int) (u : Sg), inR a1 → inR a2 → WG p l e R s m args below meth c JX3_allOf DX3_allOf G clA A FT ad0 σ0 rvI (bX3_allOf_L10 call n a1 a2 u x178) u 10 [(0, vR 0), (1, vI a1), (2, vI a2)] [] := by
  intro n
  induction n with
  | zero =>
    intro a1 a2 u ra1 ra2
    exact g_none
  | succ n ih =>
    intro a1 a2 u ra1 ra2
    rw [bX3_allOf_L10]
    refine g_aload_n 0 dX3_allOf_10 rfl ?_
    refine g_getI (ci := 2) (b := 0) (N := 83) 42 rfl rfl rfl (by decide) in_X3 rfl rfl q1174 dX3_allOf_11 (fun v1 rv1 => ?_)
    refine g_iload_n 2 dX3_allOf_14 rfl ?_
    refine g_icmp_le 178 dX3_allOf_15 (by decide) (fun _ => rv1) (fun _ => ra2) (fun _ => ?_) (fun _ => ?_)
    · exact g_pick [0, 1] rfl (hx178 a1 u ra1)
    · refine g_aload_n 0 dX3_allOf_18 rfl ?_
      refine g_get (v := vR 51) (ci := 2) (b := 0) (N := 83) 41 rfl rfl (by decide) in_X3 rfl rfl q1173 dX3_allOf_19 ?_
      refine g_aload_n 0 dX3_allOf_22 rfl ?_
      refine g_getI (ci := 2) (b := 0) (N := 83) 42 rfl rfl rfl (by decide) in_X3 rfl rfl q1174 dX3_allOf_23 (fun v2 rv2 => ?_)
      refine g_iconst dX3_allOf_26 ?_
      refine g_isub dX3_allOf_27 (fun v3 rv3 => ?_)
      refine g_iald (id := 41) 29 rfl rfl dX3_allOf_28 (fun v4 rv4 => ?_)
      refine g_istore_n (loc' := [(3, vI v4), (0, vR 0), (1, vI a1), (2, vI a2)]) dX3_allOf_29 (by decide) rfl ?_
      refine g_aload_n 1 dX3_allOf_30 rfl ?_
      refine g_getI (ci := 2) (b := 0) (N := 83) 42 rfl rfl rfl (by decide) in_X3 rfl rfl q1174 dX3_allOf_31 (fun v5 rv5 => ?_)
      refine g_istore (loc' := [(4, vI v5), (3, vI v4), (0, vR 0), (1, vI a1), (2, vI a2)]) dX3_allOf_34 (by decide) rfl ?_
      refine g_aload_n 2 dX3_allOf_36 rfl ?_
      refine g_iload_n 1 dX3_allOf_37 rfl ?_
      refine g_cVZ (As := [vI v4]) (n := 1) (stk := []) (ci := 2) (b := 0) (N := 83) (hX3_isRemembered v4 u) (by decide +kernel) rfl rfl (lw_V q1714 q1716 qs142 q168 q1717) (by decide +kernel) rfl (by decide) hRf hRl (fun _ => (avc rv4 avn)) (Nat.le_of_ble_eq_true rfl) rfl rfl dX3_allOf_38 (fun v6 s7 zv6 => ?_)
      refine g_if_eq 57 dX3_allOf_41 (by decide) (fun _ => (inR_z zv6)) (fun _ => ?_) (fun _ => ?_)
      · refine g_jn (fun j8 => ∀ (a1 a2 a3 a4 : Int) (s9 : Sg), inR a1 → inR a2 → inR a3 → inR a4 → WG p l e R s m args below meth c JX3_allOf DX3_allOf G clA A FT ad0 σ0 rvI (j8 a1 a2 a3 a4 s9) s9 98 [(0, vR 0), (1, vI a1), (2, vI a2), (3, vI a3), (4, vI a4)] []) (fun a1 a2 a3 a4 s9 ra1 ra2 ra3 ra4 => ?_) (fun j8 hj8 => ?_)
        · refine g_aload_n 0 dX3_allOf_98 rfl ?_
          refine g_getI (ci := 2) (b := 0) (N := 83) 42 rfl rfl rfl (by decide) in_X3 rfl rfl q1174 dX3_allOf_99 (fun v10 rv10 => ?_)
          refine g_iload 4 dX3_allOf_102 rfl ?_
          refine g_icmp_le 110 dX3_allOf_104 (by decide) (fun _ => rv10) (fun _ => ra4) (fun _ => ?_) (fun _ => ?_)
          · refine g_aload_n 0 dX3_allOf_110 rfl ?_
            refine g_iload_n 3 dX3_allOf_111 rfl ?_
            refine g_cVI (As := [vI a3]) (n := 1) (stk := []) (ci := 2) (b := 0) (N := 83) (hX3_found a3 s9) (by decide +kernel) rfl rfl (lw_V q1718 q1720 qs143 q168 q1721) (by decide +kernel) rfl (by decide) hRf hRl (fun _ => (avc ra3 avn)) (Nat.le_of_ble_eq_true rfl) rfl rfl dX3_allOf_112 (fun v11 s12 rv11 => ?_)
            refine g_istore (loc' := [(5, vI v11), (0, vR 0), (1, vI a1), (2, vI a2), (3, vI a3), (4, vI a4)]) dX3_allOf_115 (by decide) rfl ?_
            refine g_aload_n 1 dX3_allOf_117 rfl ?_
            refine g_aload_n 1 dX3_allOf_118 rfl ?_
            refine g_get (v := vR 48) (ci := 2) (b := 0) (N := 83) 38 rfl rfl (by decide) in_X3 rfl rfl q1170 dX3_allOf_119 ?_
            refine g_aload_n 1 dX3_allOf_122 rfl ?_
            refine g_getI (ci := 2) (b := 0) (N := 83) 8 rfl rfl rfl (by decide) in_X3 rfl rfl q1140 dX3_allOf_123 (fun v13 rv13 => ?_)
            refine g_more (ci := 2) (b := 0) (N := 83) FT_ok FT_10 rfl 38 27 rfl rfl rfl rfl (by decide) in_X3 tyX3 tyX3_ok nmX3 rfl rfl rfl rfl (by decide +kernel) rv13 q1104 q1170 hRf hRl hd (Nat.le_of_ble_eq_true rfl) rfl rfl dX3_allOf_126 dX3_allOf_129 (fun s14 => ?_)
            refine g_aload_n 1 dX3_allOf_132 rfl ?_
            refine g_aload_n 1 dX3_allOf_133 rfl ?_
            refine g_get (v := vR 49) (ci := 2) (b := 0) (N := 83) 39 rfl rfl (by decide) in_X3 rfl rfl q1171 dX3_allOf_134 ?_
            refine g_aload_n 1 dX3_allOf_137 rfl ?_
            refine g_getI (ci := 2) (b := 0) (N := 83) 8 rfl rfl rfl (by decide) in_X3 rfl rfl q1140 dX3_allOf_138 (fun v15 rv15 => ?_)
            refine g_more (ci := 2) (b := 0) (N := 83) FT_ok FT_10 rfl 39 28 rfl rfl rfl rfl (by decide) in_X3 tyX3 tyX3_ok nmX3 rfl rfl rfl rfl (by decide +kernel) rv15 q1104 q1171 hRf hRl hd (Nat.le_of_ble_eq_true rfl) rfl rfl dX3_allOf_141 dX3_allOf_144 (fun s16 => ?_)
            refine g_aload_n 1 dX3_allOf_147 rfl ?_
            refine g_get (v := vR 48) (ci := 2) (b := 0) (N := 83) 38 rfl rfl (by decide) in_X3 rfl rfl q1170 dX3_allOf_148 ?_
            refine g_iload_n 4 dX3_allOf_151 rfl ?_
            refine g_iload 0 dX3_allOf_152 rfl ?_
            refine g_iastU (id := 38) FT_ok 27 rfl rfl (by decide +kernel) rv11 dX3_allOf_154 (fun s17 => ?_)
            refine g_aload_n 1 dX3_allOf_155 rfl ?_
            refine g_get (v := vR 49) (ci := 2) (b := 0) (N := 83) 39 rfl rfl (by decide) in_X3 rfl rfl q1171 dX3_allOf_156 ?_
            refine g_iload_n 4 dX3_allOf_159 rfl ?_
            refine g_aload_n 1 dX3_allOf_160 rfl ?_
            refine g_getI (ci := 2) (b := 0) (N := 83) 40 rfl rfl rfl (by decide) in_X3 rfl rfl q1172 dX3_allOf_161 (fun v18 rv18 => ?_)
            refine g_iastU (id := 39) FT_ok 28 rfl rfl (by decide +kernel) rv18 dX3_allOf_164 (fun s19 => ?_)
            refine g_aload_n 1 dX3_allOf_165 rfl ?_
            refine g_dup rfl dX3_allOf_166 ?_
            refine g_getI (ci := 2) (b := 0) (N := 83) 42 rfl rfl rfl (by decide) in_X3 rfl rfl q1174 dX3_allOf_167 (fun v20 rv20 => ?_)
            refine g_iconst dX3_allOf_170 ?_
            refine g_isub dX3_allOf_171 (fun v21 rv21 => ?_)
            refine g_sIU (ci := 2) (b := 0) (N := 83) FT_ok 42 rfl rfl rfl (by decide) in_X3 tyX3 tyX3_ok nmX3 rfl rfl rfl rfl (by decide +kernel) rv21 q1174 dX3_allOf_172 (fun s22 => ?_)
            refine g_goto 10 dX3_allOf_175 (by decide) ?_
            exact g_pick [1, 2, 3] rfl (ih a1 a2 s22 ra1 ra2)
          · refine g_goto 10 dX3_allOf_107 (by decide) ?_
            exact g_pick [0, 1, 2] rfl (ih a1 a2 s9 ra1 ra2)
        · refine g_aload_n 2 dX3_allOf_57 rfl ?_
          refine g_get (v := vR 11) (ci := 2) (b := 0) (N := 83) 1 rfl rfl (by decide) in_X3 rfl rfl q1133 dX3_allOf_58 ?_
          refine g_iload_n 1 dX3_allOf_61 rfl ?_
          refine g_iald (id := 1) 0 rfl rfl dX3_allOf_62 (fun v23 rv23 => ?_)
          refine g_iconst dX3_allOf_63 ?_
          refine g_icmp_ne 98 dX3_allOf_64 (by decide) (fun _ => rv23) (fun _ => (by decide : inR (4))) (fun _ => ?_) (fun _ => ?_)
          · refine g_iconst dX3_allOf_67 ?_
            refine g_istore (loc' := [(5, vI 1), (4, vI v5), (3, vI v4), (0, vR 0), (1, vI a1), (2, vI a2)]) dX3_allOf_68 (by decide) rfl ?_
            refine g_pick [3, 4, 5, 2, 1, 0] rfl (wX3_allOf_L70 hd hRf hRl hX3_wants hX3_isRemembered hX3_found hX3_get _ (fun v25 v26 v27 v28 s24 rv25 rv26 rv27 rv28 => ?_) KF a1 a2 v4 v5 1 s7 ra1 ra2 rv4 rv5 (inR_z (Or.inr rfl)))
            · exact g_pick [0, 1, 2, 3, 4] rfl (hj8 v25 v26 v27 v28 s24 rv25 rv26 rv27 rv28)
          · exact g_pick [2, 3, 4, 1, 0] rfl (hj8 a1 a2 v4 v5 s7 ra1 ra2 rv4 rv5)
      · refine g_aload_n 2 dX3_allOf_44 rfl ?_
        refine g_dup rfl dX3_allOf_45 ?_
        refine g_getI (ci := 2) (b := 0) (N := 83) 42 rfl rfl rfl (by decide) in_X3 rfl rfl q1174 dX3_allOf_46 (fun v29 rv29 => ?_)
        refine g_iconst dX3_allOf_49 ?_
        refine g_isub dX3_allOf_50 (fun v30 rv30 => ?_)
        refine g_sIU (ci := 2) (b := 0) (N := 83) FT_ok 42 rfl rfl rfl (by decide) in_X3 tyX3 tyX3_ok nmX3 rfl rfl rfl rfl (by decide +kernel) rv30 q1174 dX3_allOf_51 (fun s31 => ?_)
        refine g_goto 10 dX3_allOf_54 (by decide) ?_
        exact g_pick [2, 3, 4] rfl (ih a1 a2 s31 ra1 ra2)
theorem wX3_allOf (hd : 2 ≤ d) (hRf : d + 1 ≤ R.frames) (hRl : 40 * (d + 1) ≤ R.locals) (hX3_wants : ∀ (a1 : Int) (u : Sg), Ct l d FT clA yX3_wants cX3_wants 2 none DX3_wants rvV [vR 0, vI a1] u (call 92 [a1] u)) (hX3_isRemembered : ∀ (a1 : Int) (u : Sg), Ct l d FT clA yX3_isRemembered cX3_isRemembered 2 (some .boolean) DX3_isRemembered rvI [vR 0, vI a1] u (call 93 [a1] u)) (hX3_found : ∀ (a1 : Int) (u : Sg), Ct l d FT clA yX3_found cX3_found 6 (some .int) DX3_found rvI [vR 0, vI a1] u (call 94 [a1] u)) (hX3_get : ∀ (a1 a2 : Int) (u : Sg), Ct l d FT clA yX3_get cX3_get 3 (some .int) DX3_get rvI [vR 0, vI a1, vI a2] u (call 7 [a1, a2] u)) (a1 : Int) (u : Sg) (ra1 : inR a1) : WG p l e R s m args below meth c JX3_allOf DX3_allOf G clA A FT ad0 σ0 rvI (bX3_allOf call a1 u) u 0 [(0, vR 0), (1, vI a1)] [] := by
  unfold bX3_allOf
  refine g_aload_n 0 dX3_allOf_0 rfl ?_
  refine g_getI (ci := 2) (b := 0) (N := 83) 42 rfl rfl rfl (by decide) in_X3 rfl rfl q1174 dX3_allOf_1 (fun v1 rv1 => ?_)
  refine g_istore_n (loc' := [(2, vI v1), (0, vR 0), (1, vI a1)]) dX3_allOf_4 (by decide) rfl ?_
  refine g_aload_n 1 dX3_allOf_5 rfl ?_
  refine g_iload_n 2 dX3_allOf_6 rfl ?_
  refine g_cVV (As := [vI a1]) (n := 1) (stk := []) (ci := 2) (b := 0) (N := 83) (hX3_wants a1 u) (by decide +kernel) rfl rfl (lw_V q1710 q1712 qs141 q168 q1713) (by decide +kernel) rfl (by decide) hRf hRl (fun _ => (avc ra1 avn)) (Nat.le_of_ble_eq_true rfl) rfl rfl dX3_allOf_7 (fun v2 s3 => ?_)
  refine g_pick [1, 2, 0] rfl (wX3_allOf_L10 hd hRf hRl hX3_wants hX3_isRemembered hX3_found hX3_get _ (fun v5 s4 rv5 => ?_) KF a1 v1 s3 ra1 rv1)
  · refine g_aload_n 0 dX3_allOf_178 rfl ?_
    refine g_get (v := vR 48) (ci := 2) (b := 0) (N := 83) 38 rfl rfl (by decide) in_X3 rfl rfl q1170 dX3_allOf_179 ?_
    refine g_iload_n 1 dX3_allOf_182 rfl ?_
    refine g_iald (id := 38) 27 rfl rfl dX3_allOf_183 (fun v6 rv6 => ?_)
    exact g_iret rfl rfl (fun _ => rv6) dX3_allOf_184
end
section
variable {l : Launch} {d : Nat} {call : Nat → List Int → Sg → Option (Int × Sg)}
theorem ctX3_allOf (p0 : Program) (e0 : Env) (s0 : State) (m0 : MethodId) (meth0 : Method) (c0 : Code) (G0 : Gm) (hd : 2 ≤ d) (hX3_wants : ∀ (a1 : Int) (u : Sg), Ct l d FT clA yX3_wants cX3_wants 2 none DX3_wants rvV [vR 0, vI a1] u (call 92 [a1] u)) (hX3_isRemembered : ∀ (a1 : Int) (u : Sg), Ct l d FT clA yX3_isRemembered cX3_isRemembered 2 (some .boolean) DX3_isRemembered rvI [vR 0, vI a1] u (call 93 [a1] u)) (hX3_found : ∀ (a1 : Int) (u : Sg), Ct l d FT clA yX3_found cX3_found 6 (some .int) DX3_found rvI [vR 0, vI a1] u (call 94 [a1] u)) (hX3_get : ∀ (a1 a2 : Int) (u : Sg), Ct l d FT clA yX3_get cX3_get 3 (some .int) DX3_get rvI [vR 0, vI a1, vI a2] u (call 7 [a1, a2] u)) (a1 : Int) (u : Sg) : Ct l (d + 1) FT clA yX3_allOf cX3_allOf 6 (some .int) DX3_allOf rvI [vR 0, vI a1] u (bX3_allOf call a1 u) :=
  Ct_of (by decide) (Nat.le_of_ble_eq_true rfl) (fun p e R s1 m args below meth c G A ad hA hRf hRl => wX3_allOf hd hRf hRl hX3_wants hX3_isRemembered hX3_found hX3_get a1 u (hA _ (List.mem_cons_of_mem _ List.mem_cons_self))) p0 e0 s0 m0 meth0 c0 G0
end
/-! RoundCheckModel.wants(I)V -/
abbrev JX3_wants : Jm := (cX3_wants, RX3, 2, none)
def bX3_wants (call : Nat → List Int → Sg → Option (Int × Sg)) (a1 : Int) (u : Sg) : Option (Int × Sg) := if a1 = 0 then (some (0, u)) else (cl (call 93 [a1] u) fun v1 s2 => if v1 = 0 then (un (gI s2 42) fun v3 => mor s2 41 v3 fun s4 => un (gI s4 42) fun v5 => ar (v5 + 1) fun v6 => un (sI s4 42 v6) fun s7 => stA s7 41 v5 a1 fun s8 => some (0, s8)) else (some (0, s2)))
section
variable {p : Program} {l : Launch} {e : Env} {R : Room} {s : State} {m : MethodId} {args : Array Value} {below : List Frame} {meth : Method} {c : Code} {G : Gm} {A : Nat → Prop} {ad0 : Nat → Nat} {σ0 : Sg} {d : Nat} {call : Nat → List Int → Sg → Option (Int × Sg)}
theorem wX3_wants (hd : 2 ≤ d) (hRf : d + 1 ≤ R.frames) (hRl : 40 * (d + 1) ≤ R.locals) (hX3_isRemembered : ∀ (a1 : Int) (u : Sg), Ct l d FT clA yX3_isRemembered cX3_isRemembered 2 (some .boolean) DX3_isRemembered rvI [vR 0, vI a1] u (call 93 [a1] u)) (a1 : Int) (u : Sg) (ra1 : inR a1) : WG p l e R s m args below meth c JX3_wants DX3_wants G clA A FT ad0 σ0 rvV (bX3_wants call a1 u) u 0 [(0, vR 0), (1, vI a1)] [] := by
  unfold bX3_wants
  refine g_iload_n 1 dX3_wants_0 rfl ?_
  refine g_if_eq 12 dX3_wants_1 (by decide) (fun _ => ra1) (fun _ => ?_) (fun _ => ?_)
  · exact g_vret rfl rfl dX3_wants_12
  · refine g_aload_n 0 dX3_wants_4 rfl ?_
    refine g_iload_n 1 dX3_wants_5 rfl ?_
    refine g_cVZ (As := [vI a1]) (n := 1) (stk := []) (ci := 2) (b := 0) (N := 83) (hX3_isRemembered a1 u) (by decide +kernel) rfl rfl (lw_V q1714 q1716 qs142 q168 q1717) (by decide +kernel) rfl (by decide) hRf hRl (fun _ => (avc ra1 avn)) (Nat.le_of_ble_eq_true rfl) rfl rfl dX3_wants_6 (fun v1 s2 zv1 => ?_)
    refine g_if_eq 13 dX3_wants_9 (by decide) (fun _ => (inR_z zv1)) (fun _ => ?_) (fun _ => ?_)
    · refine g_aload_n 0 dX3_wants_13 rfl ?_
      refine g_aload_n 0 dX3_wants_14 rfl ?_
      refine g_get (v := vR 51) (ci := 2) (b := 0) (N := 83) 41 rfl rfl (by decide) in_X3 rfl rfl q1173 dX3_wants_15 ?_
      refine g_aload_n 0 dX3_wants_18 rfl ?_
      refine g_getI (ci := 2) (b := 0) (N := 83) 42 rfl rfl rfl (by decide) in_X3 rfl rfl q1174 dX3_wants_19 (fun v3 rv3 => ?_)
      refine g_more (ci := 2) (b := 0) (N := 83) FT_ok FT_10 rfl 41 29 rfl rfl rfl rfl (by decide) in_X3 tyX3 tyX3_ok nmX3 rfl rfl rfl rfl (by decide +kernel) rv3 q1104 q1173 hRf hRl hd (Nat.le_of_ble_eq_true rfl) rfl rfl dX3_wants_22 dX3_wants_25 (fun s4 => ?_)
      refine g_aload_n 0 dX3_wants_28 rfl ?_
      refine g_get (v := vR 51) (ci := 2) (b := 0) (N := 83) 41 rfl rfl (by decide) in_X3 rfl rfl q1173 dX3_wants_29 ?_
      refine g_aload_n 0 dX3_wants_32 rfl ?_
      refine g_dup rfl dX3_wants_33 ?_
      refine g_getI (ci := 2) (b := 0) (N := 83) 42 rfl rfl rfl (by decide) in_X3 rfl rfl q1174 dX3_wants_34 (fun v5 rv5 => ?_)
      refine g_dup_x1 rfl rfl dX3_wants_37 ?_
      refine g_iconst dX3_wants_38 ?_
      refine g_iadd dX3_wants_39 (fun v6 rv6 => ?_)
      refine g_sIU (ci := 2) (b := 0) (N := 83) FT_ok 42 rfl rfl rfl (by decide) in_X3 tyX3 tyX3_ok nmX3 rfl rfl rfl rfl (by decide +kernel) rv6 q1174 dX3_wants_40 (fun s7 => ?_)
      refine g_iload_n 1 dX3_wants_43 rfl ?_
      refine g_iastU (id := 41) FT_ok 29 rfl rfl (by decide +kernel) ra1 dX3_wants_44 (fun s8 => ?_)
      exact g_vret rfl rfl dX3_wants_45
    · exact g_vret rfl rfl dX3_wants_12
end
section
variable {l : Launch} {d : Nat} {call : Nat → List Int → Sg → Option (Int × Sg)}
theorem ctX3_wants (p0 : Program) (e0 : Env) (s0 : State) (m0 : MethodId) (meth0 : Method) (c0 : Code) (G0 : Gm) (hd : 2 ≤ d) (hX3_isRemembered : ∀ (a1 : Int) (u : Sg), Ct l d FT clA yX3_isRemembered cX3_isRemembered 2 (some .boolean) DX3_isRemembered rvI [vR 0, vI a1] u (call 93 [a1] u)) (a1 : Int) (u : Sg) : Ct l (d + 1) FT clA yX3_wants cX3_wants 2 none DX3_wants rvV [vR 0, vI a1] u (bX3_wants call a1 u) :=
  Ct_of (by decide) (Nat.le_of_ble_eq_true rfl) (fun p e R s1 m args below meth c G A ad hA hRf hRl => wX3_wants hd hRf hRl hX3_isRemembered a1 u (hA _ (List.mem_cons_of_mem _ List.mem_cons_self))) p0 e0 s0 m0 meth0 c0 G0
end
/-! RoundCheckModel.isRemembered(I)Z -/
abbrev JX3_isRemembered : Jm := (cX3_isRemembered, RX3, 2, (some .boolean))
def bX3_isRemembered (call : Nat → List Int → Sg → Option (Int × Sg)) (a1 : Int) (u : Sg) : Option (Int × Sg) := jn (fun (s2 : Sg) => some (0, s2)) fun j1 => un (gL u 39 : Int) fun v3 => if a1 < v3 then (ld u 39 a1 fun v4 => un (gI u 40) fun v5 => if v4 = v5 then (some (1, u)) else (j1 u)) else (j1 u)
section
variable {p : Program} {l : Launch} {e : Env} {R : Room} {s : State} {m : MethodId} {args : Array Value} {below : List Frame} {meth : Method} {c : Code} {G : Gm} {A : Nat → Prop} {ad0 : Nat → Nat} {σ0 : Sg} {d : Nat} {call : Nat → List Int → Sg → Option (Int × Sg)}
theorem wX3_isRemembered (hd : 2 ≤ d) (hRf : d + 1 ≤ R.frames) (hRl : 40 * (d + 1) ≤ R.locals) (a1 : Int) (u : Sg) (ra1 : inR a1) : WG p l e R s m args below meth c JX3_isRemembered DX3_isRemembered G clA A FT ad0 σ0 rvI (bX3_isRemembered call a1 u) u 0 [(0, vR 0), (1, vI a1)] [] := by
  unfold bX3_isRemembered
  refine g_jn (fun j1 => ∀ (s2 : Sg), WG p l e R s m args below meth c JX3_isRemembered DX3_isRemembered G clA A FT ad0 σ0 rvI (j1 s2) s2 26 [] []) (fun s2 => ?_) (fun j1 hj1 => ?_)
  · refine g_iconst dX3_isRemembered_26 ?_
    exact g_zret rfl rfl (fun _ => (Or.inl rfl)) dX3_isRemembered_27
  · refine g_iload_n 1 dX3_isRemembered_0 rfl ?_
    refine g_aload_n 0 dX3_isRemembered_1 rfl ?_
    refine g_get (v := vR 49) (ci := 2) (b := 0) (N := 83) 39 rfl rfl (by decide) in_X3 rfl rfl q1171 dX3_isRemembered_2 ?_
    refine g_alenU (id := 39) 28 rfl (Or.inl rfl) dX3_isRemembered_5 (fun v3 rv3 => ?_)
    refine g_icmp_ge 26 dX3_isRemembered_6 (by decide) (fun _ => ra1) (fun _ => rv3) (fun _ => ?_) (fun _ => ?_)
    · refine g_aload_n 0 dX3_isRemembered_9 rfl ?_
      refine g_get (v := vR 49) (ci := 2) (b := 0) (N := 83) 39 rfl rfl (by decide) in_X3 rfl rfl q1171 dX3_isRemembered_10 ?_
      refine g_iload_n 1 dX3_isRemembered_13 rfl ?_
      refine g_iald (id := 39) 28 rfl rfl dX3_isRemembered_14 (fun v4 rv4 => ?_)
      refine g_aload_n 0 dX3_isRemembered_15 rfl ?_
      refine g_getI (ci := 2) (b := 0) (N := 83) 40 rfl rfl rfl (by decide) in_X3 rfl rfl q1172 dX3_isRemembered_16 (fun v5 rv5 => ?_)
      refine g_icmp_ne 26 dX3_isRemembered_19 (by decide) (fun _ => rv4) (fun _ => rv5) (fun _ => ?_) (fun _ => ?_)
      · refine g_iconst dX3_isRemembered_22 ?_
        refine g_goto 27 dX3_isRemembered_23 (by decide) ?_
        exact g_zret rfl rfl (fun _ => (Or.inr rfl)) dX3_isRemembered_27
      · exact g_pick [] rfl (hj1 u)
    · exact g_pick [] rfl (hj1 u)
end
section
variable {l : Launch} {d : Nat} {call : Nat → List Int → Sg → Option (Int × Sg)}
theorem ctX3_isRemembered (p0 : Program) (e0 : Env) (s0 : State) (m0 : MethodId) (meth0 : Method) (c0 : Code) (G0 : Gm) (hd : 2 ≤ d) (a1 : Int) (u : Sg) : Ct l (d + 1) FT clA yX3_isRemembered cX3_isRemembered 2 (some .boolean) DX3_isRemembered rvI [vR 0, vI a1] u (bX3_isRemembered call a1 u) :=
  Ct_of (by decide) (Nat.le_of_ble_eq_true rfl) (fun p e R s1 m args below meth c G A ad hA hRf hRl => wX3_isRemembered hd hRf hRl a1 u (hA _ (List.mem_cons_of_mem _ List.mem_cons_self))) p0 e0 s0 m0 meth0 c0 G0
end
/-! RoundCheckModel.found(I)I -/
abbrev JX3_found : Jm := (cX3_found, RX3, 6, (some .int))
def bX3_found_L101 (call : Nat → List Int → Sg → Option (Int × Sg)) : Nat → Int → Int → Int → Int → Sg → (Int → Int → Int → Sg → Option (Int × Sg)) → Option (Int × Sg)
  | 0, _, _, _, _, _, _ => none
  | n + 1, a2, a3, a4, a5, u, x184 => un (gI u 37) fun v1 => if a5 < v1 then (ld u 29 a5 fun v2 => if v2 = 1 then (ld u 35 a5 fun v3 => un (o_or a3 v3) fun v4 => if v4 = a3 then (ar (a5 + 1) fun v5 => bX3_found_L101 call n a2 a3 a4 v5 u x184) else (ld u 30 a5 fun v6 => cl (call 90 [v6] u) fun v7 s8 => un (o_xor a3 (-1)) fun v9 => un (o_and v7 v9) fun v10 => if v10 = 0 then (cl (call 97 [a2, a5] s8) fun v11 s12 => if v11 = 0 then (ar (a5 + 1) fun v13 => bX3_found_L101 call n a2 a3 a4 v13 s12 x184) else (ld s12 35 a5 fun v14 => un (o_or a3 v14) fun v15 => ar (a5 + 1) fun v16 => bX3_found_L101 call n a2 v15 1 v16 s12 x184)) else (ar (a5 + 1) fun v17 => bX3_found_L101 call n a2 a3 a4 v17 s8 x184))) else (ar (a5 + 1) fun v18 => bX3_found_L101 call n a2 a3 a4 v18 u x184)) else (x184 a2 a3 a4 u)
def bX3_found_L90 (call : Nat → List Int → Sg → Option (Int × Sg)) : Nat → Int → Int → Int → Sg → (Int → Sg → Option (Int × Sg)) → Option (Int × Sg)
  | 0, _, _, _, _, _ => none
  | n + 1, a2, a3, a4, u, x187 => if a4 = 0 then (x187 a3 u) else (bX3_found_L101 call KF a2 a3 0 0 u (fun v2 v3 v4 s1 => bX3_found_L90 call n v2 v3 v4 s1 x187))
def bX3_found_L25 (call : Nat → List Int → Sg → Option (Int × Sg)) : Nat → Int → Int → Int → Int → Sg → (Int → Int → Sg → Option (Int × Sg)) → Option (Int × Sg)
  | 0, _, _, _, _, _, _ => none
  | n + 1, a1, a2, a3, a4, u, x87 => un (gI u 37) fun v1 => if a4 < v1 then (ld u 29 a4 fun v2 => if v2 = 2 then (ld u 32 a4 fun v3 => cl (call 7 [a1, 0] u) fun v4 s5 => if v3 = v4 then (cl (call 96 [a4, a1] s5) fun v6 s7 => if v6 = 0 then (ar (a4 + 1) fun v8 => bX3_found_L25 call n a1 a2 a3 v8 s7 x87) else (ld s7 35 a4 fun v9 => un (o_or a3 v9) fun v10 => ar (a4 + 1) fun v11 => bX3_found_L25 call n a1 a2 v10 v11 s7 x87)) else (ar (a4 + 1) fun v12 => bX3_found_L25 call n a1 a2 a3 v12 s5 x87)) else (ar (a4 + 1) fun v13 => bX3_found_L25 call n a1 a2 a3 v13 u x87)) else (x87 a2 a3 u)
def bX3_found (call : Nat → List Int → Sg → Option (Int × Sg)) (a1 : Int) (u : Sg) : Option (Int × Sg) := jn (fun (a2 a3 : Int) (s2 : Sg) => bX3_found_L90 call KF a2 a3 1 s2 (fun v4 s3 => some (v4, s3))) fun j1 => cl (call 80 [a1] u) fun v5 s6 => cl (call 95 [v5] s6) fun v7 s8 => ld s8 1 a1 fun v9 => if v9 = 4 then (bX3_found_L25 call KF a1 v5 v7 0 s8 (fun v11 v12 s10 => j1 v11 v12 s10)) else (j1 v5 v7 s8)
section
variable {p : Program} {l : Launch} {e : Env} {R : Room} {s : State} {m : MethodId} {args : Array Value} {below : List Frame} {meth : Method} {c : Code} {G : Gm} {A : Nat → Prop} {ad0 : Nat → Nat} {σ0 : Sg} {d : Nat} {call : Nat → List Int → Sg → Option (Int × Sg)}
theorem wX3_found_L101 (hd : 2 ≤ d) (hRf : d + 1 ≤ R.frames) (hRl : 40 * (d + 1) ≤ R.locals) (hX3_setOf : ∀ (a1 : Int) (u : Sg), Ct l d FT clA yX3_setOf cX3_setOf 4 (some .int) DX3_setOf rvI [vR 0, vI a1] u (call 90 [a1] u)) (hX3_hasOf : ∀ (a1 a2 : Int) (u : Sg), Ct l d FT clA yX3_hasOf cX3_hasOf 5 (some .boolean) DX3_hasOf rvI [vR 0, vI a1, vI a2] u (call 97 [a1, a2] u)) (hX3_typeOf : ∀ (a1 : Int) (u : Sg), Ct l d FT clA yX3_typeOf cX3_typeOf 2 (some .int) DX3_typeOf rvI [vR 0, vI a1] u (call 80 [a1] u)) (hX3_ownAndParents : ∀ (a1 : Int) (u : Sg), Ct l d FT clA yX3_ownAndParents cX3_ownAndParents 4 (some .int) DX3_ownAndParents rvI [vR 0, vI a1] u (call 95 [a1] u)) (hX3_get : ∀ (a1 a2 : Int) (u : Sg), Ct l d FT clA yX3_get cX3_get 3 (some .int) DX3_get rvI [vR 0, vI a1, vI a2] u (call 7 [a1, a2] u)) (hX3_termsSuit : ∀ (a1 a2 : Int) (u : Sg), Ct l d FT clA yX3_termsSuit cX3_termsSuit 4 (some .boolean) DX3_termsSuit rvI [vR 0, vI a1, vI a2] u (call 96 [a1, a2] u)) (x184 : Int → Int → Int → Sg → Option (Int × Sg)) (hx184 : ∀ (a2 a3 a4 : Int) (u : Sg), inR a2 → inR a3 → (a4 = 0 ∨ a4 = 1) → WG p l e R s m args below meth c JX3_found DX3_found G clA A FT ad0 σ0 rvI (x184 a2 a3 a4 u) u 184 [(0, vR 0), (2, vI a2), (3, vI a3), (4, vI a4)] []) : ∀ (n : Nat) (a2 a3 a4 a5 : Int) (u : Sg), inR a2 → inR a3 → (a4 = 0 ∨ a4 = 1) → inR a5 → WG p l e R s m args below meth c JX3_found DX3_found G clA A FT ad0 σ0 rvI (bX3_found_L101 call n a2 a3 a4 a5 u x184) u 101 [(0, vR 0), (2, vI a2), (3, vI a3), (4, vI a4), (5, vI a5)] [] := by
  intro n
  induction n with
  | zero =>
    intro a2 a3 a4 a5 u ra2 ra3 za4 ra5
    exact g_none
  | succ n ih =>
    intro a2 a3 a4 a5 u ra2 ra3 za4 ra5
    rw [bX3_found_L101]
    refine g_iload 4 dX3_found_101 rfl ?_
    refine g_aload_n 0 dX3_found_103 rfl ?_
    refine g_getI (ci := 2) (b := 0) (N := 83) 37 rfl rfl rfl (by decide) in_X3 rfl rfl q1169 dX3_found_104 (fun v1 rv1 => ?_)
    refine g_icmp_ge 184 dX3_found_107 (by decide) (fun _ => ra5) (fun _ => rv1) (fun _ => ?_) (fun _ => ?_)
    · refine g_aload_n 0 dX3_found_110 rfl ?_
      refine g_get (v := vR 39) (ci := 2) (b := 0) (N := 83) 29 rfl rfl (by decide) in_X3 rfl rfl q1161 dX3_found_111 ?_
      refine g_iload 4 dX3_found_114 rfl ?_
      refine g_iald (id := 29) 19 rfl rfl dX3_found_116 (fun v2 rv2 => ?_)
      refine g_iconst dX3_found_117 ?_
      refine g_icmp_ne 178 dX3_found_118 (by decide) (fun _ => rv2) (fun _ => (inR_z (Or.inr rfl))) (fun _ => ?_) (fun _ => ?_)
      · refine g_iload_n 2 dX3_found_121 rfl ?_
        refine g_aload_n 0 dX3_found_122 rfl ?_
        refine g_get (v := vR 45) (ci := 2) (b := 0) (N := 83) 35 rfl rfl (by decide) in_X3 rfl rfl q1167 dX3_found_123 ?_
        refine g_iload 4 dX3_found_126 rfl ?_
        refine g_iald (id := 35) 25 rfl rfl dX3_found_128 (fun v3 rv3 => ?_)
        refine g_iorU dX3_found_129 (fun v4 rv4 => ?_)
        refine g_iload_n 2 dX3_found_130 rfl ?_
        refine g_icmp_eq 178 dX3_found_131 (by decide) (fun _ => rv4) (fun _ => ra3) (fun _ => ?_) (fun _ => ?_)
        · refine g_iinc 4 (loc' := fun v5 => [(5, vI v5), (0, vR 0), (2, vI a2), (3, vI a3), (4, vI a4)]) dX3_found_178 rfl (by decide) (fun _ => rfl) (fun v5 rv5 => ?_)
          refine g_goto 101 dX3_found_181 (by decide) ?_
          exact g_pick [1, 2, 3, 4, 0] rfl (ih a2 a3 a4 v5 u ra2 ra3 za4 rv5)
        · refine g_aload_n 0 dX3_found_134 rfl ?_
          refine g_aload_n 0 dX3_found_135 rfl ?_
          refine g_get (v := vR 40) (ci := 2) (b := 0) (N := 83) 30 rfl rfl (by decide) in_X3 rfl rfl q1162 dX3_found_136 ?_
          refine g_iload 4 dX3_found_139 rfl ?_
          refine g_iald (id := 30) 20 rfl rfl dX3_found_141 (fun v6 rv6 => ?_)
          refine g_cVI (As := [vI v6]) (n := 1) (stk := []) (ci := 2) (b := 0) (N := 83) (hX3_setOf v6 u) (by decide +kernel) rfl rfl (lw_V q1702 q1704 qs139 q168 q1705) (by decide +kernel) rfl (by decide) hRf hRl (fun _ => (avc rv6 avn)) (Nat.le_of_ble_eq_true rfl) rfl rfl dX3_found_142 (fun v7 s8 rv7 => ?_)
          refine g_iload_n 2 dX3_found_145 rfl ?_
          refine g_iconst dX3_found_146 ?_
          refine g_ixorU dX3_found_147 (fun v9 rv9 => ?_)
          refine g_iandU dX3_found_148 (fun v10 rv10 => ?_)
          refine g_if_ne 178 dX3_found_149 (by decide) (fun _ => rv10) (fun _ => ?_) (fun _ => ?_)
          · refine g_aload_n 0 dX3_found_152 rfl ?_
            refine g_iload_n 1 dX3_found_153 rfl ?_
            refine g_iload 4 dX3_found_154 rfl ?_
            refine g_cVZ (As := [vI a2, vI a5]) (n := 2) (stk := []) (ci := 2) (b := 0) (N := 83) (hX3_hasOf a2 a5 s8) (by decide +kernel) rfl rfl (lw_V q1730 q1732 qs146 q168 q1733) (by decide +kernel) rfl (by decide) hRf hRl (fun _ => (avc ra2 (avc ra5 avn))) (Nat.le_of_ble_eq_true rfl) rfl rfl dX3_found_156 (fun v11 s12 zv11 => ?_)
            refine g_if_ne 165 dX3_found_159 (by decide) (fun _ => (inR_z zv11)) (fun _ => ?_) (fun _ => ?_)
            · refine g_goto 178 dX3_found_162 (by decide) ?_
              refine g_iinc 4 (loc' := fun v13 => [(5, vI v13), (0, vR 0), (2, vI a2), (3, vI a3), (4, vI a4)]) dX3_found_178 rfl (by decide) (fun _ => rfl) (fun v13 rv13 => ?_)
              refine g_goto 101 dX3_found_181 (by decide) ?_
              exact g_pick [1, 2, 3, 4, 0] rfl (ih a2 a3 a4 v13 s12 ra2 ra3 za4 rv13)
            · refine g_iload_n 2 dX3_found_165 rfl ?_
              refine g_aload_n 0 dX3_found_166 rfl ?_
              refine g_get (v := vR 45) (ci := 2) (b := 0) (N := 83) 35 rfl rfl (by decide) in_X3 rfl rfl q1167 dX3_found_167 ?_
              refine g_iload 4 dX3_found_170 rfl ?_
              refine g_iald (id := 35) 25 rfl rfl dX3_found_172 (fun v14 rv14 => ?_)
              refine g_iorU dX3_found_173 (fun v15 rv15 => ?_)
              refine g_istore_n (loc' := [(3, vI v15), (0, vR 0), (2, vI a2), (4, vI a4), (5, vI a5)]) dX3_found_174 (by decide) rfl ?_
              refine g_iconst dX3_found_175 ?_
              refine g_istore (loc' := [(4, vI 1), (3, vI v15), (0, vR 0), (2, vI a2), (5, vI a5)]) dX3_found_176 (by decide) rfl ?_
              refine g_iinc 4 (loc' := fun v16 => [(5, vI v16), (4, vI 1), (3, vI v15), (0, vR 0), (2, vI a2)]) dX3_found_178 rfl (by decide) (fun _ => rfl) (fun v16 rv16 => ?_)
              refine g_goto 101 dX3_found_181 (by decide) ?_
              exact g_pick [3, 4, 2, 1, 0] rfl (ih a2 v15 1 v16 s12 ra2 rv15 (Or.inr rfl) rv16)
          · refine g_iinc 4 (loc' := fun v17 => [(5, vI v17), (0, vR 0), (2, vI a2), (3, vI a3), (4, vI a4)]) dX3_found_178 rfl (by decide) (fun _ => rfl) (fun v17 rv17 => ?_)
            refine g_goto 101 dX3_found_181 (by decide) ?_
            exact g_pick [1, 2, 3, 4, 0] rfl (ih a2 a3 a4 v17 s8 ra2 ra3 za4 rv17)
      · refine g_iinc 4 (loc' := fun v18 => [(5, vI v18), (0, vR 0), (2, vI a2), (3, vI a3), (4, vI a4)]) dX3_found_178 rfl (by decide) (fun _ => rfl) (fun v18 rv18 => ?_)
        refine g_goto 101 dX3_found_181 (by decide) ?_
        exact g_pick [1, 2, 3, 4, 0] rfl (ih a2 a3 a4 v18 u ra2 ra3 za4 rv18)
    · exact g_pick [0, 1, 2, 3] rfl (hx184 a2 a3 a4 u ra2 ra3 za4)
theorem wX3_found_L90 (hd : 2 ≤ d) (hRf : d + 1 ≤ R.frames) (hRl : 40 * (d + 1) ≤ R.locals) (hX3_setOf : ∀ (a1 : Int) (u : Sg), Ct l d FT clA yX3_setOf cX3_setOf 4 (some .int) DX3_setOf rvI [vR 0, vI a1] u (call 90 [a1] u)) (hX3_hasOf : ∀ (a1 a2 : Int) (u : Sg), Ct l d FT clA yX3_hasOf cX3_hasOf 5 (some .boolean) DX3_hasOf rvI [vR 0, vI a1, vI a2] u (call 97 [a1, a2] u)) (hX3_typeOf : ∀ (a1 : Int) (u : Sg), Ct l d FT clA yX3_typeOf cX3_typeOf 2 (some .int) DX3_typeOf rvI [vR 0, vI a1] u (call 80 [a1] u)) (hX3_ownAndParents : ∀ (a1 : Int) (u : Sg), Ct l d FT clA yX3_ownAndParents cX3_ownAndParents 4 (some .int) DX3_ownAndParents rvI [vR 0, vI a1] u (call 95 [a1] u)) (hX3_get : ∀ (a1 a2 : Int) (u : Sg), Ct l d FT clA yX3_get cX3_get 3 (some .int) DX3_get rvI [vR 0, vI a1, vI a2] u (call 7 [a1, a2] u)) (hX3_termsSuit : ∀ (a1 a2 : Int) (u : Sg), Ct l d FT clA yX3_termsSuit cX3_termsSuit 4 (some .boolean) DX3_termsSuit rvI [vR 0, vI a1, vI a2] u (call 96 [a1, a2] u)) (x187 : Int → Sg → Option (Int × Sg)) (hx187 : ∀ (a3 : Int) (u : Sg), inR a3 → WG p l e R s m args below meth c JX3_found DX3_found G clA A FT ad0 σ0 rvI (x187 a3 u) u 187 [(3, vI a3)] []) : ∀ (n : Nat) (a2 a3 a4 : Int) (u : Sg), inR a2 → inR a3 → (a4 = 0 ∨ a4 = 1) → WG p l e R s m args below meth c JX3_found DX3_found G clA A FT ad0 σ0 rvI (bX3_found_L90 call n a2 a3 a4 u x187) u 90 [(0, vR 0), (2, vI a2), (3, vI a3), (4, vI a4)] [] := by
  intro n
  induction n with
  | zero =>
    intro a2 a3 a4 u ra2 ra3 za4
    exact g_none
  | succ n ih =>
    intro a2 a3 a4 u ra2 ra3 za4
    rw [bX3_found_L90]
    refine g_iload 3 dX3_found_90 rfl ?_
    refine g_if_eq 187 dX3_found_92 (by decide) (fun _ => (inR_z za4)) (fun _ => ?_) (fun _ => ?_)
    · exact g_pick [2] rfl (hx187 a3 u ra3)
    · refine g_iconst dX3_found_95 ?_
      refine g_istore (loc' := [(4, vI 0), (0, vR 0), (2, vI a2), (3, vI a3)]) dX3_found_96 (by decide) rfl ?_
      refine g_iconst dX3_found_98 ?_
      refine g_istore (loc' := [(5, vI 0), (4, vI 0), (0, vR 0), (2, vI a2), (3, vI a3)]) dX3_found_99 (by decide) rfl ?_
      refine g_pick [2, 3, 4, 1, 0] rfl (wX3_found_L101 hd hRf hRl hX3_setOf hX3_hasOf hX3_typeOf hX3_ownAndParents hX3_get hX3_termsSuit _ (fun v2 v3 v4 s1 rv2 rv3 zv4 => ?_) KF a2 a3 0 0 u ra2 ra3 (Or.inl rfl) (inR_z (Or.inl rfl)))
      · refine g_goto 90 dX3_found_184 (by decide) ?_
        exact g_pick [0, 1, 2, 3] rfl (ih v2 v3 v4 s1 rv2 rv3 zv4)
theorem wX3_found_L25 (hd : 2 ≤ d) (hRf : d + 1 ≤ R.frames) (hRl : 40 * (d + 1) ≤ R.locals) (hX3_setOf : ∀ (a1 : Int) (u : Sg), Ct l d FT clA yX3_setOf cX3_setOf 4 (some .int) DX3_setOf rvI [vR 0, vI a1] u (call 90 [a1] u)) (hX3_hasOf : ∀ (a1 a2 : Int) (u : Sg), Ct l d FT clA yX3_hasOf cX3_hasOf 5 (some .boolean) DX3_hasOf rvI [vR 0, vI a1, vI a2] u (call 97 [a1, a2] u)) (hX3_typeOf : ∀ (a1 : Int) (u : Sg), Ct l d FT clA yX3_typeOf cX3_typeOf 2 (some .int) DX3_typeOf rvI [vR 0, vI a1] u (call 80 [a1] u)) (hX3_ownAndParents : ∀ (a1 : Int) (u : Sg), Ct l d FT clA yX3_ownAndParents cX3_ownAndParents 4 (some .int) DX3_ownAndParents rvI [vR 0, vI a1] u (call 95 [a1] u)) (hX3_get : ∀ (a1 a2 : Int) (u : Sg), Ct l d FT clA yX3_get cX3_get 3 (some .int) DX3_get rvI [vR 0, vI a1, vI a2] u (call 7 [a1, a2] u)) (hX3_termsSuit : ∀ (a1 a2 : Int) (u : Sg), Ct l d FT clA yX3_termsSuit cX3_termsSuit 4 (some .boolean) DX3_termsSuit rvI [vR 0, vI a1, vI a2] u (call 96 [a1, a2] u)) (x87 : Int → Int → Sg → Option (Int × Sg)) (hx87 : ∀ (a2 a3 : Int) (u : Sg), inR a2 → inR a3 → WG p l e R s m args below meth c JX3_found DX3_found G clA A FT ad0 σ0 rvI (x87 a2 a3 u) u 87 [(0, vR 0), (2, vI a2), (3, vI a3)] []) : ∀ (n : Nat) (a1 a2 a3 a4 : Int) (u : Sg), inR a1 → inR a2 → inR a3 → inR a4 → WG p l e R s m args below meth c JX3_found DX3_found G clA A FT ad0 σ0 rvI (bX3_found_L25 call n a1 a2 a3 a4 u x87) u 25 [(0, vR 0), (1, vI a1), (2, vI a2), (3, vI a3), (4, vI a4)] [] := by
  intro n
  induction n with
  | zero =>
    intro a1 a2 a3 a4 u ra1 ra2 ra3 ra4
    exact g_none
  | succ n ih =>
    intro a1 a2 a3 a4 u ra1 ra2 ra3 ra4
    rw [bX3_found_L25]
    refine g_iload 4 dX3_found_25 rfl ?_
    refine g_aload_n 0 dX3_found_27 rfl ?_
    refine g_getI (ci := 2) (b := 0) (N := 83) 37 rfl rfl rfl (by decide) in_X3 rfl rfl q1169 dX3_found_28 (fun v1 rv1 => ?_)
    refine g_icmp_ge 87 dX3_found_31 (by decide) (fun _ => ra4) (fun _ => rv1) (fun _ => ?_) (fun _ => ?_)
    · refine g_aload_n 0 dX3_found_34 rfl ?_
      refine g_get (v := vR 39) (ci := 2) (b := 0) (N := 83) 29 rfl rfl (by decide) in_X3 rfl rfl q1161 dX3_found_35 ?_
      refine g_iload 4 dX3_found_38 rfl ?_
      refine g_iald (id := 29) 19 rfl rfl dX3_found_40 (fun v2 rv2 => ?_)
      refine g_iconst dX3_found_41 ?_
      refine g_icmp_ne 81 dX3_found_42 (by decide) (fun _ => rv2) (fun _ => (by decide : inR (2))) (fun _ => ?_) (fun _ => ?_)
      · refine g_aload_n 0 dX3_found_45 rfl ?_
        refine g_get (v := vR 42) (ci := 2) (b := 0) (N := 83) 32 rfl rfl (by decide) in_X3 rfl rfl q1164 dX3_found_46 ?_
        refine g_iload 4 dX3_found_49 rfl ?_
        refine g_iald (id := 32) 22 rfl rfl dX3_found_51 (fun v3 rv3 => ?_)
        refine g_aload_n 0 dX3_found_52 rfl ?_
        refine g_iload_n 1 dX3_found_53 rfl ?_
        refine g_iconst dX3_found_54 ?_
        refine g_cVI (As := [vI a1, vI 0]) (n := 2) (stk := [vI v3]) (ci := 2) (b := 0) (N := 83) (hX3_get a1 0 u) (by decide +kernel) rfl rfl (lw_V q1116 q1118 qs76 q168 q1119) (by decide +kernel) rfl (by decide) hRf hRl (fun _ => (avc ra1 (avc (inR_z (Or.inl rfl)) avn))) (Nat.le_of_ble_eq_true rfl) rfl rfl dX3_found_55 (fun v4 s5 rv4 => ?_)
        refine g_icmp_ne 81 dX3_found_58 (by decide) (fun _ => rv3) (fun _ => rv4) (fun _ => ?_) (fun _ => ?_)
        · refine g_aload_n 0 dX3_found_61 rfl ?_
          refine g_iload 4 dX3_found_62 rfl ?_
          refine g_iload_n 1 dX3_found_64 rfl ?_
          refine g_cVZ (As := [vI a4, vI a1]) (n := 2) (stk := []) (ci := 2) (b := 0) (N := 83) (hX3_termsSuit a4 a1 s5) (by decide +kernel) rfl rfl (lw_V q1726 q1728 qs145 q168 q1729) (by decide +kernel) rfl (by decide) hRf hRl (fun _ => (avc ra4 (avc ra1 avn))) (Nat.le_of_ble_eq_true rfl) rfl rfl dX3_found_65 (fun v6 s7 zv6 => ?_)
          refine g_if_eq 81 dX3_found_68 (by decide) (fun _ => (inR_z zv6)) (fun _ => ?_) (fun _ => ?_)
          · refine g_iinc 4 (loc' := fun v8 => [(4, vI v8), (0, vR 0), (1, vI a1), (2, vI a2), (3, vI a3)]) dX3_found_81 rfl (by decide) (fun _ => rfl) (fun v8 rv8 => ?_)
            refine g_goto 25 dX3_found_84 (by decide) ?_
            exact g_pick [1, 2, 3, 4, 0] rfl (ih a1 a2 a3 v8 s7 ra1 ra2 ra3 rv8)
          · refine g_iload_n 3 dX3_found_71 rfl ?_
            refine g_aload_n 0 dX3_found_72 rfl ?_
            refine g_get (v := vR 45) (ci := 2) (b := 0) (N := 83) 35 rfl rfl (by decide) in_X3 rfl rfl q1167 dX3_found_73 ?_
            refine g_iload 4 dX3_found_76 rfl ?_
            refine g_iald (id := 35) 25 rfl rfl dX3_found_78 (fun v9 rv9 => ?_)
            refine g_iorU dX3_found_79 (fun v10 rv10 => ?_)
            refine g_istore_n (loc' := [(3, vI v10), (0, vR 0), (1, vI a1), (2, vI a2), (4, vI a4)]) dX3_found_80 (by decide) rfl ?_
            refine g_iinc 4 (loc' := fun v11 => [(4, vI v11), (3, vI v10), (0, vR 0), (1, vI a1), (2, vI a2)]) dX3_found_81 rfl (by decide) (fun _ => rfl) (fun v11 rv11 => ?_)
            refine g_goto 25 dX3_found_84 (by decide) ?_
            exact g_pick [2, 3, 4, 1, 0] rfl (ih a1 a2 v10 v11 s7 ra1 ra2 rv10 rv11)
        · refine g_iinc 4 (loc' := fun v12 => [(4, vI v12), (0, vR 0), (1, vI a1), (2, vI a2), (3, vI a3)]) dX3_found_81 rfl (by decide) (fun _ => rfl) (fun v12 rv12 => ?_)
          refine g_goto 25 dX3_found_84 (by decide) ?_
          exact g_pick [1, 2, 3, 4, 0] rfl (ih a1 a2 a3 v12 s5 ra1 ra2 ra3 rv12)
      · refine g_iinc 4 (loc' := fun v13 => [(4, vI v13), (0, vR 0), (1, vI a1), (2, vI a2), (3, vI a3)]) dX3_found_81 rfl (by decide) (fun _ => rfl) (fun v13 rv13 => ?_)
        refine g_goto 25 dX3_found_84 (by decide) ?_
        exact g_pick [1, 2, 3, 4, 0] rfl (ih a1 a2 a3 v13 u ra1 ra2 ra3 rv13)
    · exact g_pick [0, 2, 3] rfl (hx87 a2 a3 u ra2 ra3)
theorem wX3_found (hd : 2 ≤ d) (hRf : d + 1 ≤ R.frames) (hRl : 40 * (d + 1) ≤ R.locals) (hX3_setOf : ∀ (a1 : Int) (u : Sg), Ct l d FT clA yX3_setOf cX3_setOf 4 (some .int) DX3_setOf rvI [vR 0, vI a1] u (call 90 [a1] u)) (hX3_hasOf : ∀ (a1 a2 : Int) (u : Sg), Ct l d FT clA yX3_hasOf cX3_hasOf 5 (some .boolean) DX3_hasOf rvI [vR 0, vI a1, vI a2] u (call 97 [a1, a2] u)) (hX3_typeOf : ∀ (a1 : Int) (u : Sg), Ct l d FT clA yX3_typeOf cX3_typeOf 2 (some .int) DX3_typeOf rvI [vR 0, vI a1] u (call 80 [a1] u)) (hX3_ownAndParents : ∀ (a1 : Int) (u : Sg), Ct l d FT clA yX3_ownAndParents cX3_ownAndParents 4 (some .int) DX3_ownAndParents rvI [vR 0, vI a1] u (call 95 [a1] u)) (hX3_get : ∀ (a1 a2 : Int) (u : Sg), Ct l d FT clA yX3_get cX3_get 3 (some .int) DX3_get rvI [vR 0, vI a1, vI a2] u (call 7 [a1, a2] u)) (hX3_termsSuit : ∀ (a1 a2 : Int) (u : Sg), Ct l d FT clA yX3_termsSuit cX3_termsSuit 4 (some .boolean) DX3_termsSuit rvI [vR 0, vI a1, vI a2] u (call 96 [a1, a2] u)) (a1 : Int) (u : Sg) (ra1 : inR a1) : WG p l e R s m args below meth c JX3_found DX3_found G clA A FT ad0 σ0 rvI (bX3_found call a1 u) u 0 [(0, vR 0), (1, vI a1)] [] := by
  unfold bX3_found
  refine g_jn (fun j1 => ∀ (a2 a3 : Int) (s2 : Sg), inR a2 → inR a3 → WG p l e R s m args below meth c JX3_found DX3_found G clA A FT ad0 σ0 rvI (j1 a2 a3 s2) s2 87 [(0, vR 0), (2, vI a2), (3, vI a3)] []) (fun a2 a3 s2 ra2 ra3 => ?_) (fun j1 hj1 => ?_)
  · refine g_iconst dX3_found_87 ?_
    refine g_istore (loc' := [(4, vI 1), (0, vR 0), (2, vI a2), (3, vI a3)]) dX3_found_88 (by decide) rfl ?_
    refine g_pick [1, 2, 3, 0] rfl (wX3_found_L90 hd hRf hRl hX3_setOf hX3_hasOf hX3_typeOf hX3_ownAndParents hX3_get hX3_termsSuit _ (fun v4 s3 rv4 => ?_) KF a2 a3 1 s2 ra2 ra3 (Or.inr rfl))
    · refine g_iload_n 0 dX3_found_187 rfl ?_
      exact g_iret rfl rfl (fun _ => rv4) dX3_found_188
  · refine g_aload_n 0 dX3_found_0 rfl ?_
    refine g_iload_n 1 dX3_found_1 rfl ?_
    refine g_cVI (As := [vI a1]) (n := 1) (stk := []) (ci := 2) (b := 0) (N := 83) (hX3_typeOf a1 u) (by decide +kernel) rfl rfl (lw_V q1662 q1664 qs129 q168 q1665) (by decide +kernel) rfl (by decide) hRf hRl (fun _ => (avc ra1 avn)) (Nat.le_of_ble_eq_true rfl) rfl rfl dX3_found_2 (fun v5 s6 rv5 => ?_)
    refine g_istore_n (loc' := [(2, vI v5), (0, vR 0), (1, vI a1)]) dX3_found_5 (by decide) rfl ?_
    refine g_aload_n 1 dX3_found_6 rfl ?_
    refine g_iload_n 0 dX3_found_7 rfl ?_
    refine g_cVI (As := [vI v5]) (n := 1) (stk := []) (ci := 2) (b := 0) (N := 83) (hX3_ownAndParents v5 s6) (by decide +kernel) rfl rfl (lw_V q1722 q1724 qs144 q168 q1725) (by decide +kernel) rfl (by decide) hRf hRl (fun _ => (avc rv5 avn)) (Nat.le_of_ble_eq_true rfl) rfl rfl dX3_found_8 (fun v7 s8 rv7 => ?_)
    refine g_istore_n (loc' := [(3, vI v7), (2, vI v5), (0, vR 0), (1, vI a1)]) dX3_found_11 (by decide) rfl ?_
    refine g_aload_n 2 dX3_found_12 rfl ?_
    refine g_get (v := vR 11) (ci := 2) (b := 0) (N := 83) 1 rfl rfl (by decide) in_X3 rfl rfl q1133 dX3_found_13 ?_
    refine g_iload_n 3 dX3_found_16 rfl ?_
    refine g_iald (id := 1) 0 rfl rfl dX3_found_17 (fun v9 rv9 => ?_)
    refine g_iconst dX3_found_18 ?_
    refine g_icmp_ne 87 dX3_found_19 (by decide) (fun _ => rv9) (fun _ => (by decide : inR (4))) (fun _ => ?_) (fun _ => ?_)
    · refine g_iconst dX3_found_22 ?_
      refine g_istore (loc' := [(4, vI 0), (3, vI v7), (2, vI v5), (0, vR 0), (1, vI a1)]) dX3_found_23 (by decide) rfl ?_
      refine g_pick [3, 4, 2, 1, 0] rfl (wX3_found_L25 hd hRf hRl hX3_setOf hX3_hasOf hX3_typeOf hX3_ownAndParents hX3_get hX3_termsSuit _ (fun v11 v12 s10 rv11 rv12 => ?_) KF a1 v5 v7 0 s8 ra1 rv5 rv7 (inR_z (Or.inl rfl)))
      · exact g_pick [0, 1, 2] rfl (hj1 v11 v12 s10 rv11 rv12)
    · exact g_pick [2, 1, 0] rfl (hj1 v5 v7 s8 rv5 rv7)
end
section
variable {l : Launch} {d : Nat} {call : Nat → List Int → Sg → Option (Int × Sg)}
theorem ctX3_found (p0 : Program) (e0 : Env) (s0 : State) (m0 : MethodId) (meth0 : Method) (c0 : Code) (G0 : Gm) (hd : 2 ≤ d) (hX3_setOf : ∀ (a1 : Int) (u : Sg), Ct l d FT clA yX3_setOf cX3_setOf 4 (some .int) DX3_setOf rvI [vR 0, vI a1] u (call 90 [a1] u)) (hX3_hasOf : ∀ (a1 a2 : Int) (u : Sg), Ct l d FT clA yX3_hasOf cX3_hasOf 5 (some .boolean) DX3_hasOf rvI [vR 0, vI a1, vI a2] u (call 97 [a1, a2] u)) (hX3_typeOf : ∀ (a1 : Int) (u : Sg), Ct l d FT clA yX3_typeOf cX3_typeOf 2 (some .int) DX3_typeOf rvI [vR 0, vI a1] u (call 80 [a1] u)) (hX3_ownAndParents : ∀ (a1 : Int) (u : Sg), Ct l d FT clA yX3_ownAndParents cX3_ownAndParents 4 (some .int) DX3_ownAndParents rvI [vR 0, vI a1] u (call 95 [a1] u)) (hX3_get : ∀ (a1 a2 : Int) (u : Sg), Ct l d FT clA yX3_get cX3_get 3 (some .int) DX3_get rvI [vR 0, vI a1, vI a2] u (call 7 [a1, a2] u)) (hX3_termsSuit : ∀ (a1 a2 : Int) (u : Sg), Ct l d FT clA yX3_termsSuit cX3_termsSuit 4 (some .boolean) DX3_termsSuit rvI [vR 0, vI a1, vI a2] u (call 96 [a1, a2] u)) (a1 : Int) (u : Sg) : Ct l (d + 1) FT clA yX3_found cX3_found 6 (some .int) DX3_found rvI [vR 0, vI a1] u (bX3_found call a1 u) :=
  Ct_of (by decide) (Nat.le_of_ble_eq_true rfl) (fun p e R s1 m args below meth c G A ad hA hRf hRl => wX3_found hd hRf hRl hX3_setOf hX3_hasOf hX3_typeOf hX3_ownAndParents hX3_get hX3_termsSuit a1 u (hA _ (List.mem_cons_of_mem _ List.mem_cons_self))) p0 e0 s0 m0 meth0 c0 G0
end
/-! RoundCheckModel.ownAndParents(I)I -/
abbrev JX3_ownAndParents : Jm := (cX3_ownAndParents, RX3, 4, (some .int))
def bX3_ownAndParents_L4 (call : Nat → List Int → Sg → Option (Int × Sg)) : Nat → Int → Int → Sg → (Int → Sg → Option (Int × Sg)) → Option (Int × Sg)
  | 0, _, _, _, _ => none
  | n + 1, a2, a3, u, x25 => if a3 ≤ 0 then (x25 a2 u) else (cl (call 90 [a3] u) fun v1 s2 => un (o_or a2 v1) fun v3 => cl (call 77 [a3] s2) fun v4 s5 => bX3_ownAndParents_L4 call n v3 v4 s5 x25)
def bX3_ownAndParents (call : Nat → List Int → Sg → Option (Int × Sg)) (a1 : Int) (u : Sg) : Option (Int × Sg) := bX3_ownAndParents_L4 call KF 0 a1 u (fun v2 s1 => some (v2, s1))
section
variable {p : Program} {l : Launch} {e : Env} {R : Room} {s : State} {m : MethodId} {args : Array Value} {below : List Frame} {meth : Method} {c : Code} {G : Gm} {A : Nat → Prop} {ad0 : Nat → Nat} {σ0 : Sg} {d : Nat} {call : Nat → List Int → Sg → Option (Int × Sg)}
theorem wX3_ownAndParents_L4 (hd : 2 ≤ d) (hRf : d + 1 ≤ R.frames) (hRl : 40 * (d + 1) ≤ R.locals) (hX3_setOf : ∀ (a1 : Int) (u : Sg), Ct l d FT clA yX3_setOf cX3_setOf 4 (some .int) DX3_setOf rvI [vR 0, vI a1] u (call 90 [a1] u)) (hX3_parent : ∀ (a1 : Int) (u : Sg), Ct l d FT clA yX3_parent cX3_parent 3 (some .int) DX3_parent rvI [vR 0, vI a1] u (call 77 [a1] u)) (x25 : Int → Sg → Option (Int × Sg)) (hx25 : ∀ (a2 : Int) (u : Sg), inR a2 → WG p l e R s m args below meth c JX3_ownAndParents DX3_ownAndParents G clA A FT ad0 σ0 rvI (x25 a2 u) u 25 [(2, vI a2)] []) : ∀ (n : Nat) (a2 a3 : Int) (u : Sg), inR a2 → inR a3 → WG p l e R s m args below meth c JX3_ownAndParents DX3_ownAndParents G clA A FT ad0 σ0 rvI (bX3_ownAndParents_L4 call n a2 a3 u x25) u 4 [(0, vR 0), (2, vI a2), (3, vI a3)] [] := by
  intro n
  induction n with
  | zero =>
    intro a2 a3 u ra2 ra3
    exact g_none
  | succ n ih =>
    intro a2 a3 u ra2 ra3
    rw [bX3_ownAndParents_L4]
    refine g_iload_n 2 dX3_ownAndParents_4 rfl ?_
    refine g_if_le 25 dX3_ownAndParents_5 (by decide) (fun _ => ra3) (fun _ => ?_) (fun _ => ?_)
    · exact g_pick [1] rfl (hx25 a2 u ra2)
    · refine g_iload_n 1 dX3_ownAndParents_8 rfl ?_
      refine g_aload_n 0 dX3_ownAndParents_9 rfl ?_
      refine g_iload_n 2 dX3_ownAndParents_10 rfl ?_
      refine g_cVI (As := [vI a3]) (n := 1) (stk := [vI a2]) (ci := 2) (b := 0) (N := 83) (hX3_setOf a3 u) (by decide +kernel) rfl rfl (lw_V q1702 q1704 qs139 q168 q1705) (by decide +kernel) rfl (by decide) hRf hRl (fun _ => (avc ra3 avn)) (Nat.le_of_ble_eq_true rfl) rfl rfl dX3_ownAndParents_11 (fun v1 s2 rv1 => ?_)
      refine g_iorU dX3_ownAndParents_14 (fun v3 rv3 => ?_)
      refine g_istore_n (loc' := [(2, vI v3), (0, vR 0), (3, vI a3)]) dX3_ownAndParents_15 (by decide) rfl ?_
      refine g_aload_n 1 dX3_ownAndParents_16 rfl ?_
      refine g_iload_n 2 dX3_ownAndParents_17 rfl ?_
      refine g_cVI (As := [vI a3]) (n := 1) (stk := []) (ci := 2) (b := 0) (N := 83) (hX3_parent a3 s2) (by decide +kernel) rfl rfl (lw_V q1650 q1652 qs126 q168 q1653) (by decide +kernel) rfl (by decide) hRf hRl (fun _ => (avc ra3 avn)) (Nat.le_of_ble_eq_true rfl) rfl rfl dX3_ownAndParents_18 (fun v4 s5 rv4 => ?_)
      refine g_istore_n (loc' := [(3, vI v4), (2, vI v3), (0, vR 0)]) dX3_ownAndParents_21 (by decide) rfl ?_
      refine g_goto 4 dX3_ownAndParents_22 (by decide) ?_
      exact g_pick [2, 1, 0] rfl (ih v3 v4 s5 rv3 rv4)
theorem wX3_ownAndParents (hd : 2 ≤ d) (hRf : d + 1 ≤ R.frames) (hRl : 40 * (d + 1) ≤ R.locals) (hX3_setOf : ∀ (a1 : Int) (u : Sg), Ct l d FT clA yX3_setOf cX3_setOf 4 (some .int) DX3_setOf rvI [vR 0, vI a1] u (call 90 [a1] u)) (hX3_parent : ∀ (a1 : Int) (u : Sg), Ct l d FT clA yX3_parent cX3_parent 3 (some .int) DX3_parent rvI [vR 0, vI a1] u (call 77 [a1] u)) (a1 : Int) (u : Sg) (ra1 : inR a1) : WG p l e R s m args below meth c JX3_ownAndParents DX3_ownAndParents G clA A FT ad0 σ0 rvI (bX3_ownAndParents call a1 u) u 0 [(0, vR 0), (1, vI a1)] [] := by
  unfold bX3_ownAndParents
  refine g_iconst dX3_ownAndParents_0 ?_
  refine g_istore_n (loc' := [(2, vI 0), (0, vR 0), (1, vI a1)]) dX3_ownAndParents_1 (by decide) rfl ?_
  refine g_iload_n 2 dX3_ownAndParents_2 rfl ?_
  refine g_istore_n (loc' := [(3, vI a1), (2, vI 0), (0, vR 0), (1, vI a1)]) dX3_ownAndParents_3 (by decide) rfl ?_
  refine g_pick [2, 1, 0] rfl (wX3_ownAndParents_L4 hd hRf hRl hX3_setOf hX3_parent _ (fun v2 s1 rv2 => ?_) KF 0 a1 u (inR_z (Or.inl rfl)) ra1)
  · refine g_iload_n 0 dX3_ownAndParents_25 rfl ?_
    exact g_iret rfl rfl (fun _ => rv2) dX3_ownAndParents_26
end
section
variable {l : Launch} {d : Nat} {call : Nat → List Int → Sg → Option (Int × Sg)}
theorem ctX3_ownAndParents (p0 : Program) (e0 : Env) (s0 : State) (m0 : MethodId) (meth0 : Method) (c0 : Code) (G0 : Gm) (hd : 2 ≤ d) (hX3_setOf : ∀ (a1 : Int) (u : Sg), Ct l d FT clA yX3_setOf cX3_setOf 4 (some .int) DX3_setOf rvI [vR 0, vI a1] u (call 90 [a1] u)) (hX3_parent : ∀ (a1 : Int) (u : Sg), Ct l d FT clA yX3_parent cX3_parent 3 (some .int) DX3_parent rvI [vR 0, vI a1] u (call 77 [a1] u)) (a1 : Int) (u : Sg) : Ct l (d + 1) FT clA yX3_ownAndParents cX3_ownAndParents 4 (some .int) DX3_ownAndParents rvI [vR 0, vI a1] u (bX3_ownAndParents call a1 u) :=
  Ct_of (by decide) (Nat.le_of_ble_eq_true rfl) (fun p e R s1 m args below meth c G A ad hA hRf hRl => wX3_ownAndParents hd hRf hRl hX3_setOf hX3_parent a1 u (hA _ (List.mem_cons_of_mem _ List.mem_cons_self))) p0 e0 s0 m0 meth0 c0 G0
end
/-! RoundCheckModel.termsSuit(II)Z -/
abbrev JX3_termsSuit : Jm := (cX3_termsSuit, RX3, 4, (some .boolean))
def bX3_termsSuit_L2 (call : Nat → List Int → Sg → Option (Int × Sg)) : Nat → Int → Int → Int → Sg → (Sg → Option (Int × Sg)) → (Sg → Option (Int × Sg)) → Option (Int × Sg)
  | 0, _, _, _, _, _, _ => none
  | n + 1, a1, a2, a3, u, x62, x54 => ld u 3 a2 fun v1 => if a3 < v1 then (jn (fun (a1 a2 a3 t1 t3 : Int) (s3 : Sg) => cl (call 78 [t3] s3) fun v4 s5 => cl (call 88 [t1, v4] s5) fun v6 s7 => if v6 = 0 then (x54 s7) else (ar (a3 + 1) fun v8 => bX3_termsSuit_L2 call n a1 a2 v8 s7 x62 x54)) fun j2 => cl (call 81 [a2] u) fun v9 s10 => cl (call 7 [a2, a3] s10) fun v11 s12 => if a3 = 1 then (ld s12 33 a1 fun v13 => j2 a1 a2 a3 v11 v13 s12) else (ld s12 34 a1 fun v14 => j2 a1 a2 a3 v11 v14 s12)) else (x62 u)
def bX3_termsSuit (call : Nat → List Int → Sg → Option (Int × Sg)) (a1 a2 : Int) (u : Sg) : Option (Int × Sg) := bX3_termsSuit_L2 call KF a1 a2 1 u (fun s1 => some (1, s1)) (fun s2 => some (0, s2))
section
variable {p : Program} {l : Launch} {e : Env} {R : Room} {s : State} {m : MethodId} {args : Array Value} {below : List Frame} {meth : Method} {c : Code} {G : Gm} {A : Nat → Prop} {ad0 : Nat → Nat} {σ0 : Sg} {d : Nat} {call : Nat → List Int → Sg → Option (Int × Sg)}
theorem wX3_termsSuit_L2 (hd : 2 ≤ d) (hRf : d + 1 ≤ R.frames) (hRl : 40 * (d + 1) ≤ R.locals) (hX3_move : ∀ (a1 : Int) (u : Sg), Ct l d FT clA yX3_move cX3_move 2 (some .int) DX3_move rvI [vR 0, vI a1] u (call 78 [a1] u)) (hX3_suits : ∀ (a1 a2 : Int) (u : Sg), Ct l d FT clA yX3_suits cX3_suits 4 (some .boolean) DX3_suits rvI [vR 0, vI a1, vI a2] u (call 88 [a1, a2] u)) (hX3_moveLoci : ∀ (a1 : Int) (u : Sg), Ct l d FT clA yX3_moveLoci cX3_moveLoci 3 none DX3_moveLoci rvV [vR 0, vI a1] u (call 81 [a1] u)) (hX3_get : ∀ (a1 a2 : Int) (u : Sg), Ct l d FT clA yX3_get cX3_get 3 (some .int) DX3_get rvI [vR 0, vI a1, vI a2] u (call 7 [a1, a2] u)) (x62 : Sg → Option (Int × Sg)) (x54 : Sg → Option (Int × Sg)) (hx62 : ∀ (u : Sg), WG p l e R s m args below meth c JX3_termsSuit DX3_termsSuit G clA A FT ad0 σ0 rvI (x62 u) u 62 [] []) (hx54 : ∀ (u : Sg), WG p l e R s m args below meth c JX3_termsSuit DX3_termsSuit G clA A FT ad0 σ0 rvI (x54 u) u 54 [] []) : ∀ (n : Nat) (a1 a2 a3 : Int) (u : Sg), inR a1 → inR a2 → inR a3 → WG p l e R s m args below meth c JX3_termsSuit DX3_termsSuit G clA A FT ad0 σ0 rvI (bX3_termsSuit_L2 call n a1 a2 a3 u x62 x54) u 2 [(0, vR 0), (1, vI a1), (2, vI a2), (3, vI a3)] [] := by
  intro n
  induction n with
  | zero =>
    intro a1 a2 a3 u ra1 ra2 ra3
    exact g_none
  | succ n ih =>
    intro a1 a2 a3 u ra1 ra2 ra3
    rw [bX3_termsSuit_L2]
    refine g_iload_n 3 dX3_termsSuit_2 rfl ?_
    refine g_aload_n 0 dX3_termsSuit_3 rfl ?_
    refine g_get (v := vR 13) (ci := 2) (b := 0) (N := 83) 3 rfl rfl (by decide) in_X3 rfl rfl q1135 dX3_termsSuit_4 ?_
    refine g_iload_n 2 dX3_termsSuit_7 rfl ?_
    refine g_iald (id := 3) 2 rfl rfl dX3_termsSuit_8 (fun v1 rv1 => ?_)
    refine g_icmp_ge 62 dX3_termsSuit_9 (by decide) (fun _ => ra3) (fun _ => rv1) (fun _ => ?_) (fun _ => ?_)
    · refine g_jn (fun j2 => ∀ (a1 a2 a3 t1 t3 : Int) (s3 : Sg), inR a1 → inR a2 → inR a3 → inR t1 → inR t3 → WG p l e R s m args below meth c JX3_termsSuit DX3_termsSuit G clA A FT ad0 σ0 rvI (j2 a1 a2 a3 t1 t3 s3) s3 45 [(0, vR 0), (1, vI a1), (2, vI a2), (3, vI a3)] [vI t3, vR 0, vI t1, vR 0]) (fun a1 a2 a3 t1 t3 s3 ra1 ra2 ra3 rt1 rt3 => ?_) (fun j2 hj2 => ?_)
      · refine g_cVI (As := [vI t3]) (n := 1) (stk := [vI t1, vR 0]) (ci := 2) (b := 0) (N := 83) (hX3_move t3 s3) (by decide +kernel) rfl rfl (lw_V q1654 q1656 qs127 q168 q1657) (by decide +kernel) rfl (by decide) hRf hRl (fun _ => (avc rt3 avn)) (Nat.le_of_ble_eq_true rfl) rfl rfl dX3_termsSuit_45 (fun v4 s5 rv4 => ?_)
        refine g_cVZ (As := [vI t1, vI v4]) (n := 2) (stk := []) (ci := 2) (b := 0) (N := 83) (hX3_suits t1 v4 s5) (by decide +kernel) rfl rfl (lw_V q1694 q1696 qs137 q168 q1697) (by decide +kernel) rfl (by decide) hRf hRl (fun _ => (avc rt1 (avc rv4 avn))) (Nat.le_of_ble_eq_true rfl) rfl rfl dX3_termsSuit_48 (fun v6 s7 zv6 => ?_)
        refine g_if_ne 56 dX3_termsSuit_51 (by decide) (fun _ => (inR_z zv6)) (fun _ => ?_) (fun _ => ?_)
        · exact g_pick [] rfl (hx54 s7)
        · refine g_iinc 3 (loc' := fun v8 => [(3, vI v8), (0, vR 0), (1, vI a1), (2, vI a2)]) dX3_termsSuit_56 rfl (by decide) (fun _ => rfl) (fun v8 rv8 => ?_)
          refine g_goto 2 dX3_termsSuit_59 (by decide) ?_
          exact g_pick [1, 2, 3, 0] rfl (ih a1 a2 v8 s7 ra1 ra2 rv8)
      · refine g_aload_n 0 dX3_termsSuit_12 rfl ?_
        refine g_iload_n 2 dX3_termsSuit_13 rfl ?_
        refine g_cVV (As := [vI a2]) (n := 1) (stk := []) (ci := 2) (b := 0) (N := 83) (hX3_moveLoci a2 u) (by decide +kernel) rfl rfl (lw_V q1666 q1668 qs130 q168 q1669) (by decide +kernel) rfl (by decide) hRf hRl (fun _ => (avc ra2 avn)) (Nat.le_of_ble_eq_true rfl) rfl rfl dX3_termsSuit_14 (fun v9 s10 => ?_)
        refine g_aload_n 0 dX3_termsSuit_17 rfl ?_
        refine g_aload_n 0 dX3_termsSuit_18 rfl ?_
        refine g_iload_n 2 dX3_termsSuit_19 rfl ?_
        refine g_iload_n 3 dX3_termsSuit_20 rfl ?_
        refine g_cVI (As := [vI a2, vI a3]) (n := 2) (stk := [vR 0]) (ci := 2) (b := 0) (N := 83) (hX3_get a2 a3 s10) (by decide +kernel) rfl rfl (lw_V q1116 q1118 qs76 q168 q1119) (by decide +kernel) rfl (by decide) hRf hRl (fun _ => (avc ra2 (avc ra3 avn))) (Nat.le_of_ble_eq_true rfl) rfl rfl dX3_termsSuit_21 (fun v11 s12 rv11 => ?_)
        refine g_aload_n 0 dX3_termsSuit_24 rfl ?_
        refine g_iload_n 3 dX3_termsSuit_25 rfl ?_
        refine g_iconst dX3_termsSuit_26 ?_
        refine g_icmp_ne 39 dX3_termsSuit_27 (by decide) (fun _ => ra3) (fun _ => (inR_z (Or.inr rfl))) (fun _ => ?_) (fun _ => ?_)
        · refine g_aload_n 0 dX3_termsSuit_30 rfl ?_
          refine g_get (v := vR 43) (ci := 2) (b := 0) (N := 83) 33 rfl rfl (by decide) in_X3 rfl rfl q1165 dX3_termsSuit_31 ?_
          refine g_iload_n 1 dX3_termsSuit_34 rfl ?_
          refine g_iald (id := 33) 23 rfl rfl dX3_termsSuit_35 (fun v13 rv13 => ?_)
          refine g_goto 45 dX3_termsSuit_36 (by decide) ?_
          exact g_pick [0, 1, 2, 3] rfl (hj2 a1 a2 a3 v11 v13 s12 ra1 ra2 ra3 rv11 rv13)
        · refine g_aload_n 0 dX3_termsSuit_39 rfl ?_
          refine g_get (v := vR 44) (ci := 2) (b := 0) (N := 83) 34 rfl rfl (by decide) in_X3 rfl rfl q1166 dX3_termsSuit_40 ?_
          refine g_iload_n 1 dX3_termsSuit_43 rfl ?_
          refine g_iald (id := 34) 24 rfl rfl dX3_termsSuit_44 (fun v14 rv14 => ?_)
          exact g_pick [0, 1, 2, 3] rfl (hj2 a1 a2 a3 v11 v14 s12 ra1 ra2 ra3 rv11 rv14)
    · exact g_pick [] rfl (hx62 u)
theorem wX3_termsSuit (hd : 2 ≤ d) (hRf : d + 1 ≤ R.frames) (hRl : 40 * (d + 1) ≤ R.locals) (hX3_move : ∀ (a1 : Int) (u : Sg), Ct l d FT clA yX3_move cX3_move 2 (some .int) DX3_move rvI [vR 0, vI a1] u (call 78 [a1] u)) (hX3_suits : ∀ (a1 a2 : Int) (u : Sg), Ct l d FT clA yX3_suits cX3_suits 4 (some .boolean) DX3_suits rvI [vR 0, vI a1, vI a2] u (call 88 [a1, a2] u)) (hX3_moveLoci : ∀ (a1 : Int) (u : Sg), Ct l d FT clA yX3_moveLoci cX3_moveLoci 3 none DX3_moveLoci rvV [vR 0, vI a1] u (call 81 [a1] u)) (hX3_get : ∀ (a1 a2 : Int) (u : Sg), Ct l d FT clA yX3_get cX3_get 3 (some .int) DX3_get rvI [vR 0, vI a1, vI a2] u (call 7 [a1, a2] u)) (a1 a2 : Int) (u : Sg) (ra1 : inR a1) (ra2 : inR a2) : WG p l e R s m args below meth c JX3_termsSuit DX3_termsSuit G clA A FT ad0 σ0 rvI (bX3_termsSuit call a1 a2 u) u 0 [(0, vR 0), (1, vI a1), (2, vI a2)] [] := by
  unfold bX3_termsSuit
  refine g_iconst dX3_termsSuit_0 ?_
  refine g_istore_n (loc' := [(3, vI 1), (0, vR 0), (1, vI a1), (2, vI a2)]) dX3_termsSuit_1 (by decide) rfl ?_
  refine g_pick [1, 2, 3, 0] rfl (wX3_termsSuit_L2 hd hRf hRl hX3_move hX3_suits hX3_moveLoci hX3_get _ _ (fun s1 => ?_) (fun s2 => ?_) KF a1 a2 1 u ra1 ra2 (inR_z (Or.inr rfl)))
  · refine g_iconst dX3_termsSuit_62 ?_
    exact g_zret rfl rfl (fun _ => (Or.inr rfl)) dX3_termsSuit_63
  · refine g_iconst dX3_termsSuit_54 ?_
    exact g_zret rfl rfl (fun _ => (Or.inl rfl)) dX3_termsSuit_55
end
section
variable {l : Launch} {d : Nat} {call : Nat → List Int → Sg → Option (Int × Sg)}
theorem ctX3_termsSuit (p0 : Program) (e0 : Env) (s0 : State) (m0 : MethodId) (meth0 : Method) (c0 : Code) (G0 : Gm) (hd : 2 ≤ d) (hX3_move : ∀ (a1 : Int) (u : Sg), Ct l d FT clA yX3_move cX3_move 2 (some .int) DX3_move rvI [vR 0, vI a1] u (call 78 [a1] u)) (hX3_suits : ∀ (a1 a2 : Int) (u : Sg), Ct l d FT clA yX3_suits cX3_suits 4 (some .boolean) DX3_suits rvI [vR 0, vI a1, vI a2] u (call 88 [a1, a2] u)) (hX3_moveLoci : ∀ (a1 : Int) (u : Sg), Ct l d FT clA yX3_moveLoci cX3_moveLoci 3 none DX3_moveLoci rvV [vR 0, vI a1] u (call 81 [a1] u)) (hX3_get : ∀ (a1 a2 : Int) (u : Sg), Ct l d FT clA yX3_get cX3_get 3 (some .int) DX3_get rvI [vR 0, vI a1, vI a2] u (call 7 [a1, a2] u)) (a1 a2 : Int) (u : Sg) : Ct l (d + 1) FT clA yX3_termsSuit cX3_termsSuit 4 (some .boolean) DX3_termsSuit rvI [vR 0, vI a1, vI a2] u (bX3_termsSuit call a1 a2 u) :=
  Ct_of (by decide) (Nat.le_of_ble_eq_true rfl) (fun p e R s1 m args below meth c G A ad hA hRf hRl => wX3_termsSuit hd hRf hRl hX3_move hX3_suits hX3_moveLoci hX3_get a1 a2 u (hA _ (List.mem_cons_of_mem _ List.mem_cons_self)) (hA _ (List.mem_cons_of_mem _ (List.mem_cons_of_mem _ List.mem_cons_self)))) p0 e0 s0 m0 meth0 c0 G0
end
