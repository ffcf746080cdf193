/-! RoundCheckModel.type(III)I -/
abbrev JX3_type : Jm := (cX3_type, RX3, 7, (some .int))
def bX3_type_L89 (call : Nat → List Int → Sg → Option (Int × Sg)) : Nat → Int → Int → Int → Int → Int → Sg → (Int → Int → Int → Sg → Option (Int × Sg)) → Option (Int × Sg)
  | 0, _, _, _, _, _, _, _ => none
  | n + 1, a1, a3, a4, a5, a6, u, x118 => if a6 < 31 then (un (o_shr a3 a6) fun v1 => un (o_and v1 1) fun v2 => if v2 = 1 then (cl (call 3 [a6] u) fun v3 s4 => ar (a6 + 1) fun v5 => bX3_type_L89 call n a1 a3 a4 a5 v5 s4 x118) else (ar (a6 + 1) fun v6 => bX3_type_L89 call n a1 a3 a4 a5 v6 u x118)) else (x118 a1 a4 a5 u)
def bX3_type (call : Nat → List Int → Sg → Option (Int × Sg)) (a1 a2 a3 : Int) (u : Sg) : Option (Int × Sg) := jn (fun (s2 : Sg) => cl (call 17 [1] s2) fun v3 s4 => some (v3, s4)) fun j1 => un (sI u 0 0) fun s5 => if a1 < 0 then (j1 s5) else (un (gI s5 27) fun v6 => if a1 < v6 then (cl (call 22 [a3] s5) fun v7 s8 => if v7 = 0 then (j1 s8) else (jn (fun (a1 a2 a3 t0 : Int) (s10 : Sg) => jn (fun (s12 : Sg) => cl (call 17 [1] s12) fun v13 s14 => some (v13, s14)) fun j11 => jn (fun (a1 a3 a4 : Int) (s16 : Sg) => un (gI s16 13) fun v17 => bX3_type_L89 call KF a1 a3 a4 v17 0 s16 (fun v19 v20 v21 s18 => cl (call 2 [v19, v20, v21] s18) fun v22 s23 => cl (call 23 [v22] s23) fun v24 s25 => some (v24, s25))) fun j15 => ld s10 26 a1 fun v26 => if v26 = 0 then (if a2 = (-1) then (j15 a1 a3 t0 s10) else (j11 s10)) else (if t0 = 0 then (j11 s10) else (j15 a1 a3 t0 s10))) fun j9 => ld s8 26 a1 fun v27 => if v27 = 0 then (j9 a1 a2 a3 0 s8) else (cl (call 12 [a2, 0] s8) fun v28 s29 => j9 a1 a2 a3 v28 s29))) else (j1 s5))
section
variable {p : Program} {l : Launch} {e : Env} {R : Room} {s : State} {m : MethodId} {args : Array Value} {below : List Frame} {meth : Method} {c : Code} {G : Gm} {A : Nat → Prop} {ad0 : Nat → Nat} {σ0 : Sg} {d : Nat} {call : Nat → List Int → Sg → Option (Int × Sg)}
theorem wX3_type_L89 (hd : 2 ≤ d) (hRf : d + 1 ≤ R.frames) (hRl : 40 * (d + 1) ≤ R.locals) (hX3_fails : ∀ (a1 : Int) (u : Sg), Ct l d FT clA yX3_fails cX3_fails 2 (some .int) DX3_fails rvI [vR 0, vI a1] u (call 17 [a1] u)) (hX3_isSet : ∀ (a1 : Int) (u : Sg), Ct l d FT clA yX3_isSet cX3_isSet 2 (some .boolean) DX3_isSet rvI [vR 0, vI a1] u (call 22 [a1] u)) (hX3_give : ∀ (a1 : Int) (u : Sg), Ct l d FT clA yX3_give cX3_give 2 none DX3_give rvV [vR 0, vI a1] u (call 3 [a1] u)) (hX3_typed : ∀ (a1 a2 a3 : Int) (u : Sg), Ct l d FT clA yX3_typed cX3_typed 8 (some .int) DX3_typed rvI [vR 0, vI a1, vI a2, vI a3] u (call 2 [a1, a2, a3] u)) (hX3_gives : ∀ (a1 : Int) (u : Sg), Ct l d FT clA yX3_gives cX3_gives 2 (some .int) DX3_gives rvI [vR 0, vI a1] u (call 23 [a1] u)) (hX3_form : ∀ (a1 a2 : Int) (u : Sg), Ct l d FT clA yX3_form cX3_form 3 (some .int) DX3_form rvI [vR 0, vI a1, vI a2] u (call 12 [a1, a2] u)) (x118 : Int → Int → Int → Sg → Option (Int × Sg)) (hx118 : ∀ (a1 a4 a5 : Int) (u : Sg), inR a1 → inR a4 → inR a5 → WG p l e R s m args below meth c JX3_type DX3_type G clA A FT ad0 σ0 rvI (x118 a1 a4 a5 u) u 118 [(0, vR 0), (1, vI a1), (4, vI a4), (5, vI a5)] []) : ∀ (n : Nat) (a1 a3 a4 a5 a6 : Int) (u : Sg), inR a1 → inR a3 → inR a4 → inR a5 → inR a6 → WG p l e R s m args below meth c JX3_type DX3_type G clA A FT ad0 σ0 rvI (bX3_type_L89 call n a1 a3 a4 a5 a6 u x118) u 89 [(0, vR 0), (1, vI a1), (3, vI a3), (4, vI a4), (5, vI a5), (6, vI a6)] [] := by
  intro n
  induction n with
  | zero =>
    intro a1 a3 a4 a5 a6 u ra1 ra3 ra4 ra5 ra6
    exact g_none
  | succ n ih =>
    intro a1 a3 a4 a5 a6 u ra1 ra3 ra4 ra5 ra6
    rw [bX3_type_L89]
    refine g_iload 5 dX3_type_89 rfl ?_
    refine g_bipush (by decide +kernel) dX3_type_91 ?_
    refine g_icmp_ge 118 dX3_type_93 (by decide) (fun _ => ra6) (fun _ => (by decide : inR (31))) (fun _ => ?_) (fun _ => ?_)
    · refine g_iload_n 2 dX3_type_96 rfl ?_
      refine g_iload 5 dX3_type_97 rfl ?_
      refine g_ishrU dX3_type_99 (fun v1 rv1 => ?_)
      refine g_iconst dX3_type_100 ?_
      refine g_iandU dX3_type_101 (fun v2 rv2 => ?_)
      refine g_iconst dX3_type_102 ?_
      refine g_icmp_ne 112 dX3_type_103 (by decide) (fun _ => rv2) (fun _ => (inR_z (Or.inr rfl))) (fun _ => ?_) (fun _ => ?_)
      · refine g_aload_n 0 dX3_type_106 rfl ?_
        refine g_iload 5 dX3_type_107 rfl ?_
        refine g_cVV (As := [vI a6]) (n := 1) (stk := []) (ci := 2) (b := 0) (N := 83) (hX3_give a6 u) (by decide +kernel) rfl rfl (lw_V q1100 q1102 qs73 q168 q1103) (by decide +kernel) rfl (by decide) hRf hRl (fun _ => (avc ra6 avn)) (Nat.le_of_ble_eq_true rfl) rfl rfl dX3_type_109 (fun v3 s4 => ?_)
        refine g_iinc 5 (loc' := fun v5 => [(6, vI v5), (0, vR 0), (1, vI a1), (3, vI a3), (4, vI a4), (5, vI a5)]) dX3_type_112 rfl (by decide) (fun _ => rfl) (fun v5 rv5 => ?_)
        refine g_goto 89 dX3_type_115 (by decide) ?_
        exact g_pick [1, 2, 3, 4, 5, 0] rfl (ih a1 a3 a4 a5 v5 s4 ra1 ra3 ra4 ra5 rv5)
      · refine g_iinc 5 (loc' := fun v6 => [(6, vI v6), (0, vR 0), (1, vI a1), (3, vI a3), (4, vI a4), (5, vI a5)]) dX3_type_112 rfl (by decide) (fun _ => rfl) (fun v6 rv6 => ?_)
        refine g_goto 89 dX3_type_115 (by decide) ?_
        exact g_pick [1, 2, 3, 4, 5, 0] rfl (ih a1 a3 a4 a5 v6 u ra1 ra3 ra4 ra5 rv6)
    · exact g_pick [0, 1, 3, 4] rfl (hx118 a1 a4 a5 u ra1 ra4 ra5)
theorem wX3_type (hd : 2 ≤ d) (hRf : d + 1 ≤ R.frames) (hRl : 40 * (d + 1) ≤ R.locals) (hX3_fails : ∀ (a1 : Int) (u : Sg), Ct l d FT clA yX3_fails cX3_fails 2 (some .int) DX3_fails rvI [vR 0, vI a1] u (call 17 [a1] u)) (hX3_isSet : ∀ (a1 : Int) (u : Sg), Ct l d FT clA yX3_isSet cX3_isSet 2 (some .boolean) DX3_isSet rvI [vR 0, vI a1] u (call 22 [a1] u)) (hX3_give : ∀ (a1 : Int) (u : Sg), Ct l d FT clA yX3_give cX3_give 2 none DX3_give rvV [vR 0, vI a1] u (call 3 [a1] u)) (hX3_typed : ∀ (a1 a2 a3 : Int) (u : Sg), Ct l d FT clA yX3_typed cX3_typed 8 (some .int) DX3_typed rvI [vR 0, vI a1, vI a2, vI a3] u (call 2 [a1, a2, a3] u)) (hX3_gives : ∀ (a1 : Int) (u : Sg), Ct l d FT clA yX3_gives cX3_gives 2 (some .int) DX3_gives rvI [vR 0, vI a1] u (call 23 [a1] u)) (hX3_form : ∀ (a1 a2 : Int) (u : Sg), Ct l d FT clA yX3_form cX3_form 3 (some .int) DX3_form rvI [vR 0, vI a1, vI a2] u (call 12 [a1, a2] u)) (a1 a2 a3 : Int) (u : Sg) (ra1 : inR a1) (ra2 : inR a2) (ra3 : inR a3) : WG p l e R s m args below meth c JX3_type DX3_type G clA A FT ad0 σ0 rvI (bX3_type call a1 a2 a3 u) u 0 [(0, vR 0), (1, vI a1), (2, vI a2), (3, vI a3)] [] := by
  unfold bX3_type
  refine g_jn (fun j1 => ∀ (s2 : Sg), WG p l e R s m args below meth c JX3_type DX3_type G clA A FT ad0 σ0 rvI (j1 s2) s2 25 [(0, vR 0)] []) (fun s2 => ?_) (fun j1 hj1 => ?_)
  · refine g_aload_n 0 dX3_type_25 rfl ?_
    refine g_iconst dX3_type_26 ?_
    refine g_cVI (As := [vI 1]) (n := 1) (stk := []) (ci := 2) (b := 0) (N := 83) (hX3_fails 1 s2) (by decide +kernel) rfl rfl (lw_V q1407 q1409 qs84 q168 q1410) (by decide +kernel) rfl (by decide) hRf hRl (fun _ => (avc (inR_z (Or.inr rfl)) avn)) (Nat.le_of_ble_eq_true rfl) rfl rfl dX3_type_27 (fun v3 s4 rv3 => ?_)
    exact g_iret rfl rfl (fun _ => rv3) dX3_type_30
  · refine g_aload_n 0 dX3_type_0 rfl ?_
    refine g_iconst dX3_type_1 ?_
    refine g_sIU (ci := 2) (b := 0) (N := 83) FT_ok 0 rfl rfl rfl (by decide) in_X3 tyX3 tyX3_ok nmX3 rfl rfl rfl rfl (by decide +kernel) (inR_z (Or.inl rfl)) q1132 dX3_type_2 (fun s5 => ?_)
    refine g_iload_n 1 dX3_type_5 rfl ?_
    refine g_if_lt 25 dX3_type_6 (by decide) (fun _ => ra1) (fun _ => ?_) (fun _ => ?_)
    · exact g_pick [0] rfl (hj1 s5)
    · refine g_iload_n 1 dX3_type_9 rfl ?_
      refine g_aload_n 0 dX3_type_10 rfl ?_
      refine g_getI (ci := 2) (b := 0) (N := 83) 27 rfl rfl rfl (by decide) in_X3 rfl rfl q1159 dX3_type_11 (fun v6 rv6 => ?_)
      refine g_icmp_ge 25 dX3_type_14 (by decide) (fun _ => ra1) (fun _ => rv6) (fun _ => ?_) (fun _ => ?_)
      · refine g_aload_n 0 dX3_type_17 rfl ?_
        refine g_iload_n 3 dX3_type_18 rfl ?_
        refine g_cVZ (As := [vI a3]) (n := 1) (stk := []) (ci := 2) (b := 0) (N := 83) (hX3_isSet a3 s5) (by decide +kernel) rfl rfl (lw_V q1427 q1429 qs85 q168 q1430) (by decide +kernel) rfl (by decide) hRf hRl (fun _ => (avc ra3 avn)) (Nat.le_of_ble_eq_true rfl) rfl rfl dX3_type_19 (fun v7 s8 zv7 => ?_)
        refine g_if_ne 31 dX3_type_22 (by decide) (fun _ => (inR_z zv7)) (fun _ => ?_) (fun _ => ?_)
        · exact g_pick [0] rfl (hj1 s8)
        · refine g_jn (fun j9 => ∀ (a1 a2 a3 t0 : Int) (s10 : Sg), inR a1 → inR a2 → inR a3 → inR t0 → WG p l e R s m args below meth c JX3_type DX3_type G clA A FT ad0 σ0 rvI (j9 a1 a2 a3 t0 s10) s10 50 [(0, vR 0), (1, vI a1), (2, vI a2), (3, vI a3)] [vI t0]) (fun a1 a2 a3 t0 s10 ra1 ra2 ra3 rt0 => ?_) (fun j9 hj9 => ?_)
          · refine g_jn (fun j11 => ∀ (s12 : Sg), WG p l e R s m args below meth c JX3_type DX3_type G clA A FT ad0 σ0 rvI (j11 s12) s12 74 [(0, vR 0)] []) (fun s12 => ?_) (fun j11 hj11 => ?_)
            · refine g_aload_n 0 dX3_type_74 rfl ?_
              refine g_iconst dX3_type_75 ?_
              refine g_cVI (As := [vI 1]) (n := 1) (stk := []) (ci := 2) (b := 0) (N := 83) (hX3_fails 1 s12) (by decide +kernel) rfl rfl (lw_V q1407 q1409 qs84 q168 q1410) (by decide +kernel) rfl (by decide) hRf hRl (fun _ => (avc (inR_z (Or.inr rfl)) avn)) (Nat.le_of_ble_eq_true rfl) rfl rfl dX3_type_76 (fun v13 s14 rv13 => ?_)
              exact g_iret rfl rfl (fun _ => rv13) dX3_type_79
            · refine g_jn (fun j15 => ∀ (a1 a3 a4 : Int) (s16 : Sg), inR a1 → inR a3 → inR a4 → WG p l e R s m args below meth c JX3_type DX3_type G clA A FT ad0 σ0 rvI (j15 a1 a3 a4 s16) s16 80 [(0, vR 0), (1, vI a1), (3, vI a3), (4, vI a4)] []) (fun a1 a3 a4 s16 ra1 ra3 ra4 => ?_) (fun j15 hj15 => ?_)
              · refine g_aload_n 0 dX3_type_80 rfl ?_
                refine g_getI (ci := 2) (b := 0) (N := 83) 13 rfl rfl rfl (by decide) in_X3 rfl rfl q1145 dX3_type_81 (fun v17 rv17 => ?_)
                refine g_istore (loc' := [(5, vI v17), (0, vR 0), (1, vI a1), (3, vI a3), (4, vI a4)]) dX3_type_84 (by decide) rfl ?_
                refine g_iconst dX3_type_86 ?_
                refine g_istore (loc' := [(6, vI 0), (5, vI v17), (0, vR 0), (1, vI a1), (3, vI a3), (4, vI a4)]) dX3_type_87 (by decide) rfl ?_
                refine g_pick [2, 3, 4, 5, 1, 0] rfl (wX3_type_L89 hd hRf hRl hX3_fails hX3_isSet hX3_give hX3_typed hX3_gives hX3_form _ (fun v19 v20 v21 s18 rv19 rv20 rv21 => ?_) KF a1 a3 a4 v17 0 s16 ra1 ra3 ra4 rv17 (inR_z (Or.inl rfl)))
                · refine g_aload_n 0 dX3_type_118 rfl ?_
                  refine g_aload_n 0 dX3_type_119 rfl ?_
                  refine g_iload_n 1 dX3_type_120 rfl ?_
                  refine g_iload 2 dX3_type_121 rfl ?_
                  refine g_iload 3 dX3_type_123 rfl ?_
                  refine g_cVI (As := [vI v19, vI v20, vI v21]) (n := 3) (stk := [vR 0]) (ci := 2) (b := 0) (N := 83) (hX3_typed v19 v20 v21 s18) (by decide +kernel) rfl rfl (lw_V q1096 q1098 qs72 q168 q1099) (by decide +kernel) rfl (by decide) hRf hRl (fun _ => (avc rv19 (avc rv20 (avc rv21 avn)))) (Nat.le_of_ble_eq_true rfl) rfl rfl dX3_type_125 (fun v22 s23 rv22 => ?_)
                  refine g_cVI (As := [vI v22]) (n := 1) (stk := []) (ci := 2) (b := 0) (N := 83) (hX3_gives v22 s23) (by decide +kernel) rfl rfl (lw_V q1431 q1433 qs86 q168 q1434) (by decide +kernel) rfl (by decide) hRf hRl (fun _ => (avc rv22 avn)) (Nat.le_of_ble_eq_true rfl) rfl rfl dX3_type_128 (fun v24 s25 rv24 => ?_)
                  exact g_iret rfl rfl (fun _ => rv24) dX3_type_131
              · refine g_istore (loc' := [(4, vI t0), (0, vR 0), (1, vI a1), (2, vI a2), (3, vI a3)]) dX3_type_50 (by decide) rfl ?_
                refine g_aload_n 1 dX3_type_52 rfl ?_
                refine g_get (v := vR 36) (ci := 2) (b := 0) (N := 83) 26 rfl rfl (by decide) in_X3 rfl rfl q1158 dX3_type_53 ?_
                refine g_iload_n 2 dX3_type_56 rfl ?_
                refine g_zald (id := 26) 18 rfl rfl dX3_type_57 (fun v26 zv26 => ?_)
                refine g_if_eq 69 dX3_type_58 (by decide) (fun _ => (inR_z zv26)) (fun _ => ?_) (fun _ => ?_)
                · refine g_iload_n 3 dX3_type_69 rfl ?_
                  refine g_iconst dX3_type_70 ?_
                  refine g_icmp_eq 80 dX3_type_71 (by decide) (fun _ => ra2) (fun _ => (by decide : inR (-1))) (fun _ => ?_) (fun _ => ?_)
                  · exact g_pick [1, 2, 4, 0] rfl (hj15 a1 a3 t0 s10 ra1 ra3 rt0)
                  · exact g_pick [1] rfl (hj11 s10)
                · refine g_iload 0 dX3_type_61 rfl ?_
                  refine g_if_ne 80 dX3_type_63 (by decide) (fun _ => rt0) (fun _ => ?_) (fun _ => ?_)
                  · refine g_goto 74 dX3_type_66 (by decide) ?_
                    exact g_pick [1] rfl (hj11 s10)
                  · exact g_pick [1, 2, 4, 0] rfl (hj15 a1 a3 t0 s10 ra1 ra3 rt0)
          · refine g_aload_n 0 dX3_type_31 rfl ?_
            refine g_get (v := vR 36) (ci := 2) (b := 0) (N := 83) 26 rfl rfl (by decide) in_X3 rfl rfl q1158 dX3_type_32 ?_
            refine g_iload_n 1 dX3_type_35 rfl ?_
            refine g_zald (id := 26) 18 rfl rfl dX3_type_36 (fun v27 zv27 => ?_)
            refine g_if_eq 49 dX3_type_37 (by decide) (fun _ => (inR_z zv27)) (fun _ => ?_) (fun _ => ?_)
            · refine g_iconst dX3_type_49 ?_
              exact g_pick [0, 1, 2, 3] rfl (hj9 a1 a2 a3 0 s8 ra1 ra2 ra3 (inR_z (Or.inl rfl)))
            · refine g_aload_n 0 dX3_type_40 rfl ?_
              refine g_iload_n 2 dX3_type_41 rfl ?_
              refine g_iconst dX3_type_42 ?_
              refine g_cVI (As := [vI a2, vI 0]) (n := 2) (stk := []) (ci := 2) (b := 0) (N := 83) (hX3_form a2 0 s8) (by decide +kernel) rfl rfl (lw_V q1387 q1389 qs79 q168 q1390) (by decide +kernel) rfl (by decide) hRf hRl (fun _ => (avc ra2 (avc (inR_z (Or.inl rfl)) avn))) (Nat.le_of_ble_eq_true rfl) rfl rfl dX3_type_43 (fun v28 s29 rv28 => ?_)
              refine g_goto 50 dX3_type_46 (by decide) ?_
              exact g_pick [0, 1, 2, 3] rfl (hj9 a1 a2 a3 v28 s29 ra1 ra2 ra3 rv28)
      · exact g_pick [0] rfl (hj1 s5)
end
section
variable {l : Launch} {d : Nat} {call : Nat → List Int → Sg → Option (Int × Sg)}
theorem ctX3_type (p0 : Program) (e0 : Env) (s0 : State) (m0 : MethodId) (meth0 : Method) (c0 : Code) (G0 : Gm) (hd : 2 ≤ d) (hX3_fails : ∀ (a1 : Int) (u : Sg), Ct l d FT clA yX3_fails cX3_fails 2 (some .int) DX3_fails rvI [vR 0, vI a1] u (call 17 [a1] u)) (hX3_isSet : ∀ (a1 : Int) (u : Sg), Ct l d FT clA yX3_isSet cX3_isSet 2 (some .boolean) DX3_isSet rvI [vR 0, vI a1] u (call 22 [a1] u)) (hX3_give : ∀ (a1 : Int) (u : Sg), Ct l d FT clA yX3_give cX3_give 2 none DX3_give rvV [vR 0, vI a1] u (call 3 [a1] u)) (hX3_typed : ∀ (a1 a2 a3 : Int) (u : Sg), Ct l d FT clA yX3_typed cX3_typed 8 (some .int) DX3_typed rvI [vR 0, vI a1, vI a2, vI a3] u (call 2 [a1, a2, a3] u)) (hX3_gives : ∀ (a1 : Int) (u : Sg), Ct l d FT clA yX3_gives cX3_gives 2 (some .int) DX3_gives rvI [vR 0, vI a1] u (call 23 [a1] u)) (hX3_form : ∀ (a1 a2 : Int) (u : Sg), Ct l d FT clA yX3_form cX3_form 3 (some .int) DX3_form rvI [vR 0, vI a1, vI a2] u (call 12 [a1, a2] u)) (a1 a2 a3 : Int) (u : Sg) : Ct l (d + 1) FT clA yX3_type cX3_type 7 (some .int) DX3_type rvI [vR 0, vI a1, vI a2, vI a3] u (bX3_type call a1 a2 a3 u) :=
  Ct_of (by decide) (Nat.le_of_ble_eq_true rfl) (fun p e R s1 m args below meth c G A ad hA hRf hRl => wX3_type hd hRf hRl hX3_fails hX3_isSet hX3_give hX3_typed hX3_gives hX3_form a1 a2 a3 u (hA _ (List.mem_cons_of_mem _ List.mem_cons_self)) (hA _ (List.mem_cons_of_mem _ (List.mem_cons_of_mem _ List.mem_cons_self))) (hA _ (List.mem_cons_of_mem _ (List.mem_cons_of_mem _ (List.mem_cons_of_mem _ List.mem_cons_self))))) p0 e0 s0 m0 meth0 c0 G0
end
/-! RoundCheckModel.isSet(I)Z -/
abbrev JX3_isSet : Jm := (cX3_isSet, RX3, 2, (some .boolean))
def bX3_isSet (call : Nat → List Int → Sg → Option (Int × Sg)) (a1 : Int) (u : Sg) : Option (Int × Sg) := un (gI u 28) fun v1 => ar (2 * v1) fun v2 => un (o_shl 1 v2) fun v3 => ar (v3 - 1) fun v4 => un (o_xor v4 (-1)) fun v5 => un (o_and a1 v5) fun v6 => if v6 = 0 then (some (1, u)) else (some (0, u))
section
variable {p : Program} {l : Launch} {e : Env} {R : Room} {s : State} {m : MethodId} {args : Array Value} {below : List Frame} {meth : Method} {c : Code} {G : Gm} {A : Nat → Prop} {ad0 : Nat → Nat} {σ0 : Sg} {d : Nat} {call : Nat → List Int → Sg → Option (Int × Sg)}
theorem wX3_isSet (hd : 2 ≤ d) (hRf : d + 1 ≤ R.frames) (hRl : 40 * (d + 1) ≤ R.locals) (a1 : Int) (u : Sg) (ra1 : inR a1) : WG p l e R s m args below meth c JX3_isSet DX3_isSet G clA A FT ad0 σ0 rvI (bX3_isSet call a1 u) u 0 [(0, vR 0), (1, vI a1)] [] := by
  unfold bX3_isSet
  refine g_iload_n 1 dX3_isSet_0 rfl ?_
  refine g_iconst dX3_isSet_1 ?_
  refine g_iconst dX3_isSet_2 ?_
  refine g_aload_n 0 dX3_isSet_3 rfl ?_
  refine g_getI (ci := 2) (b := 0) (N := 83) 28 rfl rfl rfl (by decide) in_X3 rfl rfl q1160 dX3_isSet_4 (fun v1 rv1 => ?_)
  refine g_imul dX3_isSet_7 (fun v2 rv2 => ?_)
  refine g_ishlU dX3_isSet_8 (fun v3 rv3 => ?_)
  refine g_iconst dX3_isSet_9 ?_
  refine g_isub dX3_isSet_10 (fun v4 rv4 => ?_)
  refine g_iconst dX3_isSet_11 ?_
  refine g_ixorU dX3_isSet_12 (fun v5 rv5 => ?_)
  refine g_iandU dX3_isSet_13 (fun v6 rv6 => ?_)
  refine g_if_ne 21 dX3_isSet_14 (by decide) (fun _ => rv6) (fun _ => ?_) (fun _ => ?_)
  · refine g_iconst dX3_isSet_17 ?_
    refine g_goto 22 dX3_isSet_18 (by decide) ?_
    exact g_zret rfl rfl (fun _ => (Or.inr rfl)) dX3_isSet_22
  · refine g_iconst dX3_isSet_21 ?_
    exact g_zret rfl rfl (fun _ => (Or.inl rfl)) dX3_isSet_22
end
section
variable {l : Launch} {d : Nat} {call : Nat → List Int → Sg → Option (Int × Sg)}
theorem ctX3_isSet (p0 : Program) (e0 : Env) (s0 : State) (m0 : MethodId) (meth0 : Method) (c0 : Code) (G0 : Gm) (hd : 2 ≤ d) (a1 : Int) (u : Sg) : Ct l (d + 1) FT clA yX3_isSet cX3_isSet 2 (some .boolean) DX3_isSet rvI [vR 0, vI a1] u (bX3_isSet call a1 u) :=
  Ct_of (by decide) (Nat.le_of_ble_eq_true rfl) (fun p e R s1 m args below meth c G A ad hA hRf hRl => wX3_isSet hd hRf hRl a1 u (hA _ (List.mem_cons_of_mem _ List.mem_cons_self))) p0 e0 s0 m0 meth0 c0 G0
end
/-! RoundCheckModel.gives(I)I -/
abbrev JX3_gives : Jm := (cX3_gives, RX3, 2, (some .int))
def bX3_gives (call : Nat → List Int → Sg → Option (Int × Sg)) (a1 : Int) (u : Sg) : Option (Int × Sg) := jn (fun (s2 : Sg) => cl (call 17 [2] s2) fun v3 s4 => some (v3, s4)) fun j1 => un (gI u 79) fun v5 => if v5 = 400 then (j1 u) else (ld u 4 a1 fun v6 => if v6 ≤ 200 then (un (gI u 79) fun v7 => stA u 78 v7 a1 fun s8 => un (gI s8 79) fun v9 => ar (v9 + 1) fun v10 => un (sI s8 79 v10) fun s11 => some (v9, s11)) else (j1 u))
section
variable {p : Program} {l : Launch} {e : Env} {R : Room} {s : State} {m : MethodId} {args : Array Value} {below : List Frame} {meth : Method} {c : Code} {G : Gm} {A : Nat → Prop} {ad0 : Nat → Nat} {σ0 : Sg} {d : Nat} {call : Nat → List Int → Sg → Option (Int × Sg)}
theorem wX3_gives (hd : 2 ≤ d) (hRf : d + 1 ≤ R.frames) (hRl : 40 * (d + 1) ≤ R.locals) (hX3_fails : ∀ (a1 : Int) (u : Sg), Ct l d FT clA yX3_fails cX3_fails 2 (some .int) DX3_fails rvI [vR 0, vI a1] u (call 17 [a1] u)) (a1 : Int) (u : Sg) (ra1 : inR a1) : WG p l e R s m args below meth c JX3_gives DX3_gives G clA A FT ad0 σ0 rvI (bX3_gives call a1 u) u 0 [(0, vR 0), (1, vI a1)] [] := by
  unfold bX3_gives
  refine g_jn (fun j1 => ∀ (s2 : Sg), WG p l e R s m args below meth c JX3_gives DX3_gives G clA A FT ad0 σ0 rvI (j1 s2) s2 22 [(0, vR 0)] []) (fun s2 => ?_) (fun j1 hj1 => ?_)
  · refine g_aload_n 0 dX3_gives_22 rfl ?_
    refine g_iconst dX3_gives_23 ?_
    refine g_cVI (As := [vI 2]) (n := 1) (stk := []) (ci := 2) (b := 0) (N := 83) (hX3_fails 2 s2) (by decide +kernel) rfl rfl (lw_V q1407 q1409 qs84 q168 q1410) (by decide +kernel) rfl (by decide) hRf hRl (fun _ => (avc (by decide : inR (2)) avn)) (Nat.le_of_ble_eq_true rfl) rfl rfl dX3_gives_24 (fun v3 s4 rv3 => ?_)
    exact g_iret rfl rfl (fun _ => rv3) dX3_gives_27
  · refine g_aload_n 0 dX3_gives_0 rfl ?_
    refine g_getI (ci := 2) (b := 0) (N := 83) 79 rfl rfl rfl (by decide) in_X3 rfl rfl q1211 dX3_gives_1 (fun v5 rv5 => ?_)
    refine g_sipush (by decide +kernel) dX3_gives_4 ?_
    refine g_icmp_eq 22 dX3_gives_7 (by decide) (fun _ => rv5) (fun _ => (by decide : inR (400))) (fun _ => ?_) (fun _ => ?_)
    · exact g_pick [0] rfl (hj1 u)
    · refine g_aload_n 0 dX3_gives_10 rfl ?_
      refine g_get (v := vR 14) (ci := 2) (b := 0) (N := 83) 4 rfl rfl (by decide) in_X3 rfl rfl q1136 dX3_gives_11 ?_
      refine g_iload_n 1 dX3_gives_14 rfl ?_
      refine g_iald (id := 4) 3 rfl rfl dX3_gives_15 (fun v6 rv6 => ?_)
      refine g_sipush (by decide +kernel) dX3_gives_16 ?_
      refine g_icmp_le 28 dX3_gives_19 (by decide) (fun _ => rv6) (fun _ => (by decide : inR (200))) (fun _ => ?_) (fun _ => ?_)
      · refine g_aload_n 0 dX3_gives_28 rfl ?_
        refine g_get (v := vR 88) (ci := 2) (b := 0) (N := 83) 78 rfl rfl (by decide) in_X3 rfl rfl q1210 dX3_gives_29 ?_
        refine g_aload_n 0 dX3_gives_32 rfl ?_
        refine g_getI (ci := 2) (b := 0) (N := 83) 79 rfl rfl rfl (by decide) in_X3 rfl rfl q1211 dX3_gives_33 (fun v7 rv7 => ?_)
        refine g_iload_n 1 dX3_gives_36 rfl ?_
        refine g_iastU (id := 78) FT_ok 50 rfl rfl (by decide +kernel) ra1 dX3_gives_37 (fun s8 => ?_)
        refine g_aload_n 0 dX3_gives_38 rfl ?_
        refine g_dup rfl dX3_gives_39 ?_
        refine g_getI (ci := 2) (b := 0) (N := 83) 79 rfl rfl rfl (by decide) in_X3 rfl rfl q1211 dX3_gives_40 (fun v9 rv9 => ?_)
        refine g_dup_x1 rfl rfl dX3_gives_43 ?_
        refine g_iconst dX3_gives_44 ?_
        refine g_iadd dX3_gives_45 (fun v10 rv10 => ?_)
        refine g_sIU (ci := 2) (b := 0) (N := 83) FT_ok 79 rfl rfl rfl (by decide) in_X3 tyX3 tyX3_ok nmX3 rfl rfl rfl rfl (by decide +kernel) rv10 q1211 dX3_gives_46 (fun s11 => ?_)
        exact g_iret rfl rfl (fun _ => rv9) dX3_gives_49
      · exact g_pick [0] rfl (hj1 u)
end
section
variable {l : Launch} {d : Nat} {call : Nat → List Int → Sg → Option (Int × Sg)}
theorem ctX3_gives (p0 : Program) (e0 : Env) (s0 : State) (m0 : MethodId) (meth0 : Method) (c0 : Code) (G0 : Gm) (hd : 2 ≤ d) (hX3_fails : ∀ (a1 : Int) (u : Sg), Ct l d FT clA yX3_fails cX3_fails 2 (some .int) DX3_fails rvI [vR 0, vI a1] u (call 17 [a1] u)) (a1 : Int) (u : Sg) : Ct l (d + 1) FT clA yX3_gives cX3_gives 2 (some .int) DX3_gives rvI [vR 0, vI a1] u (bX3_gives call a1 u) :=
  Ct_of (by decide) (Nat.le_of_ble_eq_true rfl) (fun p e R s1 m args below meth c G A ad hA hRf hRl => wX3_gives hd hRf hRl hX3_fails a1 u (hA _ (List.mem_cons_of_mem _ List.mem_cons_self))) p0 e0 s0 m0 meth0 c0 G0
end
/-! RoundCheckModel.constant(I)I -/
abbrev JX3_constant : Jm := (cX3_constant, RX3, 3, (some .int))
def bX3_constant (call : Nat → List Int → Sg → Option (Int × Sg)) (a1 : Int) (u : Sg) : Option (Int × Sg) := un (sI u 0 0) fun s1 => cl (call 25 [a1, 1] s1) fun v2 s3 => if v2 = 0 then (cl (call 17 [1] s3) fun v4 s5 => some (v4, s5)) else (un (gI s3 79) fun v6 => if v6 = 400 then (cl (call 17 [2] s3) fun v7 s8 => some (v7, s8)) else (cl (call 9 [0, v2] s3) fun v9 s10 => cl (call 27 [2, v9] s10) fun v11 s12 => cl (call 23 [v11] s12) fun v13 s14 => some (v13, s14)))
section
variable {p : Program} {l : Launch} {e : Env} {R : Room} {s : State} {m : MethodId} {args : Array Value} {below : List Frame} {meth : Method} {c : Code} {G : Gm} {A : Nat → Prop} {ad0 : Nat → Nat} {σ0 : Sg} {d : Nat} {call : Nat → List Int → Sg → Option (Int × Sg)}
theorem wX3_constant (hd : 2 ≤ d) (hRf : d + 1 ≤ R.frames) (hRl : 40 * (d + 1) ≤ R.locals) (hX3_closed : ∀ (a1 a2 : Int) (u : Sg), Ct l d FT clA yX3_closed cX3_closed 4 (some .int) DX3_closed rvI [vR 0, vI a1, vI a2] u (call 25 [a1, a2] u)) (hX3_fails : ∀ (a1 : Int) (u : Sg), Ct l d FT clA yX3_fails cX3_fails 2 (some .int) DX3_fails rvI [vR 0, vI a1] u (call 17 [a1] u)) (hX3_fresh : ∀ (a1 a2 : Int) (u : Sg), Ct l d FT clA yX3_fresh cX3_fresh 3 (some .int) DX3_fresh rvI [vR 0, vI a1, vI a2] u (call 9 [a1, a2] u)) (hX3_leaf : ∀ (a1 a2 : Int) (u : Sg), Ct l d FT clA yX3_leaf cX3_leaf 4 (some .int) DX3_leaf rvI [vR 0, vI a1, vI a2] u (call 27 [a1, a2] u)) (hX3_gives : ∀ (a1 : Int) (u : Sg), Ct l d FT clA yX3_gives cX3_gives 2 (some .int) DX3_gives rvI [vR 0, vI a1] u (call 23 [a1] u)) (a1 : Int) (u : Sg) (ra1 : inR a1) : WG p l e R s m args below meth c JX3_constant DX3_constant G clA A FT ad0 σ0 rvI (bX3_constant call a1 u) u 0 [(0, vR 0), (1, vI a1)] [] := by
  unfold bX3_constant
  refine g_aload_n 0 dX3_constant_0 rfl ?_
  refine g_iconst dX3_constant_1 ?_
  refine g_sIU (ci := 2) (b := 0) (N := 83) FT_ok 0 rfl rfl rfl (by decide) in_X3 tyX3 tyX3_ok nmX3 rfl rfl rfl rfl (by decide +kernel) (inR_z (Or.inl rfl)) q1132 dX3_constant_2 (fun s1 => ?_)
  refine g_aload_n 0 dX3_constant_5 rfl ?_
  refine g_iload_n 1 dX3_constant_6 rfl ?_
  refine g_iconst dX3_constant_7 ?_
  refine g_cVI (As := [vI a1, vI 1]) (n := 2) (stk := []) (ci := 2) (b := 0) (N := 83) (hX3_closed a1 1 s1) (by decide +kernel) rfl rfl (lw_V q1439 q1441 qs87 q168 q1442) (by decide +kernel) rfl (by decide) hRf hRl (fun _ => (avc ra1 (avc (inR_z (Or.inr rfl)) avn))) (Nat.le_of_ble_eq_true rfl) rfl rfl dX3_constant_8 (fun v2 s3 rv2 => ?_)
  refine g_istore_n (loc' := [(2, vI v2), (0, vR 0), (1, vI a1)]) dX3_constant_11 (by decide) rfl ?_
  refine g_iload_n 0 dX3_constant_12 rfl ?_
  refine g_if_ne 22 dX3_constant_13 (by decide) (fun _ => rv2) (fun _ => ?_) (fun _ => ?_)
  · refine g_aload_n 1 dX3_constant_16 rfl ?_
    refine g_iconst dX3_constant_17 ?_
    refine g_cVI (As := [vI 1]) (n := 1) (stk := []) (ci := 2) (b := 0) (N := 83) (hX3_fails 1 s3) (by decide +kernel) rfl rfl (lw_V q1407 q1409 qs84 q168 q1410) (by decide +kernel) rfl (by decide) hRf hRl (fun _ => (avc (inR_z (Or.inr rfl)) avn)) (Nat.le_of_ble_eq_true rfl) rfl rfl dX3_constant_18 (fun v4 s5 rv4 => ?_)
    exact g_iret rfl rfl (fun _ => rv4) dX3_constant_21
  · refine g_aload_n 1 dX3_constant_22 rfl ?_
    refine g_getI (ci := 2) (b := 0) (N := 83) 79 rfl rfl rfl (by decide) in_X3 rfl rfl q1211 dX3_constant_23 (fun v6 rv6 => ?_)
    refine g_sipush (by decide +kernel) dX3_constant_26 ?_
    refine g_icmp_ne 38 dX3_constant_29 (by decide) (fun _ => rv6) (fun _ => (by decide : inR (400))) (fun _ => ?_) (fun _ => ?_)
    · refine g_aload_n 1 dX3_constant_32 rfl ?_
      refine g_iconst dX3_constant_33 ?_
      refine g_cVI (As := [vI 2]) (n := 1) (stk := []) (ci := 2) (b := 0) (N := 83) (hX3_fails 2 s3) (by decide +kernel) rfl rfl (lw_V q1407 q1409 qs84 q168 q1410) (by decide +kernel) rfl (by decide) hRf hRl (fun _ => (avc (by decide : inR (2)) avn)) (Nat.le_of_ble_eq_true rfl) rfl rfl dX3_constant_34 (fun v7 s8 rv7 => ?_)
      exact g_iret rfl rfl (fun _ => rv7) dX3_constant_37
    · refine g_aload_n 1 dX3_constant_38 rfl ?_
      refine g_aload_n 1 dX3_constant_39 rfl ?_
      refine g_iconst dX3_constant_40 ?_
      refine g_aload_n 1 dX3_constant_41 rfl ?_
      refine g_iconst dX3_constant_42 ?_
      refine g_iload_n 0 dX3_constant_43 rfl ?_
      refine g_cVI (As := [vI 0, vI v2]) (n := 2) (stk := [vI 2, vR 0, vR 0]) (ci := 2) (b := 0) (N := 83) (hX3_fresh 0 v2 s3) (by decide +kernel) rfl rfl (lw_V q1123 q1125 qs77 q168 q1126) (by decide +kernel) rfl (by decide) hRf hRl (fun _ => (avc (inR_z (Or.inl rfl)) (avc rv2 avn))) (Nat.le_of_ble_eq_true rfl) rfl rfl dX3_constant_44 (fun v9 s10 rv9 => ?_)
      refine g_cVI (As := [vI 2, vI v9]) (n := 2) (stk := [vR 0]) (ci := 2) (b := 0) (N := 83) (hX3_leaf 2 v9 s10) (by decide +kernel) rfl rfl (lw_V q1447 q1449 qs89 q168 q1450) (by decide +kernel) rfl (by decide) hRf hRl (fun _ => (avc (by decide : inR (2)) (avc rv9 avn))) (Nat.le_of_ble_eq_true rfl) rfl rfl dX3_constant_47 (fun v11 s12 rv11 => ?_)
      refine g_cVI (As := [vI v11]) (n := 1) (stk := []) (ci := 2) (b := 0) (N := 83) (hX3_gives v11 s12) (by decide +kernel) rfl rfl (lw_V q1431 q1433 qs86 q168 q1434) (by decide +kernel) rfl (by decide) hRf hRl (fun _ => (avc rv11 avn)) (Nat.le_of_ble_eq_true rfl) rfl rfl dX3_constant_50 (fun v13 s14 rv13 => ?_)
      exact g_iret rfl rfl (fun _ => rv13) dX3_constant_53
end
section
variable {l : Launch} {d : Nat} {call : Nat → List Int → Sg → Option (Int × Sg)}
theorem ctX3_constant (p0 : Program) (e0 : Env) (s0 : State) (m0 : MethodId) (meth0 : Method) (c0 : Code) (G0 : Gm) (hd : 2 ≤ d) (hX3_closed : ∀ (a1 a2 : Int) (u : Sg), Ct l d FT clA yX3_closed cX3_closed 4 (some .int) DX3_closed rvI [vR 0, vI a1, vI a2] u (call 25 [a1, a2] u)) (hX3_fails : ∀ (a1 : Int) (u : Sg), Ct l d FT clA yX3_fails cX3_fails 2 (some .int) DX3_fails rvI [vR 0, vI a1] u (call 17 [a1] u)) (hX3_fresh : ∀ (a1 a2 : Int) (u : Sg), Ct l d FT clA yX3_fresh cX3_fresh 3 (some .int) DX3_fresh rvI [vR 0, vI a1, vI a2] u (call 9 [a1, a2] u)) (hX3_leaf : ∀ (a1 a2 : Int) (u : Sg), Ct l d FT clA yX3_leaf cX3_leaf 4 (some .int) DX3_leaf rvI [vR 0, vI a1, vI a2] u (call 27 [a1, a2] u)) (hX3_gives : ∀ (a1 : Int) (u : Sg), Ct l d FT clA yX3_gives cX3_gives 2 (some .int) DX3_gives rvI [vR 0, vI a1] u (call 23 [a1] u)) (a1 : Int) (u : Sg) : Ct l (d + 1) FT clA yX3_constant cX3_constant 3 (some .int) DX3_constant rvI [vR 0, vI a1] u (bX3_constant call a1 u) :=
  Ct_of (by decide) (Nat.le_of_ble_eq_true rfl) (fun p e R s1 m args below meth c G A ad hA hRf hRl => wX3_constant hd hRf hRl hX3_closed hX3_fails hX3_fresh hX3_leaf hX3_gives a1 u (hA _ (List.mem_cons_of_mem _ List.mem_cons_self))) p0 e0 s0 m0 meth0 c0 G0
end
/-! RoundCheckModel.closed(II)I -/
abbrev JX3_closed : Jm := (cX3_closed, RX3, 4, (some .int))
def bX3_closed (call : Nat → List Int → Sg → Option (Int × Sg)) (a1 a2 : Int) (u : Sg) : Option (Int × Sg) := jn (fun (s2 : Sg) => some (0, s2)) fun j1 => cl (call 12 [a1, a2] u) fun v3 s4 => if v3 ≤ 0 then (j1 s4) else (cl (call 26 [v3] s4) fun v5 s6 => if v5 = 0 then (j1 s6) else (some (v3, s6)))
section
variable {p : Program} {l : Launch} {e : Env} {R : Room} {s : State} {m : MethodId} {args : Array Value} {below : List Frame} {meth : Method} {c : Code} {G : Gm} {A : Nat → Prop} {ad0 : Nat → Nat} {σ0 : Sg} {d : Nat} {call : Nat → List Int → Sg → Option (Int × Sg)}
theorem wX3_closed (hd : 2 ≤ d) (hRf : d + 1 ≤ R.frames) (hRl : 40 * (d + 1) ≤ R.locals) (hX3_form : ∀ (a1 a2 : Int) (u : Sg), Ct l d FT clA yX3_form cX3_form 3 (some .int) DX3_form rvI [vR 0, vI a1, vI a2] u (call 12 [a1, a2] u)) (hX3_isClosed : ∀ (a1 : Int) (u : Sg), Ct l d FT clA yX3_isClosed cX3_isClosed 2 (some .boolean) DX3_isClosed rvI [vR 0, vI a1] u (call 26 [a1] u)) (a1 a2 : Int) (u : Sg) (ra1 : inR a1) (ra2 : inR a2) : WG p l e R s m args below meth c JX3_closed DX3_closed G clA A FT ad0 σ0 rvI (bX3_closed call a1 a2 u) u 0 [(0, vR 0), (1, vI a1), (2, vI a2)] [] := by
  unfold bX3_closed
  refine g_jn (fun j1 => ∀ (s2 : Sg), WG p l e R s m args below meth c JX3_closed DX3_closed G clA A FT ad0 σ0 rvI (j1 s2) s2 23 [] []) (fun s2 => ?_) (fun j1 hj1 => ?_)
  · refine g_iconst dX3_closed_23 ?_
    exact g_iret rfl rfl (fun _ => (inR_z (Or.inl rfl))) dX3_closed_24
  · refine g_aload_n 0 dX3_closed_0 rfl ?_
    refine g_iload_n 1 dX3_closed_1 rfl ?_
    refine g_iload_n 2 dX3_closed_2 rfl ?_
    refine g_cVI (As := [vI a1, vI a2]) (n := 2) (stk := []) (ci := 2) (b := 0) (N := 83) (hX3_form a1 a2 u) (by decide +kernel) rfl rfl (lw_V q1387 q1389 qs79 q168 q1390) (by decide +kernel) rfl (by decide) hRf hRl (fun _ => (avc ra1 (avc ra2 avn))) (Nat.le_of_ble_eq_true rfl) rfl rfl dX3_closed_3 (fun v3 s4 rv3 => ?_)
    refine g_istore_n (loc' := [(3, vI v3), (0, vR 0), (1, vI a1), (2, vI a2)]) dX3_closed_6 (by decide) rfl ?_
    refine g_iload_n 0 dX3_closed_7 rfl ?_
    refine g_if_le 23 dX3_closed_8 (by decide) (fun _ => rv3) (fun _ => ?_) (fun _ => ?_)
    · exact g_pick [] rfl (hj1 s4)
    · refine g_aload_n 1 dX3_closed_11 rfl ?_
      refine g_iload_n 0 dX3_closed_12 rfl ?_
      refine g_cVZ (As := [vI v3]) (n := 1) (stk := []) (ci := 2) (b := 0) (N := 83) (hX3_isClosed v3 s4) (by decide +kernel) rfl rfl (lw_V q1443 q1445 qs88 q168 q1446) (by decide +kernel) rfl (by decide) hRf hRl (fun _ => (avc rv3 avn)) (Nat.le_of_ble_eq_true rfl) rfl rfl dX3_closed_13 (fun v5 s6 zv5 => ?_)
      refine g_if_eq 23 dX3_closed_16 (by decide) (fun _ => (inR_z zv5)) (fun _ => ?_) (fun _ => ?_)
      · exact g_pick [] rfl (hj1 s6)
      · refine g_iload_n 0 dX3_closed_19 rfl ?_
        refine g_goto 24 dX3_closed_20 (by decide) ?_
        exact g_iret rfl rfl (fun _ => rv3) dX3_closed_24
end
section
variable {l : Launch} {d : Nat} {call : Nat → List Int → Sg → Option (Int × Sg)}
theorem ctX3_closed (p0 : Program) (e0 : Env) (s0 : State) (m0 : MethodId) (meth0 : Method) (c0 : Code) (G0 : Gm) (hd : 2 ≤ d) (hX3_form : ∀ (a1 a2 : Int) (u : Sg), Ct l d FT clA yX3_form cX3_form 3 (some .int) DX3_form rvI [vR 0, vI a1, vI a2] u (call 12 [a1, a2] u)) (hX3_isClosed : ∀ (a1 : Int) (u : Sg), Ct l d FT clA yX3_isClosed cX3_isClosed 2 (some .boolean) DX3_isClosed rvI [vR 0, vI a1] u (call 26 [a1] u)) (a1 a2 : Int) (u : Sg) : Ct l (d + 1) FT clA yX3_closed cX3_closed 4 (some .int) DX3_closed rvI [vR 0, vI a1, vI a2] u (bX3_closed call a1 a2 u) :=
  Ct_of (by decide) (Nat.le_of_ble_eq_true rfl) (fun p e R s1 m args below meth c G A ad hA hRf hRl => wX3_closed hd hRf hRl hX3_form hX3_isClosed a1 a2 u (hA _ (List.mem_cons_of_mem _ List.mem_cons_self)) (hA _ (List.mem_cons_of_mem _ (List.mem_cons_of_mem _ List.mem_cons_self)))) p0 e0 s0 m0 meth0 c0 G0
end
/-! RoundCheckModel.isClosed(I)Z -/
abbrev JX3_isClosed : Jm := (cX3_isClosed, RX3, 2, (some .boolean))
def bX3_isClosed (call : Nat → List Int → Sg → Option (Int × Sg)) (a1 : Int) (u : Sg) : Option (Int × Sg) := jn (fun (s2 : Sg) => some (0, s2)) fun j1 => cl (call 15 [a1, 0] u) fun v3 s4 => if v3 = 0 then (cl (call 15 [a1, 1] s4) fun v5 s6 => if v5 = 0 then (some (1, s6)) else (j1 s6)) else (j1 s4)
section
variable {p : Program} {l : Launch} {e : Env} {R : Room} {s : State} {m : MethodId} {args : Array Value} {below : List Frame} {meth : Method} {c : Code} {G : Gm} {A : Nat → Prop} {ad0 : Nat → Nat} {σ0 : Sg} {d : Nat} {call : Nat → List Int → Sg → Option (Int × Sg)}
theorem wX3_isClosed (hd : 2 ≤ d) (hRf : d + 1 ≤ R.frames) (hRl : 40 * (d + 1) ≤ R.locals) (hX3_mentions : ∀ (a1 a2 : Int) (u : Sg), Ct l d FT clA yX3_mentions cX3_mentions 4 (some .boolean) DX3_mentions rvI [vR 0, vI a1, vI a2] u (call 15 [a1, a2] u)) (a1 : Int) (u : Sg) (ra1 : inR a1) : WG p l e R s m args below meth c JX3_isClosed DX3_isClosed G clA A FT ad0 σ0 rvI (bX3_isClosed call a1 u) u 0 [(0, vR 0), (1, vI a1)] [] := by
  unfold bX3_isClosed
  refine g_jn (fun j1 => ∀ (s2 : Sg), WG p l e R s m args below meth c JX3_isClosed DX3_isClosed G clA A FT ad0 σ0 rvI (j1 s2) s2 22 [] []) (fun s2 => ?_) (fun j1 hj1 => ?_)
  · refine g_iconst dX3_isClosed_22 ?_
    exact g_zret rfl rfl (fun _ => (Or.inl rfl)) dX3_isClosed_23
  · refine g_aload_n 0 dX3_isClosed_0 rfl ?_
    refine g_iload_n 1 dX3_isClosed_1 rfl ?_
    refine g_iconst dX3_isClosed_2 ?_
    refine g_cVZ (As := [vI a1, vI 0]) (n := 2) (stk := []) (ci := 2) (b := 0) (N := 83) (hX3_mentions a1 0 u) (by decide +kernel) rfl rfl (lw_V q1399 q1401 qs82 q168 q1402) (by decide +kernel) rfl (by decide) hRf hRl (fun _ => (avc ra1 (avc (inR_z (Or.inl rfl)) avn))) (Nat.le_of_ble_eq_true rfl) rfl rfl dX3_isClosed_3 (fun v3 s4 zv3 => ?_)
    refine g_if_ne 22 dX3_isClosed_6 (by decide) (fun _ => (inR_z zv3)) (fun _ => ?_) (fun _ => ?_)
    · refine g_aload_n 0 dX3_isClosed_9 rfl ?_
      refine g_iload_n 1 dX3_isClosed_10 rfl ?_
      refine g_iconst dX3_isClosed_11 ?_
      refine g_cVZ (As := [vI a1, vI 1]) (n := 2) (stk := []) (ci := 2) (b := 0) (N := 83) (hX3_mentions a1 1 s4) (by decide +kernel) rfl rfl (lw_V q1399 q1401 qs82 q168 q1402) (by decide +kernel) rfl (by decide) hRf hRl (fun _ => (avc ra1 (avc (inR_z (Or.inr rfl)) avn))) (Nat.le_of_ble_eq_true rfl) rfl rfl dX3_isClosed_12 (fun v5 s6 zv5 => ?_)
      refine g_if_ne 22 dX3_isClosed_15 (by decide) (fun _ => (inR_z zv5)) (fun _ => ?_) (fun _ => ?_)
      · refine g_iconst dX3_isClosed_18 ?_
        refine g_goto 23 dX3_isClosed_19 (by decide) ?_
        exact g_zret rfl rfl (fun _ => (Or.inr rfl)) dX3_isClosed_23
      · exact g_pick [] rfl (hj1 s6)
    · exact g_pick [] rfl (hj1 s4)
end
section
variable {l : Launch} {d : Nat} {call : Nat → List Int → Sg → Option (Int × Sg)}
theorem ctX3_isClosed (p0 : Program) (e0 : Env) (s0 : State) (m0 : MethodId) (meth0 : Method) (c0 : Code) (G0 : Gm) (hd : 2 ≤ d) (hX3_mentions : ∀ (a1 a2 : Int) (u : Sg), Ct l d FT clA yX3_mentions cX3_mentions 4 (some .boolean) DX3_mentions rvI [vR 0, vI a1, vI a2] u (call 15 [a1, a2] u)) (a1 : Int) (u : Sg) : Ct l (d + 1) FT clA yX3_isClosed cX3_isClosed 2 (some .boolean) DX3_isClosed rvI [vR 0, vI a1] u (bX3_isClosed call a1 u) :=
  Ct_of (by decide) (Nat.le_of_ble_eq_true rfl) (fun p e R s1 m args below meth c G A ad hA hRf hRl => wX3_isClosed hd hRf hRl hX3_mentions a1 u (hA _ (List.mem_cons_of_mem _ List.mem_cons_self))) p0 e0 s0 m0 meth0 c0 G0
end
/-! RoundCheckModel.leaf(II)I -/
abbrev JX3_leaf : Jm := (cX3_leaf, RX3, 4, (some .int))
def bX3_leaf (call : Nat → List Int → Sg → Option (Int × Sg)) (a1 a2 : Int) (u : Sg) : Option (Int × Sg) := un (gI u 13) fun v1 => cl (call 3 [a2] u) fun v2 s3 => cl (call 5 [a1, v1] s3) fun v4 s5 => some (v4, s5)
section
variable {p : Program} {l : Launch} {e : Env} {R : Room} {s : State} {m : MethodId} {args : Array Value} {below : List Frame} {meth : Method} {c : Code} {G : Gm} {A : Nat → Prop} {ad0 : Nat → Nat} {σ0 : Sg} {d : Nat} {call : Nat → List Int → Sg → Option (Int × Sg)}
theorem wX3_leaf (hd : 2 ≤ d) (hRf : d + 1 ≤ R.frames) (hRl : 40 * (d + 1) ≤ R.locals) (hX3_give : ∀ (a1 : Int) (u : Sg), Ct l d FT clA yX3_give cX3_give 2 none DX3_give rvV [vR 0, vI a1] u (call 3 [a1] u)) (hX3_node : ∀ (a1 a2 : Int) (u : Sg), Ct l d FT clA yX3_node cX3_node 7 (some .int) DX3_node rvI [vR 0, vI a1, vI a2] u (call 5 [a1, a2] u)) (a1 a2 : Int) (u : Sg) (ra1 : inR a1) (ra2 : inR a2) : WG p l e R s m args below meth c JX3_leaf DX3_leaf G clA A FT ad0 σ0 rvI (bX3_leaf call a1 a2 u) u 0 [(0, vR 0), (1, vI a1), (2, vI a2)] [] := by
  unfold bX3_leaf
  refine g_aload_n 0 dX3_leaf_0 rfl ?_
  refine g_getI (ci := 2) (b := 0) (N := 83) 13 rfl rfl rfl (by decide) in_X3 rfl rfl q1145 dX3_leaf_1 (fun v1 rv1 => ?_)
  refine g_istore_n (loc' := [(3, vI v1), (0, vR 0), (1, vI a1), (2, vI a2)]) dX3_leaf_4 (by decide) rfl ?_
  refine g_aload_n 1 dX3_leaf_5 rfl ?_
  refine g_iload_n 3 dX3_leaf_6 rfl ?_
  refine g_cVV (As := [vI a2]) (n := 1) (stk := []) (ci := 2) (b := 0) (N := 83) (hX3_give a2 u) (by decide +kernel) rfl rfl (lw_V q1100 q1102 qs73 q168 q1103) (by decide +kernel) rfl (by decide) hRf hRl (fun _ => (avc ra2 avn)) (Nat.le_of_ble_eq_true rfl) rfl rfl dX3_leaf_7 (fun v2 s3 => ?_)
  refine g_aload_n 1 dX3_leaf_10 rfl ?_
  refine g_iload_n 2 dX3_leaf_11 rfl ?_
  refine g_iload_n 0 dX3_leaf_12 rfl ?_
  refine g_cVI (As := [vI a1, vI v1]) (n := 2) (stk := []) (ci := 2) (b := 0) (N := 83) (hX3_node a1 v1 s3) (by decide +kernel) rfl rfl (lw_V q1108 q1110 qs74 q168 q1111) (by decide +kernel) rfl (by decide) hRf hRl (fun _ => (avc ra1 (avc rv1 avn))) (Nat.le_of_ble_eq_true rfl) rfl rfl dX3_leaf_13 (fun v4 s5 rv4 => ?_)
  exact g_iret rfl rfl (fun _ => rv4) dX3_leaf_16
end
section
variable {l : Launch} {d : Nat} {call : Nat → List Int → Sg → Option (Int × Sg)}
theorem ctX3_leaf (p0 : Program) (e0 : Env) (s0 : State) (m0 : MethodId) (meth0 : Method) (c0 : Code) (G0 : Gm) (hd : 2 ≤ d) (hX3_give : ∀ (a1 : Int) (u : Sg), Ct l d FT clA yX3_give cX3_give 2 none DX3_give rvV [vR 0, vI a1] u (call 3 [a1] u)) (hX3_node : ∀ (a1 a2 : Int) (u : Sg), Ct l d FT clA yX3_node cX3_node 7 (some .int) DX3_node rvI [vR 0, vI a1, vI a2] u (call 5 [a1, a2] u)) (a1 a2 : Int) (u : Sg) : Ct l (d + 1) FT clA yX3_leaf cX3_leaf 4 (some .int) DX3_leaf rvI [vR 0, vI a1, vI a2] u (bX3_leaf call a1 a2 u) :=
  Ct_of (by decide) (Nat.le_of_ble_eq_true rfl) (fun p e R s1 m args below meth c G A ad hA hRf hRl => wX3_leaf hd hRf hRl hX3_give hX3_node a1 a2 u (hA _ (List.mem_cons_of_mem _ List.mem_cons_self)) (hA _ (List.mem_cons_of_mem _ (List.mem_cons_of_mem _ List.mem_cons_self)))) p0 e0 s0 m0 meth0 c0 G0
end
/-! RoundCheckModel.locus(I)I -/
abbrev JX3_locus : Jm := (cX3_locus, RX3, 2, (some .int))
def bX3_locus (call : Nat → List Int → Sg → Option (Int × Sg)) (a1 : Int) (u : Sg) : Option (Int × Sg) := jn (fun (s2 : Sg) => cl (call 17 [1] s2) fun v3 s4 => some (v3, s4)) fun j1 => un (sI u 0 0) fun s5 => if a1 < 0 then (j1 s5) else (if a1 ≤ 1 then (cl (call 27 [2, a1] s5) fun v6 s7 => cl (call 23 [v6] s7) fun v8 s9 => some (v8, s9)) else (j1 s5))
section
variable {p : Program} {l : Launch} {e : Env} {R : Room} {s : State} {m : MethodId} {args : Array Value} {below : List Frame} {meth : Method} {c : Code} {G : Gm} {A : Nat → Prop} {ad0 : Nat → Nat} {σ0 : Sg} {d : Nat} {call : Nat → List Int → Sg → Option (Int × Sg)}
theorem wX3_locus (hd : 2 ≤ d) (hRf : d + 1 ≤ R.frames) (hRl : 40 * (d + 1) ≤ R.locals) (hX3_fails : ∀ (a1 : Int) (u : Sg), Ct l d FT clA yX3_fails cX3_fails 2 (some .int) DX3_fails rvI [vR 0, vI a1] u (call 17 [a1] u)) (hX3_leaf : ∀ (a1 a2 : Int) (u : Sg), Ct l d FT clA yX3_leaf cX3_leaf 4 (some .int) DX3_leaf rvI [vR 0, vI a1, vI a2] u (call 27 [a1, a2] u)) (hX3_gives : ∀ (a1 : Int) (u : Sg), Ct l d FT clA yX3_gives cX3_gives 2 (some .int) DX3_gives rvI [vR 0, vI a1] u (call 23 [a1] u)) (a1 : Int) (u : Sg) (ra1 : inR a1) : WG p l e R s m args below meth c JX3_locus DX3_locus G clA A FT ad0 σ0 rvI (bX3_locus call a1 u) u 0 [(0, vR 0), (1, vI a1)] [] := by
  unfold bX3_locus
  refine g_jn (fun j1 => ∀ (s2 : Sg), WG p l e R s m args below meth c JX3_locus DX3_locus G clA A FT ad0 σ0 rvI (j1 s2) s2 14 [(0, vR 0)] []) (fun s2 => ?_) (fun j1 hj1 => ?_)
  · refine g_aload_n 0 dX3_locus_14 rfl ?_
    refine g_iconst dX3_locus_15 ?_
    refine g_cVI (As := [vI 1]) (n := 1) (stk := []) (ci := 2) (b := 0) (N := 83) (hX3_fails 1 s2) (by decide +kernel) rfl rfl (lw_V q1407 q1409 qs84 q168 q1410) (by decide +kernel) rfl (by decide) hRf hRl (fun _ => (avc (inR_z (Or.inr rfl)) avn)) (Nat.le_of_ble_eq_true rfl) rfl rfl dX3_locus_16 (fun v3 s4 rv3 => ?_)
    exact g_iret rfl rfl (fun _ => rv3) dX3_locus_19
  · refine g_aload_n 0 dX3_locus_0 rfl ?_
    refine g_iconst dX3_locus_1 ?_
    refine g_sIU (ci := 2) (b := 0) (N := 83) FT_ok 0 rfl rfl rfl (by decide) in_X3 tyX3 tyX3_ok nmX3 rfl rfl rfl rfl (by decide +kernel) (inR_z (Or.inl rfl)) q1132 dX3_locus_2 (fun s5 => ?_)
    refine g_iload_n 1 dX3_locus_5 rfl ?_
    refine g_if_lt 14 dX3_locus_6 (by decide) (fun _ => ra1) (fun _ => ?_) (fun _ => ?_)
    · exact g_pick [0] rfl (hj1 s5)
    · refine g_iload_n 1 dX3_locus_9 rfl ?_
      refine g_iconst dX3_locus_10 ?_
      refine g_icmp_le 20 dX3_locus_11 (by decide) (fun _ => ra1) (fun _ => (inR_z (Or.inr rfl))) (fun _ => ?_) (fun _ => ?_)
      · refine g_aload_n 0 dX3_locus_20 rfl ?_
        refine g_aload_n 0 dX3_locus_21 rfl ?_
        refine g_iconst dX3_locus_22 ?_
        refine g_iload_n 1 dX3_locus_23 rfl ?_
        refine g_cVI (As := [vI 2, vI a1]) (n := 2) (stk := [vR 0]) (ci := 2) (b := 0) (N := 83) (hX3_leaf 2 a1 s5) (by decide +kernel) rfl rfl (lw_V q1447 q1449 qs89 q168 q1450) (by decide +kernel) rfl (by decide) hRf hRl (fun _ => (avc (by decide : inR (2)) (avc ra1 avn))) (Nat.le_of_ble_eq_true rfl) rfl rfl dX3_locus_24 (fun v6 s7 rv6 => ?_)
        refine g_cVI (As := [vI v6]) (n := 1) (stk := []) (ci := 2) (b := 0) (N := 83) (hX3_gives v6 s7) (by decide +kernel) rfl rfl (lw_V q1431 q1433 qs86 q168 q1434) (by decide +kernel) rfl (by decide) hRf hRl (fun _ => (avc rv6 avn)) (Nat.le_of_ble_eq_true rfl) rfl rfl dX3_locus_27 (fun v8 s9 rv8 => ?_)
        exact g_iret rfl rfl (fun _ => rv8) dX3_locus_30
      · exact g_pick [0] rfl (hj1 s5)
end
section
variable {l : Launch} {d : Nat} {call : Nat → List Int → Sg → Option (Int × Sg)}
theorem ctX3_locus (p0 : Program) (e0 : Env) (s0 : State) (m0 : MethodId) (meth0 : Method) (c0 : Code) (G0 : Gm) (hd : 2 ≤ d) (hX3_fails : ∀ (a1 : Int) (u : Sg), Ct l d FT clA yX3_fails cX3_fails 2 (some .int) DX3_fails rvI [vR 0, vI a1] u (call 17 [a1] u)) (hX3_leaf : ∀ (a1 a2 : Int) (u : Sg), Ct l d FT clA yX3_leaf cX3_leaf 4 (some .int) DX3_leaf rvI [vR 0, vI a1, vI a2] u (call 27 [a1, a2] u)) (hX3_gives : ∀ (a1 : Int) (u : Sg), Ct l d FT clA yX3_gives cX3_gives 2 (some .int) DX3_gives rvI [vR 0, vI a1] u (call 23 [a1] u)) (a1 : Int) (u : Sg) : Ct l (d + 1) FT clA yX3_locus cX3_locus 2 (some .int) DX3_locus rvI [vR 0, vI a1] u (bX3_locus call a1 u) :=
  Ct_of (by decide) (Nat.le_of_ble_eq_true rfl) (fun p e R s1 m args below meth c G A ad hA hRf hRl => wX3_locus hd hRf hRl hX3_fails hX3_leaf hX3_gives a1 u (hA _ (List.mem_cons_of_mem _ List.mem_cons_self))) p0 e0 s0 m0 meth0 c0 G0
end
/-! RoundCheckModel.apply(III)I -/
abbrev JX3_apply : Jm := (cX3_apply, RX3, 8, (some .int))
def bX3_apply (call : Nat → List Int → Sg → Option (Int × Sg)) (a1 a2 a3 : Int) (u : Sg) : Option (Int × Sg) := jn (fun (s2 : Sg) => cl (call 17 [1] s2) fun v3 s4 => some (v3, s4)) fun j1 => un (sI u 0 0) fun s5 => if a1 < 0 then (j1 s5) else (un (gI s5 22) fun v6 => if a1 < v6 then (jn (fun (s8 : Sg) => cl (call 17 [1] s8) fun v9 s10 => some (v9, s10)) fun j7 => jn (fun (a1 a3 a4 a5 a6 : Int) (s12 : Sg) => jn (fun (s14 : Sg) => cl (call 17 [1] s14) fun v15 s16 => some (v15, s16)) fun j13 => jn (fun (a1 a4 a5 a6 : Int) (s18 : Sg) => jn (fun (a5 a6 a7 : Int) (s20 : Sg) => jn (fun (a7 : Int) (s22 : Sg) => cl (call 5 [4, a7] s22) fun v23 s24 => cl (call 23 [v23] s24) fun v25 s26 => some (v25, s26)) fun j21 => if a6 ≤ 1 then (j21 a7 s20) else (cl (call 3 [a5] s20) fun v27 s28 => j21 a7 s28)) fun j19 => un (gI s18 13) fun v29 => cl (call 3 [a1] s18) fun v30 s31 => if a6 ≤ 0 then (j19 a5 a6 v29 s31) else (cl (call 3 [a4] s31) fun v32 s33 => j19 a5 a6 v29 s33)) fun j17 => if a6 ≤ 1 then (if a3 = (-1) then (j17 a1 a4 a5 a6 s12) else (j13 s12)) else (if a5 = 0 then (j13 s12) else (j17 a1 a4 a5 a6 s12))) fun j11 => cl (call 12 [a2, 0] s5) fun v34 s35 => cl (call 12 [a3, 0] s35) fun v36 s37 => ld s37 20 a1 fun v38 => if v38 ≤ 0 then (if a2 = (-1) then (j11 a1 a3 v34 v36 v38 s37) else (j7 s37)) else (if v34 = 0 then (j7 s37) else (j11 a1 a3 v34 v36 v38 s37))) else (j1 s5))
section
variable {p : Program} {l : Launch} {e : Env} {R : Room} {s : State} {m : MethodId} {args : Array Value} {below : List Frame} {meth : Method} {c : Code} {G : Gm} {A : Nat → Prop} {ad0 : Nat → Nat} {σ0 : Sg} {d : Nat} {call : Nat → List Int → Sg → Option (Int × Sg)}
theorem wX3_apply (hd : 2 ≤ d) (hRf : d + 1 ≤ R.frames) (hRl : 40 * (d + 1) ≤ R.locals) (hX3_fails : ∀ (a1 : Int) (u : Sg), Ct l d FT clA yX3_fails cX3_fails 2 (some .int) DX3_fails rvI [vR 0, vI a1] u (call 17 [a1] u)) (hX3_node : ∀ (a1 a2 : Int) (u : Sg), Ct l d FT clA yX3_node cX3_node 7 (some .int) DX3_node rvI [vR 0, vI a1, vI a2] u (call 5 [a1, a2] u)) (hX3_gives : ∀ (a1 : Int) (u : Sg), Ct l d FT clA yX3_gives cX3_gives 2 (some .int) DX3_gives rvI [vR 0, vI a1] u (call 23 [a1] u)) (hX3_give : ∀ (a1 : Int) (u : Sg), Ct l d FT clA yX3_give cX3_give 2 none DX3_give rvV [vR 0, vI a1] u (call 3 [a1] u)) (hX3_form : ∀ (a1 a2 : Int) (u : Sg), Ct l d FT clA yX3_form cX3_form 3 (some .int) DX3_form rvI [vR 0, vI a1, vI a2] u (call 12 [a1, a2] u)) (a1 a2 a3 : Int) (u : Sg) (ra1 : inR a1) (ra2 : inR a2) (ra3 : inR a3) : WG p l e R s m args below meth c JX3_apply DX3_apply G clA A FT ad0 σ0 rvI (bX3_apply call a1 a2 a3 u) u 0 [(0, vR 0), (1, vI a1), (2, vI a2), (3, vI a3)] [] := by
  unfold bX3_apply
  refine g_jn (fun j1 => ∀ (s2 : Sg), WG p l e R s m args below meth c JX3_apply DX3_apply G clA A FT ad0 σ0 rvI (j1 s2) s2 17 [(0, vR 0)] []) (fun s2 => ?_) (fun j1 hj1 => ?_)
  · refine g_aload_n 0 dX3_apply_17 rfl ?_
    refine g_iconst dX3_apply_18 ?_
    refine g_cVI (As := [vI 1]) (n := 1) (stk := []) (ci := 2) (b := 0) (N := 83) (hX3_fails 1 s2) (by decide +kernel) rfl rfl (lw_V q1407 q1409 qs84 q168 q1410) (by decide +kernel) rfl (by decide) hRf hRl (fun _ => (avc (inR_z (Or.inr rfl)) avn)) (Nat.le_of_ble_eq_true rfl) rfl rfl dX3_apply_19 (fun v3 s4 rv3 => ?_)
    exact g_iret rfl rfl (fun _ => rv3) dX3_apply_22
  · refine g_aload_n 0 dX3_apply_0 rfl ?_
    refine g_iconst dX3_apply_1 ?_
    refine g_sIU (ci := 2) (b := 0) (N := 83) FT_ok 0 rfl rfl rfl (by decide) in_X3 tyX3 tyX3_ok nmX3 rfl rfl rfl rfl (by decide +kernel) (inR_z (Or.inl rfl)) q1132 dX3_apply_2 (fun s5 => ?_)
    refine g_iload_n 1 dX3_apply_5 rfl ?_
    refine g_if_lt 17 dX3_apply_6 (by decide) (fun _ => ra1) (fun _ => ?_) (fun _ => ?_)
    · exact g_pick [0] rfl (hj1 s5)
    · refine g_iload_n 1 dX3_apply_9 rfl ?_
      refine g_aload_n 0 dX3_apply_10 rfl ?_
      refine g_getI (ci := 2) (b := 0) (N := 83) 22 rfl rfl rfl (by decide) in_X3 rfl rfl q1154 dX3_apply_11 (fun v6 rv6 => ?_)
      refine g_icmp_lt 23 dX3_apply_14 (by decide) (fun _ => ra1) (fun _ => rv6) (fun _ => ?_) (fun _ => ?_)
      · refine g_jn (fun j7 => ∀ (s8 : Sg), WG p l e R s m args below meth c JX3_apply DX3_apply G clA A FT ad0 σ0 rvI (j7 s8) s8 65 [(0, vR 0)] []) (fun s8 => ?_) (fun j7 hj7 => ?_)
        · refine g_aload_n 0 dX3_apply_65 rfl ?_
          refine g_iconst dX3_apply_66 ?_
          refine g_cVI (As := [vI 1]) (n := 1) (stk := []) (ci := 2) (b := 0) (N := 83) (hX3_fails 1 s8) (by decide +kernel) rfl rfl (lw_V q1407 q1409 qs84 q168 q1410) (by decide +kernel) rfl (by decide) hRf hRl (fun _ => (avc (inR_z (Or.inr rfl)) avn)) (Nat.le_of_ble_eq_true rfl) rfl rfl dX3_apply_67 (fun v9 s10 rv9 => ?_)
          exact g_iret rfl rfl (fun _ => rv9) dX3_apply_70
        · refine g_jn (fun j11 => ∀ (a1 a3 a4 a5 a6 : Int) (s12 : Sg), inR a1 → inR a3 → inR a4 → inR a5 → inR a6 → WG p l e R s m args below meth c JX3_apply DX3_apply G clA A FT ad0 σ0 rvI (j11 a1 a3 a4 a5 a6 s12) s12 71 [(0, vR 0), (1, vI a1), (3, vI a3), (4, vI a4), (5, vI a5), (6, vI a6)] []) (fun a1 a3 a4 a5 a6 s12 ra1 ra3 ra4 ra5 ra6 => ?_) (fun j11 hj11 => ?_)
          · refine g_jn (fun j13 => ∀ (s14 : Sg), WG p l e R s m args below meth c JX3_apply DX3_apply G clA A FT ad0 σ0 rvI (j13 s14) s14 90 [(0, vR 0)] []) (fun s14 => ?_) (fun j13 hj13 => ?_)
            · refine g_aload_n 0 dX3_apply_90 rfl ?_
              refine g_iconst dX3_apply_91 ?_
              refine g_cVI (As := [vI 1]) (n := 1) (stk := []) (ci := 2) (b := 0) (N := 83) (hX3_fails 1 s14) (by decide +kernel) rfl rfl (lw_V q1407 q1409 qs84 q168 q1410) (by decide +kernel) rfl (by decide) hRf hRl (fun _ => (avc (inR_z (Or.inr rfl)) avn)) (Nat.le_of_ble_eq_true rfl) rfl rfl dX3_apply_92 (fun v15 s16 rv15 => ?_)
              exact g_iret rfl rfl (fun _ => rv15) dX3_apply_95
            · refine g_jn (fun j17 => ∀ (a1 a4 a5 a6 : Int) (s18 : Sg), inR a1 → inR a4 → inR a5 → inR a6 → WG p l e R s m args below meth c JX3_apply DX3_apply G clA A FT ad0 σ0 rvI (j17 a1 a4 a5 a6 s18) s18 96 [(0, vR 0), (1, vI a1), (4, vI a4), (5, vI a5), (6, vI a6)] []) (fun a1 a4 a5 a6 s18 ra1 ra4 ra5 ra6 => ?_) (fun j17 hj17 => ?_)
              · refine g_jn (fun j19 => ∀ (a5 a6 a7 : Int) (s20 : Sg), inR a5 → inR a6 → inR a7 → WG p l e R s m args below meth c JX3_apply DX3_apply G clA A FT ad0 σ0 rvI (j19 a5 a6 a7 s20) s20 118 [(0, vR 0), (5, vI a5), (6, vI a6), (7, vI a7)] []) (fun a5 a6 a7 s20 ra5 ra6 ra7 => ?_) (fun j19 hj19 => ?_)
                · refine g_jn (fun j21 => ∀ (a7 : Int) (s22 : Sg), inR a7 → WG p l e R s m args below meth c JX3_apply DX3_apply G clA A FT ad0 σ0 rvI (j21 a7 s22) s22 130 [(0, vR 0), (7, vI a7)] []) (fun a7 s22 ra7 => ?_) (fun j21 hj21 => ?_)
                  · refine g_aload_n 0 dX3_apply_130 rfl ?_
                    refine g_aload_n 0 dX3_apply_131 rfl ?_
                    refine g_iconst dX3_apply_132 ?_
                    refine g_iload 1 dX3_apply_133 rfl ?_
                    refine g_cVI (As := [vI 4, vI a7]) (n := 2) (stk := [vR 0]) (ci := 2) (b := 0) (N := 83) (hX3_node 4 a7 s22) (by decide +kernel) rfl rfl (lw_V q1108 q1110 qs74 q168 q1111) (by decide +kernel) rfl (by decide) hRf hRl (fun _ => (avc (by decide : inR (4)) (avc ra7 avn))) (Nat.le_of_ble_eq_true rfl) rfl rfl dX3_apply_135 (fun v23 s24 rv23 => ?_)
                    refine g_cVI (As := [vI v23]) (n := 1) (stk := []) (ci := 2) (b := 0) (N := 83) (hX3_gives v23 s24) (by decide +kernel) rfl rfl (lw_V q1431 q1433 qs86 q168 q1434) (by decide +kernel) rfl (by decide) hRf hRl (fun _ => (avc rv23 avn)) (Nat.le_of_ble_eq_true rfl) rfl rfl dX3_apply_138 (fun v25 s26 rv25 => ?_)
                    exact g_iret rfl rfl (fun _ => rv25) dX3_apply_141
                  · refine g_iload 2 dX3_apply_118 rfl ?_
                    refine g_iconst dX3_apply_120 ?_
                    refine g_icmp_le 130 dX3_apply_121 (by decide) (fun _ => ra6) (fun _ => (inR_z (Or.inr rfl))) (fun _ => ?_) (fun _ => ?_)
                    · exact g_pick [0, 3] rfl (hj21 a7 s20 ra7)
                    · refine g_aload_n 0 dX3_apply_124 rfl ?_
                      refine g_iload 1 dX3_apply_125 rfl ?_
                      refine g_cVV (As := [vI a5]) (n := 1) (stk := []) (ci := 2) (b := 0) (N := 83) (hX3_give a5 s20) (by decide +kernel) rfl rfl (lw_V q1100 q1102 qs73 q168 q1103) (by decide +kernel) rfl (by decide) hRf hRl (fun _ => (avc ra5 avn)) (Nat.le_of_ble_eq_true rfl) rfl rfl dX3_apply_127 (fun v27 s28 => ?_)
                      exact g_pick [0, 3] rfl (hj21 a7 s28 ra7)
                · refine g_aload_n 0 dX3_apply_96 rfl ?_
                  refine g_getI (ci := 2) (b := 0) (N := 83) 13 rfl rfl rfl (by decide) in_X3 rfl rfl q1145 dX3_apply_97 (fun v29 rv29 => ?_)
                  refine g_istore (loc' := [(7, vI v29), (0, vR 0), (1, vI a1), (4, vI a4), (5, vI a5), (6, vI a6)]) dX3_apply_100 (by decide) rfl ?_
                  refine g_aload_n 1 dX3_apply_102 rfl ?_
                  refine g_iload_n 2 dX3_apply_103 rfl ?_
                  refine g_cVV (As := [vI a1]) (n := 1) (stk := []) (ci := 2) (b := 0) (N := 83) (hX3_give a1 s18) (by decide +kernel) rfl rfl (lw_V q1100 q1102 qs73 q168 q1103) (by decide +kernel) rfl (by decide) hRf hRl (fun _ => (avc ra1 avn)) (Nat.le_of_ble_eq_true rfl) rfl rfl dX3_apply_104 (fun v30 s31 => ?_)
                  refine g_iload 5 dX3_apply_107 rfl ?_
                  refine g_if_le 118 dX3_apply_109 (by decide) (fun _ => ra6) (fun _ => ?_) (fun _ => ?_)
                  · exact g_pick [1, 4, 5, 0] rfl (hj19 a5 a6 v29 s31 ra5 ra6 rv29)
                  · refine g_aload_n 1 dX3_apply_112 rfl ?_
                    refine g_iload 3 dX3_apply_113 rfl ?_
                    refine g_cVV (As := [vI a4]) (n := 1) (stk := []) (ci := 2) (b := 0) (N := 83) (hX3_give a4 s31) (by decide +kernel) rfl rfl (lw_V q1100 q1102 qs73 q168 q1103) (by decide +kernel) rfl (by decide) hRf hRl (fun _ => (avc ra4 avn)) (Nat.le_of_ble_eq_true rfl) rfl rfl dX3_apply_115 (fun v32 s33 => ?_)
                    exact g_pick [1, 4, 5, 0] rfl (hj19 a5 a6 v29 s33 ra5 ra6 rv29)
              · refine g_iload 5 dX3_apply_71 rfl ?_
                refine g_iconst dX3_apply_73 ?_
                refine g_icmp_le 85 dX3_apply_74 (by decide) (fun _ => ra6) (fun _ => (inR_z (Or.inr rfl))) (fun _ => ?_) (fun _ => ?_)
                · refine g_iload_n 2 dX3_apply_85 rfl ?_
                  refine g_iconst dX3_apply_86 ?_
                  refine g_icmp_eq 96 dX3_apply_87 (by decide) (fun _ => ra3) (fun _ => (by decide : inR (-1))) (fun _ => ?_) (fun _ => ?_)
                  · exact g_pick [0, 1, 3, 4, 5] rfl (hj17 a1 a4 a5 a6 s12 ra1 ra4 ra5 ra6)
                  · exact g_pick [0] rfl (hj13 s12)
                · refine g_iload 4 dX3_apply_77 rfl ?_
                  refine g_if_ne 96 dX3_apply_79 (by decide) (fun _ => ra5) (fun _ => ?_) (fun _ => ?_)
                  · refine g_goto 90 dX3_apply_82 (by decide) ?_
                    exact g_pick [0] rfl (hj13 s12)
                  · exact g_pick [0, 1, 3, 4, 5] rfl (hj17 a1 a4 a5 a6 s12 ra1 ra4 ra5 ra6)
          · refine g_aload_n 0 dX3_apply_23 rfl ?_
            refine g_iload_n 2 dX3_apply_24 rfl ?_
            refine g_iconst dX3_apply_25 ?_
            refine g_cVI (As := [vI a2, vI 0]) (n := 2) (stk := []) (ci := 2) (b := 0) (N := 83) (hX3_form a2 0 s5) (by decide +kernel) rfl rfl (lw_V q1387 q1389 qs79 q168 q1390) (by decide +kernel) rfl (by decide) hRf hRl (fun _ => (avc ra2 (avc (inR_z (Or.inl rfl)) avn))) (Nat.le_of_ble_eq_true rfl) rfl rfl dX3_apply_26 (fun v34 s35 rv34 => ?_)
            refine g_istore (loc' := [(4, vI v34), (0, vR 0), (1, vI a1), (2, vI a2), (3, vI a3)]) dX3_apply_29 (by decide) rfl ?_
            refine g_aload_n 1 dX3_apply_31 rfl ?_
            refine g_iload_n 4 dX3_apply_32 rfl ?_
            refine g_iconst dX3_apply_33 ?_
            refine g_cVI (As := [vI a3, vI 0]) (n := 2) (stk := []) (ci := 2) (b := 0) (N := 83) (hX3_form a3 0 s35) (by decide +kernel) rfl rfl (lw_V q1387 q1389 qs79 q168 q1390) (by decide +kernel) rfl (by decide) hRf hRl (fun _ => (avc ra3 (avc (inR_z (Or.inl rfl)) avn))) (Nat.le_of_ble_eq_true rfl) rfl rfl dX3_apply_34 (fun v36 s37 rv36 => ?_)
            refine g_istore (loc' := [(5, vI v36), (4, vI v34), (0, vR 0), (1, vI a1), (2, vI a2), (3, vI a3)]) dX3_apply_37 (by decide) rfl ?_
            refine g_aload_n 2 dX3_apply_39 rfl ?_
            refine g_get (v := vR 30) (ci := 2) (b := 0) (N := 83) 20 rfl rfl (by decide) in_X3 rfl rfl q1152 dX3_apply_40 ?_
            refine g_iload_n 3 dX3_apply_43 rfl ?_
            refine g_iald (id := 20) 14 rfl rfl dX3_apply_44 (fun v38 rv38 => ?_)
            refine g_istore (loc' := [(6, vI v38), (5, vI v36), (4, vI v34), (0, vR 0), (1, vI a1), (2, vI a2), (3, vI a3)]) dX3_apply_45 (by decide) rfl ?_
            refine g_iload 0 dX3_apply_47 rfl ?_
            refine g_if_le 60 dX3_apply_49 (by decide) (fun _ => rv38) (fun _ => ?_) (fun _ => ?_)
            · refine g_iload_n 5 dX3_apply_60 rfl ?_
              refine g_iconst dX3_apply_61 ?_
              refine g_icmp_eq 71 dX3_apply_62 (by decide) (fun _ => ra2) (fun _ => (by decide : inR (-1))) (fun _ => ?_) (fun _ => ?_)
              · exact g_pick [3, 4, 6, 2, 1, 0] rfl (hj11 a1 a3 v34 v36 v38 s37 ra1 ra3 rv34 rv36 rv38)
              · exact g_pick [3] rfl (hj7 s37)
            · refine g_iload 2 dX3_apply_52 rfl ?_
              refine g_if_ne 71 dX3_apply_54 (by decide) (fun _ => rv34) (fun _ => ?_) (fun _ => ?_)
              · refine g_goto 65 dX3_apply_57 (by decide) ?_
                exact g_pick [3] rfl (hj7 s37)
              · exact g_pick [3, 4, 6, 2, 1, 0] rfl (hj11 a1 a3 v34 v36 v38 s37 ra1 ra3 rv34 rv36 rv38)
      · exact g_pick [0] rfl (hj1 s5)
end
section
variable {l : Launch} {d : Nat} {call : Nat → List Int → Sg → Option (Int × Sg)}
theorem ctX3_apply (p0 : Program) (e0 : Env) (s0 : State) (m0 : MethodId) (meth0 : Method) (c0 : Code) (G0 : Gm) (hd : 2 ≤ d) (hX3_fails : ∀ (a1 : Int) (u : Sg), Ct l d FT clA yX3_fails cX3_fails 2 (some .int) DX3_fails rvI [vR 0, vI a1] u (call 17 [a1] u)) (hX3_node : ∀ (a1 a2 : Int) (u : Sg), Ct l d FT clA yX3_node cX3_node 7 (some .int) DX3_node rvI [vR 0, vI a1, vI a2] u (call 5 [a1, a2] u)) (hX3_gives : ∀ (a1 : Int) (u : Sg), Ct l d FT clA yX3_gives cX3_gives 2 (some .int) DX3_gives rvI [vR 0, vI a1] u (call 23 [a1] u)) (hX3_give : ∀ (a1 : Int) (u : Sg), Ct l d FT clA yX3_give cX3_give 2 none DX3_give rvV [vR 0, vI a1] u (call 3 [a1] u)) (hX3_form : ∀ (a1 a2 : Int) (u : Sg), Ct l d FT clA yX3_form cX3_form 3 (some .int) DX3_form rvI [vR 0, vI a1, vI a2] u (call 12 [a1, a2] u)) (a1 a2 a3 : Int) (u : Sg) : Ct l (d + 1) FT clA yX3_apply cX3_apply 8 (some .int) DX3_apply rvI [vR 0, vI a1, vI a2, vI a3] u (bX3_apply call a1 a2 a3 u) :=
  Ct_of (by decide) (Nat.le_of_ble_eq_true rfl) (fun p e R s1 m args below meth c G A ad hA hRf hRl => wX3_apply hd hRf hRl hX3_fails hX3_node hX3_gives hX3_give hX3_form a1 a2 a3 u (hA _ (List.mem_cons_of_mem _ List.mem_cons_self)) (hA _ (List.mem_cons_of_mem _ (List.mem_cons_of_mem _ List.mem_cons_self))) (hA _ (List.mem_cons_of_mem _ (List.mem_cons_of_mem _ (List.mem_cons_of_mem _ List.mem_cons_self))))) p0 e0 s0 m0 meth0 c0 G0
end
/-! RoundCheckModel.the(I)I -/
abbrev JX3_the : Jm := (cX3_the, RX3, 3, (some .int))
def bX3_the (call : Nat → List Int → Sg → Option (Int × Sg)) (a1 : Int) (u : Sg) : Option (Int × Sg) := un (sI u 0 0) fun s1 => cl (call 12 [a1, 1] s1) fun v2 s3 => if v2 = 0 then (cl (call 17 [1] s3) fun v4 s5 => some (v4, s5)) else (cl (call 27 [5, v2] s3) fun v6 s7 => cl (call 23 [v6] s7) fun v8 s9 => some (v8, s9))
section
variable {p : Program} {l : Launch} {e : Env} {R : Room} {s : State} {m : MethodId} {args : Array Value} {below : List Frame} {meth : Method} {c : Code} {G : Gm} {A : Nat → Prop} {ad0 : Nat → Nat} {σ0 : Sg} {d : Nat} {call : Nat → List Int → Sg → Option (Int × Sg)}
theorem wX3_the (hd : 2 ≤ d) (hRf : d + 1 ≤ R.frames) (hRl : 40 * (d + 1) ≤ R.locals) (hX3_form : ∀ (a1 a2 : Int) (u : Sg), Ct l d FT clA yX3_form cX3_form 3 (some .int) DX3_form rvI [vR 0, vI a1, vI a2] u (call 12 [a1, a2] u)) (hX3_fails : ∀ (a1 : Int) (u : Sg), Ct l d FT clA yX3_fails cX3_fails 2 (some .int) DX3_fails rvI [vR 0, vI a1] u (call 17 [a1] u)) (hX3_leaf : ∀ (a1 a2 : Int) (u : Sg), Ct l d FT clA yX3_leaf cX3_leaf 4 (some .int) DX3_leaf rvI [vR 0, vI a1, vI a2] u (call 27 [a1, a2] u)) (hX3_gives : ∀ (a1 : Int) (u : Sg), Ct l d FT clA yX3_gives cX3_gives 2 (some .int) DX3_gives rvI [vR 0, vI a1] u (call 23 [a1] u)) (a1 : Int) (u : Sg) (ra1 : inR a1) : WG p l e R s m args below meth c JX3_the DX3_the G clA A FT ad0 σ0 rvI (bX3_the call a1 u) u 0 [(0, vR 0), (1, vI a1)] [] := by
  unfold bX3_the
  refine g_aload_n 0 dX3_the_0 rfl ?_
  refine g_iconst dX3_the_1 ?_
  refine g_sIU (ci := 2) (b := 0) (N := 83) FT_ok 0 rfl rfl rfl (by decide) in_X3 tyX3 tyX3_ok nmX3 rfl rfl rfl rfl (by decide +kernel) (inR_z (Or.inl rfl)) q1132 dX3_the_2 (fun s1 => ?_)
  refine g_aload_n 0 dX3_the_5 rfl ?_
  refine g_iload_n 1 dX3_the_6 rfl ?_
  refine g_iconst dX3_the_7 ?_
  refine g_cVI (As := [vI a1, vI 1]) (n := 2) (stk := []) (ci := 2) (b := 0) (N := 83) (hX3_form a1 1 s1) (by decide +kernel) rfl rfl (lw_V q1387 q1389 qs79 q168 q1390) (by decide +kernel) rfl (by decide) hRf hRl (fun _ => (avc ra1 (avc (inR_z (Or.inr rfl)) avn))) (Nat.le_of_ble_eq_true rfl) rfl rfl dX3_the_8 (fun v2 s3 rv2 => ?_)
  refine g_istore_n (loc' := [(2, vI v2), (0, vR 0), (1, vI a1)]) dX3_the_11 (by decide) rfl ?_
  refine g_iload_n 0 dX3_the_12 rfl ?_
  refine g_if_ne 24 dX3_the_13 (by decide) (fun _ => rv2) (fun _ => ?_) (fun _ => ?_)
  · refine g_aload_n 1 dX3_the_16 rfl ?_
    refine g_iconst dX3_the_17 ?_
    refine g_cVI (As := [vI 1]) (n := 1) (stk := []) (ci := 2) (b := 0) (N := 83) (hX3_fails 1 s3) (by decide +kernel) rfl rfl (lw_V q1407 q1409 qs84 q168 q1410) (by decide +kernel) rfl (by decide) hRf hRl (fun _ => (avc (inR_z (Or.inr rfl)) avn)) (Nat.le_of_ble_eq_true rfl) rfl rfl dX3_the_18 (fun v4 s5 rv4 => ?_)
    refine g_goto 34 dX3_the_21 (by decide) ?_
    exact g_iret rfl rfl (fun _ => rv4) dX3_the_34
  · refine g_aload_n 1 dX3_the_24 rfl ?_
    refine g_aload_n 1 dX3_the_25 rfl ?_
    refine g_iconst dX3_the_26 ?_
    refine g_iload_n 0 dX3_the_27 rfl ?_
    refine g_cVI (As := [vI 5, vI v2]) (n := 2) (stk := [vR 0]) (ci := 2) (b := 0) (N := 83) (hX3_leaf 5 v2 s3) (by decide +kernel) rfl rfl (lw_V q1447 q1449 qs89 q168 q1450) (by decide +kernel) rfl (by decide) hRf hRl (fun _ => (avc (by decide : inR (5)) (avc rv2 avn))) (Nat.le_of_ble_eq_true rfl) rfl rfl dX3_the_28 (fun v6 s7 rv6 => ?_)
    refine g_cVI (As := [vI v6]) (n := 1) (stk := []) (ci := 2) (b := 0) (N := 83) (hX3_gives v6 s7) (by decide +kernel) rfl rfl (lw_V q1431 q1433 qs86 q168 q1434) (by decide +kernel) rfl (by decide) hRf hRl (fun _ => (avc rv6 avn)) (Nat.le_of_ble_eq_true rfl) rfl rfl dX3_the_31 (fun v8 s9 rv8 => ?_)
    exact g_iret rfl rfl (fun _ => rv8) dX3_the_34
end
section
variable {l : Launch} {d : Nat} {call : Nat → List Int → Sg → Option (Int × Sg)}
theorem ctX3_the (p0 : Program) (e0 : Env) (s0 : State) (m0 : MethodId) (meth0 : Method) (c0 : Code) (G0 : Gm) (hd : 2 ≤ d) (hX3_form : ∀ (a1 a2 : Int) (u : Sg), Ct l d FT clA yX3_form cX3_form 3 (some .int) DX3_form rvI [vR 0, vI a1, vI a2] u (call 12 [a1, a2] u)) (hX3_fails : ∀ (a1 : Int) (u : Sg), Ct l d FT clA yX3_fails cX3_fails 2 (some .int) DX3_fails rvI [vR 0, vI a1] u (call 17 [a1] u)) (hX3_leaf : ∀ (a1 a2 : Int) (u : Sg), Ct l d FT clA yX3_leaf cX3_leaf 4 (some .int) DX3_leaf rvI [vR 0, vI a1, vI a2] u (call 27 [a1, a2] u)) (hX3_gives : ∀ (a1 : Int) (u : Sg), Ct l d FT clA yX3_gives cX3_gives 2 (some .int) DX3_gives rvI [vR 0, vI a1] u (call 23 [a1] u)) (a1 : Int) (u : Sg) : Ct l (d + 1) FT clA yX3_the cX3_the 3 (some .int) DX3_the rvI [vR 0, vI a1] u (bX3_the call a1 u) :=
  Ct_of (by decide) (Nat.le_of_ble_eq_true rfl) (fun p e R s1 m args below meth c G A ad hA hRf hRl => wX3_the hd hRf hRl hX3_form hX3_fails hX3_leaf hX3_gives a1 u (hA _ (List.mem_cons_of_mem _ List.mem_cons_self))) p0 e0 s0 m0 meth0 c0 G0
end
/-! RoundCheckModel.atom(IIII)I -/
abbrev JX3_atom : Jm := (cX3_atom, RX3, 9, (some .int))
def bX3_atom (call : Nat → List Int → Sg → Option (Int × Sg)) (a1 a2 a3 a4 : Int) (u : Sg) : Option (Int × Sg) := un (sI u 0 0) fun s1 => cl (call 25 [a3, 0] s1) fun v2 s3 => cl (call 25 [a4, 0] s3) fun v4 s5 => if a1 = 0 then (jn (fun (s7 : Sg) => cl (call 17 [1] s7) fun v8 s9 => some (v8, s9)) fun j6 => if v2 = 0 then (j6 s5) else (if v4 = 0 then (j6 s5) else (jn (fun (a5 a6 t2 : Int) (s11 : Sg) => cl (call 32 [t2, a5, a6] s11) fun v12 s13 => cl (call 23 [v12] s13) fun v14 s15 => some (v14, s15)) fun j10 => if a1 = 0 then (j10 v2 v4 9 s5) else (j10 v2 v4 10 s5)))) else (if a1 = 1 then (jn (fun (s17 : Sg) => cl (call 17 [1] s17) fun v18 s19 => some (v18, s19)) fun j16 => if v2 = 0 then (j16 s5) else (if v4 = 0 then (j16 s5) else (jn (fun (a5 a6 t2 : Int) (s21 : Sg) => cl (call 32 [t2, a5, a6] s21) fun v22 s23 => cl (call 23 [v22] s23) fun v24 s25 => some (v24, s25)) fun j20 => if a1 = 0 then (j20 v2 v4 9 s5) else (j20 v2 v4 10 s5)))) else (if a1 = 2 then (jn (fun (s27 : Sg) => cl (call 17 [1] s27) fun v28 s29 => some (v28, s29)) fun j26 => if a2 < 0 then (j26 s5) else (un (gI s5 24) fun v30 => if a2 < v30 then (jn (fun (s32 : Sg) => cl (call 17 [1] s32) fun v33 s34 => some (v33, s34)) fun j31 => jn (fun (a2 a4 a5 a6 a7 : Int) (s36 : Sg) => jn (fun (s38 : Sg) => cl (call 17 [1] s38) fun v39 s40 => some (v39, s40)) fun j37 => jn (fun (a2 a5 a6 a7 : Int) (s42 : Sg) => jn (fun (a6 a7 a8 : Int) (s44 : Sg) => jn (fun (a8 : Int) (s46 : Sg) => cl (call 5 [11, a8] s46) fun v47 s48 => cl (call 23 [v47] s48) fun v49 s50 => some (v49, s50)) fun j45 => if a7 ≤ 1 then (j45 a8 s44) else (cl (call 3 [a6] s44) fun v51 s52 => j45 a8 s52)) fun j43 => un (gI s42 13) fun v53 => cl (call 3 [a2] s42) fun v54 s55 => if a7 ≤ 0 then (j43 a6 a7 v53 s55) else (cl (call 3 [a5] s55) fun v56 s57 => j43 a6 a7 v53 s57)) fun j41 => if a7 ≤ 1 then (if a4 = (-1) then (j41 a2 a5 a6 a7 s36) else (j37 s36)) else (if a6 = 0 then (j37 s36) else (j41 a2 a5 a6 a7 s36))) fun j35 => ld s5 23 a2 fun v58 => if v58 ≤ 0 then (if a3 = (-1) then (j35 a2 a4 v2 v4 v58 s5) else (j31 s5)) else (if v2 = 0 then (j31 s5) else (j35 a2 a4 v2 v4 v58 s5))) else (j26 s5))) else (if a1 = 3 then (jn (fun (s60 : Sg) => cl (call 17 [1] s60) fun v61 s62 => some (v61, s62)) fun j59 => if a2 < 0 then (j59 s5) else (un (gI s5 28) fun v63 => if a2 < v63 then (if v2 = 0 then (j59 s5) else (if a4 = (-1) then (cl (call 32 [12, a2, v2] s5) fun v64 s65 => cl (call 23 [v64] s65) fun v66 s67 => some (v66, s67)) else (j59 s5))) else (j59 s5))) else (if a1 = 4 then (jn (fun (s69 : Sg) => cl (call 17 [1] s69) fun v70 s71 => some (v70, s71)) fun j68 => if a2 < 0 then (j68 s5) else (un (gI s5 27) fun v72 => if a2 < v72 then (if v2 = 0 then (j68 s5) else (jn (fun (a2 a5 a6 : Int) (s74 : Sg) => jn (fun (a5 t2 t3 : Int) (s76 : Sg) => cl (call 33 [t2, t3, a5] s76) fun v77 s78 => cl (call 23 [v77] s78) fun v79 s80 => some (v79, s80)) fun j75 => ld s74 26 a2 fun v81 => if v81 = 0 then (j75 a5 a2 0 s74) else (j75 a5 a2 a6 s74)) fun j73 => ld s5 26 a2 fun v82 => if v82 = 0 then (if a4 = (-1) then (j73 a2 v2 v4 s5) else (j68 s5)) else (if v4 = 0 then (j68 s5) else (j73 a2 v2 v4 s5)))) else (j68 s5))) else (cl (call 17 [1] s5) fun v83 s84 => some (v83, s84))))))
section
variable {p : Program} {l : Launch} {e : Env} {R : Room} {s : State} {m : MethodId} {args : Array Value} {below : List Frame} {meth : Method} {c : Code} {G : Gm} {A : Nat → Prop} {ad0 : Nat → Nat} {σ0 : Sg} {d : Nat} {call : Nat → List Int → Sg → Option (Int × Sg)}
theorem wX3_atom (hd : 2 ≤ d) (hRf : d + 1 ≤ R.frames) (hRl : 40 * (d + 1) ≤ R.locals) (hX3_closed : ∀ (a1 a2 : Int) (u : Sg), Ct l d FT clA yX3_closed cX3_closed 4 (some .int) DX3_closed rvI [vR 0, vI a1, vI a2] u (call 25 [a1, a2] u)) (hX3_fails : ∀ (a1 : Int) (u : Sg), Ct l d FT clA yX3_fails cX3_fails 2 (some .int) DX3_fails rvI [vR 0, vI a1] u (call 17 [a1] u)) (hX3_two : ∀ (a1 a2 a3 : Int) (u : Sg), Ct l d FT clA yX3_two cX3_two 5 (some .int) DX3_two rvI [vR 0, vI a1, vI a2, vI a3] u (call 32 [a1, a2, a3] u)) (hX3_gives : ∀ (a1 : Int) (u : Sg), Ct l d FT clA yX3_gives cX3_gives 2 (some .int) DX3_gives rvI [vR 0, vI a1] u (call 23 [a1] u)) (hX3_node : ∀ (a1 a2 : Int) (u : Sg), Ct l d FT clA yX3_node cX3_node 7 (some .int) DX3_node rvI [vR 0, vI a1, vI a2] u (call 5 [a1, a2] u)) (hX3_give : ∀ (a1 : Int) (u : Sg), Ct l d FT clA yX3_give cX3_give 2 none DX3_give rvV [vR 0, vI a1] u (call 3 [a1] u)) (hX3_modeOf : ∀ (a1 a2 a3 : Int) (u : Sg), Ct l d FT clA yX3_modeOf cX3_modeOf 5 (some .int) DX3_modeOf rvI [vR 0, vI a1, vI a2, vI a3] u (call 33 [a1, a2, a3] u)) (a1 a2 a3 a4 : Int) (u : Sg) (ra1 : inR a1) (ra2 : inR a2) (ra3 : inR a3) (ra4 : inR a4) : WG p l e R s m args below meth c JX3_atom DX3_atom G clA A FT ad0 σ0 rvI (bX3_atom call a1 a2 a3 a4 u) u 0 [(0, vR 0), (1, vI a1), (2, vI a2), (3, vI a3), (4, vI a4)] [] := by
  unfold bX3_atom
  refine g_aload_n 0 dX3_atom_0 rfl ?_
  refine g_iconst dX3_atom_1 ?_
  refine g_sIU (ci := 2) (b := 0) (N := 83) FT_ok 0 rfl rfl rfl (by decide) in_X3 tyX3 tyX3_ok nmX3 rfl rfl rfl rfl (by decide +kernel) (inR_z (Or.inl rfl)) q1132 dX3_atom_2 (fun s1 => ?_)
  refine g_aload_n 0 dX3_atom_5 rfl ?_
  refine g_iload_n 3 dX3_atom_6 rfl ?_
  refine g_iconst dX3_atom_7 ?_
  refine g_cVI (As := [vI a3, vI 0]) (n := 2) (stk := []) (ci := 2) (b := 0) (N := 83) (hX3_closed a3 0 s1) (by decide +kernel) rfl rfl (lw_V q1439 q1441 qs87 q168 q1442) (by decide +kernel) rfl (by decide) hRf hRl (fun _ => (avc ra3 (avc (inR_z (Or.inl rfl)) avn))) (Nat.le_of_ble_eq_true rfl) rfl rfl dX3_atom_8 (fun v2 s3 rv2 => ?_)
  refine g_istore (loc' := [(5, vI v2), (0, vR 0), (1, vI a1), (2, vI a2), (3, vI a3), (4, vI a4)]) dX3_atom_11 (by decide) rfl ?_
  refine g_aload_n 1 dX3_atom_13 rfl ?_
  refine g_iload 5 dX3_atom_14 rfl ?_
  refine g_iconst dX3_atom_16 ?_
  refine g_cVI (As := [vI a4, vI 0]) (n := 2) (stk := []) (ci := 2) (b := 0) (N := 83) (hX3_closed a4 0 s3) (by decide +kernel) rfl rfl (lw_V q1439 q1441 qs87 q168 q1442) (by decide +kernel) rfl (by decide) hRf hRl (fun _ => (avc ra4 (avc (inR_z (Or.inl rfl)) avn))) (Nat.le_of_ble_eq_true rfl) rfl rfl dX3_atom_17 (fun v4 s5 rv4 => ?_)
  refine g_istore (loc' := [(6, vI v4), (5, vI v2), (0, vR 0), (1, vI a1), (2, vI a2), (3, vI a3), (4, vI a4)]) dX3_atom_20 (by decide) rfl ?_
  refine g_iload_n 3 dX3_atom_22 rfl ?_
  refine WG.byc (fun e0 => ?_) (fun n0 => ?_)
  · refine g_tswIn 56 0 dX3_atom_23 (by decide) rfl (by decide) e0 ?_
    refine g_jn (fun j6 => ∀ (s7 : Sg), WG p l e R s m args below meth c JX3_atom DX3_atom G clA A FT ad0 σ0 rvI (j6 s7) s7 66 [(0, vR 0)] []) (fun s7 => ?_) (fun j6 hj6 => ?_)
    · refine g_aload_n 0 dX3_atom_66 rfl ?_
      refine g_iconst dX3_atom_67 ?_
      refine g_cVI (As := [vI 1]) (n := 1) (stk := []) (ci := 2) (b := 0) (N := 83) (hX3_fails 1 s7) (by decide +kernel) rfl rfl (lw_V q1407 q1409 qs84 q168 q1410) (by decide +kernel) rfl (by decide) hRf hRl (fun _ => (avc (inR_z (Or.inr rfl)) avn)) (Nat.le_of_ble_eq_true rfl) rfl rfl dX3_atom_68 (fun v8 s9 rv8 => ?_)
      refine g_goto 97 dX3_atom_71 (by decide) ?_
      exact g_iret rfl rfl (fun _ => rv8) dX3_atom_97
    · refine g_iload 1 dX3_atom_56 rfl ?_
      refine g_if_eq 66 dX3_atom_58 (by decide) (fun _ => rv2) (fun _ => ?_) (fun _ => ?_)
      · exact g_pick [2] rfl (hj6 s5)
      · refine g_iload 0 dX3_atom_61 rfl ?_
        refine g_if_ne 74 dX3_atom_63 (by decide) (fun _ => rv4) (fun _ => ?_) (fun _ => ?_)
        · exact g_pick [2] rfl (hj6 s5)
        · refine g_jn (fun j10 => ∀ (a5 a6 t2 : Int) (s11 : Sg), inR a5 → inR a6 → inR t2 → WG p l e R s m args below meth c JX3_atom DX3_atom G clA A FT ad0 σ0 rvI (j10 a5 a6 t2 s11) s11 87 [(5, vI a5), (6, vI a6)] [vI t2, vR 0, vR 0]) (fun a5 a6 t2 s11 ra5 ra6 rt2 => ?_) (fun j10 hj10 => ?_)
          · refine g_iload 0 dX3_atom_87 rfl ?_
            refine g_iload 1 dX3_atom_89 rfl ?_
            refine g_cVI (As := [vI t2, vI a5, vI a6]) (n := 3) (stk := [vR 0]) (ci := 2) (b := 0) (N := 83) (hX3_two t2 a5 a6 s11) (by decide +kernel) rfl rfl (lw_V q1467 q1469 qs90 q168 q1470) (by decide +kernel) rfl (by decide) hRf hRl (fun _ => (avc rt2 (avc ra5 (avc ra6 avn)))) (Nat.le_of_ble_eq_true rfl) rfl rfl dX3_atom_91 (fun v12 s13 rv12 => ?_)
            refine g_cVI (As := [vI v12]) (n := 1) (stk := []) (ci := 2) (b := 0) (N := 83) (hX3_gives v12 s13) (by decide +kernel) rfl rfl (lw_V q1431 q1433 qs86 q168 q1434) (by decide +kernel) rfl (by decide) hRf hRl (fun _ => (avc rv12 avn)) (Nat.le_of_ble_eq_true rfl) rfl rfl dX3_atom_94 (fun v14 s15 rv14 => ?_)
            exact g_iret rfl rfl (fun _ => rv14) dX3_atom_97
          · refine g_aload_n 2 dX3_atom_74 rfl ?_
            refine g_aload_n 2 dX3_atom_75 rfl ?_
            refine g_iload_n 3 dX3_atom_76 rfl ?_
            refine g_if_ne 85 dX3_atom_77 (by decide) (fun _ => ra1) (fun _ => ?_) (fun _ => ?_)
            · refine g_bipush (by decide +kernel) dX3_atom_80 ?_
              refine g_goto 87 dX3_atom_82 (by decide) ?_
              exact g_pick [1, 0] rfl (hj10 v2 v4 9 s5 rv2 rv4 (by decide : inR (9)))
            · refine g_bipush (by decide +kernel) dX3_atom_85 ?_
              exact g_pick [1, 0] rfl (hj10 v2 v4 10 s5 rv2 rv4 (by decide : inR (10)))
  · skip
    refine WG.byc (fun e1 => ?_) (fun n1 => ?_)
    · refine g_tswIn 56 1 dX3_atom_23 (by decide) rfl (by decide) e1 ?_
      refine g_jn (fun j16 => ∀ (s17 : Sg), WG p l e R s m args below meth c JX3_atom DX3_atom G clA A FT ad0 σ0 rvI (j16 s17) s17 66 [(0, vR 0)] []) (fun s17 => ?_) (fun j16 hj16 => ?_)
      · refine g_aload_n 0 dX3_atom_66 rfl ?_
        refine g_iconst dX3_atom_67 ?_
        refine g_cVI (As := [vI 1]) (n := 1) (stk := []) (ci := 2) (b := 0) (N := 83) (hX3_fails 1 s17) (by decide +kernel) rfl rfl (lw_V q1407 q1409 qs84 q168 q1410) (by decide +kernel) rfl (by decide) hRf hRl (fun _ => (avc (inR_z (Or.inr rfl)) avn)) (Nat.le_of_ble_eq_true rfl) rfl rfl dX3_atom_68 (fun v18 s19 rv18 => ?_)
        refine g_goto 97 dX3_atom_71 (by decide) ?_
        exact g_iret rfl rfl (fun _ => rv18) dX3_atom_97
      · refine g_iload 1 dX3_atom_56 rfl ?_
        refine g_if_eq 66 dX3_atom_58 (by decide) (fun _ => rv2) (fun _ => ?_) (fun _ => ?_)
        · exact g_pick [2] rfl (hj16 s5)
        · refine g_iload 0 dX3_atom_61 rfl ?_
          refine g_if_ne 74 dX3_atom_63 (by decide) (fun _ => rv4) (fun _ => ?_) (fun _ => ?_)
          · exact g_pick [2] rfl (hj16 s5)
          · refine g_jn (fun j20 => ∀ (a5 a6 t2 : Int) (s21 : Sg), inR a5 → inR a6 → inR t2 → WG p l e R s m args below meth c JX3_atom DX3_atom G clA A FT ad0 σ0 rvI (j20 a5 a6 t2 s21) s21 87 [(5, vI a5), (6, vI a6)] [vI t2, vR 0, vR 0]) (fun a5 a6 t2 s21 ra5 ra6 rt2 => ?_) (fun j20 hj20 => ?_)
            · refine g_iload 0 dX3_atom_87 rfl ?_
              refine g_iload 1 dX3_atom_89 rfl ?_
              refine g_cVI (As := [vI t2, vI a5, vI a6]) (n := 3) (stk := [vR 0]) (ci := 2) (b := 0) (N := 83) (hX3_two t2 a5 a6 s21) (by decide +kernel) rfl rfl (lw_V q1467 q1469 qs90 q168 q1470) (by decide +kernel) rfl (by decide) hRf hRl (fun _ => (avc rt2 (avc ra5 (avc ra6 avn)))) (Nat.le_of_ble_eq_true rfl) rfl rfl dX3_atom_91 (fun v22 s23 rv22 => ?_)
              refine g_cVI (As := [vI v22]) (n := 1) (stk := []) (ci := 2) (b := 0) (N := 83) (hX3_gives v22 s23) (by decide +kernel) rfl rfl (lw_V q1431 q1433 qs86 q168 q1434) (by decide +kernel) rfl (by decide) hRf hRl (fun _ => (avc rv22 avn)) (Nat.le_of_ble_eq_true rfl) rfl rfl dX3_atom_94 (fun v24 s25 rv24 => ?_)
              exact g_iret rfl rfl (fun _ => rv24) dX3_atom_97
            · refine g_aload_n 2 dX3_atom_74 rfl ?_
              refine g_aload_n 2 dX3_atom_75 rfl ?_
              refine g_iload_n 3 dX3_atom_76 rfl ?_
              refine g_if_ne 85 dX3_atom_77 (by decide) (fun _ => ra1) (fun _ => ?_) (fun _ => ?_)
              · refine g_bipush (by decide +kernel) dX3_atom_80 ?_
                refine g_goto 87 dX3_atom_82 (by decide) ?_
                exact g_pick [1, 0] rfl (hj20 v2 v4 9 s5 rv2 rv4 (by decide : inR (9)))
              · refine g_bipush (by decide +kernel) dX3_atom_85 ?_
                exact g_pick [1, 0] rfl (hj20 v2 v4 10 s5 rv2 rv4 (by decide : inR (10)))
    · skip
      refine WG.byc (fun e2 => ?_) (fun n2 => ?_)
      · refine g_tswIn 98 2 dX3_atom_23 (by decide) rfl (by decide) e2 ?_
        refine g_jn (fun j26 => ∀ (s27 : Sg), WG p l e R s m args below meth c JX3_atom DX3_atom G clA A FT ad0 σ0 rvI (j26 s27) s27 110 [(0, vR 0)] []) (fun s27 => ?_) (fun j26 hj26 => ?_)
        · refine g_aload_n 0 dX3_atom_110 rfl ?_
          refine g_iconst dX3_atom_111 ?_
          refine g_cVI (As := [vI 1]) (n := 1) (stk := []) (ci := 2) (b := 0) (N := 83) (hX3_fails 1 s27) (by decide +kernel) rfl rfl (lw_V q1407 q1409 qs84 q168 q1410) (by decide +kernel) rfl (by decide) hRf hRl (fun _ => (avc (inR_z (Or.inr rfl)) avn)) (Nat.le_of_ble_eq_true rfl) rfl rfl dX3_atom_112 (fun v28 s29 rv28 => ?_)
          exact g_iret rfl rfl (fun _ => rv28) dX3_atom_115
        · refine g_iload_n 4 dX3_atom_98 rfl ?_
          refine g_if_lt 110 dX3_atom_99 (by decide) (fun _ => ra2) (fun _ => ?_) (fun _ => ?_)
          · exact g_pick [2] rfl (hj26 s5)
          · refine g_iload_n 4 dX3_atom_102 rfl ?_
            refine g_aload_n 2 dX3_atom_103 rfl ?_
            refine g_getI (ci := 2) (b := 0) (N := 83) 24 rfl rfl rfl (by decide) in_X3 rfl rfl q1156 dX3_atom_104 (fun v30 rv30 => ?_)
            refine g_icmp_lt 116 dX3_atom_107 (by decide) (fun _ => ra2) (fun _ => rv30) (fun _ => ?_) (fun _ => ?_)
            · refine g_jn (fun j31 => ∀ (s32 : Sg), WG p l e R s m args below meth c JX3_atom DX3_atom G clA A FT ad0 σ0 rvI (j31 s32) s32 142 [(0, vR 0)] []) (fun s32 => ?_) (fun j31 hj31 => ?_)
              · refine g_aload_n 0 dX3_atom_142 rfl ?_
                refine g_iconst dX3_atom_143 ?_
                refine g_cVI (As := [vI 1]) (n := 1) (stk := []) (ci := 2) (b := 0) (N := 83) (hX3_fails 1 s32) (by decide +kernel) rfl rfl (lw_V q1407 q1409 qs84 q168 q1410) (by decide +kernel) rfl (by decide) hRf hRl (fun _ => (avc (inR_z (Or.inr rfl)) avn)) (Nat.le_of_ble_eq_true rfl) rfl rfl dX3_atom_144 (fun v33 s34 rv33 => ?_)
                exact g_iret rfl rfl (fun _ => rv33) dX3_atom_147
              · refine g_jn (fun j35 => ∀ (a2 a4 a5 a6 a7 : Int) (s36 : Sg), inR a2 → inR a4 → inR a5 → inR a6 → inR a7 → WG p l e R s m args below meth c JX3_atom DX3_atom G clA A FT ad0 σ0 rvI (j35 a2 a4 a5 a6 a7 s36) s36 148 [(0, vR 0), (2, vI a2), (4, vI a4), (5, vI a5), (6, vI a6), (7, vI a7)] []) (fun a2 a4 a5 a6 a7 s36 ra2 ra4 ra5 ra6 ra7 => ?_) (fun j35 hj35 => ?_)
                · refine g_jn (fun j37 => ∀ (s38 : Sg), WG p l e R s m args below meth c JX3_atom DX3_atom G clA A FT ad0 σ0 rvI (j37 s38) s38 168 [(0, vR 0)] []) (fun s38 => ?_) (fun j37 hj37 => ?_)
                  · refine g_aload_n 0 dX3_atom_168 rfl ?_
                    refine g_iconst dX3_atom_169 ?_
                    refine g_cVI (As := [vI 1]) (n := 1) (stk := []) (ci := 2) (b := 0) (N := 83) (hX3_fails 1 s38) (by decide +kernel) rfl rfl (lw_V q1407 q1409 qs84 q168 q1410) (by decide +kernel) rfl (by decide) hRf hRl (fun _ => (avc (inR_z (Or.inr rfl)) avn)) (Nat.le_of_ble_eq_true rfl) rfl rfl dX3_atom_170 (fun v39 s40 rv39 => ?_)
                    exact g_iret rfl rfl (fun _ => rv39) dX3_atom_173
                  · refine g_jn (fun j41 => ∀ (a2 a5 a6 a7 : Int) (s42 : Sg), inR a2 → inR a5 → inR a6 → inR a7 → WG p l e R s m args below meth c JX3_atom DX3_atom G clA A FT ad0 σ0 rvI (j41 a2 a5 a6 a7 s42) s42 174 [(0, vR 0), (2, vI a2), (5, vI a5), (6, vI a6), (7, vI a7)] []) (fun a2 a5 a6 a7 s42 ra2 ra5 ra6 ra7 => ?_) (fun j41 hj41 => ?_)
                    · refine g_jn (fun j43 => ∀ (a6 a7 a8 : Int) (s44 : Sg), inR a6 → inR a7 → inR a8 → WG p l e R s m args below meth c JX3_atom DX3_atom G clA A FT ad0 σ0 rvI (j43 a6 a7 a8 s44) s44 196 [(0, vR 0), (6, vI a6), (7, vI a7), (8, vI a8)] []) (fun a6 a7 a8 s44 ra6 ra7 ra8 => ?_) (fun j43 hj43 => ?_)
                      · refine g_jn (fun j45 => ∀ (a8 : Int) (s46 : Sg), inR a8 → WG p l e R s m args below meth c JX3_atom DX3_atom G clA A FT ad0 σ0 rvI (j45 a8 s46) s46 208 [(0, vR 0), (8, vI a8)] []) (fun a8 s46 ra8 => ?_) (fun j45 hj45 => ?_)
                        · refine g_aload_n 0 dX3_atom_208 rfl ?_
                          refine g_aload_n 0 dX3_atom_209 rfl ?_
                          refine g_bipush (by decide +kernel) dX3_atom_210 ?_
                          refine g_iload 1 dX3_atom_212 rfl ?_
                          refine g_cVI (As := [vI 11, vI a8]) (n := 2) (stk := [vR 0]) (ci := 2) (b := 0) (N := 83) (hX3_node 11 a8 s46) (by decide +kernel) rfl rfl (lw_V q1108 q1110 qs74 q168 q1111) (by decide +kernel) rfl (by decide) hRf hRl (fun _ => (avc (by decide : inR (11)) (avc ra8 avn))) (Nat.le_of_ble_eq_true rfl) rfl rfl dX3_atom_214 (fun v47 s48 rv47 => ?_)
                          refine g_cVI (As := [vI v47]) (n := 1) (stk := []) (ci := 2) (b := 0) (N := 83) (hX3_gives v47 s48) (by decide +kernel) rfl rfl (lw_V q1431 q1433 qs86 q168 q1434) (by decide +kernel) rfl (by decide) hRf hRl (fun _ => (avc rv47 avn)) (Nat.le_of_ble_eq_true rfl) rfl rfl dX3_atom_217 (fun v49 s50 rv49 => ?_)
                          exact g_iret rfl rfl (fun _ => rv49) dX3_atom_220
                        · refine g_iload 2 dX3_atom_196 rfl ?_
                          refine g_iconst dX3_atom_198 ?_
                          refine g_icmp_le 208 dX3_atom_199 (by decide) (fun _ => ra7) (fun _ => (inR_z (Or.inr rfl))) (fun _ => ?_) (fun _ => ?_)
                          · exact g_pick [0, 3] rfl (hj45 a8 s44 ra8)
                          · refine g_aload_n 0 dX3_atom_202 rfl ?_
                            refine g_iload 1 dX3_atom_203 rfl ?_
                            refine g_cVV (As := [vI a6]) (n := 1) (stk := []) (ci := 2) (b := 0) (N := 83) (hX3_give a6 s44) (by decide +kernel) rfl rfl (lw_V q1100 q1102 qs73 q168 q1103) (by decide +kernel) rfl (by decide) hRf hRl (fun _ => (avc ra6 avn)) (Nat.le_of_ble_eq_true rfl) rfl rfl dX3_atom_205 (fun v51 s52 => ?_)
                            exact g_pick [0, 3] rfl (hj45 a8 s52 ra8)
                      · refine g_aload_n 0 dX3_atom_174 rfl ?_
                        refine g_getI (ci := 2) (b := 0) (N := 83) 13 rfl rfl rfl (by decide) in_X3 rfl rfl q1145 dX3_atom_175 (fun v53 rv53 => ?_)
                        refine g_istore (loc' := [(8, vI v53), (0, vR 0), (2, vI a2), (5, vI a5), (6, vI a6), (7, vI a7)]) dX3_atom_178 (by decide) rfl ?_
                        refine g_aload_n 1 dX3_atom_180 rfl ?_
                        refine g_iload_n 2 dX3_atom_181 rfl ?_
                        refine g_cVV (As := [vI a2]) (n := 1) (stk := []) (ci := 2) (b := 0) (N := 83) (hX3_give a2 s42) (by decide +kernel) rfl rfl (lw_V q1100 q1102 qs73 q168 q1103) (by decide +kernel) rfl (by decide) hRf hRl (fun _ => (avc ra2 avn)) (Nat.le_of_ble_eq_true rfl) rfl rfl dX3_atom_182 (fun v54 s55 => ?_)
                        refine g_iload 5 dX3_atom_185 rfl ?_
                        refine g_if_le 196 dX3_atom_187 (by decide) (fun _ => ra7) (fun _ => ?_) (fun _ => ?_)
                        · exact g_pick [1, 4, 5, 0] rfl (hj43 a6 a7 v53 s55 ra6 ra7 rv53)
                        · refine g_aload_n 1 dX3_atom_190 rfl ?_
                          refine g_iload 3 dX3_atom_191 rfl ?_
                          refine g_cVV (As := [vI a5]) (n := 1) (stk := []) (ci := 2) (b := 0) (N := 83) (hX3_give a5 s55) (by decide +kernel) rfl rfl (lw_V q1100 q1102 qs73 q168 q1103) (by decide +kernel) rfl (by decide) hRf hRl (fun _ => (avc ra5 avn)) (Nat.le_of_ble_eq_true rfl) rfl rfl dX3_atom_193 (fun v56 s57 => ?_)
                          exact g_pick [1, 4, 5, 0] rfl (hj43 a6 a7 v53 s57 ra6 ra7 rv53)
                    · refine g_iload 5 dX3_atom_148 rfl ?_
                      refine g_iconst dX3_atom_150 ?_
                      refine g_icmp_le 162 dX3_atom_151 (by decide) (fun _ => ra7) (fun _ => (inR_z (Or.inr rfl))) (fun _ => ?_) (fun _ => ?_)
                      · refine g_iload 2 dX3_atom_162 rfl ?_
                        refine g_iconst dX3_atom_164 ?_
                        refine g_icmp_eq 174 dX3_atom_165 (by decide) (fun _ => ra4) (fun _ => (by decide : inR (-1))) (fun _ => ?_) (fun _ => ?_)
                        · exact g_pick [0, 1, 3, 4, 5] rfl (hj41 a2 a5 a6 a7 s36 ra2 ra5 ra6 ra7)
                        · exact g_pick [0] rfl (hj37 s36)
                      · refine g_iload 4 dX3_atom_154 rfl ?_
                        refine g_if_ne 174 dX3_atom_156 (by decide) (fun _ => ra6) (fun _ => ?_) (fun _ => ?_)
                        · refine g_goto 168 dX3_atom_159 (by decide) ?_
                          exact g_pick [0] rfl (hj37 s36)
                        · exact g_pick [0, 1, 3, 4, 5] rfl (hj41 a2 a5 a6 a7 s36 ra2 ra5 ra6 ra7)
                · refine g_aload_n 2 dX3_atom_116 rfl ?_
                  refine g_get (v := vR 33) (ci := 2) (b := 0) (N := 83) 23 rfl rfl (by decide) in_X3 rfl rfl q1155 dX3_atom_117 ?_
                  refine g_iload_n 4 dX3_atom_120 rfl ?_
                  refine g_iald (id := 23) 16 rfl rfl dX3_atom_121 (fun v58 rv58 => ?_)
                  refine g_istore (loc' := [(7, vI v58), (6, vI v4), (5, vI v2), (0, vR 0), (1, vI a1), (2, vI a2), (3, vI a3), (4, vI a4)]) dX3_atom_122 (by decide) rfl ?_
                  refine g_iload 0 dX3_atom_124 rfl ?_
                  refine g_if_le 137 dX3_atom_126 (by decide) (fun _ => rv58) (fun _ => ?_) (fun _ => ?_)
                  · refine g_iload_n 6 dX3_atom_137 rfl ?_
                    refine g_iconst dX3_atom_138 ?_
                    refine g_icmp_eq 148 dX3_atom_139 (by decide) (fun _ => ra3) (fun _ => (by decide : inR (-1))) (fun _ => ?_) (fun _ => ?_)
                    · exact g_pick [3, 5, 7, 2, 1, 0] rfl (hj35 a2 a4 v2 v4 v58 s5 ra2 ra4 rv2 rv4 rv58)
                    · exact g_pick [3] rfl (hj31 s5)
                  · refine g_iload 2 dX3_atom_129 rfl ?_
                    refine g_if_ne 148 dX3_atom_131 (by decide) (fun _ => rv2) (fun _ => ?_) (fun _ => ?_)
                    · refine g_goto 142 dX3_atom_134 (by decide) ?_
                      exact g_pick [3] rfl (hj31 s5)
                    · exact g_pick [3, 5, 7, 2, 1, 0] rfl (hj35 a2 a4 v2 v4 v58 s5 ra2 ra4 rv2 rv4 rv58)
            · exact g_pick [2] rfl (hj26 s5)
      · skip
        refine WG.byc (fun e3 => ?_) (fun n3 => ?_)
        · refine g_tswIn 221 3 dX3_atom_23 (by decide) rfl (by decide) e3 ?_
          refine g_jn (fun j59 => ∀ (s60 : Sg), WG p l e R s m args below meth c JX3_atom DX3_atom G clA A FT ad0 σ0 rvI (j59 s60) s60 244 [(0, vR 0)] []) (fun s60 => ?_) (fun j59 hj59 => ?_)
          · refine g_aload_n 0 dX3_atom_244 rfl ?_
            refine g_iconst dX3_atom_245 ?_
            refine g_cVI (As := [vI 1]) (n := 1) (stk := []) (ci := 2) (b := 0) (N := 83) (hX3_fails 1 s60) (by decide +kernel) rfl rfl (lw_V q1407 q1409 qs84 q168 q1410) (by decide +kernel) rfl (by decide) hRf hRl (fun _ => (avc (inR_z (Or.inr rfl)) avn)) (Nat.le_of_ble_eq_true rfl) rfl rfl dX3_atom_246 (fun v61 s62 rv61 => ?_)
            refine g_goto 265 dX3_atom_249 (by decide) ?_
            exact g_iret rfl rfl (fun _ => rv61) dX3_atom_265
          · refine g_iload_n 4 dX3_atom_221 rfl ?_
            refine g_if_lt 244 dX3_atom_222 (by decide) (fun _ => ra2) (fun _ => ?_) (fun _ => ?_)
            · exact g_pick [2] rfl (hj59 s5)
            · refine g_iload_n 4 dX3_atom_225 rfl ?_
              refine g_aload_n 2 dX3_atom_226 rfl ?_
              refine g_getI (ci := 2) (b := 0) (N := 83) 28 rfl rfl rfl (by decide) in_X3 rfl rfl q1160 dX3_atom_227 (fun v63 rv63 => ?_)
              refine g_icmp_ge 244 dX3_atom_230 (by decide) (fun _ => ra2) (fun _ => rv63) (fun _ => ?_) (fun _ => ?_)
              · refine g_iload 1 dX3_atom_233 rfl ?_
                refine g_if_eq 244 dX3_atom_235 (by decide) (fun _ => rv2) (fun _ => ?_) (fun _ => ?_)
                · exact g_pick [2] rfl (hj59 s5)
                · refine g_iload 6 dX3_atom_238 rfl ?_
                  refine g_iconst dX3_atom_240 ?_
                  refine g_icmp_eq 252 dX3_atom_241 (by decide) (fun _ => ra4) (fun _ => (by decide : inR (-1))) (fun _ => ?_) (fun _ => ?_)
                  · refine g_aload_n 2 dX3_atom_252 rfl ?_
                    refine g_aload_n 2 dX3_atom_253 rfl ?_
                    refine g_bipush (by decide +kernel) dX3_atom_254 ?_
                    refine g_iload_n 4 dX3_atom_256 rfl ?_
                    refine g_iload 1 dX3_atom_257 rfl ?_
                    refine g_cVI (As := [vI 12, vI a2, vI v2]) (n := 3) (stk := [vR 0]) (ci := 2) (b := 0) (N := 83) (hX3_two 12 a2 v2 s5) (by decide +kernel) rfl rfl (lw_V q1467 q1469 qs90 q168 q1470) (by decide +kernel) rfl (by decide) hRf hRl (fun _ => (avc (by decide : inR (12)) (avc ra2 (avc rv2 avn)))) (Nat.le_of_ble_eq_true rfl) rfl rfl dX3_atom_259 (fun v64 s65 rv64 => ?_)
                    refine g_cVI (As := [vI v64]) (n := 1) (stk := []) (ci := 2) (b := 0) (N := 83) (hX3_gives v64 s65) (by decide +kernel) rfl rfl (lw_V q1431 q1433 qs86 q168 q1434) (by decide +kernel) rfl (by decide) hRf hRl (fun _ => (avc rv64 avn)) (Nat.le_of_ble_eq_true rfl) rfl rfl dX3_atom_262 (fun v66 s67 rv66 => ?_)
                    exact g_iret rfl rfl (fun _ => rv66) dX3_atom_265
                  · exact g_pick [2] rfl (hj59 s5)
              · exact g_pick [2] rfl (hj59 s5)
        · skip
          refine WG.byc (fun e4 => ?_) (fun n4 => ?_)
          · refine g_tswIn 266 4 dX3_atom_23 (by decide) rfl (by decide) e4 ?_
            refine g_jn (fun j68 => ∀ (s69 : Sg), WG p l e R s m args below meth c JX3_atom DX3_atom G clA A FT ad0 σ0 rvI (j68 s69) s69 306 [(0, vR 0)] []) (fun s69 => ?_) (fun j68 hj68 => ?_)
            · refine g_aload_n 0 dX3_atom_306 rfl ?_
              refine g_iconst dX3_atom_307 ?_
              refine g_cVI (As := [vI 1]) (n := 1) (stk := []) (ci := 2) (b := 0) (N := 83) (hX3_fails 1 s69) (by decide +kernel) rfl rfl (lw_V q1407 q1409 qs84 q168 q1410) (by decide +kernel) rfl (by decide) hRf hRl (fun _ => (avc (inR_z (Or.inr rfl)) avn)) (Nat.le_of_ble_eq_true rfl) rfl rfl dX3_atom_308 (fun v70 s71 rv70 => ?_)
              exact g_iret rfl rfl (fun _ => rv70) dX3_atom_311
            · refine g_iload_n 4 dX3_atom_266 rfl ?_
              refine g_if_lt 306 dX3_atom_267 (by decide) (fun _ => ra2) (fun _ => ?_) (fun _ => ?_)
              · exact g_pick [2] rfl (hj68 s5)
              · refine g_iload_n 4 dX3_atom_270 rfl ?_
                refine g_aload_n 2 dX3_atom_271 rfl ?_
                refine g_getI (ci := 2) (b := 0) (N := 83) 27 rfl rfl rfl (by decide) in_X3 rfl rfl q1159 dX3_atom_272 (fun v72 rv72 => ?_)
                refine g_icmp_ge 306 dX3_atom_275 (by decide) (fun _ => ra2) (fun _ => rv72) (fun _ => ?_) (fun _ => ?_)
                · refine g_iload 1 dX3_atom_278 rfl ?_
                  refine g_if_eq 306 dX3_atom_280 (by decide) (fun _ => rv2) (fun _ => ?_) (fun _ => ?_)
                  · exact g_pick [2] rfl (hj68 s5)
                  · refine g_jn (fun j73 => ∀ (a2 a5 a6 : Int) (s74 : Sg), inR a2 → inR a5 → inR a6 → WG p l e R s m args below meth c JX3_atom DX3_atom G clA A FT ad0 σ0 rvI (j73 a2 a5 a6 s74) s74 312 [(0, vR 0), (2, vI a2), (5, vI a5), (6, vI a6)] []) (fun a2 a5 a6 s74 ra2 ra5 ra6 => ?_) (fun j73 hj73 => ?_)
                    · refine g_jn (fun j75 => ∀ (a5 t2 t3 : Int) (s76 : Sg), inR a5 → inR t2 → inR t3 → WG p l e R s m args below meth c JX3_atom DX3_atom G clA A FT ad0 σ0 rvI (j75 a5 t2 t3 s76) s76 330 [(5, vI a5)] [vI t3, vI t2, vR 0, vR 0]) (fun a5 t2 t3 s76 ra5 rt2 rt3 => ?_) (fun j75 hj75 => ?_)
                      · refine g_iload 0 dX3_atom_330 rfl ?_
                        refine g_cVI (As := [vI t2, vI t3, vI a5]) (n := 3) (stk := [vR 0]) (ci := 2) (b := 0) (N := 83) (hX3_modeOf t2 t3 a5 s76) (by decide +kernel) rfl rfl (lw_V q1471 q1473 qs91 q168 q1474) (by decide +kernel) rfl (by decide) hRf hRl (fun _ => (avc rt2 (avc rt3 (avc ra5 avn)))) (Nat.le_of_ble_eq_true rfl) rfl rfl dX3_atom_332 (fun v77 s78 rv77 => ?_)
                        refine g_cVI (As := [vI v77]) (n := 1) (stk := []) (ci := 2) (b := 0) (N := 83) (hX3_gives v77 s78) (by decide +kernel) rfl rfl (lw_V q1431 q1433 qs86 q168 q1434) (by decide +kernel) rfl (by decide) hRf hRl (fun _ => (avc rv77 avn)) (Nat.le_of_ble_eq_true rfl) rfl rfl dX3_atom_335 (fun v79 s80 rv79 => ?_)
                        exact g_iret rfl rfl (fun _ => rv79) dX3_atom_338
                      · refine g_aload_n 0 dX3_atom_312 rfl ?_
                        refine g_aload_n 0 dX3_atom_313 rfl ?_
                        refine g_iload_n 1 dX3_atom_314 rfl ?_
                        refine g_aload_n 0 dX3_atom_315 rfl ?_
                        refine g_get (v := vR 36) (ci := 2) (b := 0) (N := 83) 26 rfl rfl (by decide) in_X3 rfl rfl q1158 dX3_atom_316 ?_
                        refine g_iload_n 1 dX3_atom_319 rfl ?_
                        refine g_zald (id := 26) 18 rfl rfl dX3_atom_320 (fun v81 zv81 => ?_)
                        refine g_if_eq 329 dX3_atom_321 (by decide) (fun _ => (inR_z zv81)) (fun _ => ?_) (fun _ => ?_)
                        · refine g_iconst dX3_atom_329 ?_
                          exact g_pick [2] rfl (hj75 a5 a2 0 s74 ra5 ra2 (inR_z (Or.inl rfl)))
                        · refine g_iload 3 dX3_atom_324 rfl ?_
                          refine g_goto 330 dX3_atom_326 (by decide) ?_
                          exact g_pick [2] rfl (hj75 a5 a2 a6 s74 ra5 ra2 ra6)
                    · refine g_aload_n 2 dX3_atom_283 rfl ?_
                      refine g_get (v := vR 36) (ci := 2) (b := 0) (N := 83) 26 rfl rfl (by decide) in_X3 rfl rfl q1158 dX3_atom_284 ?_
                      refine g_iload_n 4 dX3_atom_287 rfl ?_
                      refine g_zald (id := 26) 18 rfl rfl dX3_atom_288 (fun v82 zv82 => ?_)
                      refine g_if_eq 300 dX3_atom_289 (by decide) (fun _ => (inR_z zv82)) (fun _ => ?_) (fun _ => ?_)
                      · refine g_iload 6 dX3_atom_300 rfl ?_
                        refine g_iconst dX3_atom_302 ?_
                        refine g_icmp_eq 312 dX3_atom_303 (by decide) (fun _ => ra4) (fun _ => (by decide : inR (-1))) (fun _ => ?_) (fun _ => ?_)
                        · exact g_pick [2, 4, 1, 0] rfl (hj73 a2 v2 v4 s5 ra2 rv2 rv4)
                        · exact g_pick [2] rfl (hj68 s5)
                      · refine g_iload 0 dX3_atom_292 rfl ?_
                        refine g_if_ne 312 dX3_atom_294 (by decide) (fun _ => rv4) (fun _ => ?_) (fun _ => ?_)
                        · refine g_goto 306 dX3_atom_297 (by decide) ?_
                          exact g_pick [2] rfl (hj68 s5)
                        · exact g_pick [2, 4, 1, 0] rfl (hj73 a2 v2 v4 s5 ra2 rv2 rv4)
                · exact g_pick [2] rfl (hj68 s5)
          · skip
            refine g_tswOut 339 dX3_atom_23 (fun _ => ra1) (by omega) (by decide) ?_
            refine g_aload_n 2 dX3_atom_339 rfl ?_
            refine g_iconst dX3_atom_340 ?_
            refine g_cVI (As := [vI 1]) (n := 1) (stk := []) (ci := 2) (b := 0) (N := 83) (hX3_fails 1 s5) (by decide +kernel) rfl rfl (lw_V q1407 q1409 qs84 q168 q1410) (by decide +kernel) rfl (by decide) hRf hRl (fun _ => (avc (inR_z (Or.inr rfl)) avn)) (Nat.le_of_ble_eq_true rfl) rfl rfl dX3_atom_341 (fun v83 s84 rv83 => ?_)
            exact g_iret rfl rfl (fun _ => rv83) dX3_atom_344
end
section
variable {l : Launch} {d : Nat} {call : Nat → List Int → Sg → Option (Int × Sg)}
theorem ctX3_atom (p0 : Program) (e0 : Env) (s0 : State) (m0 : MethodId) (meth0 : Method) (c0 : Code) (G0 : Gm) (hd : 2 ≤ d) (hX3_closed : ∀ (a1 a2 : Int) (u : Sg), Ct l d FT clA yX3_closed cX3_closed 4 (some .int) DX3_closed rvI [vR 0, vI a1, vI a2] u (call 25 [a1, a2] u)) (hX3_fails : ∀ (a1 : Int) (u : Sg), Ct l d FT clA yX3_fails cX3_fails 2 (some .int) DX3_fails rvI [vR 0, vI a1] u (call 17 [a1] u)) (hX3_two : ∀ (a1 a2 a3 : Int) (u : Sg), Ct l d FT clA yX3_two cX3_two 5 (some .int) DX3_two rvI [vR 0, vI a1, vI a2, vI a3] u (call 32 [a1, a2, a3] u)) (hX3_gives : ∀ (a1 : Int) (u : Sg), Ct l d FT clA yX3_gives cX3_gives 2 (some .int) DX3_gives rvI [vR 0, vI a1] u (call 23 [a1] u)) (hX3_node : ∀ (a1 a2 : Int) (u : Sg), Ct l d FT clA yX3_node cX3_node 7 (some .int) DX3_node rvI [vR 0, vI a1, vI a2] u (call 5 [a1, a2] u)) (hX3_give : ∀ (a1 : Int) (u : Sg), Ct l d FT clA yX3_give cX3_give 2 none DX3_give rvV [vR 0, vI a1] u (call 3 [a1] u)) (hX3_modeOf : ∀ (a1 a2 a3 : Int) (u : Sg), Ct l d FT clA yX3_modeOf cX3_modeOf 5 (some .int) DX3_modeOf rvI [vR 0, vI a1, vI a2, vI a3] u (call 33 [a1, a2, a3] u)) (a1 a2 a3 a4 : Int) (u : Sg) : Ct l (d + 1) FT clA yX3_atom cX3_atom 9 (some .int) DX3_atom rvI [vR 0, vI a1, vI a2, vI a3, vI a4] u (bX3_atom call a1 a2 a3 a4 u) :=
  Ct_of (by decide) (Nat.le_of_ble_eq_true rfl) (fun p e R s1 m args below meth c G A ad hA hRf hRl => wX3_atom hd hRf hRl hX3_closed hX3_fails hX3_two hX3_gives hX3_node hX3_give hX3_modeOf a1 a2 a3 a4 u (hA _ (List.mem_cons_of_mem _ List.mem_cons_self)) (hA _ (List.mem_cons_of_mem _ (List.mem_cons_of_mem _ List.mem_cons_self))) (hA _ (List.mem_cons_of_mem _ (List.mem_cons_of_mem _ (List.mem_cons_of_mem _ List.mem_cons_self)))) (hA _ (List.mem_cons_of_mem _ (List.mem_cons_of_mem _ (List.mem_cons_of_mem _ (List.mem_cons_of_mem _ List.mem_cons_self)))))) p0 e0 s0 m0 meth0 c0 G0
end
/-! RoundCheckModel.two(III)I -/
abbrev JX3_two : Jm := (cX3_two, RX3, 5, (some .int))
def bX3_two (call : Nat → List Int → Sg → Option (Int × Sg)) (a1 a2 a3 : Int) (u : Sg) : Option (Int × Sg) := un (gI u 13) fun v1 => cl (call 3 [a2] u) fun v2 s3 => cl (call 3 [a3] s3) fun v4 s5 => cl (call 5 [a1, v1] s5) fun v6 s7 => some (v6, s7)
section
variable {p : Program} {l : Launch} {e : Env} {R : Room} {s : State} {m : MethodId} {args : Array Value} {below : List Frame} {meth : Method} {c : Code} {G : Gm} {A : Nat → Prop} {ad0 : Nat → Nat} {σ0 : Sg} {d : Nat} {call : Nat → List Int → Sg → Option (Int × Sg)}
theorem wX3_two (hd : 2 ≤ d) (hRf : d + 1 ≤ R.frames) (hRl : 40 * (d + 1) ≤ R.locals) (hX3_give : ∀ (a1 : Int) (u : Sg), Ct l d FT clA yX3_give cX3_give 2 none DX3_give rvV [vR 0, vI a1] u (call 3 [a1] u)) (hX3_node : ∀ (a1 a2 : Int) (u : Sg), Ct l d FT clA yX3_node cX3_node 7 (some .int) DX3_node rvI [vR 0, vI a1, vI a2] u (call 5 [a1, a2] u)) (a1 a2 a3 : Int) (u : Sg) (ra1 : inR a1) (ra2 : inR a2) (ra3 : inR a3) : WG p l e R s m args below meth c JX3_two DX3_two G clA A FT ad0 σ0 rvI (bX3_two call a1 a2 a3 u) u 0 [(0, vR 0), (1, vI a1), (2, vI a2), (3, vI a3)] [] := by
  unfold bX3_two
  refine g_aload_n 0 dX3_two_0 rfl ?_
  refine g_getI (ci := 2) (b := 0) (N := 83) 13 rfl rfl rfl (by decide) in_X3 rfl rfl q1145 dX3_two_1 (fun v1 rv1 => ?_)
  refine g_istore (loc' := [(4, vI v1), (0, vR 0), (1, vI a1), (2, vI a2), (3, vI a3)]) dX3_two_4 (by decide) rfl ?_
  refine g_aload_n 1 dX3_two_6 rfl ?_
  refine g_iload_n 3 dX3_two_7 rfl ?_
  refine g_cVV (As := [vI a2]) (n := 1) (stk := []) (ci := 2) (b := 0) (N := 83) (hX3_give a2 u) (by decide +kernel) rfl rfl (lw_V q1100 q1102 qs73 q168 q1103) (by decide +kernel) rfl (by decide) hRf hRl (fun _ => (avc ra2 avn)) (Nat.le_of_ble_eq_true rfl) rfl rfl dX3_two_8 (fun v2 s3 => ?_)
  refine g_aload_n 1 dX3_two_11 rfl ?_
  refine g_iload_n 4 dX3_two_12 rfl ?_
  refine g_cVV (As := [vI a3]) (n := 1) (stk := []) (ci := 2) (b := 0) (N := 83) (hX3_give a3 s3) (by decide +kernel) rfl rfl (lw_V q1100 q1102 qs73 q168 q1103) (by decide +kernel) rfl (by decide) hRf hRl (fun _ => (avc ra3 avn)) (Nat.le_of_ble_eq_true rfl) rfl rfl dX3_two_13 (fun v4 s5 => ?_)
  refine g_aload_n 1 dX3_two_16 rfl ?_
  refine g_iload_n 2 dX3_two_17 rfl ?_
  refine g_iload 0 dX3_two_18 rfl ?_
  refine g_cVI (As := [vI a1, vI v1]) (n := 2) (stk := []) (ci := 2) (b := 0) (N := 83) (hX3_node a1 v1 s5) (by decide +kernel) rfl rfl (lw_V q1108 q1110 qs74 q168 q1111) (by decide +kernel) rfl (by decide) hRf hRl (fun _ => (avc ra1 (avc rv1 avn))) (Nat.le_of_ble_eq_true rfl) rfl rfl dX3_two_20 (fun v6 s7 rv6 => ?_)
  exact g_iret rfl rfl (fun _ => rv6) dX3_two_23
end
section
variable {l : Launch} {d : Nat} {call : Nat → List Int → Sg → Option (Int × Sg)}
theorem ctX3_two (p0 : Program) (e0 : Env) (s0 : State) (m0 : MethodId) (meth0 : Method) (c0 : Code) (G0 : Gm) (hd : 2 ≤ d) (hX3_give : ∀ (a1 : Int) (u : Sg), Ct l d FT clA yX3_give cX3_give 2 none DX3_give rvV [vR 0, vI a1] u (call 3 [a1] u)) (hX3_node : ∀ (a1 a2 : Int) (u : Sg), Ct l d FT clA yX3_node cX3_node 7 (some .int) DX3_node rvI [vR 0, vI a1, vI a2] u (call 5 [a1, a2] u)) (a1 a2 a3 : Int) (u : Sg) : Ct l (d + 1) FT clA yX3_two cX3_two 5 (some .int) DX3_two rvI [vR 0, vI a1, vI a2, vI a3] u (bX3_two call a1 a2 a3 u) :=
  Ct_of (by decide) (Nat.le_of_ble_eq_true rfl) (fun p e R s1 m args below meth c G A ad hA hRf hRl => wX3_two hd hRf hRl hX3_give hX3_node a1 a2 a3 u (hA _ (List.mem_cons_of_mem _ List.mem_cons_self)) (hA _ (List.mem_cons_of_mem _ (List.mem_cons_of_mem _ List.mem_cons_self))) (hA _ (List.mem_cons_of_mem _ (List.mem_cons_of_mem _ (List.mem_cons_of_mem _ List.mem_cons_self))))) p0 e0 s0 m0 meth0 c0 G0
end
/-! RoundCheckModel.modeOf(III)I -/
abbrev JX3_modeOf : Jm := (cX3_modeOf, RX3, 5, (some .int))
def bX3_modeOf (call : Nat → List Int → Sg → Option (Int × Sg)) (a1 a2 a3 : Int) (u : Sg) : Option (Int × Sg) := if a1 = 0 then (cl (call 34 [] u) fun v1 s2 => some (v1, s2)) else (un (gI u 13) fun v3 => cl (call 3 [a1] u) fun v4 s5 => cl (call 3 [a2] s5) fun v6 s7 => cl (call 3 [a3] s7) fun v8 s9 => cl (call 5 [13, v3] s9) fun v10 s11 => some (v10, s11))
section
variable {p : Program} {l : Launch} {e : Env} {R : Room} {s : State} {m : MethodId} {args : Array Value} {below : List Frame} {meth : Method} {c : Code} {G : Gm} {A : Nat → Prop} {ad0 : Nat → Nat} {σ0 : Sg} {d : Nat} {call : Nat → List Int → Sg → Option (Int × Sg)}
theorem wX3_modeOf (hd : 2 ≤ d) (hRf : d + 1 ≤ R.frames) (hRl : 40 * (d + 1) ≤ R.locals) (hX3_truth : ∀ (u : Sg), Ct l d FT clA yX3_truth cX3_truth 1 (some .int) DX3_truth rvI [vR 0] u (call 34 [] u)) (hX3_give : ∀ (a1 : Int) (u : Sg), Ct l d FT clA yX3_give cX3_give 2 none DX3_give rvV [vR 0, vI a1] u (call 3 [a1] u)) (hX3_node : ∀ (a1 a2 : Int) (u : Sg), Ct l d FT clA yX3_node cX3_node 7 (some .int) DX3_node rvI [vR 0, vI a1, vI a2] u (call 5 [a1, a2] u)) (a1 a2 a3 : Int) (u : Sg) (ra1 : inR a1) (ra2 : inR a2) (ra3 : inR a3) : WG p l e R s m args below meth c JX3_modeOf DX3_modeOf G clA A FT ad0 σ0 rvI (bX3_modeOf call a1 a2 a3 u) u 0 [(0, vR 0), (1, vI a1), (2, vI a2), (3, vI a3)] [] := by
  unfold bX3_modeOf
  refine g_iload_n 1 dX3_modeOf_0 rfl ?_
  refine g_if_ne 9 dX3_modeOf_1 (by decide) (fun _ => ra1) (fun _ => ?_) (fun _ => ?_)
  · refine g_aload_n 0 dX3_modeOf_4 rfl ?_
    refine g_cVI (As := []) (n := 0) (stk := []) (ci := 2) (b := 0) (N := 83) (hX3_truth  u) (by decide +kernel) rfl rfl (lw_V q1475 q1477 qs92 q168 q1478) (by decide +kernel) rfl (by decide) hRf hRl (fun _ => avn) (Nat.le_of_ble_eq_true rfl) rfl rfl dX3_modeOf_5 (fun v1 s2 rv1 => ?_)
    exact g_iret rfl rfl (fun _ => rv1) dX3_modeOf_8
  · refine g_aload_n 0 dX3_modeOf_9 rfl ?_
    refine g_getI (ci := 2) (b := 0) (N := 83) 13 rfl rfl rfl (by decide) in_X3 rfl rfl q1145 dX3_modeOf_10 (fun v3 rv3 => ?_)
    refine g_istore (loc' := [(4, vI v3), (0, vR 0), (1, vI a1), (2, vI a2), (3, vI a3)]) dX3_modeOf_13 (by decide) rfl ?_
    refine g_aload_n 1 dX3_modeOf_15 rfl ?_
    refine g_iload_n 2 dX3_modeOf_16 rfl ?_
    refine g_cVV (As := [vI a1]) (n := 1) (stk := []) (ci := 2) (b := 0) (N := 83) (hX3_give a1 u) (by decide +kernel) rfl rfl (lw_V q1100 q1102 qs73 q168 q1103) (by decide +kernel) rfl (by decide) hRf hRl (fun _ => (avc ra1 avn)) (Nat.le_of_ble_eq_true rfl) rfl rfl dX3_modeOf_17 (fun v4 s5 => ?_)
    refine g_aload_n 1 dX3_modeOf_20 rfl ?_
    refine g_iload_n 3 dX3_modeOf_21 rfl ?_
    refine g_cVV (As := [vI a2]) (n := 1) (stk := []) (ci := 2) (b := 0) (N := 83) (hX3_give a2 s5) (by decide +kernel) rfl rfl (lw_V q1100 q1102 qs73 q168 q1103) (by decide +kernel) rfl (by decide) hRf hRl (fun _ => (avc ra2 avn)) (Nat.le_of_ble_eq_true rfl) rfl rfl dX3_modeOf_22 (fun v6 s7 => ?_)
    refine g_aload_n 1 dX3_modeOf_25 rfl ?_
    refine g_iload_n 4 dX3_modeOf_26 rfl ?_
    refine g_cVV (As := [vI a3]) (n := 1) (stk := []) (ci := 2) (b := 0) (N := 83) (hX3_give a3 s7) (by decide +kernel) rfl rfl (lw_V q1100 q1102 qs73 q168 q1103) (by decide +kernel) rfl (by decide) hRf hRl (fun _ => (avc ra3 avn)) (Nat.le_of_ble_eq_true rfl) rfl rfl dX3_modeOf_27 (fun v8 s9 => ?_)
    refine g_aload_n 1 dX3_modeOf_30 rfl ?_
    refine g_bipush (by decide +kernel) dX3_modeOf_31 ?_
    refine g_iload 0 dX3_modeOf_33 rfl ?_
    refine g_cVI (As := [vI 13, vI v3]) (n := 2) (stk := []) (ci := 2) (b := 0) (N := 83) (hX3_node 13 v3 s9) (by decide +kernel) rfl rfl (lw_V q1108 q1110 qs74 q168 q1111) (by decide +kernel) rfl (by decide) hRf hRl (fun _ => (avc (by decide : inR (13)) (avc rv3 avn))) (Nat.le_of_ble_eq_true rfl) rfl rfl dX3_modeOf_35 (fun v10 s11 rv10 => ?_)
    exact g_iret rfl rfl (fun _ => rv10) dX3_modeOf_38
end
section
variable {l : Launch} {d : Nat} {call : Nat → List Int → Sg → Option (Int × Sg)}
theorem ctX3_modeOf (p0 : Program) (e0 : Env) (s0 : State) (m0 : MethodId) (meth0 : Method) (c0 : Code) (G0 : Gm) (hd : 2 ≤ d) (hX3_truth : ∀ (u : Sg), Ct l d FT clA yX3_truth cX3_truth 1 (some .int) DX3_truth rvI [vR 0] u (call 34 [] u)) (hX3_give : ∀ (a1 : Int) (u : Sg), Ct l d FT clA yX3_give cX3_give 2 none DX3_give rvV [vR 0, vI a1] u (call 3 [a1] u)) (hX3_node : ∀ (a1 a2 : Int) (u : Sg), Ct l d FT clA yX3_node cX3_node 7 (some .int) DX3_node rvI [vR 0, vI a1, vI a2] u (call 5 [a1, a2] u)) (a1 a2 a3 : Int) (u : Sg) : Ct l (d + 1) FT clA yX3_modeOf cX3_modeOf 5 (some .int) DX3_modeOf rvI [vR 0, vI a1, vI a2, vI a3] u (bX3_modeOf call a1 a2 a3 u) :=
  Ct_of (by decide) (Nat.le_of_ble_eq_true rfl) (fun p e R s1 m args below meth c G A ad hA hRf hRl => wX3_modeOf hd hRf hRl hX3_truth hX3_give hX3_node a1 a2 a3 u (hA _ (List.mem_cons_of_mem _ List.mem_cons_self)) (hA _ (List.mem_cons_of_mem _ (List.mem_cons_of_mem _ List.mem_cons_self))) (hA _ (List.mem_cons_of_mem _ (List.mem_cons_of_mem _ (List.mem_cons_of_mem _ List.mem_cons_self))))) p0 e0 s0 m0 meth0 c0 G0
end
/-! RoundCheckModel.truth()I -/
abbrev JX3_truth : Jm := (cX3_truth, RX3, 1, (some .int))
def bX3_truth (call : Nat → List Int → Sg → Option (Int × Sg)) (u : Sg) : Option (Int × Sg) := un (gI u 13) fun v1 => cl (call 5 [8, v1] u) fun v2 s3 => some (v2, s3)
section
variable {p : Program} {l : Launch} {e : Env} {R : Room} {s : State} {m : MethodId} {args : Array Value} {below : List Frame} {meth : Method} {c : Code} {G : Gm} {A : Nat → Prop} {ad0 : Nat → Nat} {σ0 : Sg} {d : Nat} {call : Nat → List Int → Sg → Option (Int × Sg)}
theorem wX3_truth (hd : 2 ≤ d) (hRf : d + 1 ≤ R.frames) (hRl : 40 * (d + 1) ≤ R.locals) (hX3_node : ∀ (a1 a2 : Int) (u : Sg), Ct l d FT clA yX3_node cX3_node 7 (some .int) DX3_node rvI [vR 0, vI a1, vI a2] u (call 5 [a1, a2] u)) (u : Sg) : WG p l e R s m args below meth c JX3_truth DX3_truth G clA A FT ad0 σ0 rvI (bX3_truth call u) u 0 [(0, vR 0)] [] := by
  unfold bX3_truth
  refine g_aload_n 0 dX3_truth_0 rfl ?_
  refine g_bipush (by decide +kernel) dX3_truth_1 ?_
  refine g_aload_n 0 dX3_truth_3 rfl ?_
  refine g_getI (ci := 2) (b := 0) (N := 83) 13 rfl rfl rfl (by decide) in_X3 rfl rfl q1145 dX3_truth_4 (fun v1 rv1 => ?_)
  refine g_cVI (As := [vI 8, vI v1]) (n := 2) (stk := []) (ci := 2) (b := 0) (N := 83) (hX3_node 8 v1 u) (by decide +kernel) rfl rfl (lw_V q1108 q1110 qs74 q168 q1111) (by decide +kernel) rfl (by decide) hRf hRl (fun _ => (avc (by decide : inR (8)) (avc rv1 avn))) (Nat.le_of_ble_eq_true rfl) rfl rfl dX3_truth_7 (fun v2 s3 rv2 => ?_)
  exact g_iret rfl rfl (fun _ => rv2) dX3_truth_10
end
section
variable {l : Launch} {d : Nat} {call : Nat → List Int → Sg → Option (Int × Sg)}
theorem ctX3_truth (p0 : Program) (e0 : Env) (s0 : State) (m0 : MethodId) (meth0 : Method) (c0 : Code) (G0 : Gm) (hd : 2 ≤ d) (hX3_node : ∀ (a1 a2 : Int) (u : Sg), Ct l d FT clA yX3_node cX3_node 7 (some .int) DX3_node rvI [vR 0, vI a1, vI a2] u (call 5 [a1, a2] u)) (u : Sg) : Ct l (d + 1) FT clA yX3_truth cX3_truth 1 (some .int) DX3_truth rvI [vR 0] u (bX3_truth call u) :=
  Ct_of (by decide) (Nat.le_of_ble_eq_true rfl) (fun p e R s1 m args below meth c G A ad hA hRf hRl => wX3_truth hd hRf hRl hX3_node u) p0 e0 s0 m0 meth0 c0 G0
end
/-! RoundCheckModel.join(III)I -/
abbrev JX3_join : Jm := (cX3_join, RX3, 6, (some .int))
def bX3_join (call : Nat → List Int → Sg → Option (Int × Sg)) (a1 a2 a3 : Int) (u : Sg) : Option (Int × Sg) := jn (fun (s2 : Sg) => cl (call 17 [1] s2) fun v3 s4 => some (v3, s4)) fun j1 => un (sI u 0 0) fun s5 => cl (call 12 [a2, 2] s5) fun v6 s7 => cl (call 12 [a3, 2] s7) fun v8 s9 => if a1 < 0 then (j1 s9) else (if a1 ≤ 4 then (if v6 = 0 then (j1 s9) else (jn (fun (a1 a4 a5 : Int) (s11 : Sg) => if a1 = 0 then (cl (call 36 [a4] s11) fun v12 s13 => cl (call 23 [v12] s13) fun v14 s15 => some (v14, s15)) else (if a1 = 1 then (cl (call 37 [a4, a5] s11) fun v16 s17 => cl (call 23 [v16] s17) fun v18 s19 => some (v18, s19)) else (if a1 = 2 then (cl (call 36 [a4] s11) fun v20 s21 => cl (call 36 [a5] s21) fun v22 s23 => cl (call 37 [v20, v22] s23) fun v24 s25 => cl (call 36 [v24] s25) fun v26 s27 => cl (call 23 [v26] s27) fun v28 s29 => some (v28, s29)) else (if a1 = 3 then (cl (call 39 [a4, a5] s11) fun v30 s31 => cl (call 23 [v30] s31) fun v32 s33 => some (v32, s33)) else (cl (call 39 [a4, a5] s11) fun v34 s35 => cl (call 39 [a5, a4] s35) fun v36 s37 => cl (call 37 [v34, v36] s37) fun v38 s39 => cl (call 23 [v38] s39) fun v40 s41 => some (v40, s41)))))) fun j10 => if a1 = 0 then (if a3 = (-1) then (j10 a1 v6 v8 s9) else (j1 s9)) else (if v8 = 0 then (j1 s9) else (j10 a1 v6 v8 s9)))) else (j1 s9))
section
variable {p : Program} {l : Launch} {e : Env} {R : Room} {s : State} {m : MethodId} {args : Array Value} {below : List Frame} {meth : Method} {c : Code} {G : Gm} {A : Nat → Prop} {ad0 : Nat → Nat} {σ0 : Sg} {d : Nat} {call : Nat → List Int → Sg → Option (Int × Sg)}
theorem wX3_join (hd : 2 ≤ d) (hRf : d + 1 ≤ R.frames) (hRl : 40 * (d + 1) ≤ R.locals) (hX3_fails : ∀ (a1 : Int) (u : Sg), Ct l d FT clA yX3_fails cX3_fails 2 (some .int) DX3_fails rvI [vR 0, vI a1] u (call 17 [a1] u)) (hX3_form : ∀ (a1 a2 : Int) (u : Sg), Ct l d FT clA yX3_form cX3_form 3 (some .int) DX3_form rvI [vR 0, vI a1, vI a2] u (call 12 [a1, a2] u)) (hX3_not : ∀ (a1 : Int) (u : Sg), Ct l d FT clA yX3_not cX3_not 2 (some .int) DX3_not rvI [vR 0, vI a1] u (call 36 [a1] u)) (hX3_gives : ∀ (a1 : Int) (u : Sg), Ct l d FT clA yX3_gives cX3_gives 2 (some .int) DX3_gives rvI [vR 0, vI a1] u (call 23 [a1] u)) (hX3_and : ∀ (a1 a2 : Int) (u : Sg), Ct l d FT clA yX3_and cX3_and 4 (some .int) DX3_and rvI [vR 0, vI a1, vI a2] u (call 37 [a1, a2] u)) (hX3_implies : ∀ (a1 a2 : Int) (u : Sg), Ct l d FT clA yX3_implies cX3_implies 3 (some .int) DX3_implies rvI [vR 0, vI a1, vI a2] u (call 39 [a1, a2] u)) (a1 a2 a3 : Int) (u : Sg) (ra1 : inR a1) (ra2 : inR a2) (ra3 : inR a3) : WG p l e R s m args below meth c JX3_join DX3_join G clA A FT ad0 σ0 rvI (bX3_join call a1 a2 a3 u) u 0 [(0, vR 0), (1, vI a1), (2, vI a2), (3, vI a3)] [] := by
  unfold bX3_join
  refine g_jn (fun j1 => ∀ (s2 : Sg), WG p l e R s m args below meth c JX3_join DX3_join G clA A FT ad0 σ0 rvI (j1 s2) s2 52 [(0, vR 0)] []) (fun s2 => ?_) (fun j1 hj1 => ?_)
  · refine g_aload_n 0 dX3_join_52 rfl ?_
    refine g_iconst dX3_join_53 ?_
    refine g_cVI (As := [vI 1]) (n := 1) (stk := []) (ci := 2) (b := 0) (N := 83) (hX3_fails 1 s2) (by decide +kernel) rfl rfl (lw_V q1407 q1409 qs84 q168 q1410) (by decide +kernel) rfl (by decide) hRf hRl (fun _ => (avc (inR_z (Or.inr rfl)) avn)) (Nat.le_of_ble_eq_true rfl) rfl rfl dX3_join_54 (fun v3 s4 rv3 => ?_)
    exact g_iret rfl rfl (fun _ => rv3) dX3_join_57
  · refine g_aload_n 0 dX3_join_0 rfl ?_
    refine g_iconst dX3_join_1 ?_
    refine g_sIU (ci := 2) (b := 0) (N := 83) FT_ok 0 rfl rfl rfl (by decide) in_X3 tyX3 tyX3_ok nmX3 rfl rfl rfl rfl (by decide +kernel) (inR_z (Or.inl rfl)) q1132 dX3_join_2 (fun s5 => ?_)
    refine g_aload_n 0 dX3_join_5 rfl ?_
    refine g_iload_n 2 dX3_join_6 rfl ?_
    refine g_iconst dX3_join_7 ?_
    refine g_cVI (As := [vI a2, vI 2]) (n := 2) (stk := []) (ci := 2) (b := 0) (N := 83) (hX3_form a2 2 s5) (by decide +kernel) rfl rfl (lw_V q1387 q1389 qs79 q168 q1390) (by decide +kernel) rfl (by decide) hRf hRl (fun _ => (avc ra2 (avc (by decide : inR (2)) avn))) (Nat.le_of_ble_eq_true rfl) rfl rfl dX3_join_8 (fun v6 s7 rv6 => ?_)
    refine g_istore (loc' := [(4, vI v6), (0, vR 0), (1, vI a1), (2, vI a2), (3, vI a3)]) dX3_join_11 (by decide) rfl ?_
    refine g_aload_n 1 dX3_join_13 rfl ?_
    refine g_iload_n 4 dX3_join_14 rfl ?_
    refine g_iconst dX3_join_15 ?_
    refine g_cVI (As := [vI a3, vI 2]) (n := 2) (stk := []) (ci := 2) (b := 0) (N := 83) (hX3_form a3 2 s7) (by decide +kernel) rfl rfl (lw_V q1387 q1389 qs79 q168 q1390) (by decide +kernel) rfl (by decide) hRf hRl (fun _ => (avc ra3 (avc (by decide : inR (2)) avn))) (Nat.le_of_ble_eq_true rfl) rfl rfl dX3_join_16 (fun v8 s9 rv8 => ?_)
    refine g_istore (loc' := [(5, vI v8), (4, vI v6), (0, vR 0), (1, vI a1), (2, vI a2), (3, vI a3)]) dX3_join_19 (by decide) rfl ?_
    refine g_iload_n 3 dX3_join_21 rfl ?_
    refine g_if_lt 52 dX3_join_22 (by decide) (fun _ => ra1) (fun _ => ?_) (fun _ => ?_)
    · exact g_pick [2] rfl (hj1 s9)
    · refine g_iload_n 3 dX3_join_25 rfl ?_
      refine g_iconst dX3_join_26 ?_
      refine g_icmp_gt 52 dX3_join_27 (by decide) (fun _ => ra1) (fun _ => (by decide : inR (4))) (fun _ => ?_) (fun _ => ?_)
      · refine g_iload 1 dX3_join_30 rfl ?_
        refine g_if_eq 52 dX3_join_32 (by decide) (fun _ => rv6) (fun _ => ?_) (fun _ => ?_)
        · exact g_pick [2] rfl (hj1 s9)
        · refine g_jn (fun j10 => ∀ (a1 a4 a5 : Int) (s11 : Sg), inR a1 → inR a4 → inR a5 → WG p l e R s m args below meth c JX3_join DX3_join G clA A FT ad0 σ0 rvI (j10 a1 a4 a5 s11) s11 58 [(0, vR 0), (1, vI a1), (4, vI a4), (5, vI a5)] []) (fun a1 a4 a5 s11 ra1 ra4 ra5 => ?_) (fun j10 hj10 => ?_)
          · refine g_iload_n 1 dX3_join_58 rfl ?_
            refine WG.byc (fun e0 => ?_) (fun n0 => ?_)
            · refine g_tswIn 88 0 dX3_join_59 (by decide) rfl (by decide) e0 ?_
              refine g_aload_n 0 dX3_join_88 rfl ?_
              refine g_aload_n 0 dX3_join_89 rfl ?_
              refine g_iload 2 dX3_join_90 rfl ?_
              refine g_cVI (As := [vI a4]) (n := 1) (stk := [vR 0]) (ci := 2) (b := 0) (N := 83) (hX3_not a4 s11) (by decide +kernel) rfl rfl (lw_V q1483 q1485 qs93 q168 q1486) (by decide +kernel) rfl (by decide) hRf hRl (fun _ => (avc ra4 avn)) (Nat.le_of_ble_eq_true rfl) rfl rfl dX3_join_92 (fun v12 s13 rv12 => ?_)
              refine g_cVI (As := [vI v12]) (n := 1) (stk := []) (ci := 2) (b := 0) (N := 83) (hX3_gives v12 s13) (by decide +kernel) rfl rfl (lw_V q1431 q1433 qs86 q168 q1434) (by decide +kernel) rfl (by decide) hRf hRl (fun _ => (avc rv12 avn)) (Nat.le_of_ble_eq_true rfl) rfl rfl dX3_join_95 (fun v14 s15 rv14 => ?_)
              exact g_iret rfl rfl (fun _ => rv14) dX3_join_98
            · skip
              refine WG.byc (fun e1 => ?_) (fun n1 => ?_)
              · refine g_tswIn 99 1 dX3_join_59 (by decide) rfl (by decide) e1 ?_
                refine g_aload_n 0 dX3_join_99 rfl ?_
                refine g_aload_n 0 dX3_join_100 rfl ?_
                refine g_iload 2 dX3_join_101 rfl ?_
                refine g_iload 3 dX3_join_103 rfl ?_
                refine g_cVI (As := [vI a4, vI a5]) (n := 2) (stk := [vR 0]) (ci := 2) (b := 0) (N := 83) (hX3_and a4 a5 s11) (by decide +kernel) rfl rfl (lw_V q1487 q1489 qs94 q168 q1490) (by decide +kernel) rfl (by decide) hRf hRl (fun _ => (avc ra4 (avc ra5 avn))) (Nat.le_of_ble_eq_true rfl) rfl rfl dX3_join_105 (fun v16 s17 rv16 => ?_)
                refine g_cVI (As := [vI v16]) (n := 1) (stk := []) (ci := 2) (b := 0) (N := 83) (hX3_gives v16 s17) (by decide +kernel) rfl rfl (lw_V q1431 q1433 qs86 q168 q1434) (by decide +kernel) rfl (by decide) hRf hRl (fun _ => (avc rv16 avn)) (Nat.le_of_ble_eq_true rfl) rfl rfl dX3_join_108 (fun v18 s19 rv18 => ?_)
                exact g_iret rfl rfl (fun _ => rv18) dX3_join_111
              · skip
                refine WG.byc (fun e2 => ?_) (fun n2 => ?_)
                · refine g_tswIn 112 2 dX3_join_59 (by decide) rfl (by decide) e2 ?_
                  refine g_aload_n 0 dX3_join_112 rfl ?_
                  refine g_aload_n 0 dX3_join_113 rfl ?_
                  refine g_aload_n 0 dX3_join_114 rfl ?_
                  refine g_aload_n 0 dX3_join_115 rfl ?_
                  refine g_iload 2 dX3_join_116 rfl ?_
                  refine g_cVI (As := [vI a4]) (n := 1) (stk := [vR 0, vR 0, vR 0]) (ci := 2) (b := 0) (N := 83) (hX3_not a4 s11) (by decide +kernel) rfl rfl (lw_V q1483 q1485 qs93 q168 q1486) (by decide +kernel) rfl (by decide) hRf hRl (fun _ => (avc ra4 avn)) (Nat.le_of_ble_eq_true rfl) rfl rfl dX3_join_118 (fun v20 s21 rv20 => ?_)
                  refine g_aload_n 0 dX3_join_121 rfl ?_
                  refine g_iload 3 dX3_join_122 rfl ?_
                  refine g_cVI (As := [vI a5]) (n := 1) (stk := [vI v20, vR 0, vR 0, vR 0]) (ci := 2) (b := 0) (N := 83) (hX3_not a5 s21) (by decide +kernel) rfl rfl (lw_V q1483 q1485 qs93 q168 q1486) (by decide +kernel) rfl (by decide) hRf hRl (fun _ => (avc ra5 avn)) (Nat.le_of_ble_eq_true rfl) rfl rfl dX3_join_124 (fun v22 s23 rv22 => ?_)
                  refine g_cVI (As := [vI v20, vI v22]) (n := 2) (stk := [vR 0, vR 0]) (ci := 2) (b := 0) (N := 83) (hX3_and v20 v22 s23) (by decide +kernel) rfl rfl (lw_V q1487 q1489 qs94 q168 q1490) (by decide +kernel) rfl (by decide) hRf hRl (fun _ => (avc rv20 (avc rv22 avn))) (Nat.le_of_ble_eq_true rfl) rfl rfl dX3_join_127 (fun v24 s25 rv24 => ?_)
                  refine g_cVI (As := [vI v24]) (n := 1) (stk := [vR 0]) (ci := 2) (b := 0) (N := 83) (hX3_not v24 s25) (by decide +kernel) rfl rfl (lw_V q1483 q1485 qs93 q168 q1486) (by decide +kernel) rfl (by decide) hRf hRl (fun _ => (avc rv24 avn)) (Nat.le_of_ble_eq_true rfl) rfl rfl dX3_join_130 (fun v26 s27 rv26 => ?_)
                  refine g_cVI (As := [vI v26]) (n := 1) (stk := []) (ci := 2) (b := 0) (N := 83) (hX3_gives v26 s27) (by decide +kernel) rfl rfl (lw_V q1431 q1433 qs86 q168 q1434) (by decide +kernel) rfl (by decide) hRf hRl (fun _ => (avc rv26 avn)) (Nat.le_of_ble_eq_true rfl) rfl rfl dX3_join_133 (fun v28 s29 rv28 => ?_)
                  exact g_iret rfl rfl (fun _ => rv28) dX3_join_136
                · skip
                  refine WG.byc (fun e3 => ?_) (fun n3 => ?_)
                  · refine g_tswIn 137 3 dX3_join_59 (by decide) rfl (by decide) e3 ?_
                    refine g_aload_n 0 dX3_join_137 rfl ?_
                    refine g_aload_n 0 dX3_join_138 rfl ?_
                    refine g_iload 2 dX3_join_139 rfl ?_
                    refine g_iload 3 dX3_join_141 rfl ?_
                    refine g_cVI (As := [vI a4, vI a5]) (n := 2) (stk := [vR 0]) (ci := 2) (b := 0) (N := 83) (hX3_implies a4 a5 s11) (by decide +kernel) rfl rfl (lw_V q1495 q1497 qs96 q168 q1498) (by decide +kernel) rfl (by decide) hRf hRl (fun _ => (avc ra4 (avc ra5 avn))) (Nat.le_of_ble_eq_true rfl) rfl rfl dX3_join_143 (fun v30 s31 rv30 => ?_)
                    refine g_cVI (As := [vI v30]) (n := 1) (stk := []) (ci := 2) (b := 0) (N := 83) (hX3_gives v30 s31) (by decide +kernel) rfl rfl (lw_V q1431 q1433 qs86 q168 q1434) (by decide +kernel) rfl (by decide) hRf hRl (fun _ => (avc rv30 avn)) (Nat.le_of_ble_eq_true rfl) rfl rfl dX3_join_146 (fun v32 s33 rv32 => ?_)
                    exact g_iret rfl rfl (fun _ => rv32) dX3_join_149
                  · skip
                    refine g_tswOut 150 dX3_join_59 (fun _ => ra1) (by omega) (by decide) ?_
                    refine g_aload_n 0 dX3_join_150 rfl ?_
                    refine g_aload_n 0 dX3_join_151 rfl ?_
                    refine g_aload_n 0 dX3_join_152 rfl ?_
                    refine g_iload 2 dX3_join_153 rfl ?_
                    refine g_iload 3 dX3_join_155 rfl ?_
                    refine g_cVI (As := [vI a4, vI a5]) (n := 2) (stk := [vR 0, vR 0]) (ci := 2) (b := 0) (N := 83) (hX3_implies a4 a5 s11) (by decide +kernel) rfl rfl (lw_V q1495 q1497 qs96 q168 q1498) (by decide +kernel) rfl (by decide) hRf hRl (fun _ => (avc ra4 (avc ra5 avn))) (Nat.le_of_ble_eq_true rfl) rfl rfl dX3_join_157 (fun v34 s35 rv34 => ?_)
                    refine g_aload_n 0 dX3_join_160 rfl ?_
                    refine g_iload 3 dX3_join_161 rfl ?_
                    refine g_iload 2 dX3_join_163 rfl ?_
                    refine g_cVI (As := [vI a5, vI a4]) (n := 2) (stk := [vI v34, vR 0, vR 0]) (ci := 2) (b := 0) (N := 83) (hX3_implies a5 a4 s35) (by decide +kernel) rfl rfl (lw_V q1495 q1497 qs96 q168 q1498) (by decide +kernel) rfl (by decide) hRf hRl (fun _ => (avc ra5 (avc ra4 avn))) (Nat.le_of_ble_eq_true rfl) rfl rfl dX3_join_165 (fun v36 s37 rv36 => ?_)
                    refine g_cVI (As := [vI v34, vI v36]) (n := 2) (stk := [vR 0]) (ci := 2) (b := 0) (N := 83) (hX3_and v34 v36 s37) (by decide +kernel) rfl rfl (lw_V q1487 q1489 qs94 q168 q1490) (by decide +kernel) rfl (by decide) hRf hRl (fun _ => (avc rv34 (avc rv36 avn))) (Nat.le_of_ble_eq_true rfl) rfl rfl dX3_join_168 (fun v38 s39 rv38 => ?_)
                    refine g_cVI (As := [vI v38]) (n := 1) (stk := []) (ci := 2) (b := 0) (N := 83) (hX3_gives v38 s39) (by decide +kernel) rfl rfl (lw_V q1431 q1433 qs86 q168 q1434) (by decide +kernel) rfl (by decide) hRf hRl (fun _ => (avc rv38 avn)) (Nat.le_of_ble_eq_true rfl) rfl rfl dX3_join_171 (fun v40 s41 rv40 => ?_)
                    exact g_iret rfl rfl (fun _ => rv40) dX3_join_174
          · refine g_iload_n 3 dX3_join_35 rfl ?_
            refine g_if_ne 47 dX3_join_36 (by decide) (fun _ => ra1) (fun _ => ?_) (fun _ => ?_)
            · refine g_iload_n 5 dX3_join_39 rfl ?_
              refine g_iconst dX3_join_40 ?_
              refine g_icmp_eq 58 dX3_join_41 (by decide) (fun _ => ra3) (fun _ => (by decide : inR (-1))) (fun _ => ?_) (fun _ => ?_)
              · exact g_pick [2, 3, 1, 0] rfl (hj10 a1 v6 v8 s9 ra1 rv6 rv8)
              · refine g_goto 52 dX3_join_44 (by decide) ?_
                exact g_pick [2] rfl (hj1 s9)
            · refine g_iload 0 dX3_join_47 rfl ?_
              refine g_if_ne 58 dX3_join_49 (by decide) (fun _ => rv8) (fun _ => ?_) (fun _ => ?_)
              · exact g_pick [2] rfl (hj1 s9)
              · exact g_pick [2, 3, 1, 0] rfl (hj10 a1 v6 v8 s9 ra1 rv6 rv8)
      · exact g_pick [2] rfl (hj1 s9)
end
section
variable {l : Launch} {d : Nat} {call : Nat → List Int → Sg → Option (Int × Sg)}
theorem ctX3_join (p0 : Program) (e0 : Env) (s0 : State) (m0 : MethodId) (meth0 : Method) (c0 : Code) (G0 : Gm) (hd : 2 ≤ d) (hX3_fails : ∀ (a1 : Int) (u : Sg), Ct l d FT clA yX3_fails cX3_fails 2 (some .int) DX3_fails rvI [vR 0, vI a1] u (call 17 [a1] u)) (hX3_form : ∀ (a1 a2 : Int) (u : Sg), Ct l d FT clA yX3_form cX3_form 3 (some .int) DX3_form rvI [vR 0, vI a1, vI a2] u (call 12 [a1, a2] u)) (hX3_not : ∀ (a1 : Int) (u : Sg), Ct l d FT clA yX3_not cX3_not 2 (some .int) DX3_not rvI [vR 0, vI a1] u (call 36 [a1] u)) (hX3_gives : ∀ (a1 : Int) (u : Sg), Ct l d FT clA yX3_gives cX3_gives 2 (some .int) DX3_gives rvI [vR 0, vI a1] u (call 23 [a1] u)) (hX3_and : ∀ (a1 a2 : Int) (u : Sg), Ct l d FT clA yX3_and cX3_and 4 (some .int) DX3_and rvI [vR 0, vI a1, vI a2] u (call 37 [a1, a2] u)) (hX3_implies : ∀ (a1 a2 : Int) (u : Sg), Ct l d FT clA yX3_implies cX3_implies 3 (some .int) DX3_implies rvI [vR 0, vI a1, vI a2] u (call 39 [a1, a2] u)) (a1 a2 a3 : Int) (u : Sg) : Ct l (d + 1) FT clA yX3_join cX3_join 6 (some .int) DX3_join rvI [vR 0, vI a1, vI a2, vI a3] u (bX3_join call a1 a2 a3 u) :=
  Ct_of (by decide) (Nat.le_of_ble_eq_true rfl) (fun p e R s1 m args below meth c G A ad hA hRf hRl => wX3_join hd hRf hRl hX3_fails hX3_form hX3_not hX3_gives hX3_and hX3_implies a1 a2 a3 u (hA _ (List.mem_cons_of_mem _ List.mem_cons_self)) (hA _ (List.mem_cons_of_mem _ (List.mem_cons_of_mem _ List.mem_cons_self))) (hA _ (List.mem_cons_of_mem _ (List.mem_cons_of_mem _ (List.mem_cons_of_mem _ List.mem_cons_self))))) p0 e0 s0 m0 meth0 c0 G0
end
/-! RoundCheckModel.not(I)I -/
abbrev JX3_not : Jm := (cX3_not, RX3, 2, (some .int))
def bX3_not (call : Nat → List Int → Sg → Option (Int × Sg)) (a1 : Int) (u : Sg) : Option (Int × Sg) := ld u 1 a1 fun v1 => if v1 = 15 then (cl (call 7 [a1, 0] u) fun v2 s3 => some (v2, s3)) else (cl (call 27 [15, a1] u) fun v4 s5 => some (v4, s5))
section
variable {p : Program} {l : Launch} {e : Env} {R : Room} {s : State} {m : MethodId} {args : Array Value} {below : List Frame} {meth : Method} {c : Code} {G : Gm} {A : Nat → Prop} {ad0 : Nat → Nat} {σ0 : Sg} {d : Nat} {call : Nat → List Int → Sg → Option (Int × Sg)}
theorem wX3_not (hd : 2 ≤ d) (hRf : d + 1 ≤ R.frames) (hRl : 40 * (d + 1) ≤ R.locals) (hX3_get : ∀ (a1 a2 : Int) (u : Sg), Ct l d FT clA yX3_get cX3_get 3 (some .int) DX3_get rvI [vR 0, vI a1, vI a2] u (call 7 [a1, a2] u)) (hX3_leaf : ∀ (a1 a2 : Int) (u : Sg), Ct l d FT clA yX3_leaf cX3_leaf 4 (some .int) DX3_leaf rvI [vR 0, vI a1, vI a2] u (call 27 [a1, a2] u)) (a1 : Int) (u : Sg) (ra1 : inR a1) : WG p l e R s m args below meth c JX3_not DX3_not G clA A FT ad0 σ0 rvI (bX3_not call a1 u) u 0 [(0, vR 0), (1, vI a1)] [] := by
  unfold bX3_not
  refine g_aload_n 0 dX3_not_0 rfl ?_
  refine g_get (v := vR 11) (ci := 2) (b := 0) (N := 83) 1 rfl rfl (by decide) in_X3 rfl rfl q1133 dX3_not_1 ?_
  refine g_iload_n 1 dX3_not_4 rfl ?_
  refine g_iald (id := 1) 0 rfl rfl dX3_not_5 (fun v1 rv1 => ?_)
  refine g_bipush (by decide +kernel) dX3_not_6 ?_
  refine g_icmp_ne 18 dX3_not_8 (by decide) (fun _ => rv1) (fun _ => (by decide : inR (15))) (fun _ => ?_) (fun _ => ?_)
  · refine g_aload_n 0 dX3_not_11 rfl ?_
    refine g_iload_n 1 dX3_not_12 rfl ?_
    refine g_iconst dX3_not_13 ?_
    refine g_cVI (As := [vI a1, vI 0]) (n := 2) (stk := []) (ci := 2) (b := 0) (N := 83) (hX3_get a1 0 u) (by decide +kernel) rfl rfl (lw_V q1116 q1118 qs76 q168 q1119) (by decide +kernel) rfl (by decide) hRf hRl (fun _ => (avc ra1 (avc (inR_z (Or.inl rfl)) avn))) (Nat.le_of_ble_eq_true rfl) rfl rfl dX3_not_14 (fun v2 s3 rv2 => ?_)
    exact g_iret rfl rfl (fun _ => rv2) dX3_not_17
  · refine g_aload_n 0 dX3_not_18 rfl ?_
    refine g_bipush (by decide +kernel) dX3_not_19 ?_
    refine g_iload_n 1 dX3_not_21 rfl ?_
    refine g_cVI (As := [vI 15, vI a1]) (n := 2) (stk := []) (ci := 2) (b := 0) (N := 83) (hX3_leaf 15 a1 u) (by decide +kernel) rfl rfl (lw_V q1447 q1449 qs89 q168 q1450) (by decide +kernel) rfl (by decide) hRf hRl (fun _ => (avc (by decide : inR (15)) (avc ra1 avn))) (Nat.le_of_ble_eq_true rfl) rfl rfl dX3_not_22 (fun v4 s5 rv4 => ?_)
    exact g_iret rfl rfl (fun _ => rv4) dX3_not_25
end
section
variable {l : Launch} {d : Nat} {call : Nat → List Int → Sg → Option (Int × Sg)}
theorem ctX3_not (p0 : Program) (e0 : Env) (s0 : State) (m0 : MethodId) (meth0 : Method) (c0 : Code) (G0 : Gm) (hd : 2 ≤ d) (hX3_get : ∀ (a1 a2 : Int) (u : Sg), Ct l d FT clA yX3_get cX3_get 3 (some .int) DX3_get rvI [vR 0, vI a1, vI a2] u (call 7 [a1, a2] u)) (hX3_leaf : ∀ (a1 a2 : Int) (u : Sg), Ct l d FT clA yX3_leaf cX3_leaf 4 (some .int) DX3_leaf rvI [vR 0, vI a1, vI a2] u (call 27 [a1, a2] u)) (a1 : Int) (u : Sg) : Ct l (d + 1) FT clA yX3_not cX3_not 2 (some .int) DX3_not rvI [vR 0, vI a1] u (bX3_not call a1 u) :=
  Ct_of (by decide) (Nat.le_of_ble_eq_true rfl) (fun p e R s1 m args below meth c G A ad hA hRf hRl => wX3_not hd hRf hRl hX3_get hX3_leaf a1 u (hA _ (List.mem_cons_of_mem _ List.mem_cons_self))) p0 e0 s0 m0 meth0 c0 G0
end
/-! RoundCheckModel.and(II)I -/
abbrev JX3_and : Jm := (cX3_and, RX3, 4, (some .int))
def bX3_and (call : Nat → List Int → Sg → Option (Int × Sg)) (a1 a2 : Int) (u : Sg) : Option (Int × Sg) := un (gI u 13) fun v1 => cl (call 3 [a1] u) fun v2 s3 => cl (call 3 [a2] s3) fun v4 s5 => cl (call 38 [v1] s5) fun v6 s7 => some (v6, s7)
section
variable {p : Program} {l : Launch} {e : Env} {R : Room} {s : State} {m : MethodId} {args : Array Value} {below : List Frame} {meth : Method} {c : Code} {G : Gm} {A : Nat → Prop} {ad0 : Nat → Nat} {σ0 : Sg} {d : Nat} {call : Nat → List Int → Sg → Option (Int × Sg)}
theorem wX3_and (hd : 2 ≤ d) (hRf : d + 1 ≤ R.frames) (hRl : 40 * (d + 1) ≤ R.locals) (hX3_give : ∀ (a1 : Int) (u : Sg), Ct l d FT clA yX3_give cX3_give 2 none DX3_give rvV [vR 0, vI a1] u (call 3 [a1] u)) (hX3_and_2 : ∀ (a1 : Int) (u : Sg), Ct l d FT clA yX3_and_2 cX3_and_2 8 (some .int) DX3_and_2 rvI [vR 0, vI a1] u (call 38 [a1] u)) (a1 a2 : Int) (u : Sg) (ra1 : inR a1) (ra2 : inR a2) : WG p l e R s m args below meth c JX3_and DX3_and G clA A FT ad0 σ0 rvI (bX3_and call a1 a2 u) u 0 [(0, vR 0), (1, vI a1), (2, vI a2)] [] := by
  unfold bX3_and
  refine g_aload_n 0 dX3_and_0 rfl ?_
  refine g_getI (ci := 2) (b := 0) (N := 83) 13 rfl rfl rfl (by decide) in_X3 rfl rfl q1145 dX3_and_1 (fun v1 rv1 => ?_)
  refine g_istore_n (loc' := [(3, vI v1), (0, vR 0), (1, vI a1), (2, vI a2)]) dX3_and_4 (by decide) rfl ?_
  refine g_aload_n 1 dX3_and_5 rfl ?_
  refine g_iload_n 2 dX3_and_6 rfl ?_
  refine g_cVV (As := [vI a1]) (n := 1) (stk := []) (ci := 2) (b := 0) (N := 83) (hX3_give a1 u) (by decide +kernel) rfl rfl (lw_V q1100 q1102 qs73 q168 q1103) (by decide +kernel) rfl (by decide) hRf hRl (fun _ => (avc ra1 avn)) (Nat.le_of_ble_eq_true rfl) rfl rfl dX3_and_7 (fun v2 s3 => ?_)
  refine g_aload_n 1 dX3_and_10 rfl ?_
  refine g_iload_n 3 dX3_and_11 rfl ?_
  refine g_cVV (As := [vI a2]) (n := 1) (stk := []) (ci := 2) (b := 0) (N := 83) (hX3_give a2 s3) (by decide +kernel) rfl rfl (lw_V q1100 q1102 qs73 q168 q1103) (by decide +kernel) rfl (by decide) hRf hRl (fun _ => (avc ra2 avn)) (Nat.le_of_ble_eq_true rfl) rfl rfl dX3_and_12 (fun v4 s5 => ?_)
  refine g_aload_n 1 dX3_and_15 rfl ?_
  refine g_iload_n 0 dX3_and_16 rfl ?_
  refine g_cVI (As := [vI v1]) (n := 1) (stk := []) (ci := 2) (b := 0) (N := 83) (hX3_and_2 v1 s5) (by decide +kernel) rfl rfl (lw_V q1491 q1493 qs95 q168 q1494) (by decide +kernel) rfl (by decide) hRf hRl (fun _ => (avc rv1 avn)) (Nat.le_of_ble_eq_true rfl) rfl rfl dX3_and_17 (fun v6 s7 rv6 => ?_)
  exact g_iret rfl rfl (fun _ => rv6) dX3_and_20
end
section
variable {l : Launch} {d : Nat} {call : Nat → List Int → Sg → Option (Int × Sg)}
theorem ctX3_and (p0 : Program) (e0 : Env) (s0 : State) (m0 : MethodId) (meth0 : Method) (c0 : Code) (G0 : Gm) (hd : 2 ≤ d) (hX3_give : ∀ (a1 : Int) (u : Sg), Ct l d FT clA yX3_give cX3_give 2 none DX3_give rvV [vR 0, vI a1] u (call 3 [a1] u)) (hX3_and_2 : ∀ (a1 : Int) (u : Sg), Ct l d FT clA yX3_and_2 cX3_and_2 8 (some .int) DX3_and_2 rvI [vR 0, vI a1] u (call 38 [a1] u)) (a1 a2 : Int) (u : Sg) : Ct l (d + 1) FT clA yX3_and cX3_and 4 (some .int) DX3_and rvI [vR 0, vI a1, vI a2] u (bX3_and call a1 a2 u) :=
  Ct_of (by decide) (Nat.le_of_ble_eq_true rfl) (fun p e R s1 m args below meth c G A ad hA hRf hRl => wX3_and hd hRf hRl hX3_give hX3_and_2 a1 a2 u (hA _ (List.mem_cons_of_mem _ List.mem_cons_self)) (hA _ (List.mem_cons_of_mem _ (List.mem_cons_of_mem _ List.mem_cons_self)))) p0 e0 s0 m0 meth0 c0 G0
end
/-! RoundCheckModel.and(I)I -/
abbrev JX3_and_2 : Jm := (cX3_and_2, RX3, 8, (some .int))
def bX3_and_2_L94 (call : Nat → List Int → Sg → Option (Int × Sg)) : Nat → Int → Int → Int → Int → Int → Int → Int → Sg → (Int → Int → Int → Int → Int → Sg → Option (Int × Sg)) → Option (Int × Sg)
  | 0, _, _, _, _, _, _, _, _, _ => none
  | n + 1, a1, a2, a3, a4, a5, a6, a7, u, x124 => ld u 3 a6 fun v1 => if a7 < v1 then (cl (call 7 [a6, a7] u) fun v2 s3 => cl (call 3 [v2] s3) fun v4 s5 => ar (a7 + 1) fun v6 => bX3_and_2_L94 call n a1 a2 a3 a4 a5 a6 v6 s5 x124) else (x124 a1 a2 a3 a4 a5 u)
def bX3_and_2_L16 (call : Nat → List Int → Sg → Option (Int × Sg)) : Nat → Int → Int → Int → Int → Int → Sg → (Int → Int → Int → Sg → Option (Int × Sg)) → Option (Int × Sg)
  | 0, _, _, _, _, _, _, _ => none
  | n + 1, a1, a2, a3, a4, a5, u, x139 => if a5 < a2 then (ld u 12 a5 fun v1 => ld u 1 v1 fun v2 => if v2 = 8 then (ar (a5 + 1) fun v3 => bX3_and_2_L16 call n a1 a2 a3 a4 v3 u x139) else (jn (fun (a1 a2 a3 a4 a5 a6 : Int) (s5 : Sg) => ld s5 1 a6 fun v6 => if v6 = 16 then (bX3_and_2_L94 call KF a1 a2 a3 a4 a5 a6 0 s5 (fun v8 v9 v10 v11 v12 s7 => ar (v12 + 1) fun v13 => bX3_and_2_L16 call n v8 v9 v10 v11 v13 s7 x139)) else (cl (call 3 [a6] s5) fun v14 s15 => ar (a5 + 1) fun v16 => bX3_and_2_L16 call n a1 a2 a3 a4 v16 s15 x139)) fun j4 => ld u 1 v1 fun v17 => if v17 = 15 then (cl (call 7 [v1, 0] u) fun v18 s19 => gd (keeps [1] u s19 = true) (ld s19 1 v18 fun v20 => if v20 = 8 then (j4 a1 a2 a3 v1 a5 v1 s19) else (j4 a1 a2 a3 a4 a5 v1 s19))) else (j4 a1 a2 a3 a4 a5 v1 u))) else (x139 a1 a3 a4 u)
def bX3_and_2 (call : Nat → List Int → Sg → Option (Int × Sg)) (a1 : Int) (u : Sg) : Option (Int × Sg) := un (gI u 13) fun v1 => un (gI u 13) fun v2 => bX3_and_2_L16 call KF a1 v1 v2 0 a1 u (fun v4 v5 v6 s3 => jn (fun (a1 a3 a4 : Int) (s8 : Sg) => jn (fun (a1 t0 : Int) (s10 : Sg) => un (sI s10 13 a1) fun s11 => some (t0, s11)) fun j9 => if a4 ≤ 0 then (un (gI s8 13) fun v12 => ar (v12 - a3) fun v13 => if v13 = 1 then (ld s8 12 a3 fun v14 => j9 a1 v14 s8) else (cl (call 34 [] s8) fun v15 s16 => j9 a1 v15 s16)) else (j9 a1 a4 s8)) fun j7 => if v6 ≤ 0 then (un (gI s3 13) fun v17 => ar (v17 - v5) fun v18 => if v18 < 2 then (j7 v4 v5 v6 s3) else (cl (call 5 [16, v5] s3) fun v19 s20 => un (sI s20 13 v4) fun s21 => some (v19, s21))) else (j7 v4 v5 v6 s3))
section
variable {p : Program} {l : Launch} {e : Env} {R : Room} {s : State} {m : MethodId} {args : Array Value} {below : List Frame} {meth : Method} {c : Code} {G : Gm} {A : Nat → Prop} {ad0 : Nat → Nat} {σ0 : Sg} {d : Nat} {call : Nat → List Int → Sg → Option (Int × Sg)}
theorem wX3_and_2_L94 (hd : 2 ≤ d) (hRf : d + 1 ≤ R.frames) (hRl : 40 * (d + 1) ≤ R.locals) (hX3_get : ∀ (a1 a2 : Int) (u : Sg), Ct l d FT clA yX3_get cX3_get 3 (some .int) DX3_get rvI [vR 0, vI a1, vI a2] u (call 7 [a1, a2] u)) (hX3_give : ∀ (a1 : Int) (u : Sg), Ct l d FT clA yX3_give cX3_give 2 none DX3_give rvV [vR 0, vI a1] u (call 3 [a1] u)) (hX3_truth : ∀ (u : Sg), Ct l d FT clA yX3_truth cX3_truth 1 (some .int) DX3_truth rvI [vR 0] u (call 34 [] u)) (hX3_node : ∀ (a1 a2 : Int) (u : Sg), Ct l d FT clA yX3_node cX3_node 7 (some .int) DX3_node rvI [vR 0, vI a1, vI a2] u (call 5 [a1, a2] u)) (x124 : Int → Int → Int → Int → Int → Sg → Option (Int × Sg)) (hx124 : ∀ (a1 a2 a3 a4 a5 : Int) (u : Sg), inR a1 → inR a2 → inR a3 → inR a4 → inR a5 → WG p l e R s m args below meth c JX3_and_2 DX3_and_2 G clA A FT ad0 σ0 rvI (x124 a1 a2 a3 a4 a5 u) u 124 [(0, vR 0), (1, vI a1), (2, vI a2), (3, vI a3), (4, vI a4), (5, vI a5)] []) : ∀ (n : Nat) (a1 a2 a3 a4 a5 a6 a7 : Int) (u : Sg), inR a1 → inR a2 → inR a3 → inR a4 → inR a5 → inR a6 → inR a7 → WG p l e R s m args below meth c JX3_and_2 DX3_and_2 G clA A FT ad0 σ0 rvI (bX3_and_2_L94 call n a1 a2 a3 a4 a5 a6 a7 u x124) u 94 [(0, vR 0), (1, vI a1), (2, vI a2), (3, vI a3), (4, vI a4), (5, vI a5), (6, vI a6), (7, vI a7)] [] := by
  intro n
  induction n with
  | zero =>
    intro a1 a2 a3 a4 a5 a6 a7 u ra1 ra2 ra3 ra4 ra5 ra6 ra7
    exact g_none
  | succ n ih =>
    intro a1 a2 a3 a4 a5 a6 a7 u ra1 ra2 ra3 ra4 ra5 ra6 ra7
    rw [bX3_and_2_L94]
    refine g_iload 7 dX3_and_2_94 rfl ?_
    refine g_aload_n 0 dX3_and_2_96 rfl ?_
    refine g_get (v := vR 13) (ci := 2) (b := 0) (N := 83) 3 rfl rfl (by decide) in_X3 rfl rfl q1135 dX3_and_2_97 ?_
    refine g_iload 6 dX3_and_2_100 rfl ?_
    refine g_iald (id := 3) 2 rfl rfl dX3_and_2_102 (fun v1 rv1 => ?_)
    refine g_icmp_ge 124 dX3_and_2_103 (by decide) (fun _ => ra7) (fun _ => rv1) (fun _ => ?_) (fun _ => ?_)
    · refine g_aload_n 0 dX3_and_2_106 rfl ?_
      refine g_aload_n 0 dX3_and_2_107 rfl ?_
      refine g_iload 6 dX3_and_2_108 rfl ?_
      refine g_iload 7 dX3_and_2_110 rfl ?_
      refine g_cVI (As := [vI a6, vI a7]) (n := 2) (stk := [vR 0]) (ci := 2) (b := 0) (N := 83) (hX3_get a6 a7 u) (by decide +kernel) rfl rfl (lw_V q1116 q1118 qs76 q168 q1119) (by decide +kernel) rfl (by decide) hRf hRl (fun _ => (avc ra6 (avc ra7 avn))) (Nat.le_of_ble_eq_true rfl) rfl rfl dX3_and_2_112 (fun v2 s3 rv2 => ?_)
      refine g_cVV (As := [vI v2]) (n := 1) (stk := []) (ci := 2) (b := 0) (N := 83) (hX3_give v2 s3) (by decide +kernel) rfl rfl (lw_V q1100 q1102 qs73 q168 q1103) (by decide +kernel) rfl (by decide) hRf hRl (fun _ => (avc rv2 avn)) (Nat.le_of_ble_eq_true rfl) rfl rfl dX3_and_2_115 (fun v4 s5 => ?_)
      refine g_iinc 7 (loc' := fun v6 => [(7, vI v6), (0, vR 0), (1, vI a1), (2, vI a2), (3, vI a3), (4, vI a4), (5, vI a5), (6, vI a6)]) dX3_and_2_118 rfl (by decide) (fun _ => rfl) (fun v6 rv6 => ?_)
      refine g_goto 94 dX3_and_2_121 (by decide) ?_
      exact g_pick [1, 2, 3, 4, 5, 6, 7, 0] rfl (ih a1 a2 a3 a4 a5 a6 v6 s5 ra1 ra2 ra3 ra4 ra5 ra6 rv6)
    · exact g_pick [0, 1, 2, 3, 4, 5] rfl (hx124 a1 a2 a3 a4 a5 u ra1 ra2 ra3 ra4 ra5)
theorem wX3_and_2_L16 (hd : 2 ≤ d) (hRf : d + 1 ≤ R.frames) (hRl : 40 * (d + 1) ≤ R.locals) (hX3_get : ∀ (a1 a2 : Int) (u : Sg), Ct l d FT clA yX3_get cX3_get 3 (some .int) DX3_get rvI [vR 0, vI a1, vI a2] u (call 7 [a1, a2] u)) (hX3_give : ∀ (a1 : Int) (u : Sg), Ct l d FT clA yX3_give cX3_give 2 none DX3_give rvV [vR 0, vI a1] u (call 3 [a1] u)) (hX3_truth : ∀ (u : Sg), Ct l d FT clA yX3_truth cX3_truth 1 (some .int) DX3_truth rvI [vR 0] u (call 34 [] u)) (hX3_node : ∀ (a1 a2 : Int) (u : Sg), Ct l d FT clA yX3_node cX3_node 7 (some .int) DX3_node rvI [vR 0, vI a1, vI a2] u (call 5 [a1, a2] u)) (x139 : Int → Int → Int → Sg → Option (Int × Sg)) (hx139 : ∀ (a1 a3 a4 : Int) (u : Sg), inR a1 → inR a3 → inR a4 → WG p l e R s m args below meth c JX3_and_2 DX3_and_2 G clA A FT ad0 σ0 rvI (x139 a1 a3 a4 u) u 139 [(0, vR 0), (1, vI a1), (3, vI a3), (4, vI a4)] []) : ∀ (n : Nat) (a1 a2 a3 a4 a5 : Int) (u : Sg), inR a1 → inR a2 → inR a3 → inR a4 → inR a5 → WG p l e R s m args below meth c JX3_and_2 DX3_and_2 G clA A FT ad0 σ0 rvI (bX3_and_2_L16 call n a1 a2 a3 a4 a5 u x139) u 16 [(0, vR 0), (1, vI a1), (2, vI a2), (3, vI a3), (4, vI a4), (5, vI a5)] [] := by
  intro n
  induction n with
  | zero =>
    intro a1 a2 a3 a4 a5 u ra1 ra2 ra3 ra4 ra5
    exact g_none
  | succ n ih =>
    intro a1 a2 a3 a4 a5 u ra1 ra2 ra3 ra4 ra5
    rw [bX3_and_2_L16]
    refine g_iload 5 dX3_and_2_16 rfl ?_
    refine g_iload_n 2 dX3_and_2_18 rfl ?_
    refine g_icmp_ge 139 dX3_and_2_19 (by decide) (fun _ => ra5) (fun _ => ra2) (fun _ => ?_) (fun _ => ?_)
    · refine g_aload_n 0 dX3_and_2_22 rfl ?_
      refine g_get (v := vR 22) (ci := 2) (b := 0) (N := 83) 12 rfl rfl (by decide) in_X3 rfl rfl q1144 dX3_and_2_23 ?_
      refine g_iload 5 dX3_and_2_26 rfl ?_
      refine g_iald (id := 12) 9 rfl rfl dX3_and_2_28 (fun v1 rv1 => ?_)
      refine g_istore (loc' := [(6, vI v1), (0, vR 0), (1, vI a1), (2, vI a2), (3, vI a3), (4, vI a4), (5, vI a5)]) dX3_and_2_29 (by decide) rfl ?_
      refine g_aload_n 1 dX3_and_2_31 rfl ?_
      refine g_get (v := vR 11) (ci := 2) (b := 0) (N := 83) 1 rfl rfl (by decide) in_X3 rfl rfl q1133 dX3_and_2_32 ?_
      refine g_iload 0 dX3_and_2_35 rfl ?_
      refine g_iald (id := 1) 0 rfl rfl dX3_and_2_37 (fun v2 rv2 => ?_)
      refine g_bipush (by decide +kernel) dX3_and_2_38 ?_
      refine g_icmp_ne 46 dX3_and_2_40 (by decide) (fun _ => rv2) (fun _ => (by decide : inR (8))) (fun _ => ?_) (fun _ => ?_)
      · refine g_goto 133 dX3_and_2_43 (by decide) ?_
        refine g_iinc 6 (loc' := fun v3 => [(5, vI v3), (6, vI v1), (0, vR 0), (1, vI a1), (2, vI a2), (3, vI a3), (4, vI a4)]) dX3_and_2_133 rfl (by decide) (fun _ => rfl) (fun v3 rv3 => ?_)
        refine g_goto 16 dX3_and_2_136 (by decide) ?_
        exact g_pick [2, 3, 4, 5, 6, 0] rfl (ih a1 a2 a3 a4 v3 u ra1 ra2 ra3 ra4 rv3)
      · refine g_jn (fun j4 => ∀ (a1 a2 a3 a4 a5 a6 : Int) (s5 : Sg), inR a1 → inR a2 → inR a3 → inR a4 → inR a5 → inR a6 → WG p l e R s m args below meth c JX3_and_2 DX3_and_2 G clA A FT ad0 σ0 rvI (j4 a1 a2 a3 a4 a5 a6 s5) s5 79 [(0, vR 0), (1, vI a1), (2, vI a2), (3, vI a3), (4, vI a4), (5, vI a5), (6, vI a6)] []) (fun a1 a2 a3 a4 a5 a6 s5 ra1 ra2 ra3 ra4 ra5 ra6 => ?_) (fun j4 hj4 => ?_)
        · refine g_aload_n 0 dX3_and_2_79 rfl ?_
          refine g_get (v := vR 11) (ci := 2) (b := 0) (N := 83) 1 rfl rfl (by decide) in_X3 rfl rfl q1133 dX3_and_2_80 ?_
          refine g_iload 6 dX3_and_2_83 rfl ?_
          refine g_iald (id := 1) 0 rfl rfl dX3_and_2_85 (fun v6 rv6 => ?_)
          refine g_bipush (by decide +kernel) dX3_and_2_86 ?_
          refine g_icmp_ne 127 dX3_and_2_88 (by decide) (fun _ => rv6) (fun _ => (by decide : inR (16))) (fun _ => ?_) (fun _ => ?_)
          · refine g_iconst dX3_and_2_91 ?_
            refine g_istore (loc' := [(7, vI 0), (0, vR 0), (1, vI a1), (2, vI a2), (3, vI a3), (4, vI a4), (5, vI a5), (6, vI a6)]) dX3_and_2_92 (by decide) rfl ?_
            refine g_pick [1, 2, 3, 4, 5, 6, 7, 0] rfl (wX3_and_2_L94 hd hRf hRl hX3_get hX3_give hX3_truth hX3_node _ (fun v8 v9 v10 v11 v12 s7 rv8 rv9 rv10 rv11 rv12 => ?_) KF a1 a2 a3 a4 a5 a6 0 s5 ra1 ra2 ra3 ra4 ra5 ra6 (inR_z (Or.inl rfl)))
            · refine g_goto 133 dX3_and_2_124 (by decide) ?_
              refine g_iinc 5 (loc' := fun v13 => [(5, vI v13), (0, vR 0), (1, vI v8), (2, vI v9), (3, vI v10), (4, vI v11)]) dX3_and_2_133 rfl (by decide) (fun _ => rfl) (fun v13 rv13 => ?_)
              refine g_goto 16 dX3_and_2_136 (by decide) ?_
              exact g_pick [1, 2, 3, 4, 5, 0] rfl (ih v8 v9 v10 v11 v13 s7 rv8 rv9 rv10 rv11 rv13)
          · refine g_aload_n 0 dX3_and_2_127 rfl ?_
            refine g_iload 6 dX3_and_2_128 rfl ?_
            refine g_cVV (As := [vI a6]) (n := 1) (stk := []) (ci := 2) (b := 0) (N := 83) (hX3_give a6 s5) (by decide +kernel) rfl rfl (lw_V q1100 q1102 qs73 q168 q1103) (by decide +kernel) rfl (by decide) hRf hRl (fun _ => (avc ra6 avn)) (Nat.le_of_ble_eq_true rfl) rfl rfl dX3_and_2_130 (fun v14 s15 => ?_)
            refine g_iinc 5 (loc' := fun v16 => [(5, vI v16), (0, vR 0), (1, vI a1), (2, vI a2), (3, vI a3), (4, vI a4), (6, vI a6)]) dX3_and_2_133 rfl (by decide) (fun _ => rfl) (fun v16 rv16 => ?_)
            refine g_goto 16 dX3_and_2_136 (by decide) ?_
            exact g_pick [1, 2, 3, 4, 5, 0] rfl (ih a1 a2 a3 a4 v16 s15 ra1 ra2 ra3 ra4 rv16)
        · refine g_aload_n 1 dX3_and_2_46 rfl ?_
          refine g_get (v := vR 11) (ci := 2) (b := 0) (N := 83) 1 rfl rfl (by decide) in_X3 rfl rfl q1133 dX3_and_2_47 ?_
          refine g_iload 0 dX3_and_2_50 rfl ?_
          refine g_iald (id := 1) 0 rfl rfl dX3_and_2_52 (fun v17 rv17 => ?_)
          refine g_bipush (by decide +kernel) dX3_and_2_53 ?_
          refine g_icmp_ne 79 dX3_and_2_55 (by decide) (fun _ => rv17) (fun _ => (by decide : inR (15))) (fun _ => ?_) (fun _ => ?_)
          · refine g_aload_n 1 dX3_and_2_58 rfl ?_
            refine g_get (v := vR 11) (ci := 2) (b := 0) (N := 83) 1 rfl rfl (by decide) in_X3 rfl rfl q1133 dX3_and_2_59 ?_
            refine g_aload_n 1 dX3_and_2_62 rfl ?_
            refine g_iload 0 dX3_and_2_63 rfl ?_
            refine g_iconst dX3_and_2_65 ?_
            refine g_cVIk [1] (As := [vI v1, vI 0]) (n := 2) (stk := [vR 11]) (ci := 2) (b := 0) (N := 83) (hX3_get v1 0 u) (by decide +kernel) rfl rfl (lw_V q1116 q1118 qs76 q168 q1119) (by decide +kernel) rfl (by decide) hRf hRl (fun _ => (avc rv1 (avc (inR_z (Or.inl rfl)) avn))) (Nat.le_of_ble_eq_true rfl) rfl rfl dX3_and_2_66 (fun v18 s19 rv18 => ?_)
            refine g_iald (id := 1) 0 rfl rfl dX3_and_2_69 (fun v20 rv20 => ?_)
            refine g_bipush (by decide +kernel) dX3_and_2_70 ?_
            refine g_icmp_ne 79 dX3_and_2_72 (by decide) (fun _ => rv20) (fun _ => (by decide : inR (8))) (fun _ => ?_) (fun _ => ?_)
            · refine g_iload 0 dX3_and_2_75 rfl ?_
              refine g_istore (loc' := [(4, vI v1), (6, vI v1), (0, vR 0), (1, vI a1), (2, vI a2), (3, vI a3), (5, vI a5)]) dX3_and_2_77 (by decide) rfl ?_
              exact g_pick [2, 3, 4, 5, 0, 6, 1] rfl (hj4 a1 a2 a3 v1 a5 v1 s19 ra1 ra2 ra3 rv1 ra5 rv1)
            · exact g_pick [1, 2, 3, 4, 5, 6, 0] rfl (hj4 a1 a2 a3 a4 a5 v1 s19 ra1 ra2 ra3 ra4 ra5 rv1)
          · exact g_pick [1, 2, 3, 4, 5, 6, 0] rfl (hj4 a1 a2 a3 a4 a5 v1 u ra1 ra2 ra3 ra4 ra5 rv1)
    · exact g_pick [0, 1, 3, 4] rfl (hx139 a1 a3 a4 u ra1 ra3 ra4)
theorem wX3_and_2 (hd : 2 ≤ d) (hRf : d + 1 ≤ R.frames) (hRl : 40 * (d + 1) ≤ R.locals) (hX3_get : ∀ (a1 a2 : Int) (u : Sg), Ct l d FT clA yX3_get cX3_get 3 (some .int) DX3_get rvI [vR 0, vI a1, vI a2] u (call 7 [a1, a2] u)) (hX3_give : ∀ (a1 : Int) (u : Sg), Ct l d FT clA yX3_give cX3_give 2 none DX3_give rvV [vR 0, vI a1] u (call 3 [a1] u)) (hX3_truth : ∀ (u : Sg), Ct l d FT clA yX3_truth cX3_truth 1 (some .int) DX3_truth rvI [vR 0] u (call 34 [] u)) (hX3_node : ∀ (a1 a2 : Int) (u : Sg), Ct l d FT clA yX3_node cX3_node 7 (some .int) DX3_node rvI [vR 0, vI a1, vI a2] u (call 5 [a1, a2] u)) (a1 : Int) (u : Sg) (ra1 : inR a1) : WG p l e R s m args below meth c JX3_and_2 DX3_and_2 G clA A FT ad0 σ0 rvI (bX3_and_2 call a1 u) u 0 [(0, vR 0), (1, vI a1)] [] := by
  unfold bX3_and_2
  refine g_aload_n 0 dX3_and_2_0 rfl ?_
  refine g_getI (ci := 2) (b := 0) (N := 83) 13 rfl rfl rfl (by decide) in_X3 rfl rfl q1145 dX3_and_2_1 (fun v1 rv1 => ?_)
  refine g_istore_n (loc' := [(2, vI v1), (0, vR 0), (1, vI a1)]) dX3_and_2_4 (by decide) rfl ?_
  refine g_aload_n 1 dX3_and_2_5 rfl ?_
  refine g_getI (ci := 2) (b := 0) (N := 83) 13 rfl rfl rfl (by decide) in_X3 rfl rfl q1145 dX3_and_2_6 (fun v2 rv2 => ?_)
  refine g_istore_n (loc' := [(3, vI v2), (2, vI v1), (0, vR 0), (1, vI a1)]) dX3_and_2_9 (by decide) rfl ?_
  refine g_iconst dX3_and_2_10 ?_
  refine g_istore (loc' := [(4, vI 0), (3, vI v2), (2, vI v1), (0, vR 0), (1, vI a1)]) dX3_and_2_11 (by decide) rfl ?_
  refine g_iload_n 4 dX3_and_2_13 rfl ?_
  refine g_istore (loc' := [(5, vI a1), (4, vI 0), (3, vI v2), (2, vI v1), (0, vR 0), (1, vI a1)]) dX3_and_2_14 (by decide) rfl ?_
  refine g_pick [4, 5, 3, 2, 1, 0] rfl (wX3_and_2_L16 hd hRf hRl hX3_get hX3_give hX3_truth hX3_node _ (fun v4 v5 v6 s3 rv4 rv5 rv6 => ?_) KF a1 v1 v2 0 a1 u ra1 rv1 rv2 (inR_z (Or.inl rfl)) ra1)
  · refine g_jn (fun j7 => ∀ (a1 a3 a4 : Int) (s8 : Sg), inR a1 → inR a3 → inR a4 → WG p l e R s m args below meth c JX3_and_2 DX3_and_2 G clA A FT ad0 σ0 rvI (j7 a1 a3 a4 s8) s8 154 [(0, vR 0), (1, vI a1), (3, vI a3), (4, vI a4)] []) (fun a1 a3 a4 s8 ra1 ra3 ra4 => ?_) (fun j7 hj7 => ?_)
    · refine g_jn (fun j9 => ∀ (a1 t0 : Int) (s10 : Sg), inR a1 → inR t0 → WG p l e R s m args below meth c JX3_and_2 DX3_and_2 G clA A FT ad0 σ0 rvI (j9 a1 t0 s10) s10 187 [(0, vR 0), (1, vI a1)] [vI t0]) (fun a1 t0 s10 ra1 rt0 => ?_) (fun j9 hj9 => ?_)
      · refine g_istore (loc' := [(5, vI t0), (0, vR 0), (1, vI a1)]) dX3_and_2_187 (by decide) rfl ?_
        refine g_aload_n 1 dX3_and_2_189 rfl ?_
        refine g_iload_n 2 dX3_and_2_190 rfl ?_
        refine g_sIU (ci := 2) (b := 0) (N := 83) FT_ok 13 rfl rfl rfl (by decide) in_X3 tyX3 tyX3_ok nmX3 rfl rfl rfl rfl (by decide +kernel) ra1 q1145 dX3_and_2_191 (fun s11 => ?_)
        refine g_iload 0 dX3_and_2_194 rfl ?_
        exact g_iret rfl rfl (fun _ => rt0) dX3_and_2_196
      · refine g_iload 3 dX3_and_2_154 rfl ?_
        refine g_if_le 164 dX3_and_2_156 (by decide) (fun _ => ra4) (fun _ => ?_) (fun _ => ?_)
        · refine g_aload_n 0 dX3_and_2_164 rfl ?_
          refine g_getI (ci := 2) (b := 0) (N := 83) 13 rfl rfl rfl (by decide) in_X3 rfl rfl q1145 dX3_and_2_165 (fun v12 rv12 => ?_)
          refine g_iload_n 2 dX3_and_2_168 rfl ?_
          refine g_isub dX3_and_2_169 (fun v13 rv13 => ?_)
          refine g_iconst dX3_and_2_170 ?_
          refine g_icmp_ne 183 dX3_and_2_171 (by decide) (fun _ => rv13) (fun _ => (inR_z (Or.inr rfl))) (fun _ => ?_) (fun _ => ?_)
          · refine g_aload_n 0 dX3_and_2_174 rfl ?_
            refine g_get (v := vR 22) (ci := 2) (b := 0) (N := 83) 12 rfl rfl (by decide) in_X3 rfl rfl q1144 dX3_and_2_175 ?_
            refine g_iload_n 2 dX3_and_2_178 rfl ?_
            refine g_iald (id := 12) 9 rfl rfl dX3_and_2_179 (fun v14 rv14 => ?_)
            refine g_goto 187 dX3_and_2_180 (by decide) ?_
            exact g_pick [0, 1] rfl (hj9 a1 v14 s8 ra1 rv14)
          · refine g_aload_n 0 dX3_and_2_183 rfl ?_
            refine g_cVI (As := []) (n := 0) (stk := []) (ci := 2) (b := 0) (N := 83) (hX3_truth  s8) (by decide +kernel) rfl rfl (lw_V q1475 q1477 qs92 q168 q1478) (by decide +kernel) rfl (by decide) hRf hRl (fun _ => avn) (Nat.le_of_ble_eq_true rfl) rfl rfl dX3_and_2_184 (fun v15 s16 rv15 => ?_)
            exact g_pick [0, 1] rfl (hj9 a1 v15 s16 ra1 rv15)
        · refine g_iload 3 dX3_and_2_159 rfl ?_
          refine g_goto 187 dX3_and_2_161 (by decide) ?_
          exact g_pick [0, 1] rfl (hj9 a1 a4 s8 ra1 ra4)
    · refine g_iload 3 dX3_and_2_139 rfl ?_
      refine g_if_gt 154 dX3_and_2_141 (by decide) (fun _ => rv6) (fun _ => ?_) (fun _ => ?_)
      · refine g_aload_n 0 dX3_and_2_144 rfl ?_
        refine g_getI (ci := 2) (b := 0) (N := 83) 13 rfl rfl rfl (by decide) in_X3 rfl rfl q1145 dX3_and_2_145 (fun v17 rv17 => ?_)
        refine g_iload_n 2 dX3_and_2_148 rfl ?_
        refine g_isub dX3_and_2_149 (fun v18 rv18 => ?_)
        refine g_iconst dX3_and_2_150 ?_
        refine g_icmp_ge 197 dX3_and_2_151 (by decide) (fun _ => rv18) (fun _ => (by decide : inR (2))) (fun _ => ?_) (fun _ => ?_)
        · exact g_pick [0, 1, 2, 3] rfl (hj7 v4 v5 v6 s3 rv4 rv5 rv6)
        · refine g_aload_n 0 dX3_and_2_197 rfl ?_
          refine g_bipush (by decide +kernel) dX3_and_2_198 ?_
          refine g_iload_n 2 dX3_and_2_200 rfl ?_
          refine g_cVI (As := [vI 16, vI v5]) (n := 2) (stk := []) (ci := 2) (b := 0) (N := 83) (hX3_node 16 v5 s3) (by decide +kernel) rfl rfl (lw_V q1108 q1110 qs74 q168 q1111) (by decide +kernel) rfl (by decide) hRf hRl (fun _ => (avc (by decide : inR (16)) (avc rv5 avn))) (Nat.le_of_ble_eq_true rfl) rfl rfl dX3_and_2_201 (fun v19 s20 rv19 => ?_)
          refine g_istore (loc' := [(5, vI v19), (0, vR 0), (1, vI v4), (3, vI v5), (4, vI v6)]) dX3_and_2_204 (by decide) rfl ?_
          refine g_aload_n 1 dX3_and_2_206 rfl ?_
          refine g_iload_n 2 dX3_and_2_207 rfl ?_
          refine g_sIU (ci := 2) (b := 0) (N := 83) FT_ok 13 rfl rfl rfl (by decide) in_X3 tyX3 tyX3_ok nmX3 rfl rfl rfl rfl (by decide +kernel) rv4 q1145 dX3_and_2_208 (fun s21 => ?_)
          refine g_iload 0 dX3_and_2_211 rfl ?_
          exact g_iret rfl rfl (fun _ => rv19) dX3_and_2_213
      · exact g_pick [0, 1, 2, 3] rfl (hj7 v4 v5 v6 s3 rv4 rv5 rv6)
end
section
variable {l : Launch} {d : Nat} {call : Nat → List Int → Sg → Option (Int × Sg)}
theorem ctX3_and_2 (p0 : Program) (e0 : Env) (s0 : State) (m0 : MethodId) (meth0 : Method) (c0 : Code) (G0 : Gm) (hd : 2 ≤ d) (hX3_get : ∀ (a1 a2 : Int) (u : Sg), Ct l d FT clA yX3_get cX3_get 3 (some .int) DX3_get rvI [vR 0, vI a1, vI a2] u (call 7 [a1, a2] u)) (hX3_give : ∀ (a1 : Int) (u : Sg), Ct l d FT clA yX3_give cX3_give 2 none DX3_give rvV [vR 0, vI a1] u (call 3 [a1] u)) (hX3_truth : ∀ (u : Sg), Ct l d FT clA yX3_truth cX3_truth 1 (some .int) DX3_truth rvI [vR 0] u (call 34 [] u)) (hX3_node : ∀ (a1 a2 : Int) (u : Sg), Ct l d FT clA yX3_node cX3_node 7 (some .int) DX3_node rvI [vR 0, vI a1, vI a2] u (call 5 [a1, a2] u)) (a1 : Int) (u : Sg) : Ct l (d + 1) FT clA yX3_and_2 cX3_and_2 8 (some .int) DX3_and_2 rvI [vR 0, vI a1] u (bX3_and_2 call a1 u) :=
  Ct_of (by decide) (Nat.le_of_ble_eq_true rfl) (fun p e R s1 m args below meth c G A ad hA hRf hRl => wX3_and_2 hd hRf hRl hX3_get hX3_give hX3_truth hX3_node a1 u (hA _ (List.mem_cons_of_mem _ List.mem_cons_self))) p0 e0 s0 m0 meth0 c0 G0
end
/-! RoundCheckModel.implies(II)I -/
abbrev JX3_implies : Jm := (cX3_implies, RX3, 3, (some .int))
def bX3_implies (call : Nat → List Int → Sg → Option (Int × Sg)) (a1 a2 : Int) (u : Sg) : Option (Int × Sg) := cl (call 36 [a2] u) fun v1 s2 => cl (call 37 [a1, v1] s2) fun v3 s4 => cl (call 36 [v3] s4) fun v5 s6 => some (v5, s6)
section
variable {p : Program} {l : Launch} {e : Env} {R : Room} {s : State} {m : MethodId} {args : Array Value} {below : List Frame} {meth : Method} {c : Code} {G : Gm} {A : Nat → Prop} {ad0 : Nat → Nat} {σ0 : Sg} {d : Nat} {call : Nat → List Int → Sg → Option (Int × Sg)}
theorem wX3_implies (hd : 2 ≤ d) (hRf : d + 1 ≤ R.frames) (hRl : 40 * (d + 1) ≤ R.locals) (hX3_not : ∀ (a1 : Int) (u : Sg), Ct l d FT clA yX3_not cX3_not 2 (some .int) DX3_not rvI [vR 0, vI a1] u (call 36 [a1] u)) (hX3_and : ∀ (a1 a2 : Int) (u : Sg), Ct l d FT clA yX3_and cX3_and 4 (some .int) DX3_and rvI [vR 0, vI a1, vI a2] u (call 37 [a1, a2] u)) (a1 a2 : Int) (u : Sg) (ra1 : inR a1) (ra2 : inR a2) : WG p l e R s m args below meth c JX3_implies DX3_implies G clA A FT ad0 σ0 rvI (bX3_implies call a1 a2 u) u 0 [(0, vR 0), (1, vI a1), (2, vI a2)] [] := by
  unfold bX3_implies
  refine g_aload_n 0 dX3_implies_0 rfl ?_
  refine g_aload_n 0 dX3_implies_1 rfl ?_
  refine g_iload_n 1 dX3_implies_2 rfl ?_
  refine g_aload_n 0 dX3_implies_3 rfl ?_
  refine g_iload_n 2 dX3_implies_4 rfl ?_
  refine g_cVI (As := [vI a2]) (n := 1) (stk := [vI a1, vR 0, vR 0]) (ci := 2) (b := 0) (N := 83) (hX3_not a2 u) (by decide +kernel) rfl rfl (lw_V q1483 q1485 qs93 q168 q1486) (by decide +kernel) rfl (by decide) hRf hRl (fun _ => (avc ra2 avn)) (Nat.le_of_ble_eq_true rfl) rfl rfl dX3_implies_5 (fun v1 s2 rv1 => ?_)
  refine g_cVI (As := [vI a1, vI v1]) (n := 2) (stk := [vR 0]) (ci := 2) (b := 0) (N := 83) (hX3_and a1 v1 s2) (by decide +kernel) rfl rfl (lw_V q1487 q1489 qs94 q168 q1490) (by decide +kernel) rfl (by decide) hRf hRl (fun _ => (avc ra1 (avc rv1 avn))) (Nat.le_of_ble_eq_true rfl) rfl rfl dX3_implies_8 (fun v3 s4 rv3 => ?_)
  refine g_cVI (As := [vI v3]) (n := 1) (stk := []) (ci := 2) (b := 0) (N := 83) (hX3_not v3 s4) (by decide +kernel) rfl rfl (lw_V q1483 q1485 qs93 q168 q1486) (by decide +kernel) rfl (by decide) hRf hRl (fun _ => (avc rv3 avn)) (Nat.le_of_ble_eq_true rfl) rfl rfl dX3_implies_11 (fun v5 s6 rv5 => ?_)
  exact g_iret rfl rfl (fun _ => rv5) dX3_implies_14
end
section
variable {l : Launch} {d : Nat} {call : Nat → List Int → Sg → Option (Int × Sg)}
theorem ctX3_implies (p0 : Program) (e0 : Env) (s0 : State) (m0 : MethodId) (meth0 : Method) (c0 : Code) (G0 : Gm) (hd : 2 ≤ d) (hX3_not : ∀ (a1 : Int) (u : Sg), Ct l d FT clA yX3_not cX3_not 2 (some .int) DX3_not rvI [vR 0, vI a1] u (call 36 [a1] u)) (hX3_and : ∀ (a1 a2 : Int) (u : Sg), Ct l d FT clA yX3_and cX3_and 4 (some .int) DX3_and rvI [vR 0, vI a1, vI a2] u (call 37 [a1, a2] u)) (a1 a2 : Int) (u : Sg) : Ct l (d + 1) FT clA yX3_implies cX3_implies 3 (some .int) DX3_implies rvI [vR 0, vI a1, vI a2] u (bX3_implies call a1 a2 u) :=
  Ct_of (by decide) (Nat.le_of_ble_eq_true rfl) (fun p e R s1 m args below meth c G A ad hA hRf hRl => wX3_implies hd hRf hRl hX3_not hX3_and a1 a2 u (hA _ (List.mem_cons_of_mem _ List.mem_cons_self)) (hA _ (List.mem_cons_of_mem _ (List.mem_cons_of_mem _ List.mem_cons_self)))) p0 e0 s0 m0 meth0 c0 G0
end
