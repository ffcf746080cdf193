/-! RoundCheckModel.bind(ZII)I -/
abbrev JX3_bind : Jm := (cX3_bind, RX3, 8, (some .int))
def bX3_bind (call : Nat → List Int → Sg → Option (Int × Sg)) (a1 a2 a3 : Int) (u : Sg) : Option (Int × Sg) := gd (a1 = 0 ∨ a1 = 1) (jn (fun (s2 : Sg) => cl (call 17 [1] s2) fun v3 s4 => some (v3, s4)) fun j1 => un (sI u 0 0) fun s5 => cl (call 12 [a2, 0] s5) fun v6 s7 => cl (call 12 [a3, 2] s7) fun v8 s9 => if v6 = 0 then (j1 s9) else (ld s9 1 v6 fun v10 => if v10 = 2 then (cl (call 7 [v6, 0] s9) fun v11 s12 => if v11 < 2 then (j1 s12) else (if v8 = 0 then (j1 s12) else (jn (fun (a1 a6 t1 t3 : Int) (s14 : Sg) => jn (fun (t1 : Int) (s16 : Sg) => cl (call 23 [t1] s16) fun v17 s18 => some (v17, s18)) fun j15 => cl (call 41 [t3, a6, 0] s14) fun v19 s20 => cl (call 44 [t1, v19] s20) fun v21 s22 => if a1 = 0 then (j15 v21 s22) else (cl (call 36 [v21] s22) fun v23 s24 => j15 v23 s24)) fun j13 => cl (call 7 [v6, 0] s12) fun v25 s26 => ld s26 18 v25 fun v27 => if a1 = 0 then (j13 a1 v25 v27 v8 s26) else (cl (call 36 [v8] s26) fun v28 s29 => j13 a1 v25 v27 v28 s29)))) else (j1 s9)))
section
variable {p : Program} {l : Launch} {e : Env} {R : Room} {s : State} {m : MethodId} {args : Array Value} {below : List Frame} {meth : Method} {c : Code} {G : Gm} {A : Nat → Prop} {ad0 : Nat → Nat} {σ0 : Sg} {d : Nat} {call : Nat → List Int → Sg → Option (Int × Sg)}
theorem wX3_bind (hd : 2 ≤ d) (hRf : d + 1 ≤ R.frames) (hRl : 40 * (d + 1) ≤ R.locals) (hX3_fails : ∀ (a1 : Int) (u : Sg), Ct l d FT clA yX3_fails cX3_fails 2 (some .int) DX3_fails rvI [vR 0, vI a1] u (call 17 [a1] u)) (hX3_form : ∀ (a1 a2 : Int) (u : Sg), Ct l d FT clA yX3_form cX3_form 3 (some .int) DX3_form rvI [vR 0, vI a1, vI a2] u (call 12 [a1, a2] u)) (hX3_get : ∀ (a1 a2 : Int) (u : Sg), Ct l d FT clA yX3_get cX3_get 3 (some .int) DX3_get rvI [vR 0, vI a1, vI a2] u (call 7 [a1, a2] u)) (hX3_gives : ∀ (a1 : Int) (u : Sg), Ct l d FT clA yX3_gives cX3_gives 2 (some .int) DX3_gives rvI [vR 0, vI a1] u (call 23 [a1] u)) (hX3_bind_2 : ∀ (a1 a2 a3 : Int) (u : Sg), Ct l d FT clA yX3_bind_2 cX3_bind_2 7 (some .int) DX3_bind_2 rvI [vR 0, vI a1, vI a2, vI a3] u (call 41 [a1, a2, a3] u)) (hX3_all : ∀ (a1 a2 : Int) (u : Sg), Ct l d FT clA yX3_all cX3_all 3 (some .int) DX3_all rvI [vR 0, vI a1, vI a2] u (call 44 [a1, a2] u)) (hX3_not : ∀ (a1 : Int) (u : Sg), Ct l d FT clA yX3_not cX3_not 2 (some .int) DX3_not rvI [vR 0, vI a1] u (call 36 [a1] u)) (a1 a2 a3 : Int) (u : Sg) (ra1 : inR a1) (ra2 : inR a2) (ra3 : inR a3) : WG p l e R s m args below meth c JX3_bind DX3_bind G clA A FT ad0 σ0 rvI (bX3_bind call a1 a2 a3 u) u 0 [(0, vR 0), (1, vI a1), (2, vI a2), (3, vI a3)] [] := by
  unfold bX3_bind
  refine g_gd (fun za1 => ?_)
  refine g_jn (fun j1 => ∀ (s2 : Sg), WG p l e R s m args below meth c JX3_bind DX3_bind G clA A FT ad0 σ0 rvI (j1 s2) s2 53 [(0, vR 0)] []) (fun s2 => ?_) (fun j1 hj1 => ?_)
  · refine g_aload_n 0 dX3_bind_53 rfl ?_
    refine g_iconst dX3_bind_54 ?_
    refine g_cVI (As := [vI 1]) (n := 1) (stk := []) (ci := 2) (b := 0) (N := 83) (hX3_fails 1 s2) (by decide +kernel) rfl rfl (lw_V q1407 q1409 qs84 q168 q1410) (by decide +kernel) rfl (by decide) hRf hRl (fun _ => (avc (inR_z (Or.inr rfl)) avn)) (Nat.le_of_ble_eq_true rfl) rfl rfl dX3_bind_55 (fun v3 s4 rv3 => ?_)
    exact g_iret rfl rfl (fun _ => rv3) dX3_bind_58
  · refine g_aload_n 0 dX3_bind_0 rfl ?_
    refine g_iconst dX3_bind_1 ?_
    refine g_sIU (ci := 2) (b := 0) (N := 83) FT_ok 0 rfl rfl rfl (by decide) in_X3 tyX3 tyX3_ok nmX3 rfl rfl rfl rfl (by decide +kernel) (inR_z (Or.inl rfl)) q1132 dX3_bind_2 (fun s5 => ?_)
    refine g_aload_n 0 dX3_bind_5 rfl ?_
    refine g_iload_n 2 dX3_bind_6 rfl ?_
    refine g_iconst dX3_bind_7 ?_
    refine g_cVI (As := [vI a2, vI 0]) (n := 2) (stk := []) (ci := 2) (b := 0) (N := 83) (hX3_form a2 0 s5) (by decide +kernel) rfl rfl (lw_V q1387 q1389 qs79 q168 q1390) (by decide +kernel) rfl (by decide) hRf hRl (fun _ => (avc ra2 (avc (inR_z (Or.inl rfl)) avn))) (Nat.le_of_ble_eq_true rfl) rfl rfl dX3_bind_8 (fun v6 s7 rv6 => ?_)
    refine g_istore (loc' := [(4, vI v6), (0, vR 0), (1, vI a1), (2, vI a2), (3, vI a3)]) dX3_bind_11 (by decide) rfl ?_
    refine g_aload_n 1 dX3_bind_13 rfl ?_
    refine g_iload_n 4 dX3_bind_14 rfl ?_
    refine g_iconst dX3_bind_15 ?_
    refine g_cVI (As := [vI a3, vI 2]) (n := 2) (stk := []) (ci := 2) (b := 0) (N := 83) (hX3_form a3 2 s7) (by decide +kernel) rfl rfl (lw_V q1387 q1389 qs79 q168 q1390) (by decide +kernel) rfl (by decide) hRf hRl (fun _ => (avc ra3 (avc (by decide : inR (2)) avn))) (Nat.le_of_ble_eq_true rfl) rfl rfl dX3_bind_16 (fun v8 s9 rv8 => ?_)
    refine g_istore (loc' := [(5, vI v8), (4, vI v6), (0, vR 0), (1, vI a1), (2, vI a2), (3, vI a3)]) dX3_bind_19 (by decide) rfl ?_
    refine g_iload 1 dX3_bind_21 rfl ?_
    refine g_if_eq 53 dX3_bind_23 (by decide) (fun _ => rv6) (fun _ => ?_) (fun _ => ?_)
    · exact g_pick [2] rfl (hj1 s9)
    · refine g_aload_n 2 dX3_bind_26 rfl ?_
      refine g_get (v := vR 11) (ci := 2) (b := 0) (N := 83) 1 rfl rfl (by decide) in_X3 rfl rfl q1133 dX3_bind_27 ?_
      refine g_iload 1 dX3_bind_30 rfl ?_
      refine g_iald (id := 1) 0 rfl rfl dX3_bind_32 (fun v10 rv10 => ?_)
      refine g_iconst dX3_bind_33 ?_
      refine g_icmp_ne 53 dX3_bind_34 (by decide) (fun _ => rv10) (fun _ => (by decide : inR (2))) (fun _ => ?_) (fun _ => ?_)
      · refine g_aload_n 2 dX3_bind_37 rfl ?_
        refine g_iload 1 dX3_bind_38 rfl ?_
        refine g_iconst dX3_bind_40 ?_
        refine g_cVI (As := [vI v6, vI 0]) (n := 2) (stk := []) (ci := 2) (b := 0) (N := 83) (hX3_get v6 0 s9) (by decide +kernel) rfl rfl (lw_V q1116 q1118 qs76 q168 q1119) (by decide +kernel) rfl (by decide) hRf hRl (fun _ => (avc rv6 (avc (inR_z (Or.inl rfl)) avn))) (Nat.le_of_ble_eq_true rfl) rfl rfl dX3_bind_41 (fun v11 s12 rv11 => ?_)
        refine g_iconst dX3_bind_44 ?_
        refine g_icmp_lt 53 dX3_bind_45 (by decide) (fun _ => rv11) (fun _ => (by decide : inR (2))) (fun _ => ?_) (fun _ => ?_)
        · exact g_pick [2] rfl (hj1 s12)
        · refine g_iload 0 dX3_bind_48 rfl ?_
          refine g_if_ne 59 dX3_bind_50 (by decide) (fun _ => rv8) (fun _ => ?_) (fun _ => ?_)
          · exact g_pick [2] rfl (hj1 s12)
          · refine g_jn (fun j13 => ∀ (a1 a6 t1 t3 : Int) (s14 : Sg), (a1 = 0 ∨ a1 = 1) → inR a6 → inR t1 → inR t3 → WG p l e R s m args below meth c JX3_bind DX3_bind G clA A FT ad0 σ0 rvI (j13 a1 a6 t1 t3 s14) s14 92 [(0, vR 0), (1, vI a1), (6, vI a6)] [vI t3, vR 0, vI t1, vR 0]) (fun a1 a6 t1 t3 s14 za1 ra6 rt1 rt3 => ?_) (fun j13 hj13 => ?_)
            · refine g_jn (fun j15 => ∀ (t1 : Int) (s16 : Sg), inR t1 → WG p l e R s m args below meth c JX3_bind DX3_bind G clA A FT ad0 σ0 rvI (j15 t1 s16) s16 119 [] [vI t1, vR 0]) (fun t1 s16 rt1 => ?_) (fun j15 hj15 => ?_)
              · refine g_cVI (As := [vI t1]) (n := 1) (stk := []) (ci := 2) (b := 0) (N := 83) (hX3_gives t1 s16) (by decide +kernel) rfl rfl (lw_V q1431 q1433 qs86 q168 q1434) (by decide +kernel) rfl (by decide) hRf hRl (fun _ => (avc rt1 avn)) (Nat.le_of_ble_eq_true rfl) rfl rfl dX3_bind_119 (fun v17 s18 rv17 => ?_)
                exact g_iret rfl rfl (fun _ => rv17) dX3_bind_122
              · refine g_iload 2 dX3_bind_92 rfl ?_
                refine g_iconst dX3_bind_94 ?_
                refine g_cVI (As := [vI t3, vI a6, vI 0]) (n := 3) (stk := [vI t1, vR 0]) (ci := 2) (b := 0) (N := 83) (hX3_bind_2 t3 a6 0 s14) (by decide +kernel) rfl rfl (lw_V q1503 q1505 qs97 q168 q1506) (by decide +kernel) rfl (by decide) hRf hRl (fun _ => (avc rt3 (avc ra6 (avc (inR_z (Or.inl rfl)) avn)))) (Nat.le_of_ble_eq_true rfl) rfl rfl dX3_bind_95 (fun v19 s20 rv19 => ?_)
                refine g_cVI (As := [vI t1, vI v19]) (n := 2) (stk := []) (ci := 2) (b := 0) (N := 83) (hX3_all t1 v19 s20) (by decide +kernel) rfl rfl (lw_V q1515 q1517 qs100 q168 q1518) (by decide +kernel) rfl (by decide) hRf hRl (fun _ => (avc rt1 (avc rv19 avn))) (Nat.le_of_ble_eq_true rfl) rfl rfl dX3_bind_98 (fun v21 s22 rv21 => ?_)
                refine g_istore (loc' := [(7, vI v21), (0, vR 0), (1, vI a1), (6, vI a6)]) dX3_bind_101 (by decide) rfl ?_
                refine g_aload_n 1 dX3_bind_103 rfl ?_
                refine g_iload_n 2 dX3_bind_104 rfl ?_
                refine g_if_eq 117 dX3_bind_105 (by decide) (fun _ => (inR_z za1)) (fun _ => ?_) (fun _ => ?_)
                · refine g_iload 0 dX3_bind_117 rfl ?_
                  exact g_pick [] rfl (hj15 v21 s22 rv21)
                · refine g_aload_n 1 dX3_bind_108 rfl ?_
                  refine g_iload 0 dX3_bind_109 rfl ?_
                  refine g_cVI (As := [vI v21]) (n := 1) (stk := [vR 0]) (ci := 2) (b := 0) (N := 83) (hX3_not v21 s22) (by decide +kernel) rfl rfl (lw_V q1483 q1485 qs93 q168 q1486) (by decide +kernel) rfl (by decide) hRf hRl (fun _ => (avc rv21 avn)) (Nat.le_of_ble_eq_true rfl) rfl rfl dX3_bind_111 (fun v23 s24 rv23 => ?_)
                  refine g_goto 119 dX3_bind_114 (by decide) ?_
                  exact g_pick [] rfl (hj15 v23 s24 rv23)
            · refine g_aload_n 2 dX3_bind_59 rfl ?_
              refine g_iload 1 dX3_bind_60 rfl ?_
              refine g_iconst dX3_bind_62 ?_
              refine g_cVI (As := [vI v6, vI 0]) (n := 2) (stk := []) (ci := 2) (b := 0) (N := 83) (hX3_get v6 0 s12) (by decide +kernel) rfl rfl (lw_V q1116 q1118 qs76 q168 q1119) (by decide +kernel) rfl (by decide) hRf hRl (fun _ => (avc rv6 (avc (inR_z (Or.inl rfl)) avn))) (Nat.le_of_ble_eq_true rfl) rfl rfl dX3_bind_63 (fun v25 s26 rv25 => ?_)
              refine g_istore (loc' := [(6, vI v25), (5, vI v8), (4, vI v6), (0, vR 0), (1, vI a1), (2, vI a2), (3, vI a3)]) dX3_bind_66 (by decide) rfl ?_
              refine g_aload_n 3 dX3_bind_68 rfl ?_
              refine g_aload_n 3 dX3_bind_69 rfl ?_
              refine g_get (v := vR 28) (ci := 2) (b := 0) (N := 83) 18 rfl rfl (by decide) in_X3 rfl rfl q1150 dX3_bind_70 ?_
              refine g_iload 0 dX3_bind_73 rfl ?_
              refine g_iald (id := 18) 13 rfl rfl dX3_bind_75 (fun v27 rv27 => ?_)
              refine g_aload_n 3 dX3_bind_76 rfl ?_
              refine g_iload_n 4 dX3_bind_77 rfl ?_
              refine g_if_eq 90 dX3_bind_78 (by decide) (fun _ => (inR_z za1)) (fun _ => ?_) (fun _ => ?_)
              · refine g_iload 1 dX3_bind_90 rfl ?_
                exact g_pick [3, 4, 0] rfl (hj13 a1 v25 v27 v8 s26 za1 rv25 rv27 rv8)
              · refine g_aload_n 3 dX3_bind_81 rfl ?_
                refine g_iload 1 dX3_bind_82 rfl ?_
                refine g_cVI (As := [vI v8]) (n := 1) (stk := [vR 0, vI v27, vR 0]) (ci := 2) (b := 0) (N := 83) (hX3_not v8 s26) (by decide +kernel) rfl rfl (lw_V q1483 q1485 qs93 q168 q1486) (by decide +kernel) rfl (by decide) hRf hRl (fun _ => (avc rv8 avn)) (Nat.le_of_ble_eq_true rfl) rfl rfl dX3_bind_84 (fun v28 s29 rv28 => ?_)
                refine g_goto 92 dX3_bind_87 (by decide) ?_
                exact g_pick [3, 4, 0] rfl (hj13 a1 v25 v27 v28 s29 za1 rv25 rv27 rv28)
      · exact g_pick [2] rfl (hj1 s9)
end
section
variable {l : Launch} {d : Nat} {call : Nat → List Int → Sg → Option (Int × Sg)}
theorem ctX3_bind (p0 : Program) (e0 : Env) (s0 : State) (m0 : MethodId) (meth0 : Method) (c0 : Code) (G0 : Gm) (hd : 2 ≤ d) (hX3_fails : ∀ (a1 : Int) (u : Sg), Ct l d FT clA yX3_fails cX3_fails 2 (some .int) DX3_fails rvI [vR 0, vI a1] u (call 17 [a1] u)) (hX3_form : ∀ (a1 a2 : Int) (u : Sg), Ct l d FT clA yX3_form cX3_form 3 (some .int) DX3_form rvI [vR 0, vI a1, vI a2] u (call 12 [a1, a2] u)) (hX3_get : ∀ (a1 a2 : Int) (u : Sg), Ct l d FT clA yX3_get cX3_get 3 (some .int) DX3_get rvI [vR 0, vI a1, vI a2] u (call 7 [a1, a2] u)) (hX3_gives : ∀ (a1 : Int) (u : Sg), Ct l d FT clA yX3_gives cX3_gives 2 (some .int) DX3_gives rvI [vR 0, vI a1] u (call 23 [a1] u)) (hX3_bind_2 : ∀ (a1 a2 a3 : Int) (u : Sg), Ct l d FT clA yX3_bind_2 cX3_bind_2 7 (some .int) DX3_bind_2 rvI [vR 0, vI a1, vI a2, vI a3] u (call 41 [a1, a2, a3] u)) (hX3_all : ∀ (a1 a2 : Int) (u : Sg), Ct l d FT clA yX3_all cX3_all 3 (some .int) DX3_all rvI [vR 0, vI a1, vI a2] u (call 44 [a1, a2] u)) (hX3_not : ∀ (a1 : Int) (u : Sg), Ct l d FT clA yX3_not cX3_not 2 (some .int) DX3_not rvI [vR 0, vI a1] u (call 36 [a1] u)) (a1 a2 a3 : Int) (u : Sg) : Ct l (d + 1) FT clA yX3_bind cX3_bind 8 (some .int) DX3_bind rvI [vR 0, vI a1, vI a2, vI a3] u (bX3_bind call a1 a2 a3 u) :=
  Ct_of (by decide) (Nat.le_of_ble_eq_true rfl) (fun p e R s1 m args below meth c G A ad hA hRf hRl => wX3_bind hd hRf hRl hX3_fails hX3_form hX3_get hX3_gives hX3_bind_2 hX3_all hX3_not a1 a2 a3 u (hA _ (List.mem_cons_of_mem _ List.mem_cons_self)) (hA _ (List.mem_cons_of_mem _ (List.mem_cons_of_mem _ List.mem_cons_self))) (hA _ (List.mem_cons_of_mem _ (List.mem_cons_of_mem _ (List.mem_cons_of_mem _ List.mem_cons_self))))) p0 e0 s0 m0 meth0 c0 G0
end
/-! RoundCheckModel.bind(III)I -/
abbrev JX3_bind_2 : Jm := (cX3_bind_2, RX3, 7, (some .int))
def bX3_bind_2_L91 (call : Nat → List Int → Sg → Option (Int × Sg)) : Nat → Int → Int → Int → Int → Int → Int → Sg → (Int → Int → Sg → Option (Int × Sg)) → Option (Int × Sg)
  | 0, _, _, _, _, _, _, _, _ => none
  | n + 1, a1, a2, a3, a4, a5, a6, u, x164 => ld u 3 a1 fun v1 => if a6 < v1 then (jn (fun (a1 a2 a3 a4 a5 a6 t1 : Int) (s3 : Sg) => cl (call 3 [t1] s3) fun v4 s5 => ar (a6 + 1) fun v6 => bX3_bind_2_L91 call n a1 a2 a3 a4 a5 v6 s5 x164) fun j2 => cl (call 16 [a1, a6] u) fun v7 s8 => if v7 = 0 then (cl (call 7 [a1, a6] s8) fun v9 s10 => j2 a1 a2 a3 a4 a5 a6 v9 s10) else (jn (fun (a1 a2 a3 a4 a5 a6 t2 t3 t4 : Int) (s12 : Sg) => cl (call 41 [t2, t3, t4] s12) fun v13 s14 => j2 a1 a2 a3 a4 a5 a6 v13 s14) fun j11 => jn (fun (a1 a2 a3 a4 a5 a6 t2 t3 : Int) (s16 : Sg) => j11 a1 a2 a3 a4 a5 a6 t2 t3 a3 s16) fun j15 => cl (call 7 [a1, a6] s8) fun v17 s18 => if a4 = 17 then (if a6 = 1 then (ar (a3 + 1) fun v19 => j11 a1 a2 a3 a4 a5 a6 v17 a2 v19 s18) else (j15 a1 a2 a3 a4 a5 a6 v17 a2 s18)) else (j15 a1 a2 a3 a4 a5 a6 v17 a2 s18))) else (x164 a1 a5 u)
def bX3_bind_2 (call : Nat → List Int → Sg → Option (Int × Sg)) (a1 a2 a3 : Int) (u : Sg) : Option (Int × Sg) := ld u 1 a1 fun v1 => if v1 = 2 then (cl (call 7 [a1, 0] u) fun v2 s3 => if v2 = a2 then (cl (call 42 [a3] s3) fun v4 s5 => some (v4, s5)) else (some (a1, s3))) else (if v1 = 3 then (some (a1, u)) else (if v1 = 8 then (some (a1, u)) else (if v1 = 1 then (cl (call 7 [a1, 0] u) fun v6 s7 => if v6 < a3 then (some (a1, s7)) else (cl (call 7 [a1, 0] s7) fun v8 s9 => ar (v8 + 1) fun v10 => cl (call 42 [v10] s9) fun v11 s12 => some (v11, s12))) else (un (gI u 13) fun v13 => bX3_bind_2_L91 call KF a1 a2 a3 v1 v13 0 u (fun v15 v16 s14 => cl (call 43 [v15, v16] s14) fun v17 s18 => some (v17, s18))))))
section
variable {p : Program} {l : Launch} {e : Env} {R : Room} {s : State} {m : MethodId} {args : Array Value} {below : List Frame} {meth : Method} {c : Code} {G : Gm} {A : Nat → Prop} {ad0 : Nat → Nat} {σ0 : Sg} {d : Nat} {call : Nat → List Int → Sg → Option (Int × Sg)}
theorem wX3_bind_2_L91 (hd : 2 ≤ d) (hRf : d + 1 ≤ R.frames) (hRl : 40 * (d + 1) ≤ R.locals) (hX3_get : ∀ (a1 a2 : Int) (u : Sg), Ct l d FT clA yX3_get cX3_get 3 (some .int) DX3_get rvI [vR 0, vI a1, vI a2] u (call 7 [a1, a2] u)) (hX3_bound : ∀ (a1 : Int) (u : Sg), Ct l d FT clA yX3_bound cX3_bound 2 (some .int) DX3_bound rvI [vR 0, vI a1] u (call 42 [a1] u)) (hX3_give : ∀ (a1 : Int) (u : Sg), Ct l d FT clA yX3_give cX3_give 2 none DX3_give rvV [vR 0, vI a1] u (call 3 [a1] u)) (hX3_isPart : ∀ (a1 a2 : Int) (u : Sg), Ct l d FT clA yX3_isPart cX3_isPart 4 (some .boolean) DX3_isPart rvI [vR 0, vI a1, vI a2] u (call 16 [a1, a2] u)) (hX3_bind_2 : ∀ (a1 a2 a3 : Int) (u : Sg), Ct l d FT clA yX3_bind_2 cX3_bind_2 7 (some .int) DX3_bind_2 rvI [vR 0, vI a1, vI a2, vI a3] u (call 41 [a1, a2, a3] u)) (hX3_again : ∀ (a1 a2 : Int) (u : Sg), Ct l d FT clA yX3_again cX3_again 5 (some .int) DX3_again rvI [vR 0, vI a1, vI a2] u (call 43 [a1, a2] u)) (x164 : Int → Int → Sg → Option (Int × Sg)) (hx164 : ∀ (a1 a5 : Int) (u : Sg), inR a1 → inR a5 → WG p l e R s m args below meth c JX3_bind_2 DX3_bind_2 G clA A FT ad0 σ0 rvI (x164 a1 a5 u) u 164 [(0, vR 0), (1, vI a1), (5, vI a5)] []) : ∀ (n : Nat) (a1 a2 a3 a4 a5 a6 : Int) (u : Sg), inR a1 → inR a2 → inR a3 → inR a4 → inR a5 → inR a6 → WG p l e R s m args below meth c JX3_bind_2 DX3_bind_2 G clA A FT ad0 σ0 rvI (bX3_bind_2_L91 call n a1 a2 a3 a4 a5 a6 u x164) u 91 [(0, vR 0), (1, vI a1), (2, vI a2), (3, vI a3), (4, vI a4), (5, vI a5), (6, vI a6)] [] := by
  intro n
  induction n with
  | zero =>
    intro a1 a2 a3 a4 a5 a6 u ra1 ra2 ra3 ra4 ra5 ra6
    exact g_none
  | succ n ih =>
    intro a1 a2 a3 a4 a5 a6 u ra1 ra2 ra3 ra4 ra5 ra6
    rw [bX3_bind_2_L91]
    refine g_iload 6 dX3_bind_2_91 rfl ?_
    refine g_aload_n 0 dX3_bind_2_93 rfl ?_
    refine g_get (v := vR 13) (ci := 2) (b := 0) (N := 83) 3 rfl rfl (by decide) in_X3 rfl rfl q1135 dX3_bind_2_94 ?_
    refine g_iload_n 1 dX3_bind_2_97 rfl ?_
    refine g_iald (id := 3) 2 rfl rfl dX3_bind_2_98 (fun v1 rv1 => ?_)
    refine g_icmp_ge 164 dX3_bind_2_99 (by decide) (fun _ => ra6) (fun _ => rv1) (fun _ => ?_) (fun _ => ?_)
    · refine g_jn (fun j2 => ∀ (a1 a2 a3 a4 a5 a6 t1 : Int) (s3 : Sg), inR a1 → inR a2 → inR a3 → inR a4 → inR a5 → inR a6 → inR t1 → WG p l e R s m args below meth c JX3_bind_2 DX3_bind_2 G clA A FT ad0 σ0 rvI (j2 a1 a2 a3 a4 a5 a6 t1 s3) s3 155 [(0, vR 0), (1, vI a1), (2, vI a2), (3, vI a3), (4, vI a4), (5, vI a5), (6, vI a6)] [vI t1, vR 0]) (fun a1 a2 a3 a4 a5 a6 t1 s3 ra1 ra2 ra3 ra4 ra5 ra6 rt1 => ?_) (fun j2 hj2 => ?_)
      · refine g_cVV (As := [vI t1]) (n := 1) (stk := []) (ci := 2) (b := 0) (N := 83) (hX3_give t1 s3) (by decide +kernel) rfl rfl (lw_V q1100 q1102 qs73 q168 q1103) (by decide +kernel) rfl (by decide) hRf hRl (fun _ => (avc rt1 avn)) (Nat.le_of_ble_eq_true rfl) rfl rfl dX3_bind_2_155 (fun v4 s5 => ?_)
        refine g_iinc 6 (loc' := fun v6 => [(6, vI v6), (0, vR 0), (1, vI a1), (2, vI a2), (3, vI a3), (4, vI a4), (5, vI a5)]) dX3_bind_2_158 rfl (by decide) (fun _ => rfl) (fun v6 rv6 => ?_)
        refine g_goto 91 dX3_bind_2_161 (by decide) ?_
        exact g_pick [1, 2, 3, 4, 5, 6, 0] rfl (ih a1 a2 a3 a4 a5 v6 s5 ra1 ra2 ra3 ra4 ra5 rv6)
      · refine g_aload_n 0 dX3_bind_2_102 rfl ?_
        refine g_aload_n 0 dX3_bind_2_103 rfl ?_
        refine g_iload_n 1 dX3_bind_2_104 rfl ?_
        refine g_iload 6 dX3_bind_2_105 rfl ?_
        refine g_cVZ (As := [vI a1, vI a6]) (n := 2) (stk := [vR 0]) (ci := 2) (b := 0) (N := 83) (hX3_isPart a1 a6 u) (by decide +kernel) rfl rfl (lw_V q1403 q1405 qs83 q168 q1406) (by decide +kernel) rfl (by decide) hRf hRl (fun _ => (avc ra1 (avc ra6 avn))) (Nat.le_of_ble_eq_true rfl) rfl rfl dX3_bind_2_107 (fun v7 s8 zv7 => ?_)
        refine g_if_eq 148 dX3_bind_2_110 (by decide) (fun _ => (inR_z zv7)) (fun _ => ?_) (fun _ => ?_)
        · refine g_aload_n 0 dX3_bind_2_148 rfl ?_
          refine g_iload_n 1 dX3_bind_2_149 rfl ?_
          refine g_iload 6 dX3_bind_2_150 rfl ?_
          refine g_cVI (As := [vI a1, vI a6]) (n := 2) (stk := [vR 0]) (ci := 2) (b := 0) (N := 83) (hX3_get a1 a6 s8) (by decide +kernel) rfl rfl (lw_V q1116 q1118 qs76 q168 q1119) (by decide +kernel) rfl (by decide) hRf hRl (fun _ => (avc ra1 (avc ra6 avn))) (Nat.le_of_ble_eq_true rfl) rfl rfl dX3_bind_2_152 (fun v9 s10 rv9 => ?_)
          exact g_pick [0, 1, 2, 3, 4, 5, 6] rfl (hj2 a1 a2 a3 a4 a5 a6 v9 s10 ra1 ra2 ra3 ra4 ra5 ra6 rv9)
        · refine g_jn (fun j11 => ∀ (a1 a2 a3 a4 a5 a6 t2 t3 t4 : Int) (s12 : Sg), inR a1 → inR a2 → inR a3 → inR a4 → inR a5 → inR a6 → inR t2 → inR t3 → inR t4 → WG p l e R s m args below meth c JX3_bind_2 DX3_bind_2 G clA A FT ad0 σ0 rvI (j11 a1 a2 a3 a4 a5 a6 t2 t3 t4 s12) s12 142 [(0, vR 0), (1, vI a1), (2, vI a2), (3, vI a3), (4, vI a4), (5, vI a5), (6, vI a6)] [vI t4, vI t3, vI t2, vR 0, vR 0]) (fun a1 a2 a3 a4 a5 a6 t2 t3 t4 s12 ra1 ra2 ra3 ra4 ra5 ra6 rt2 rt3 rt4 => ?_) (fun j11 hj11 => ?_)
          · refine g_cVI (As := [vI t2, vI t3, vI t4]) (n := 3) (stk := [vR 0]) (ci := 2) (b := 0) (N := 83) (hX3_bind_2 t2 t3 t4 s12) (by decide +kernel) rfl rfl (lw_V q1503 q1505 qs97 q168 q1506) (by decide +kernel) rfl (by decide) hRf hRl (fun _ => (avc rt2 (avc rt3 (avc rt4 avn)))) (Nat.le_of_ble_eq_true rfl) rfl rfl dX3_bind_2_142 (fun v13 s14 rv13 => ?_)
            refine g_goto 155 dX3_bind_2_145 (by decide) ?_
            exact g_pick [0, 1, 2, 3, 4, 5, 6] rfl (hj2 a1 a2 a3 a4 a5 a6 v13 s14 ra1 ra2 ra3 ra4 ra5 ra6 rv13)
          · refine g_jn (fun j15 => ∀ (a1 a2 a3 a4 a5 a6 t2 t3 : Int) (s16 : Sg), inR a1 → inR a2 → inR a3 → inR a4 → inR a5 → inR a6 → inR t2 → inR t3 → WG p l e R s m args below meth c JX3_bind_2 DX3_bind_2 G clA A FT ad0 σ0 rvI (j15 a1 a2 a3 a4 a5 a6 t2 t3 s16) s16 141 [(0, vR 0), (1, vI a1), (2, vI a2), (3, vI a3), (4, vI a4), (5, vI a5), (6, vI a6)] [vI t3, vI t2, vR 0, vR 0]) (fun a1 a2 a3 a4 a5 a6 t2 t3 s16 ra1 ra2 ra3 ra4 ra5 ra6 rt2 rt3 => ?_) (fun j15 hj15 => ?_)
            · refine g_iload_n 3 dX3_bind_2_141 rfl ?_
              exact g_pick [0, 1, 2, 3, 4, 5, 6] rfl (hj11 a1 a2 a3 a4 a5 a6 t2 t3 a3 s16 ra1 ra2 ra3 ra4 ra5 ra6 rt2 rt3 ra3)
            · refine g_aload_n 0 dX3_bind_2_113 rfl ?_
              refine g_aload_n 0 dX3_bind_2_114 rfl ?_
              refine g_iload_n 1 dX3_bind_2_115 rfl ?_
              refine g_iload 6 dX3_bind_2_116 rfl ?_
              refine g_cVI (As := [vI a1, vI a6]) (n := 2) (stk := [vR 0, vR 0]) (ci := 2) (b := 0) (N := 83) (hX3_get a1 a6 s8) (by decide +kernel) rfl rfl (lw_V q1116 q1118 qs76 q168 q1119) (by decide +kernel) rfl (by decide) hRf hRl (fun _ => (avc ra1 (avc ra6 avn))) (Nat.le_of_ble_eq_true rfl) rfl rfl dX3_bind_2_118 (fun v17 s18 rv17 => ?_)
              refine g_iload_n 2 dX3_bind_2_121 rfl ?_
              refine g_iload 4 dX3_bind_2_122 rfl ?_
              refine g_bipush (by decide +kernel) dX3_bind_2_124 ?_
              refine g_icmp_ne 141 dX3_bind_2_126 (by decide) (fun _ => ra4) (fun _ => (by decide : inR (17))) (fun _ => ?_) (fun _ => ?_)
              · refine g_iload 6 dX3_bind_2_129 rfl ?_
                refine g_iconst dX3_bind_2_131 ?_
                refine g_icmp_ne 141 dX3_bind_2_132 (by decide) (fun _ => ra6) (fun _ => (inR_z (Or.inr rfl))) (fun _ => ?_) (fun _ => ?_)
                · refine g_iload_n 3 dX3_bind_2_135 rfl ?_
                  refine g_iconst dX3_bind_2_136 ?_
                  refine g_iadd dX3_bind_2_137 (fun v19 rv19 => ?_)
                  refine g_goto 142 dX3_bind_2_138 (by decide) ?_
                  exact g_pick [0, 1, 2, 3, 4, 5, 6] rfl (hj11 a1 a2 a3 a4 a5 a6 v17 a2 v19 s18 ra1 ra2 ra3 ra4 ra5 ra6 rv17 ra2 rv19)
                · exact g_pick [0, 1, 2, 3, 4, 5, 6] rfl (hj15 a1 a2 a3 a4 a5 a6 v17 a2 s18 ra1 ra2 ra3 ra4 ra5 ra6 rv17 ra2)
              · exact g_pick [0, 1, 2, 3, 4, 5, 6] rfl (hj15 a1 a2 a3 a4 a5 a6 v17 a2 s18 ra1 ra2 ra3 ra4 ra5 ra6 rv17 ra2)
    · exact g_pick [0, 1, 5] rfl (hx164 a1 a5 u ra1 ra5)
theorem wX3_bind_2 (hd : 2 ≤ d) (hRf : d + 1 ≤ R.frames) (hRl : 40 * (d + 1) ≤ R.locals) (hX3_get : ∀ (a1 a2 : Int) (u : Sg), Ct l d FT clA yX3_get cX3_get 3 (some .int) DX3_get rvI [vR 0, vI a1, vI a2] u (call 7 [a1, a2] u)) (hX3_bound : ∀ (a1 : Int) (u : Sg), Ct l d FT clA yX3_bound cX3_bound 2 (some .int) DX3_bound rvI [vR 0, vI a1] u (call 42 [a1] u)) (hX3_give : ∀ (a1 : Int) (u : Sg), Ct l d FT clA yX3_give cX3_give 2 none DX3_give rvV [vR 0, vI a1] u (call 3 [a1] u)) (hX3_isPart : ∀ (a1 a2 : Int) (u : Sg), Ct l d FT clA yX3_isPart cX3_isPart 4 (some .boolean) DX3_isPart rvI [vR 0, vI a1, vI a2] u (call 16 [a1, a2] u)) (hX3_bind_2 : ∀ (a1 a2 a3 : Int) (u : Sg), Ct l d FT clA yX3_bind_2 cX3_bind_2 7 (some .int) DX3_bind_2 rvI [vR 0, vI a1, vI a2, vI a3] u (call 41 [a1, a2, a3] u)) (hX3_again : ∀ (a1 a2 : Int) (u : Sg), Ct l d FT clA yX3_again cX3_again 5 (some .int) DX3_again rvI [vR 0, vI a1, vI a2] u (call 43 [a1, a2] u)) (a1 a2 a3 : Int) (u : Sg) (ra1 : inR a1) (ra2 : inR a2) (ra3 : inR a3) : WG p l e R s m args below meth c JX3_bind_2 DX3_bind_2 G clA A FT ad0 σ0 rvI (bX3_bind_2 call a1 a2 a3 u) u 0 [(0, vR 0), (1, vI a1), (2, vI a2), (3, vI a3)] [] := by
  unfold bX3_bind_2
  refine g_aload_n 0 dX3_bind_2_0 rfl ?_
  refine g_get (v := vR 11) (ci := 2) (b := 0) (N := 83) 1 rfl rfl (by decide) in_X3 rfl rfl q1133 dX3_bind_2_1 ?_
  refine g_iload_n 1 dX3_bind_2_4 rfl ?_
  refine g_iald (id := 1) 0 rfl rfl dX3_bind_2_5 (fun v1 rv1 => ?_)
  refine g_istore (loc' := [(4, vI v1), (0, vR 0), (1, vI a1), (2, vI a2), (3, vI a3)]) dX3_bind_2_6 (by decide) rfl ?_
  refine g_iload 0 dX3_bind_2_8 rfl ?_
  refine g_iconst dX3_bind_2_10 ?_
  refine g_icmp_ne 34 dX3_bind_2_11 (by decide) (fun _ => rv1) (fun _ => (by decide : inR (2))) (fun _ => ?_) (fun _ => ?_)
  · refine g_aload_n 1 dX3_bind_2_14 rfl ?_
    refine g_iload_n 2 dX3_bind_2_15 rfl ?_
    refine g_iconst dX3_bind_2_16 ?_
    refine g_cVI (As := [vI a1, vI 0]) (n := 2) (stk := []) (ci := 2) (b := 0) (N := 83) (hX3_get a1 0 u) (by decide +kernel) rfl rfl (lw_V q1116 q1118 qs76 q168 q1119) (by decide +kernel) rfl (by decide) hRf hRl (fun _ => (avc ra1 (avc (inR_z (Or.inl rfl)) avn))) (Nat.le_of_ble_eq_true rfl) rfl rfl dX3_bind_2_17 (fun v2 s3 rv2 => ?_)
    refine g_iload_n 3 dX3_bind_2_20 rfl ?_
    refine g_icmp_ne 32 dX3_bind_2_21 (by decide) (fun _ => rv2) (fun _ => ra2) (fun _ => ?_) (fun _ => ?_)
    · refine g_aload_n 1 dX3_bind_2_24 rfl ?_
      refine g_iload_n 4 dX3_bind_2_25 rfl ?_
      refine g_cVI (As := [vI a3]) (n := 1) (stk := []) (ci := 2) (b := 0) (N := 83) (hX3_bound a3 s3) (by decide +kernel) rfl rfl (lw_V q1507 q1509 qs98 q168 q1510) (by decide +kernel) rfl (by decide) hRf hRl (fun _ => (avc ra3 avn)) (Nat.le_of_ble_eq_true rfl) rfl rfl dX3_bind_2_26 (fun v4 s5 rv4 => ?_)
      refine g_goto 33 dX3_bind_2_29 (by decide) ?_
      exact g_iret rfl rfl (fun _ => rv4) dX3_bind_2_33
    · refine g_iload_n 2 dX3_bind_2_32 rfl ?_
      exact g_iret rfl rfl (fun _ => ra1) dX3_bind_2_33
  · refine g_iload 0 dX3_bind_2_34 rfl ?_
    refine g_iconst dX3_bind_2_36 ?_
    refine g_icmp_eq 47 dX3_bind_2_37 (by decide) (fun _ => rv1) (fun _ => (by decide : inR (3))) (fun _ => ?_) (fun _ => ?_)
    · refine g_iload_n 2 dX3_bind_2_47 rfl ?_
      exact g_iret rfl rfl (fun _ => ra1) dX3_bind_2_48
    · refine g_iload 0 dX3_bind_2_40 rfl ?_
      refine g_bipush (by decide +kernel) dX3_bind_2_42 ?_
      refine g_icmp_ne 49 dX3_bind_2_44 (by decide) (fun _ => rv1) (fun _ => (by decide : inR (8))) (fun _ => ?_) (fun _ => ?_)
      · refine g_iload_n 2 dX3_bind_2_47 rfl ?_
        exact g_iret rfl rfl (fun _ => ra1) dX3_bind_2_48
      · refine g_iload 0 dX3_bind_2_49 rfl ?_
        refine g_iconst dX3_bind_2_51 ?_
        refine g_icmp_ne 82 dX3_bind_2_52 (by decide) (fun _ => rv1) (fun _ => (inR_z (Or.inr rfl))) (fun _ => ?_) (fun _ => ?_)
        · refine g_aload_n 1 dX3_bind_2_55 rfl ?_
          refine g_iload_n 2 dX3_bind_2_56 rfl ?_
          refine g_iconst dX3_bind_2_57 ?_
          refine g_cVI (As := [vI a1, vI 0]) (n := 2) (stk := []) (ci := 2) (b := 0) (N := 83) (hX3_get a1 0 u) (by decide +kernel) rfl rfl (lw_V q1116 q1118 qs76 q168 q1119) (by decide +kernel) rfl (by decide) hRf hRl (fun _ => (avc ra1 (avc (inR_z (Or.inl rfl)) avn))) (Nat.le_of_ble_eq_true rfl) rfl rfl dX3_bind_2_58 (fun v6 s7 rv6 => ?_)
          refine g_iload_n 4 dX3_bind_2_61 rfl ?_
          refine g_icmp_lt 80 dX3_bind_2_62 (by decide) (fun _ => rv6) (fun _ => ra3) (fun _ => ?_) (fun _ => ?_)
          · refine g_iload_n 2 dX3_bind_2_80 rfl ?_
            exact g_iret rfl rfl (fun _ => ra1) dX3_bind_2_81
          · refine g_aload_n 1 dX3_bind_2_65 rfl ?_
            refine g_aload_n 1 dX3_bind_2_66 rfl ?_
            refine g_iload_n 2 dX3_bind_2_67 rfl ?_
            refine g_iconst dX3_bind_2_68 ?_
            refine g_cVI (As := [vI a1, vI 0]) (n := 2) (stk := [vR 0]) (ci := 2) (b := 0) (N := 83) (hX3_get a1 0 s7) (by decide +kernel) rfl rfl (lw_V q1116 q1118 qs76 q168 q1119) (by decide +kernel) rfl (by decide) hRf hRl (fun _ => (avc ra1 (avc (inR_z (Or.inl rfl)) avn))) (Nat.le_of_ble_eq_true rfl) rfl rfl dX3_bind_2_69 (fun v8 s9 rv8 => ?_)
            refine g_iconst dX3_bind_2_72 ?_
            refine g_iadd dX3_bind_2_73 (fun v10 rv10 => ?_)
            refine g_cVI (As := [vI v10]) (n := 1) (stk := []) (ci := 2) (b := 0) (N := 83) (hX3_bound v10 s9) (by decide +kernel) rfl rfl (lw_V q1507 q1509 qs98 q168 q1510) (by decide +kernel) rfl (by decide) hRf hRl (fun _ => (avc rv10 avn)) (Nat.le_of_ble_eq_true rfl) rfl rfl dX3_bind_2_74 (fun v11 s12 rv11 => ?_)
            refine g_goto 81 dX3_bind_2_77 (by decide) ?_
            exact g_iret rfl rfl (fun _ => rv11) dX3_bind_2_81
        · refine g_aload_n 1 dX3_bind_2_82 rfl ?_
          refine g_getI (ci := 2) (b := 0) (N := 83) 13 rfl rfl rfl (by decide) in_X3 rfl rfl q1145 dX3_bind_2_83 (fun v13 rv13 => ?_)
          refine g_istore (loc' := [(5, vI v13), (4, vI v1), (0, vR 0), (1, vI a1), (2, vI a2), (3, vI a3)]) dX3_bind_2_86 (by decide) rfl ?_
          refine g_iconst dX3_bind_2_88 ?_
          refine g_istore (loc' := [(6, vI 0), (5, vI v13), (4, vI v1), (0, vR 0), (1, vI a1), (2, vI a2), (3, vI a3)]) dX3_bind_2_89 (by decide) rfl ?_
          refine g_pick [3, 4, 5, 6, 2, 1, 0] rfl (wX3_bind_2_L91 hd hRf hRl hX3_get hX3_bound hX3_give hX3_isPart hX3_bind_2 hX3_again _ (fun v15 v16 s14 rv15 rv16 => ?_) KF a1 a2 a3 v1 v13 0 u ra1 ra2 ra3 rv1 rv13 (inR_z (Or.inl rfl)))
          · refine g_aload_n 0 dX3_bind_2_164 rfl ?_
            refine g_iload_n 1 dX3_bind_2_165 rfl ?_
            refine g_iload 2 dX3_bind_2_166 rfl ?_
            refine g_cVI (As := [vI v15, vI v16]) (n := 2) (stk := []) (ci := 2) (b := 0) (N := 83) (hX3_again v15 v16 s14) (by decide +kernel) rfl rfl (lw_V q1511 q1513 qs99 q168 q1514) (by decide +kernel) rfl (by decide) hRf hRl (fun _ => (avc rv15 (avc rv16 avn))) (Nat.le_of_ble_eq_true rfl) rfl rfl dX3_bind_2_168 (fun v17 s18 rv17 => ?_)
            exact g_iret rfl rfl (fun _ => rv17) dX3_bind_2_171
end
section
variable {l : Launch} {d : Nat} {call : Nat → List Int → Sg → Option (Int × Sg)}
theorem ctX3_bind_2 (p0 : Program) (e0 : Env) (s0 : State) (m0 : MethodId) (meth0 : Method) (c0 : Code) (G0 : Gm) (hd : 2 ≤ d) (hX3_get : ∀ (a1 a2 : Int) (u : Sg), Ct l d FT clA yX3_get cX3_get 3 (some .int) DX3_get rvI [vR 0, vI a1, vI a2] u (call 7 [a1, a2] u)) (hX3_bound : ∀ (a1 : Int) (u : Sg), Ct l d FT clA yX3_bound cX3_bound 2 (some .int) DX3_bound rvI [vR 0, vI a1] u (call 42 [a1] u)) (hX3_give : ∀ (a1 : Int) (u : Sg), Ct l d FT clA yX3_give cX3_give 2 none DX3_give rvV [vR 0, vI a1] u (call 3 [a1] u)) (hX3_isPart : ∀ (a1 a2 : Int) (u : Sg), Ct l d FT clA yX3_isPart cX3_isPart 4 (some .boolean) DX3_isPart rvI [vR 0, vI a1, vI a2] u (call 16 [a1, a2] u)) (hX3_bind_2 : ∀ (a1 a2 a3 : Int) (u : Sg), Ct l d FT clA yX3_bind_2 cX3_bind_2 7 (some .int) DX3_bind_2 rvI [vR 0, vI a1, vI a2, vI a3] u (call 41 [a1, a2, a3] u)) (hX3_again : ∀ (a1 a2 : Int) (u : Sg), Ct l d FT clA yX3_again cX3_again 5 (some .int) DX3_again rvI [vR 0, vI a1, vI a2] u (call 43 [a1, a2] u)) (a1 a2 a3 : Int) (u : Sg) : Ct l (d + 1) FT clA yX3_bind_2 cX3_bind_2 7 (some .int) DX3_bind_2 rvI [vR 0, vI a1, vI a2, vI a3] u (bX3_bind_2 call a1 a2 a3 u) :=
  Ct_of (by decide) (Nat.le_of_ble_eq_true rfl) (fun p e R s1 m args below meth c G A ad hA hRf hRl => wX3_bind_2 hd hRf hRl hX3_get hX3_bound hX3_give hX3_isPart hX3_bind_2 hX3_again a1 a2 a3 u (hA _ (List.mem_cons_of_mem _ List.mem_cons_self)) (hA _ (List.mem_cons_of_mem _ (List.mem_cons_of_mem _ List.mem_cons_self))) (hA _ (List.mem_cons_of_mem _ (List.mem_cons_of_mem _ (List.mem_cons_of_mem _ List.mem_cons_self))))) p0 e0 s0 m0 meth0 c0 G0
end
/-! RoundCheckModel.bound(I)I -/
abbrev JX3_bound : Jm := (cX3_bound, RX3, 2, (some .int))
def bX3_bound (call : Nat → List Int → Sg → Option (Int × Sg)) (a1 : Int) (u : Sg) : Option (Int × Sg) := cl (call 27 [1, a1] u) fun v1 s2 => some (v1, s2)
section
variable {p : Program} {l : Launch} {e : Env} {R : Room} {s : State} {m : MethodId} {args : Array Value} {below : List Frame} {meth : Method} {c : Code} {G : Gm} {A : Nat → Prop} {ad0 : Nat → Nat} {σ0 : Sg} {d : Nat} {call : Nat → List Int → Sg → Option (Int × Sg)}
theorem wX3_bound (hd : 2 ≤ d) (hRf : d + 1 ≤ R.frames) (hRl : 40 * (d + 1) ≤ R.locals) (hX3_leaf : ∀ (a1 a2 : Int) (u : Sg), Ct l d FT clA yX3_leaf cX3_leaf 4 (some .int) DX3_leaf rvI [vR 0, vI a1, vI a2] u (call 27 [a1, a2] u)) (a1 : Int) (u : Sg) (ra1 : inR a1) : WG p l e R s m args below meth c JX3_bound DX3_bound G clA A FT ad0 σ0 rvI (bX3_bound call a1 u) u 0 [(0, vR 0), (1, vI a1)] [] := by
  unfold bX3_bound
  refine g_aload_n 0 dX3_bound_0 rfl ?_
  refine g_iconst dX3_bound_1 ?_
  refine g_iload_n 1 dX3_bound_2 rfl ?_
  refine g_cVI (As := [vI 1, vI a1]) (n := 2) (stk := []) (ci := 2) (b := 0) (N := 83) (hX3_leaf 1 a1 u) (by decide +kernel) rfl rfl (lw_V q1447 q1449 qs89 q168 q1450) (by decide +kernel) rfl (by decide) hRf hRl (fun _ => (avc (inR_z (Or.inr rfl)) (avc ra1 avn))) (Nat.le_of_ble_eq_true rfl) rfl rfl dX3_bound_3 (fun v1 s2 rv1 => ?_)
  exact g_iret rfl rfl (fun _ => rv1) dX3_bound_6
end
section
variable {l : Launch} {d : Nat} {call : Nat → List Int → Sg → Option (Int × Sg)}
theorem ctX3_bound (p0 : Program) (e0 : Env) (s0 : State) (m0 : MethodId) (meth0 : Method) (c0 : Code) (G0 : Gm) (hd : 2 ≤ d) (hX3_leaf : ∀ (a1 a2 : Int) (u : Sg), Ct l d FT clA yX3_leaf cX3_leaf 4 (some .int) DX3_leaf rvI [vR 0, vI a1, vI a2] u (call 27 [a1, a2] u)) (a1 : Int) (u : Sg) : Ct l (d + 1) FT clA yX3_bound cX3_bound 2 (some .int) DX3_bound rvI [vR 0, vI a1] u (bX3_bound call a1 u) :=
  Ct_of (by decide) (Nat.le_of_ble_eq_true rfl) (fun p e R s1 m args below meth c G A ad hA hRf hRl => wX3_bound hd hRf hRl hX3_leaf a1 u (hA _ (List.mem_cons_of_mem _ List.mem_cons_self))) p0 e0 s0 m0 meth0 c0 G0
end
/-! RoundCheckModel.again(II)I -/
abbrev JX3_again : Jm := (cX3_again, RX3, 5, (some .int))
def bX3_again (call : Nat → List Int → Sg → Option (Int × Sg)) (a1 a2 : Int) (u : Sg) : Option (Int × Sg) := ld u 1 a1 fun v1 => if v1 = 7 then (cl (call 5 [7, a2] u) fun v2 s3 => some (v2, s3)) else (if v1 = 15 then (ld u 12 a2 fun v4 => un (sI u 13 a2) fun s5 => cl (call 36 [v4] s5) fun v6 s7 => some (v6, s7)) else (if v1 = 16 then (cl (call 38 [a2] u) fun v8 s9 => some (v8, s9)) else (if v1 = 17 then (ld u 12 a2 fun v10 => ar (a2 + 1) fun v11 => ld u 12 v11 fun v12 => un (sI u 13 a2) fun s13 => cl (call 44 [v10, v12] s13) fun v14 s15 => some (v14, s15)) else (ld u 1 a1 fun v16 => cl (call 5 [v16, a2] u) fun v17 s18 => some (v17, s18)))))
section
variable {p : Program} {l : Launch} {e : Env} {R : Room} {s : State} {m : MethodId} {args : Array Value} {below : List Frame} {meth : Method} {c : Code} {G : Gm} {A : Nat → Prop} {ad0 : Nat → Nat} {σ0 : Sg} {d : Nat} {call : Nat → List Int → Sg → Option (Int × Sg)}
theorem wX3_again (hd : 2 ≤ d) (hRf : d + 1 ≤ R.frames) (hRl : 40 * (d + 1) ≤ R.locals) (hX3_node : ∀ (a1 a2 : Int) (u : Sg), Ct l d FT clA yX3_node cX3_node 7 (some .int) DX3_node rvI [vR 0, vI a1, vI a2] u (call 5 [a1, a2] u)) (hX3_not : ∀ (a1 : Int) (u : Sg), Ct l d FT clA yX3_not cX3_not 2 (some .int) DX3_not rvI [vR 0, vI a1] u (call 36 [a1] u)) (hX3_and_2 : ∀ (a1 : Int) (u : Sg), Ct l d FT clA yX3_and_2 cX3_and_2 8 (some .int) DX3_and_2 rvI [vR 0, vI a1] u (call 38 [a1] u)) (hX3_all : ∀ (a1 a2 : Int) (u : Sg), Ct l d FT clA yX3_all cX3_all 3 (some .int) DX3_all rvI [vR 0, vI a1, vI a2] u (call 44 [a1, a2] u)) (a1 a2 : Int) (u : Sg) (ra1 : inR a1) (ra2 : inR a2) : WG p l e R s m args below meth c JX3_again DX3_again G clA A FT ad0 σ0 rvI (bX3_again call a1 a2 u) u 0 [(0, vR 0), (1, vI a1), (2, vI a2)] [] := by
  unfold bX3_again
  refine g_aload_n 0 dX3_again_0 rfl ?_
  refine g_get (v := vR 11) (ci := 2) (b := 0) (N := 83) 1 rfl rfl (by decide) in_X3 rfl rfl q1133 dX3_again_1 ?_
  refine g_iload_n 1 dX3_again_4 rfl ?_
  refine g_iald (id := 1) 0 rfl rfl dX3_again_5 (fun v1 rv1 => ?_)
  refine WG.byc (fun e0 => ?_) (fun n0 => ?_)
  · refine g_lsw 102 dX3_again_6 (by decide) (fun _ => rv1) (by rw [e0] <;> rfl) (by decide) ?_
    refine g_aload_n 0 dX3_again_102 rfl ?_
    refine g_bipush (by decide +kernel) dX3_again_103 ?_
    refine g_iload_n 2 dX3_again_105 rfl ?_
    refine g_cVI (As := [vI 7, vI a2]) (n := 2) (stk := []) (ci := 2) (b := 0) (N := 83) (hX3_node 7 a2 u) (by decide +kernel) rfl rfl (lw_V q1108 q1110 qs74 q168 q1111) (by decide +kernel) rfl (by decide) hRf hRl (fun _ => (avc (by decide : inR (7)) (avc ra2 avn))) (Nat.le_of_ble_eq_true rfl) rfl rfl dX3_again_106 (fun v2 s3 rv2 => ?_)
    exact g_iret rfl rfl (fun _ => rv2) dX3_again_109
  · skip
    refine WG.byc (fun e1 => ?_) (fun n1 => ?_)
    · refine g_lsw 48 dX3_again_6 (by decide) (fun _ => rv1) (by rw [e1] <;> rfl) (by decide) ?_
      refine g_aload_n 0 dX3_again_48 rfl ?_
      refine g_get (v := vR 22) (ci := 2) (b := 0) (N := 83) 12 rfl rfl (by decide) in_X3 rfl rfl q1144 dX3_again_49 ?_
      refine g_iload_n 2 dX3_again_52 rfl ?_
      refine g_iald (id := 12) 9 rfl rfl dX3_again_53 (fun v4 rv4 => ?_)
      refine g_istore_n (loc' := [(3, vI v4), (0, vR 0), (1, vI a1), (2, vI a2)]) dX3_again_54 (by decide) rfl ?_
      refine g_aload_n 1 dX3_again_55 rfl ?_
      refine g_iload_n 3 dX3_again_56 rfl ?_
      refine g_sIU (ci := 2) (b := 0) (N := 83) FT_ok 13 rfl rfl rfl (by decide) in_X3 tyX3 tyX3_ok nmX3 rfl rfl rfl rfl (by decide +kernel) ra2 q1145 dX3_again_57 (fun s5 => ?_)
      refine g_aload_n 1 dX3_again_60 rfl ?_
      refine g_iload_n 0 dX3_again_61 rfl ?_
      refine g_cVI (As := [vI v4]) (n := 1) (stk := []) (ci := 2) (b := 0) (N := 83) (hX3_not v4 s5) (by decide +kernel) rfl rfl (lw_V q1483 q1485 qs93 q168 q1486) (by decide +kernel) rfl (by decide) hRf hRl (fun _ => (avc rv4 avn)) (Nat.le_of_ble_eq_true rfl) rfl rfl dX3_again_62 (fun v6 s7 rv6 => ?_)
      exact g_iret rfl rfl (fun _ => rv6) dX3_again_65
    · skip
      refine WG.byc (fun e2 => ?_) (fun n2 => ?_)
      · refine g_lsw 66 dX3_again_6 (by decide) (fun _ => rv1) (by rw [e2] <;> rfl) (by decide) ?_
        refine g_aload_n 0 dX3_again_66 rfl ?_
        refine g_iload_n 2 dX3_again_67 rfl ?_
        refine g_cVI (As := [vI a2]) (n := 1) (stk := []) (ci := 2) (b := 0) (N := 83) (hX3_and_2 a2 u) (by decide +kernel) rfl rfl (lw_V q1491 q1493 qs95 q168 q1494) (by decide +kernel) rfl (by decide) hRf hRl (fun _ => (avc ra2 avn)) (Nat.le_of_ble_eq_true rfl) rfl rfl dX3_again_68 (fun v8 s9 rv8 => ?_)
        exact g_iret rfl rfl (fun _ => rv8) dX3_again_71
      · skip
        refine WG.byc (fun e3 => ?_) (fun n3 => ?_)
        · refine g_lsw 72 dX3_again_6 (by decide) (fun _ => rv1) (by rw [e3] <;> rfl) (by decide) ?_
          refine g_aload_n 0 dX3_again_72 rfl ?_
          refine g_get (v := vR 22) (ci := 2) (b := 0) (N := 83) 12 rfl rfl (by decide) in_X3 rfl rfl q1144 dX3_again_73 ?_
          refine g_iload_n 2 dX3_again_76 rfl ?_
          refine g_iald (id := 12) 9 rfl rfl dX3_again_77 (fun v10 rv10 => ?_)
          refine g_istore_n (loc' := [(3, vI v10), (0, vR 0), (1, vI a1), (2, vI a2)]) dX3_again_78 (by decide) rfl ?_
          refine g_aload_n 1 dX3_again_79 rfl ?_
          refine g_get (v := vR 22) (ci := 2) (b := 0) (N := 83) 12 rfl rfl (by decide) in_X3 rfl rfl q1144 dX3_again_80 ?_
          refine g_iload_n 3 dX3_again_83 rfl ?_
          refine g_iconst dX3_again_84 ?_
          refine g_iadd dX3_again_85 (fun v11 rv11 => ?_)
          refine g_iald (id := 12) 9 rfl rfl dX3_again_86 (fun v12 rv12 => ?_)
          refine g_istore (loc' := [(4, vI v12), (3, vI v10), (0, vR 0), (1, vI a1), (2, vI a2)]) dX3_again_87 (by decide) rfl ?_
          refine g_aload_n 2 dX3_again_89 rfl ?_
          refine g_iload_n 4 dX3_again_90 rfl ?_
          refine g_sIU (ci := 2) (b := 0) (N := 83) FT_ok 13 rfl rfl rfl (by decide) in_X3 tyX3 tyX3_ok nmX3 rfl rfl rfl rfl (by decide +kernel) ra2 q1145 dX3_again_91 (fun s13 => ?_)
          refine g_aload_n 2 dX3_again_94 rfl ?_
          refine g_iload_n 1 dX3_again_95 rfl ?_
          refine g_iload 0 dX3_again_96 rfl ?_
          refine g_cVI (As := [vI v10, vI v12]) (n := 2) (stk := []) (ci := 2) (b := 0) (N := 83) (hX3_all v10 v12 s13) (by decide +kernel) rfl rfl (lw_V q1515 q1517 qs100 q168 q1518) (by decide +kernel) rfl (by decide) hRf hRl (fun _ => (avc rv10 (avc rv12 avn))) (Nat.le_of_ble_eq_true rfl) rfl rfl dX3_again_98 (fun v14 s15 rv14 => ?_)
          exact g_iret rfl rfl (fun _ => rv14) dX3_again_101
        · skip
          refine g_lsw (off := 104) 110 dX3_again_6 (by decide) (fun _ => rv1) (by simp [Op.lookupswitch.offset, Ne.symm n0, Ne.symm n1, Ne.symm n2, Ne.symm n3]) (by decide) ?_
          refine g_aload_n 0 dX3_again_110 rfl ?_
          refine g_aload_n 0 dX3_again_111 rfl ?_
          refine g_get (v := vR 11) (ci := 2) (b := 0) (N := 83) 1 rfl rfl (by decide) in_X3 rfl rfl q1133 dX3_again_112 ?_
          refine g_iload_n 1 dX3_again_115 rfl ?_
          refine g_iald (id := 1) 0 rfl rfl dX3_again_116 (fun v16 rv16 => ?_)
          refine g_iload_n 2 dX3_again_117 rfl ?_
          refine g_cVI (As := [vI v16, vI a2]) (n := 2) (stk := []) (ci := 2) (b := 0) (N := 83) (hX3_node v16 a2 u) (by decide +kernel) rfl rfl (lw_V q1108 q1110 qs74 q168 q1111) (by decide +kernel) rfl (by decide) hRf hRl (fun _ => (avc rv16 (avc ra2 avn))) (Nat.le_of_ble_eq_true rfl) rfl rfl dX3_again_118 (fun v17 s18 rv17 => ?_)
          exact g_iret rfl rfl (fun _ => rv17) dX3_again_121
end
section
variable {l : Launch} {d : Nat} {call : Nat → List Int → Sg → Option (Int × Sg)}
theorem ctX3_again (p0 : Program) (e0 : Env) (s0 : State) (m0 : MethodId) (meth0 : Method) (c0 : Code) (G0 : Gm) (hd : 2 ≤ d) (hX3_node : ∀ (a1 a2 : Int) (u : Sg), Ct l d FT clA yX3_node cX3_node 7 (some .int) DX3_node rvI [vR 0, vI a1, vI a2] u (call 5 [a1, a2] u)) (hX3_not : ∀ (a1 : Int) (u : Sg), Ct l d FT clA yX3_not cX3_not 2 (some .int) DX3_not rvI [vR 0, vI a1] u (call 36 [a1] u)) (hX3_and_2 : ∀ (a1 : Int) (u : Sg), Ct l d FT clA yX3_and_2 cX3_and_2 8 (some .int) DX3_and_2 rvI [vR 0, vI a1] u (call 38 [a1] u)) (hX3_all : ∀ (a1 a2 : Int) (u : Sg), Ct l d FT clA yX3_all cX3_all 3 (some .int) DX3_all rvI [vR 0, vI a1, vI a2] u (call 44 [a1, a2] u)) (a1 a2 : Int) (u : Sg) : Ct l (d + 1) FT clA yX3_again cX3_again 5 (some .int) DX3_again rvI [vR 0, vI a1, vI a2] u (bX3_again call a1 a2 u) :=
  Ct_of (by decide) (Nat.le_of_ble_eq_true rfl) (fun p e R s1 m args below meth c G A ad hA hRf hRl => wX3_again hd hRf hRl hX3_node hX3_not hX3_and_2 hX3_all a1 a2 u (hA _ (List.mem_cons_of_mem _ List.mem_cons_self)) (hA _ (List.mem_cons_of_mem _ (List.mem_cons_of_mem _ List.mem_cons_self)))) p0 e0 s0 m0 meth0 c0 G0
end
/-! RoundCheckModel.all(II)I -/
abbrev JX3_all : Jm := (cX3_all, RX3, 3, (some .int))
def bX3_all (call : Nat → List Int → Sg → Option (Int × Sg)) (a1 a2 : Int) (u : Sg) : Option (Int × Sg) := ld u 1 a2 fun v1 => if v1 = 8 then (some (a2, u)) else (cl (call 32 [17, a1, a2] u) fun v2 s3 => some (v2, s3))
section
variable {p : Program} {l : Launch} {e : Env} {R : Room} {s : State} {m : MethodId} {args : Array Value} {below : List Frame} {meth : Method} {c : Code} {G : Gm} {A : Nat → Prop} {ad0 : Nat → Nat} {σ0 : Sg} {d : Nat} {call : Nat → List Int → Sg → Option (Int × Sg)}
theorem wX3_all (hd : 2 ≤ d) (hRf : d + 1 ≤ R.frames) (hRl : 40 * (d + 1) ≤ R.locals) (hX3_two : ∀ (a1 a2 a3 : Int) (u : Sg), Ct l d FT clA yX3_two cX3_two 5 (some .int) DX3_two rvI [vR 0, vI a1, vI a2, vI a3] u (call 32 [a1, a2, a3] u)) (a1 a2 : Int) (u : Sg) (ra1 : inR a1) (ra2 : inR a2) : WG p l e R s m args below meth c JX3_all DX3_all G clA A FT ad0 σ0 rvI (bX3_all call a1 a2 u) u 0 [(0, vR 0), (1, vI a1), (2, vI a2)] [] := by
  unfold bX3_all
  refine g_aload_n 0 dX3_all_0 rfl ?_
  refine g_get (v := vR 11) (ci := 2) (b := 0) (N := 83) 1 rfl rfl (by decide) in_X3 rfl rfl q1133 dX3_all_1 ?_
  refine g_iload_n 2 dX3_all_4 rfl ?_
  refine g_iald (id := 1) 0 rfl rfl dX3_all_5 (fun v1 rv1 => ?_)
  refine g_bipush (by decide +kernel) dX3_all_6 ?_
  refine g_icmp_ne 15 dX3_all_8 (by decide) (fun _ => rv1) (fun _ => (by decide : inR (8))) (fun _ => ?_) (fun _ => ?_)
  · refine g_iload_n 2 dX3_all_11 rfl ?_
    refine g_goto 23 dX3_all_12 (by decide) ?_
    exact g_iret rfl rfl (fun _ => ra2) dX3_all_23
  · refine g_aload_n 0 dX3_all_15 rfl ?_
    refine g_bipush (by decide +kernel) dX3_all_16 ?_
    refine g_iload_n 1 dX3_all_18 rfl ?_
    refine g_iload_n 2 dX3_all_19 rfl ?_
    refine g_cVI (As := [vI 17, vI a1, vI a2]) (n := 3) (stk := []) (ci := 2) (b := 0) (N := 83) (hX3_two 17 a1 a2 u) (by decide +kernel) rfl rfl (lw_V q1467 q1469 qs90 q168 q1470) (by decide +kernel) rfl (by decide) hRf hRl (fun _ => (avc (by decide : inR (17)) (avc ra1 (avc ra2 avn)))) (Nat.le_of_ble_eq_true rfl) rfl rfl dX3_all_20 (fun v2 s3 rv2 => ?_)
    exact g_iret rfl rfl (fun _ => rv2) dX3_all_23
end
section
variable {l : Launch} {d : Nat} {call : Nat → List Int → Sg → Option (Int × Sg)}
theorem ctX3_all (p0 : Program) (e0 : Env) (s0 : State) (m0 : MethodId) (meth0 : Method) (c0 : Code) (G0 : Gm) (hd : 2 ≤ d) (hX3_two : ∀ (a1 a2 a3 : Int) (u : Sg), Ct l d FT clA yX3_two cX3_two 5 (some .int) DX3_two rvI [vR 0, vI a1, vI a2, vI a3] u (call 32 [a1, a2, a3] u)) (a1 a2 : Int) (u : Sg) : Ct l (d + 1) FT clA yX3_all cX3_all 3 (some .int) DX3_all rvI [vR 0, vI a1, vI a2] u (bX3_all call a1 a2 u) :=
  Ct_of (by decide) (Nat.le_of_ble_eq_true rfl) (fun p e R s1 m args below meth c G A ad hA hRf hRl => wX3_all hd hRf hRl hX3_two a1 a2 u (hA _ (List.mem_cons_of_mem _ List.mem_cons_self)) (hA _ (List.mem_cons_of_mem _ (List.mem_cons_of_mem _ List.mem_cons_self)))) p0 e0 s0 m0 meth0 c0 G0
end
/-! RoundCheckModel.cluster(III)I -/
abbrev JX3_cluster : Jm := (cX3_cluster, RX3, 7, (some .int))
def bX3_cluster (call : Nat → List Int → Sg → Option (Int × Sg)) (a1 a2 a3 : Int) (u : Sg) : Option (Int × Sg) := jn (fun (s2 : Sg) => cl (call 17 [1] s2) fun v3 s4 => some (v3, s4)) fun j1 => un (sI u 0 0) fun s5 => cl (call 12 [a1, 1] s5) fun v6 s7 => cl (call 25 [a2, 1] s7) fun v8 s9 => if v6 = 0 then (j1 s9) else (cl (call 22 [a3] s9) fun v10 s11 => if v10 = 0 then (j1 s11) else (jn (fun (s13 : Sg) => cl (call 17 [1] s13) fun v14 s15 => some (v14, s15)) fun j12 => jn (fun (a3 a4 a5 : Int) (s17 : Sg) => un (gI s17 37) fun v18 => if v18 = 30 then (cl (call 17 [2] s17) fun v19 s20 => some (v19, s20)) else (un (gI s17 37) fun v21 => stA s17 29 v21 1 fun s22 => un (gI s22 37) fun v23 => stA s22 30 v23 a4 fun s24 => un (gI s24 37) fun v25 => stA s24 31 v25 a5 fun s26 => un (gI s26 37) fun v27 => stA s26 35 v27 a3 fun s28 => cl (call 46 [] s28) fun v29 s30 => some (v29, s30))) fun j16 => cl (call 7 [v6, 1] s11) fun v31 s32 => if v31 = 0 then (if a2 = (-1) then (j16 a3 v6 v8 s32) else (j12 s32)) else (if v8 = 0 then (j12 s32) else (ld s32 1 v31 fun v33 => if v33 = 2 then (cl (call 7 [v31, 0] s32) fun v34 s35 => if v34 = 0 then (j16 a3 v6 v8 s35) else (j12 s35)) else (j12 s32)))))
section
variable {p : Program} {l : Launch} {e : Env} {R : Room} {s : State} {m : MethodId} {args : Array Value} {below : List Frame} {meth : Method} {c : Code} {G : Gm} {A : Nat → Prop} {ad0 : Nat → Nat} {σ0 : Sg} {d : Nat} {call : Nat → List Int → Sg → Option (Int × Sg)}
theorem wX3_cluster (hd : 2 ≤ d) (hRf : d + 1 ≤ R.frames) (hRl : 40 * (d + 1) ≤ R.locals) (hX3_fails : ∀ (a1 : Int) (u : Sg), Ct l d FT clA yX3_fails cX3_fails 2 (some .int) DX3_fails rvI [vR 0, vI a1] u (call 17 [a1] u)) (hX3_form : ∀ (a1 a2 : Int) (u : Sg), Ct l d FT clA yX3_form cX3_form 3 (some .int) DX3_form rvI [vR 0, vI a1, vI a2] u (call 12 [a1, a2] u)) (hX3_closed : ∀ (a1 a2 : Int) (u : Sg), Ct l d FT clA yX3_closed cX3_closed 4 (some .int) DX3_closed rvI [vR 0, vI a1, vI a2] u (call 25 [a1, a2] u)) (hX3_isSet : ∀ (a1 : Int) (u : Sg), Ct l d FT clA yX3_isSet cX3_isSet 2 (some .boolean) DX3_isSet rvI [vR 0, vI a1] u (call 22 [a1] u)) (hX3_registered : ∀ (u : Sg), Ct l d FT clA yX3_registered cX3_registered 1 (some .int) DX3_registered rvI [vR 0] u (call 46 [] u)) (hX3_get : ∀ (a1 a2 : Int) (u : Sg), Ct l d FT clA yX3_get cX3_get 3 (some .int) DX3_get rvI [vR 0, vI a1, vI a2] u (call 7 [a1, a2] u)) (a1 a2 a3 : Int) (u : Sg) (ra1 : inR a1) (ra2 : inR a2) (ra3 : inR a3) : WG p l e R s m args below meth c JX3_cluster DX3_cluster G clA A FT ad0 σ0 rvI (bX3_cluster call a1 a2 a3 u) u 0 [(0, vR 0), (1, vI a1), (2, vI a2), (3, vI a3)] [] := by
  unfold bX3_cluster
  refine g_jn (fun j1 => ∀ (s2 : Sg), WG p l e R s m args below meth c JX3_cluster DX3_cluster G clA A FT ad0 σ0 rvI (j1 s2) s2 34 [(0, vR 0)] []) (fun s2 => ?_) (fun j1 hj1 => ?_)
  · refine g_aload_n 0 dX3_cluster_34 rfl ?_
    refine g_iconst dX3_cluster_35 ?_
    refine g_cVI (As := [vI 1]) (n := 1) (stk := []) (ci := 2) (b := 0) (N := 83) (hX3_fails 1 s2) (by decide +kernel) rfl rfl (lw_V q1407 q1409 qs84 q168 q1410) (by decide +kernel) rfl (by decide) hRf hRl (fun _ => (avc (inR_z (Or.inr rfl)) avn)) (Nat.le_of_ble_eq_true rfl) rfl rfl dX3_cluster_36 (fun v3 s4 rv3 => ?_)
    exact g_iret rfl rfl (fun _ => rv3) dX3_cluster_39
  · refine g_aload_n 0 dX3_cluster_0 rfl ?_
    refine g_iconst dX3_cluster_1 ?_
    refine g_sIU (ci := 2) (b := 0) (N := 83) FT_ok 0 rfl rfl rfl (by decide) in_X3 tyX3 tyX3_ok nmX3 rfl rfl rfl rfl (by decide +kernel) (inR_z (Or.inl rfl)) q1132 dX3_cluster_2 (fun s5 => ?_)
    refine g_aload_n 0 dX3_cluster_5 rfl ?_
    refine g_iload_n 1 dX3_cluster_6 rfl ?_
    refine g_iconst dX3_cluster_7 ?_
    refine g_cVI (As := [vI a1, vI 1]) (n := 2) (stk := []) (ci := 2) (b := 0) (N := 83) (hX3_form a1 1 s5) (by decide +kernel) rfl rfl (lw_V q1387 q1389 qs79 q168 q1390) (by decide +kernel) rfl (by decide) hRf hRl (fun _ => (avc ra1 (avc (inR_z (Or.inr rfl)) avn))) (Nat.le_of_ble_eq_true rfl) rfl rfl dX3_cluster_8 (fun v6 s7 rv6 => ?_)
    refine g_istore (loc' := [(4, vI v6), (0, vR 0), (1, vI a1), (2, vI a2), (3, vI a3)]) dX3_cluster_11 (by decide) rfl ?_
    refine g_aload_n 1 dX3_cluster_13 rfl ?_
    refine g_iload_n 3 dX3_cluster_14 rfl ?_
    refine g_iconst dX3_cluster_15 ?_
    refine g_cVI (As := [vI a2, vI 1]) (n := 2) (stk := []) (ci := 2) (b := 0) (N := 83) (hX3_closed a2 1 s7) (by decide +kernel) rfl rfl (lw_V q1439 q1441 qs87 q168 q1442) (by decide +kernel) rfl (by decide) hRf hRl (fun _ => (avc ra2 (avc (inR_z (Or.inr rfl)) avn))) (Nat.le_of_ble_eq_true rfl) rfl rfl dX3_cluster_16 (fun v8 s9 rv8 => ?_)
    refine g_istore (loc' := [(5, vI v8), (4, vI v6), (0, vR 0), (1, vI a1), (2, vI a2), (3, vI a3)]) dX3_cluster_19 (by decide) rfl ?_
    refine g_iload 1 dX3_cluster_21 rfl ?_
    refine g_if_eq 34 dX3_cluster_23 (by decide) (fun _ => rv6) (fun _ => ?_) (fun _ => ?_)
    · exact g_pick [2] rfl (hj1 s9)
    · refine g_aload_n 2 dX3_cluster_26 rfl ?_
      refine g_iload_n 5 dX3_cluster_27 rfl ?_
      refine g_cVZ (As := [vI a3]) (n := 1) (stk := []) (ci := 2) (b := 0) (N := 83) (hX3_isSet a3 s9) (by decide +kernel) rfl rfl (lw_V q1427 q1429 qs85 q168 q1430) (by decide +kernel) rfl (by decide) hRf hRl (fun _ => (avc ra3 avn)) (Nat.le_of_ble_eq_true rfl) rfl rfl dX3_cluster_28 (fun v10 s11 zv10 => ?_)
      refine g_if_ne 40 dX3_cluster_31 (by decide) (fun _ => (inR_z zv10)) (fun _ => ?_) (fun _ => ?_)
      · exact g_pick [2] rfl (hj1 s11)
      · refine g_jn (fun j12 => ∀ (s13 : Sg), WG p l e R s m args below meth c JX3_cluster DX3_cluster G clA A FT ad0 σ0 rvI (j12 s13) s13 88 [(0, vR 0)] []) (fun s13 => ?_) (fun j12 hj12 => ?_)
        · refine g_aload_n 0 dX3_cluster_88 rfl ?_
          refine g_iconst dX3_cluster_89 ?_
          refine g_cVI (As := [vI 1]) (n := 1) (stk := []) (ci := 2) (b := 0) (N := 83) (hX3_fails 1 s13) (by decide +kernel) rfl rfl (lw_V q1407 q1409 qs84 q168 q1410) (by decide +kernel) rfl (by decide) hRf hRl (fun _ => (avc (inR_z (Or.inr rfl)) avn)) (Nat.le_of_ble_eq_true rfl) rfl rfl dX3_cluster_90 (fun v14 s15 rv14 => ?_)
          exact g_iret rfl rfl (fun _ => rv14) dX3_cluster_93
        · refine g_jn (fun j16 => ∀ (a3 a4 a5 : Int) (s17 : Sg), inR a3 → inR a4 → inR a5 → WG p l e R s m args below meth c JX3_cluster DX3_cluster G clA A FT ad0 σ0 rvI (j16 a3 a4 a5 s17) s17 94 [(0, vR 0), (3, vI a3), (4, vI a4), (5, vI a5)] []) (fun a3 a4 a5 s17 ra3 ra4 ra5 => ?_) (fun j16 hj16 => ?_)
          · refine g_aload_n 0 dX3_cluster_94 rfl ?_
            refine g_getI (ci := 2) (b := 0) (N := 83) 37 rfl rfl rfl (by decide) in_X3 rfl rfl q1169 dX3_cluster_95 (fun v18 rv18 => ?_)
            refine g_bipush (by decide +kernel) dX3_cluster_98 ?_
            refine g_icmp_ne 109 dX3_cluster_100 (by decide) (fun _ => rv18) (fun _ => (by decide : inR (30))) (fun _ => ?_) (fun _ => ?_)
            · refine g_aload_n 0 dX3_cluster_103 rfl ?_
              refine g_iconst dX3_cluster_104 ?_
              refine g_cVI (As := [vI 2]) (n := 1) (stk := []) (ci := 2) (b := 0) (N := 83) (hX3_fails 2 s17) (by decide +kernel) rfl rfl (lw_V q1407 q1409 qs84 q168 q1410) (by decide +kernel) rfl (by decide) hRf hRl (fun _ => (avc (by decide : inR (2)) avn)) (Nat.le_of_ble_eq_true rfl) rfl rfl dX3_cluster_105 (fun v19 s20 rv19 => ?_)
              exact g_iret rfl rfl (fun _ => rv19) dX3_cluster_108
            · refine g_aload_n 0 dX3_cluster_109 rfl ?_
              refine g_get (v := vR 39) (ci := 2) (b := 0) (N := 83) 29 rfl rfl (by decide) in_X3 rfl rfl q1161 dX3_cluster_110 ?_
              refine g_aload_n 0 dX3_cluster_113 rfl ?_
              refine g_getI (ci := 2) (b := 0) (N := 83) 37 rfl rfl rfl (by decide) in_X3 rfl rfl q1169 dX3_cluster_114 (fun v21 rv21 => ?_)
              refine g_iconst dX3_cluster_117 ?_
              refine g_iastU (id := 29) FT_ok 19 rfl rfl (by decide +kernel) (inR_z (Or.inr rfl)) dX3_cluster_118 (fun s22 => ?_)
              refine g_aload_n 0 dX3_cluster_119 rfl ?_
              refine g_get (v := vR 40) (ci := 2) (b := 0) (N := 83) 30 rfl rfl (by decide) in_X3 rfl rfl q1162 dX3_cluster_120 ?_
              refine g_aload_n 0 dX3_cluster_123 rfl ?_
              refine g_getI (ci := 2) (b := 0) (N := 83) 37 rfl rfl rfl (by decide) in_X3 rfl rfl q1169 dX3_cluster_124 (fun v23 rv23 => ?_)
              refine g_iload 2 dX3_cluster_127 rfl ?_
              refine g_iastU (id := 30) FT_ok 20 rfl rfl (by decide +kernel) ra4 dX3_cluster_129 (fun s24 => ?_)
              refine g_aload_n 0 dX3_cluster_130 rfl ?_
              refine g_get (v := vR 41) (ci := 2) (b := 0) (N := 83) 31 rfl rfl (by decide) in_X3 rfl rfl q1163 dX3_cluster_131 ?_
              refine g_aload_n 0 dX3_cluster_134 rfl ?_
              refine g_getI (ci := 2) (b := 0) (N := 83) 37 rfl rfl rfl (by decide) in_X3 rfl rfl q1169 dX3_cluster_135 (fun v25 rv25 => ?_)
              refine g_iload 3 dX3_cluster_138 rfl ?_
              refine g_iastU (id := 31) FT_ok 21 rfl rfl (by decide +kernel) ra5 dX3_cluster_140 (fun s26 => ?_)
              refine g_aload_n 0 dX3_cluster_141 rfl ?_
              refine g_get (v := vR 45) (ci := 2) (b := 0) (N := 83) 35 rfl rfl (by decide) in_X3 rfl rfl q1167 dX3_cluster_142 ?_
              refine g_aload_n 0 dX3_cluster_145 rfl ?_
              refine g_getI (ci := 2) (b := 0) (N := 83) 37 rfl rfl rfl (by decide) in_X3 rfl rfl q1169 dX3_cluster_146 (fun v27 rv27 => ?_)
              refine g_iload_n 1 dX3_cluster_149 rfl ?_
              refine g_iastU (id := 35) FT_ok 25 rfl rfl (by decide +kernel) ra3 dX3_cluster_150 (fun s28 => ?_)
              refine g_aload_n 0 dX3_cluster_151 rfl ?_
              refine g_cVI (As := []) (n := 0) (stk := []) (ci := 2) (b := 0) (N := 83) (hX3_registered  s28) (by decide +kernel) rfl rfl (lw_V q1523 q1525 qs101 q168 q1526) (by decide +kernel) rfl (by decide) hRf hRl (fun _ => avn) (Nat.le_of_ble_eq_true rfl) rfl rfl dX3_cluster_152 (fun v29 s30 rv29 => ?_)
              exact g_iret rfl rfl (fun _ => rv29) dX3_cluster_155
          · refine g_aload_n 2 dX3_cluster_40 rfl ?_
            refine g_iload 1 dX3_cluster_41 rfl ?_
            refine g_iconst dX3_cluster_43 ?_
            refine g_cVI (As := [vI v6, vI 1]) (n := 2) (stk := []) (ci := 2) (b := 0) (N := 83) (hX3_get v6 1 s11) (by decide +kernel) rfl rfl (lw_V q1116 q1118 qs76 q168 q1119) (by decide +kernel) rfl (by decide) hRf hRl (fun _ => (avc rv6 (avc (inR_z (Or.inr rfl)) avn))) (Nat.le_of_ble_eq_true rfl) rfl rfl dX3_cluster_44 (fun v31 s32 rv31 => ?_)
            refine g_istore (loc' := [(6, vI v31), (5, vI v8), (4, vI v6), (0, vR 0), (1, vI a1), (2, vI a2), (3, vI a3)]) dX3_cluster_47 (by decide) rfl ?_
            refine g_iload 0 dX3_cluster_49 rfl ?_
            refine g_if_ne 62 dX3_cluster_51 (by decide) (fun _ => rv31) (fun _ => ?_) (fun _ => ?_)
            · refine g_iload_n 5 dX3_cluster_54 rfl ?_
              refine g_iconst dX3_cluster_55 ?_
              refine g_icmp_eq 94 dX3_cluster_56 (by decide) (fun _ => ra2) (fun _ => (by decide : inR (-1))) (fun _ => ?_) (fun _ => ?_)
              · exact g_pick [3, 6, 2, 1] rfl (hj16 a3 v6 v8 s32 ra3 rv6 rv8)
              · refine g_goto 88 dX3_cluster_59 (by decide) ?_
                exact g_pick [3] rfl (hj12 s32)
            · refine g_iload 1 dX3_cluster_62 rfl ?_
              refine g_if_eq 88 dX3_cluster_64 (by decide) (fun _ => rv8) (fun _ => ?_) (fun _ => ?_)
              · exact g_pick [3] rfl (hj12 s32)
              · refine g_aload_n 3 dX3_cluster_67 rfl ?_
                refine g_get (v := vR 11) (ci := 2) (b := 0) (N := 83) 1 rfl rfl (by decide) in_X3 rfl rfl q1133 dX3_cluster_68 ?_
                refine g_iload 0 dX3_cluster_71 rfl ?_
                refine g_iald (id := 1) 0 rfl rfl dX3_cluster_73 (fun v33 rv33 => ?_)
                refine g_iconst dX3_cluster_74 ?_
                refine g_icmp_ne 88 dX3_cluster_75 (by decide) (fun _ => rv33) (fun _ => (by decide : inR (2))) (fun _ => ?_) (fun _ => ?_)
                · refine g_aload_n 3 dX3_cluster_78 rfl ?_
                  refine g_iload 0 dX3_cluster_79 rfl ?_
                  refine g_iconst dX3_cluster_81 ?_
                  refine g_cVI (As := [vI v31, vI 0]) (n := 2) (stk := []) (ci := 2) (b := 0) (N := 83) (hX3_get v31 0 s32) (by decide +kernel) rfl rfl (lw_V q1116 q1118 qs76 q168 q1119) (by decide +kernel) rfl (by decide) hRf hRl (fun _ => (avc rv31 (avc (inR_z (Or.inl rfl)) avn))) (Nat.le_of_ble_eq_true rfl) rfl rfl dX3_cluster_82 (fun v34 s35 rv34 => ?_)
                  refine g_if_eq 94 dX3_cluster_85 (by decide) (fun _ => rv34) (fun _ => ?_) (fun _ => ?_)
                  · exact g_pick [3, 6, 2, 1] rfl (hj16 a3 v6 v8 s35 ra3 rv6 rv8)
                  · exact g_pick [3] rfl (hj12 s35)
                · exact g_pick [3] rfl (hj12 s32)
end
section
variable {l : Launch} {d : Nat} {call : Nat → List Int → Sg → Option (Int × Sg)}
theorem ctX3_cluster (p0 : Program) (e0 : Env) (s0 : State) (m0 : MethodId) (meth0 : Method) (c0 : Code) (G0 : Gm) (hd : 2 ≤ d) (hX3_fails : ∀ (a1 : Int) (u : Sg), Ct l d FT clA yX3_fails cX3_fails 2 (some .int) DX3_fails rvI [vR 0, vI a1] u (call 17 [a1] u)) (hX3_form : ∀ (a1 a2 : Int) (u : Sg), Ct l d FT clA yX3_form cX3_form 3 (some .int) DX3_form rvI [vR 0, vI a1, vI a2] u (call 12 [a1, a2] u)) (hX3_closed : ∀ (a1 a2 : Int) (u : Sg), Ct l d FT clA yX3_closed cX3_closed 4 (some .int) DX3_closed rvI [vR 0, vI a1, vI a2] u (call 25 [a1, a2] u)) (hX3_isSet : ∀ (a1 : Int) (u : Sg), Ct l d FT clA yX3_isSet cX3_isSet 2 (some .boolean) DX3_isSet rvI [vR 0, vI a1] u (call 22 [a1] u)) (hX3_registered : ∀ (u : Sg), Ct l d FT clA yX3_registered cX3_registered 1 (some .int) DX3_registered rvI [vR 0] u (call 46 [] u)) (hX3_get : ∀ (a1 a2 : Int) (u : Sg), Ct l d FT clA yX3_get cX3_get 3 (some .int) DX3_get rvI [vR 0, vI a1, vI a2] u (call 7 [a1, a2] u)) (a1 a2 a3 : Int) (u : Sg) : Ct l (d + 1) FT clA yX3_cluster cX3_cluster 7 (some .int) DX3_cluster rvI [vR 0, vI a1, vI a2, vI a3] u (bX3_cluster call a1 a2 a3 u) :=
  Ct_of (by decide) (Nat.le_of_ble_eq_true rfl) (fun p e R s1 m args below meth c G A ad hA hRf hRl => wX3_cluster hd hRf hRl hX3_fails hX3_form hX3_closed hX3_isSet hX3_registered hX3_get a1 a2 a3 u (hA _ (List.mem_cons_of_mem _ List.mem_cons_self)) (hA _ (List.mem_cons_of_mem _ (List.mem_cons_of_mem _ List.mem_cons_self))) (hA _ (List.mem_cons_of_mem _ (List.mem_cons_of_mem _ (List.mem_cons_of_mem _ List.mem_cons_self))))) p0 e0 s0 m0 meth0 c0 G0
end
/-! RoundCheckModel.registered()I -/
abbrev JX3_registered : Jm := (cX3_registered, RX3, 1, (some .int))
def bX3_registered (call : Nat → List Int → Sg → Option (Int × Sg)) (u : Sg) : Option (Int × Sg) := un (sI u 0 0) fun s1 => cl (call 10 [] s1) fun v2 s3 => un (gI s3 37) fun v4 => ar (v4 + 1) fun v5 => un (sI s3 37 v5) fun s6 => some (v4, s6)
section
variable {p : Program} {l : Launch} {e : Env} {R : Room} {s : State} {m : MethodId} {args : Array Value} {below : List Frame} {meth : Method} {c : Code} {G : Gm} {A : Nat → Prop} {ad0 : Nat → Nat} {σ0 : Sg} {d : Nat} {call : Nat → List Int → Sg → Option (Int × Sg)}
theorem wX3_registered (hd : 2 ≤ d) (hRf : d + 1 ≤ R.frames) (hRl : 40 * (d + 1) ≤ R.locals) (hX3_anew : ∀ (u : Sg), Ct l d FT clA yX3_anew cX3_anew 2 none DX3_anew rvV [vR 0] u (call 10 [] u)) (u : Sg) : WG p l e R s m args below meth c JX3_registered DX3_registered G clA A FT ad0 σ0 rvI (bX3_registered call u) u 0 [(0, vR 0)] [] := by
  unfold bX3_registered
  refine g_aload_n 0 dX3_registered_0 rfl ?_
  refine g_iconst dX3_registered_1 ?_
  refine g_sIU (ci := 2) (b := 0) (N := 83) FT_ok 0 rfl rfl rfl (by decide) in_X3 tyX3 tyX3_ok nmX3 rfl rfl rfl rfl (by decide +kernel) (inR_z (Or.inl rfl)) q1132 dX3_registered_2 (fun s1 => ?_)
  refine g_aload_n 0 dX3_registered_5 rfl ?_
  refine g_cVV (As := []) (n := 0) (stk := []) (ci := 2) (b := 0) (N := 83) (hX3_anew  s1) (by decide +kernel) rfl rfl (lw_V q1127 q1129 qs78 q168 q1130) (by decide +kernel) rfl (by decide) hRf hRl (fun _ => avn) (Nat.le_of_ble_eq_true rfl) rfl rfl dX3_registered_6 (fun v2 s3 => ?_)
  refine g_aload_n 0 dX3_registered_9 rfl ?_
  refine g_dup rfl dX3_registered_10 ?_
  refine g_getI (ci := 2) (b := 0) (N := 83) 37 rfl rfl rfl (by decide) in_X3 rfl rfl q1169 dX3_registered_11 (fun v4 rv4 => ?_)
  refine g_dup_x1 rfl rfl dX3_registered_14 ?_
  refine g_iconst dX3_registered_15 ?_
  refine g_iadd dX3_registered_16 (fun v5 rv5 => ?_)
  refine g_sIU (ci := 2) (b := 0) (N := 83) FT_ok 37 rfl rfl rfl (by decide) in_X3 tyX3 tyX3_ok nmX3 rfl rfl rfl rfl (by decide +kernel) rv5 q1169 dX3_registered_17 (fun s6 => ?_)
  exact g_iret rfl rfl (fun _ => rv4) dX3_registered_20
end
section
variable {l : Launch} {d : Nat} {call : Nat → List Int → Sg → Option (Int × Sg)}
theorem ctX3_registered (p0 : Program) (e0 : Env) (s0 : State) (m0 : MethodId) (meth0 : Method) (c0 : Code) (G0 : Gm) (hd : 2 ≤ d) (hX3_anew : ∀ (u : Sg), Ct l d FT clA yX3_anew cX3_anew 2 none DX3_anew rvV [vR 0] u (call 10 [] u)) (u : Sg) : Ct l (d + 1) FT clA yX3_registered cX3_registered 1 (some .int) DX3_registered rvI [vR 0] u (bX3_registered call u) :=
  Ct_of (by decide) (Nat.le_of_ble_eq_true rfl) (fun p e R s1 m args below meth c G A ad hA hRf hRl => wX3_registered hd hRf hRl hX3_anew u) p0 e0 s0 m0 meth0 c0 G0
end
/-! RoundCheckModel.gives(IIII)I -/
abbrev JX3_gives_2 : Jm := (cX3_gives_2, RX3, 5, (some .int))
def bX3_gives_2 (call : Nat → List Int → Sg → Option (Int × Sg)) (a1 a2 a3 a4 : Int) (u : Sg) : Option (Int × Sg) := jn (fun (s2 : Sg) => cl (call 17 [1] s2) fun v3 s4 => some (v3, s4)) fun j1 => un (sI u 0 0) fun s5 => cl (call 48 [a1, a2, a3] s5) fun v6 s7 => if v6 = 0 then (j1 s7) else (cl (call 22 [a4] s7) fun v8 s9 => if v8 = 0 then (j1 s9) else (un (gI s9 37) fun v10 => if v10 = 30 then (cl (call 17 [2] s9) fun v11 s12 => some (v11, s12)) else (un (gI s9 37) fun v13 => stA s9 29 v13 2 fun s14 => un (gI s14 37) fun v15 => stA s14 35 v15 a4 fun s16 => cl (call 46 [] s16) fun v17 s18 => some (v17, s18))))
section
variable {p : Program} {l : Launch} {e : Env} {R : Room} {s : State} {m : MethodId} {args : Array Value} {below : List Frame} {meth : Method} {c : Code} {G : Gm} {A : Nat → Prop} {ad0 : Nat → Nat} {σ0 : Sg} {d : Nat} {call : Nat → List Int → Sg → Option (Int × Sg)}
theorem wX3_gives_2 (hd : 2 ≤ d) (hRf : d + 1 ≤ R.frames) (hRl : 40 * (d + 1) ≤ R.locals) (hX3_fails : ∀ (a1 : Int) (u : Sg), Ct l d FT clA yX3_fails cX3_fails 2 (some .int) DX3_fails rvI [vR 0, vI a1] u (call 17 [a1] u)) (hX3_types : ∀ (a1 a2 a3 : Int) (u : Sg), Ct l d FT clA yX3_types cX3_types 7 (some .boolean) DX3_types rvI [vR 0, vI a1, vI a2, vI a3] u (call 48 [a1, a2, a3] u)) (hX3_isSet : ∀ (a1 : Int) (u : Sg), Ct l d FT clA yX3_isSet cX3_isSet 2 (some .boolean) DX3_isSet rvI [vR 0, vI a1] u (call 22 [a1] u)) (hX3_registered : ∀ (u : Sg), Ct l d FT clA yX3_registered cX3_registered 1 (some .int) DX3_registered rvI [vR 0] u (call 46 [] u)) (a1 a2 a3 a4 : Int) (u : Sg) (ra1 : inR a1) (ra2 : inR a2) (ra3 : inR a3) (ra4 : inR a4) : WG p l e R s m args below meth c JX3_gives_2 DX3_gives_2 G clA A FT ad0 σ0 rvI (bX3_gives_2 call a1 a2 a3 a4 u) u 0 [(0, vR 0), (1, vI a1), (2, vI a2), (3, vI a3), (4, vI a4)] [] := by
  unfold bX3_gives_2
  refine g_jn (fun j1 => ∀ (s2 : Sg), WG p l e R s m args below meth c JX3_gives_2 DX3_gives_2 G clA A FT ad0 σ0 rvI (j1 s2) s2 24 [(0, vR 0)] []) (fun s2 => ?_) (fun j1 hj1 => ?_)
  · refine g_aload_n 0 dX3_gives_2_24 rfl ?_
    refine g_iconst dX3_gives_2_25 ?_
    refine g_cVI (As := [vI 1]) (n := 1) (stk := []) (ci := 2) (b := 0) (N := 83) (hX3_fails 1 s2) (by decide +kernel) rfl rfl (lw_V q1407 q1409 qs84 q168 q1410) (by decide +kernel) rfl (by decide) hRf hRl (fun _ => (avc (inR_z (Or.inr rfl)) avn)) (Nat.le_of_ble_eq_true rfl) rfl rfl dX3_gives_2_26 (fun v3 s4 rv3 => ?_)
    exact g_iret rfl rfl (fun _ => rv3) dX3_gives_2_29
  · refine g_aload_n 0 dX3_gives_2_0 rfl ?_
    refine g_iconst dX3_gives_2_1 ?_
    refine g_sIU (ci := 2) (b := 0) (N := 83) FT_ok 0 rfl rfl rfl (by decide) in_X3 tyX3 tyX3_ok nmX3 rfl rfl rfl rfl (by decide +kernel) (inR_z (Or.inl rfl)) q1132 dX3_gives_2_2 (fun s5 => ?_)
    refine g_aload_n 0 dX3_gives_2_5 rfl ?_
    refine g_iload_n 1 dX3_gives_2_6 rfl ?_
    refine g_iload_n 2 dX3_gives_2_7 rfl ?_
    refine g_iload_n 3 dX3_gives_2_8 rfl ?_
    refine g_cVZ (As := [vI a1, vI a2, vI a3]) (n := 3) (stk := []) (ci := 2) (b := 0) (N := 83) (hX3_types a1 a2 a3 s5) (by decide +kernel) rfl rfl (lw_V q1531 q1533 qs102 q168 q1534) (by decide +kernel) rfl (by decide) hRf hRl (fun _ => (avc ra1 (avc ra2 (avc ra3 avn)))) (Nat.le_of_ble_eq_true rfl) rfl rfl dX3_gives_2_9 (fun v6 s7 zv6 => ?_)
    refine g_if_eq 24 dX3_gives_2_12 (by decide) (fun _ => (inR_z zv6)) (fun _ => ?_) (fun _ => ?_)
    · exact g_pick [0] rfl (hj1 s7)
    · refine g_aload_n 0 dX3_gives_2_15 rfl ?_
      refine g_iload 4 dX3_gives_2_16 rfl ?_
      refine g_cVZ (As := [vI a4]) (n := 1) (stk := []) (ci := 2) (b := 0) (N := 83) (hX3_isSet a4 s7) (by decide +kernel) rfl rfl (lw_V q1427 q1429 qs85 q168 q1430) (by decide +kernel) rfl (by decide) hRf hRl (fun _ => (avc ra4 avn)) (Nat.le_of_ble_eq_true rfl) rfl rfl dX3_gives_2_18 (fun v8 s9 zv8 => ?_)
      refine g_if_ne 30 dX3_gives_2_21 (by decide) (fun _ => (inR_z zv8)) (fun _ => ?_) (fun _ => ?_)
      · exact g_pick [0] rfl (hj1 s9)
      · refine g_aload_n 0 dX3_gives_2_30 rfl ?_
        refine g_getI (ci := 2) (b := 0) (N := 83) 37 rfl rfl rfl (by decide) in_X3 rfl rfl q1169 dX3_gives_2_31 (fun v10 rv10 => ?_)
        refine g_bipush (by decide +kernel) dX3_gives_2_34 ?_
        refine g_icmp_ne 45 dX3_gives_2_36 (by decide) (fun _ => rv10) (fun _ => (by decide : inR (30))) (fun _ => ?_) (fun _ => ?_)
        · refine g_aload_n 0 dX3_gives_2_39 rfl ?_
          refine g_iconst dX3_gives_2_40 ?_
          refine g_cVI (As := [vI 2]) (n := 1) (stk := []) (ci := 2) (b := 0) (N := 83) (hX3_fails 2 s9) (by decide +kernel) rfl rfl (lw_V q1407 q1409 qs84 q168 q1410) (by decide +kernel) rfl (by decide) hRf hRl (fun _ => (avc (by decide : inR (2)) avn)) (Nat.le_of_ble_eq_true rfl) rfl rfl dX3_gives_2_41 (fun v11 s12 rv11 => ?_)
          exact g_iret rfl rfl (fun _ => rv11) dX3_gives_2_44
        · refine g_aload_n 0 dX3_gives_2_45 rfl ?_
          refine g_get (v := vR 39) (ci := 2) (b := 0) (N := 83) 29 rfl rfl (by decide) in_X3 rfl rfl q1161 dX3_gives_2_46 ?_
          refine g_aload_n 0 dX3_gives_2_49 rfl ?_
          refine g_getI (ci := 2) (b := 0) (N := 83) 37 rfl rfl rfl (by decide) in_X3 rfl rfl q1169 dX3_gives_2_50 (fun v13 rv13 => ?_)
          refine g_iconst dX3_gives_2_53 ?_
          refine g_iastU (id := 29) FT_ok 19 rfl rfl (by decide +kernel) (by decide : inR (2)) dX3_gives_2_54 (fun s14 => ?_)
          refine g_aload_n 0 dX3_gives_2_55 rfl ?_
          refine g_get (v := vR 45) (ci := 2) (b := 0) (N := 83) 35 rfl rfl (by decide) in_X3 rfl rfl q1167 dX3_gives_2_56 ?_
          refine g_aload_n 0 dX3_gives_2_59 rfl ?_
          refine g_getI (ci := 2) (b := 0) (N := 83) 37 rfl rfl rfl (by decide) in_X3 rfl rfl q1169 dX3_gives_2_60 (fun v15 rv15 => ?_)
          refine g_iload 4 dX3_gives_2_63 rfl ?_
          refine g_iastU (id := 35) FT_ok 25 rfl rfl (by decide +kernel) ra4 dX3_gives_2_65 (fun s16 => ?_)
          refine g_aload_n 0 dX3_gives_2_66 rfl ?_
          refine g_cVI (As := []) (n := 0) (stk := []) (ci := 2) (b := 0) (N := 83) (hX3_registered  s16) (by decide +kernel) rfl rfl (lw_V q1523 q1525 qs101 q168 q1526) (by decide +kernel) rfl (by decide) hRf hRl (fun _ => avn) (Nat.le_of_ble_eq_true rfl) rfl rfl dX3_gives_2_67 (fun v17 s18 rv17 => ?_)
          exact g_iret rfl rfl (fun _ => rv17) dX3_gives_2_70
end
section
variable {l : Launch} {d : Nat} {call : Nat → List Int → Sg → Option (Int × Sg)}
theorem ctX3_gives_2 (p0 : Program) (e0 : Env) (s0 : State) (m0 : MethodId) (meth0 : Method) (c0 : Code) (G0 : Gm) (hd : 2 ≤ d) (hX3_fails : ∀ (a1 : Int) (u : Sg), Ct l d FT clA yX3_fails cX3_fails 2 (some .int) DX3_fails rvI [vR 0, vI a1] u (call 17 [a1] u)) (hX3_types : ∀ (a1 a2 a3 : Int) (u : Sg), Ct l d FT clA yX3_types cX3_types 7 (some .boolean) DX3_types rvI [vR 0, vI a1, vI a2, vI a3] u (call 48 [a1, a2, a3] u)) (hX3_isSet : ∀ (a1 : Int) (u : Sg), Ct l d FT clA yX3_isSet cX3_isSet 2 (some .boolean) DX3_isSet rvI [vR 0, vI a1] u (call 22 [a1] u)) (hX3_registered : ∀ (u : Sg), Ct l d FT clA yX3_registered cX3_registered 1 (some .int) DX3_registered rvI [vR 0] u (call 46 [] u)) (a1 a2 a3 a4 : Int) (u : Sg) : Ct l (d + 1) FT clA yX3_gives_2 cX3_gives_2 5 (some .int) DX3_gives_2 rvI [vR 0, vI a1, vI a2, vI a3, vI a4] u (bX3_gives_2 call a1 a2 a3 a4 u) :=
  Ct_of (by decide) (Nat.le_of_ble_eq_true rfl) (fun p e R s1 m args below meth c G A ad hA hRf hRl => wX3_gives_2 hd hRf hRl hX3_fails hX3_types hX3_isSet hX3_registered a1 a2 a3 a4 u (hA _ (List.mem_cons_of_mem _ List.mem_cons_self)) (hA _ (List.mem_cons_of_mem _ (List.mem_cons_of_mem _ List.mem_cons_self))) (hA _ (List.mem_cons_of_mem _ (List.mem_cons_of_mem _ (List.mem_cons_of_mem _ List.mem_cons_self)))) (hA _ (List.mem_cons_of_mem _ (List.mem_cons_of_mem _ (List.mem_cons_of_mem _ (List.mem_cons_of_mem _ List.mem_cons_self)))))) p0 e0 s0 m0 meth0 c0 G0
end
/-! RoundCheckModel.types(III)Z -/
abbrev JX3_types : Jm := (cX3_types, RX3, 7, (some .boolean))
def bX3_types (call : Nat → List Int → Sg → Option (Int × Sg)) (a1 a2 a3 : Int) (u : Sg) : Option (Int × Sg) := if a1 < 0 then (some (0, u)) else (un (gI u 22) fun v1 => if a1 < v1 then (jn (fun (a1 a3 a4 a5 a6 : Int) (s3 : Sg) => jn (fun (a1 a4 a5 : Int) (s5 : Sg) => un (gI s5 37) fun v6 => if v6 < 30 then (un (gI s5 37) fun v7 => stA s5 32 v7 a1 fun s8 => un (gI s8 37) fun v9 => stA s8 33 v9 a4 fun s10 => un (gI s10 37) fun v11 => stA s10 34 v11 a5 fun s12 => some (1, s12)) else (some (1, s5))) fun j4 => if a6 ≤ 1 then (if a3 = (-1) then (j4 a1 a4 a5 s3) else (some (0, s3))) else (if a5 = 0 then (some (0, s3)) else (cl (call 14 [a5, a6] s3) fun v13 s14 => if v13 = 0 then (some (0, s14)) else (j4 a1 a4 a5 s14)))) fun j2 => cl (call 12 [a2, 1] u) fun v15 s16 => cl (call 12 [a3, 1] s16) fun v17 s18 => ld s18 20 a1 fun v19 => if v19 ≤ 0 then (if a2 = (-1) then (j2 a1 a3 v15 v17 v19 s18) else (some (0, s18))) else (if v15 = 0 then (some (0, s18)) else (cl (call 14 [v15, v19] s18) fun v20 s21 => if v20 = 0 then (some (0, s21)) else (j2 a1 a3 v15 v17 v19 s21)))) else (some (0, u)))
section
variable {p : Program} {l : Launch} {e : Env} {R : Room} {s : State} {m : MethodId} {args : Array Value} {below : List Frame} {meth : Method} {c : Code} {G : Gm} {A : Nat → Prop} {ad0 : Nat → Nat} {σ0 : Sg} {d : Nat} {call : Nat → List Int → Sg → Option (Int × Sg)}
theorem wX3_types (hd : 2 ≤ d) (hRf : d + 1 ≤ R.frames) (hRl : 40 * (d + 1) ≤ R.locals) (hX3_isBelow : ∀ (a1 a2 : Int) (u : Sg), Ct l d FT clA yX3_isBelow cX3_isBelow 3 (some .boolean) DX3_isBelow rvI [vR 0, vI a1, vI a2] u (call 14 [a1, a2] u)) (hX3_form : ∀ (a1 a2 : Int) (u : Sg), Ct l d FT clA yX3_form cX3_form 3 (some .int) DX3_form rvI [vR 0, vI a1, vI a2] u (call 12 [a1, a2] u)) (a1 a2 a3 : Int) (u : Sg) (ra1 : inR a1) (ra2 : inR a2) (ra3 : inR a3) : WG p l e R s m args below meth c JX3_types DX3_types G clA A FT ad0 σ0 rvI (bX3_types call a1 a2 a3 u) u 0 [(0, vR 0), (1, vI a1), (2, vI a2), (3, vI a3)] [] := by
  unfold bX3_types
  refine g_iload_n 1 dX3_types_0 rfl ?_
  refine g_if_lt 12 dX3_types_1 (by decide) (fun _ => ra1) (fun _ => ?_) (fun _ => ?_)
  · refine g_iconst dX3_types_12 ?_
    exact g_zret rfl rfl (fun _ => (Or.inl rfl)) dX3_types_13
  · refine g_iload_n 1 dX3_types_4 rfl ?_
    refine g_aload_n 0 dX3_types_5 rfl ?_
    refine g_getI (ci := 2) (b := 0) (N := 83) 22 rfl rfl rfl (by decide) in_X3 rfl rfl q1154 dX3_types_6 (fun v1 rv1 => ?_)
    refine g_icmp_lt 14 dX3_types_9 (by decide) (fun _ => ra1) (fun _ => rv1) (fun _ => ?_) (fun _ => ?_)
    · refine g_jn (fun j2 => ∀ (a1 a3 a4 a5 a6 : Int) (s3 : Sg), inR a1 → inR a3 → inR a4 → inR a5 → inR a6 → WG p l e R s m args below meth c JX3_types DX3_types G clA A FT ad0 σ0 rvI (j2 a1 a3 a4 a5 a6 s3) s3 69 [(0, vR 0), (1, vI a1), (3, vI a3), (4, vI a4), (5, vI a5), (6, vI a6)] []) (fun a1 a3 a4 a5 a6 s3 ra1 ra3 ra4 ra5 ra6 => ?_) (fun j2 hj2 => ?_)
      · refine g_jn (fun j4 => ∀ (a1 a4 a5 : Int) (s5 : Sg), inR a1 → inR a4 → inR a5 → WG p l e R s m args below meth c JX3_types DX3_types G clA A FT ad0 σ0 rvI (j4 a1 a4 a5 s5) s5 101 [(0, vR 0), (1, vI a1), (4, vI a4), (5, vI a5)] []) (fun a1 a4 a5 s5 ra1 ra4 ra5 => ?_) (fun j4 hj4 => ?_)
        · refine g_aload_n 0 dX3_types_101 rfl ?_
          refine g_getI (ci := 2) (b := 0) (N := 83) 37 rfl rfl rfl (by decide) in_X3 rfl rfl q1169 dX3_types_102 (fun v6 rv6 => ?_)
          refine g_bipush (by decide +kernel) dX3_types_105 ?_
          refine g_icmp_ge 142 dX3_types_107 (by decide) (fun _ => rv6) (fun _ => (by decide : inR (30))) (fun _ => ?_) (fun _ => ?_)
          · refine g_aload_n 0 dX3_types_110 rfl ?_
            refine g_get (v := vR 42) (ci := 2) (b := 0) (N := 83) 32 rfl rfl (by decide) in_X3 rfl rfl q1164 dX3_types_111 ?_
            refine g_aload_n 0 dX3_types_114 rfl ?_
            refine g_getI (ci := 2) (b := 0) (N := 83) 37 rfl rfl rfl (by decide) in_X3 rfl rfl q1169 dX3_types_115 (fun v7 rv7 => ?_)
            refine g_iload_n 1 dX3_types_118 rfl ?_
            refine g_iastU (id := 32) FT_ok 22 rfl rfl (by decide +kernel) ra1 dX3_types_119 (fun s8 => ?_)
            refine g_aload_n 0 dX3_types_120 rfl ?_
            refine g_get (v := vR 43) (ci := 2) (b := 0) (N := 83) 33 rfl rfl (by decide) in_X3 rfl rfl q1165 dX3_types_121 ?_
            refine g_aload_n 0 dX3_types_124 rfl ?_
            refine g_getI (ci := 2) (b := 0) (N := 83) 37 rfl rfl rfl (by decide) in_X3 rfl rfl q1169 dX3_types_125 (fun v9 rv9 => ?_)
            refine g_iload 2 dX3_types_128 rfl ?_
            refine g_iastU (id := 33) FT_ok 23 rfl rfl (by decide +kernel) ra4 dX3_types_130 (fun s10 => ?_)
            refine g_aload_n 0 dX3_types_131 rfl ?_
            refine g_get (v := vR 44) (ci := 2) (b := 0) (N := 83) 34 rfl rfl (by decide) in_X3 rfl rfl q1166 dX3_types_132 ?_
            refine g_aload_n 0 dX3_types_135 rfl ?_
            refine g_getI (ci := 2) (b := 0) (N := 83) 37 rfl rfl rfl (by decide) in_X3 rfl rfl q1169 dX3_types_136 (fun v11 rv11 => ?_)
            refine g_iload 3 dX3_types_139 rfl ?_
            refine g_iastU (id := 34) FT_ok 24 rfl rfl (by decide +kernel) ra5 dX3_types_141 (fun s12 => ?_)
            refine g_iconst dX3_types_142 ?_
            exact g_zret rfl rfl (fun _ => (Or.inr rfl)) dX3_types_143
          · refine g_iconst dX3_types_142 ?_
            exact g_zret rfl rfl (fun _ => (Or.inr rfl)) dX3_types_143
        · refine g_iload 5 dX3_types_69 rfl ?_
          refine g_iconst dX3_types_71 ?_
          refine g_icmp_le 94 dX3_types_72 (by decide) (fun _ => ra6) (fun _ => (inR_z (Or.inr rfl))) (fun _ => ?_) (fun _ => ?_)
          · refine g_iload_n 2 dX3_types_94 rfl ?_
            refine g_iconst dX3_types_95 ?_
            refine g_icmp_eq 101 dX3_types_96 (by decide) (fun _ => ra3) (fun _ => (by decide : inR (-1))) (fun _ => ?_) (fun _ => ?_)
            · exact g_pick [0, 1, 3, 4] rfl (hj4 a1 a4 a5 s3 ra1 ra4 ra5)
            · refine g_iconst dX3_types_99 ?_
              exact g_zret rfl rfl (fun _ => (Or.inl rfl)) dX3_types_100
          · refine g_iload 4 dX3_types_75 rfl ?_
            refine g_if_eq 99 dX3_types_77 (by decide) (fun _ => ra5) (fun _ => ?_) (fun _ => ?_)
            · refine g_iconst dX3_types_99 ?_
              exact g_zret rfl rfl (fun _ => (Or.inl rfl)) dX3_types_100
            · refine g_aload_n 0 dX3_types_80 rfl ?_
              refine g_iload 4 dX3_types_81 rfl ?_
              refine g_iload 5 dX3_types_83 rfl ?_
              refine g_cVZ (As := [vI a5, vI a6]) (n := 2) (stk := []) (ci := 2) (b := 0) (N := 83) (hX3_isBelow a5 a6 s3) (by decide +kernel) rfl rfl (lw_V q1395 q1397 qs81 q168 q1398) (by decide +kernel) rfl (by decide) hRf hRl (fun _ => (avc ra5 (avc ra6 avn))) (Nat.le_of_ble_eq_true rfl) rfl rfl dX3_types_85 (fun v13 s14 zv13 => ?_)
              refine g_if_ne 101 dX3_types_88 (by decide) (fun _ => (inR_z zv13)) (fun _ => ?_) (fun _ => ?_)
              · refine g_goto 99 dX3_types_91 (by decide) ?_
                refine g_iconst dX3_types_99 ?_
                exact g_zret rfl rfl (fun _ => (Or.inl rfl)) dX3_types_100
              · exact g_pick [0, 1, 3, 4] rfl (hj4 a1 a4 a5 s14 ra1 ra4 ra5)
      · refine g_aload_n 0 dX3_types_14 rfl ?_
        refine g_iload_n 2 dX3_types_15 rfl ?_
        refine g_iconst dX3_types_16 ?_
        refine g_cVI (As := [vI a2, vI 1]) (n := 2) (stk := []) (ci := 2) (b := 0) (N := 83) (hX3_form a2 1 u) (by decide +kernel) rfl rfl (lw_V q1387 q1389 qs79 q168 q1390) (by decide +kernel) rfl (by decide) hRf hRl (fun _ => (avc ra2 (avc (inR_z (Or.inr rfl)) avn))) (Nat.le_of_ble_eq_true rfl) rfl rfl dX3_types_17 (fun v15 s16 rv15 => ?_)
        refine g_istore (loc' := [(4, vI v15), (0, vR 0), (1, vI a1), (2, vI a2), (3, vI a3)]) dX3_types_20 (by decide) rfl ?_
        refine g_aload_n 1 dX3_types_22 rfl ?_
        refine g_iload_n 4 dX3_types_23 rfl ?_
        refine g_iconst dX3_types_24 ?_
        refine g_cVI (As := [vI a3, vI 1]) (n := 2) (stk := []) (ci := 2) (b := 0) (N := 83) (hX3_form a3 1 s16) (by decide +kernel) rfl rfl (lw_V q1387 q1389 qs79 q168 q1390) (by decide +kernel) rfl (by decide) hRf hRl (fun _ => (avc ra3 (avc (inR_z (Or.inr rfl)) avn))) (Nat.le_of_ble_eq_true rfl) rfl rfl dX3_types_25 (fun v17 s18 rv17 => ?_)
        refine g_istore (loc' := [(5, vI v17), (4, vI v15), (0, vR 0), (1, vI a1), (2, vI a2), (3, vI a3)]) dX3_types_28 (by decide) rfl ?_
        refine g_aload_n 2 dX3_types_30 rfl ?_
        refine g_get (v := vR 30) (ci := 2) (b := 0) (N := 83) 20 rfl rfl (by decide) in_X3 rfl rfl q1152 dX3_types_31 ?_
        refine g_iload_n 3 dX3_types_34 rfl ?_
        refine g_iald (id := 20) 14 rfl rfl dX3_types_35 (fun v19 rv19 => ?_)
        refine g_istore (loc' := [(6, vI v19), (5, vI v17), (4, vI v15), (0, vR 0), (1, vI a1), (2, vI a2), (3, vI a3)]) dX3_types_36 (by decide) rfl ?_
        refine g_iload 0 dX3_types_38 rfl ?_
        refine g_if_le 62 dX3_types_40 (by decide) (fun _ => rv19) (fun _ => ?_) (fun _ => ?_)
        · refine g_iload_n 5 dX3_types_62 rfl ?_
          refine g_iconst dX3_types_63 ?_
          refine g_icmp_eq 69 dX3_types_64 (by decide) (fun _ => ra2) (fun _ => (by decide : inR (-1))) (fun _ => ?_) (fun _ => ?_)
          · exact g_pick [3, 4, 6, 2, 1, 0] rfl (hj2 a1 a3 v15 v17 v19 s18 ra1 ra3 rv15 rv17 rv19)
          · refine g_iconst dX3_types_67 ?_
            exact g_zret rfl rfl (fun _ => (Or.inl rfl)) dX3_types_68
        · refine g_iload 2 dX3_types_43 rfl ?_
          refine g_if_eq 67 dX3_types_45 (by decide) (fun _ => rv15) (fun _ => ?_) (fun _ => ?_)
          · refine g_iconst dX3_types_67 ?_
            exact g_zret rfl rfl (fun _ => (Or.inl rfl)) dX3_types_68
          · refine g_aload_n 3 dX3_types_48 rfl ?_
            refine g_iload 2 dX3_types_49 rfl ?_
            refine g_iload 0 dX3_types_51 rfl ?_
            refine g_cVZ (As := [vI v15, vI v19]) (n := 2) (stk := []) (ci := 2) (b := 0) (N := 83) (hX3_isBelow v15 v19 s18) (by decide +kernel) rfl rfl (lw_V q1395 q1397 qs81 q168 q1398) (by decide +kernel) rfl (by decide) hRf hRl (fun _ => (avc rv15 (avc rv19 avn))) (Nat.le_of_ble_eq_true rfl) rfl rfl dX3_types_53 (fun v20 s21 zv20 => ?_)
            refine g_if_ne 69 dX3_types_56 (by decide) (fun _ => (inR_z zv20)) (fun _ => ?_) (fun _ => ?_)
            · refine g_goto 67 dX3_types_59 (by decide) ?_
              refine g_iconst dX3_types_67 ?_
              exact g_zret rfl rfl (fun _ => (Or.inl rfl)) dX3_types_68
            · exact g_pick [3, 4, 6, 2, 1, 0] rfl (hj2 a1 a3 v15 v17 v19 s21 ra1 ra3 rv15 rv17 rv19)
    · refine g_iconst dX3_types_12 ?_
      exact g_zret rfl rfl (fun _ => (Or.inl rfl)) dX3_types_13
end
section
variable {l : Launch} {d : Nat} {call : Nat → List Int → Sg → Option (Int × Sg)}
theorem ctX3_types (p0 : Program) (e0 : Env) (s0 : State) (m0 : MethodId) (meth0 : Method) (c0 : Code) (G0 : Gm) (hd : 2 ≤ d) (hX3_isBelow : ∀ (a1 a2 : Int) (u : Sg), Ct l d FT clA yX3_isBelow cX3_isBelow 3 (some .boolean) DX3_isBelow rvI [vR 0, vI a1, vI a2] u (call 14 [a1, a2] u)) (hX3_form : ∀ (a1 a2 : Int) (u : Sg), Ct l d FT clA yX3_form cX3_form 3 (some .int) DX3_form rvI [vR 0, vI a1, vI a2] u (call 12 [a1, a2] u)) (a1 a2 a3 : Int) (u : Sg) : Ct l (d + 1) FT clA yX3_types cX3_types 7 (some .boolean) DX3_types rvI [vR 0, vI a1, vI a2, vI a3] u (bX3_types call a1 a2 a3 u) :=
  Ct_of (by decide) (Nat.le_of_ble_eq_true rfl) (fun p e R s1 m args below meth c G A ad hA hRf hRl => wX3_types hd hRf hRl hX3_isBelow hX3_form a1 a2 a3 u (hA _ (List.mem_cons_of_mem _ List.mem_cons_self)) (hA _ (List.mem_cons_of_mem _ (List.mem_cons_of_mem _ List.mem_cons_self))) (hA _ (List.mem_cons_of_mem _ (List.mem_cons_of_mem _ (List.mem_cons_of_mem _ List.mem_cons_self))))) p0 e0 s0 m0 meth0 c0 G0
end
/-! RoundCheckModel.reduce(IIII)I -/
abbrev JX3_reduce : Jm := (cX3_reduce, RX3, 6, (some .int))
def bX3_reduce (call : Nat → List Int → Sg → Option (Int × Sg)) (a1 a2 a3 a4 : Int) (u : Sg) : Option (Int × Sg) := jn (fun (s2 : Sg) => cl (call 17 [1] s2) fun v3 s4 => some (v3, s4)) fun j1 => un (sI u 0 0) fun s5 => cl (call 12 [a4, 0] s5) fun v6 s7 => cl (call 48 [a1, a2, a3] s7) fun v8 s9 => if v8 = 0 then (j1 s9) else (if v6 = 0 then (j1 s9) else (ld s9 20 a1 fun v10 => cl (call 14 [v6, v10] s9) fun v11 s12 => if v11 = 0 then (j1 s12) else (un (gI s12 37) fun v13 => if v13 = 30 then (cl (call 17 [2] s12) fun v14 s15 => some (v14, s15)) else (un (gI s12 37) fun v16 => stA s12 29 v16 3 fun s17 => un (gI s17 37) fun v18 => stA s17 36 v18 v6 fun s19 => cl (call 46 [] s19) fun v20 s21 => some (v20, s21)))))
section
variable {p : Program} {l : Launch} {e : Env} {R : Room} {s : State} {m : MethodId} {args : Array Value} {below : List Frame} {meth : Method} {c : Code} {G : Gm} {A : Nat → Prop} {ad0 : Nat → Nat} {σ0 : Sg} {d : Nat} {call : Nat → List Int → Sg → Option (Int × Sg)}
theorem wX3_reduce (hd : 2 ≤ d) (hRf : d + 1 ≤ R.frames) (hRl : 40 * (d + 1) ≤ R.locals) (hX3_fails : ∀ (a1 : Int) (u : Sg), Ct l d FT clA yX3_fails cX3_fails 2 (some .int) DX3_fails rvI [vR 0, vI a1] u (call 17 [a1] u)) (hX3_form : ∀ (a1 a2 : Int) (u : Sg), Ct l d FT clA yX3_form cX3_form 3 (some .int) DX3_form rvI [vR 0, vI a1, vI a2] u (call 12 [a1, a2] u)) (hX3_types : ∀ (a1 a2 a3 : Int) (u : Sg), Ct l d FT clA yX3_types cX3_types 7 (some .boolean) DX3_types rvI [vR 0, vI a1, vI a2, vI a3] u (call 48 [a1, a2, a3] u)) (hX3_isBelow : ∀ (a1 a2 : Int) (u : Sg), Ct l d FT clA yX3_isBelow cX3_isBelow 3 (some .boolean) DX3_isBelow rvI [vR 0, vI a1, vI a2] u (call 14 [a1, a2] u)) (hX3_registered : ∀ (u : Sg), Ct l d FT clA yX3_registered cX3_registered 1 (some .int) DX3_registered rvI [vR 0] u (call 46 [] u)) (a1 a2 a3 a4 : Int) (u : Sg) (ra1 : inR a1) (ra2 : inR a2) (ra3 : inR a3) (ra4 : inR a4) : WG p l e R s m args below meth c JX3_reduce DX3_reduce G clA A FT ad0 σ0 rvI (bX3_reduce call a1 a2 a3 a4 u) u 0 [(0, vR 0), (1, vI a1), (2, vI a2), (3, vI a3), (4, vI a4)] [] := by
  unfold bX3_reduce
  refine g_jn (fun j1 => ∀ (s2 : Sg), WG p l e R s m args below meth c JX3_reduce DX3_reduce G clA A FT ad0 σ0 rvI (j1 s2) s2 44 [(0, vR 0)] []) (fun s2 => ?_) (fun j1 hj1 => ?_)
  · refine g_aload_n 0 dX3_reduce_44 rfl ?_
    refine g_iconst dX3_reduce_45 ?_
    refine g_cVI (As := [vI 1]) (n := 1) (stk := []) (ci := 2) (b := 0) (N := 83) (hX3_fails 1 s2) (by decide +kernel) rfl rfl (lw_V q1407 q1409 qs84 q168 q1410) (by decide +kernel) rfl (by decide) hRf hRl (fun _ => (avc (inR_z (Or.inr rfl)) avn)) (Nat.le_of_ble_eq_true rfl) rfl rfl dX3_reduce_46 (fun v3 s4 rv3 => ?_)
    exact g_iret rfl rfl (fun _ => rv3) dX3_reduce_49
  · refine g_aload_n 0 dX3_reduce_0 rfl ?_
    refine g_iconst dX3_reduce_1 ?_
    refine g_sIU (ci := 2) (b := 0) (N := 83) FT_ok 0 rfl rfl rfl (by decide) in_X3 tyX3 tyX3_ok nmX3 rfl rfl rfl rfl (by decide +kernel) (inR_z (Or.inl rfl)) q1132 dX3_reduce_2 (fun s5 => ?_)
    refine g_aload_n 0 dX3_reduce_5 rfl ?_
    refine g_iload 4 dX3_reduce_6 rfl ?_
    refine g_iconst dX3_reduce_8 ?_
    refine g_cVI (As := [vI a4, vI 0]) (n := 2) (stk := []) (ci := 2) (b := 0) (N := 83) (hX3_form a4 0 s5) (by decide +kernel) rfl rfl (lw_V q1387 q1389 qs79 q168 q1390) (by decide +kernel) rfl (by decide) hRf hRl (fun _ => (avc ra4 (avc (inR_z (Or.inl rfl)) avn))) (Nat.le_of_ble_eq_true rfl) rfl rfl dX3_reduce_9 (fun v6 s7 rv6 => ?_)
    refine g_istore (loc' := [(5, vI v6), (0, vR 0), (1, vI a1), (2, vI a2), (3, vI a3), (4, vI a4)]) dX3_reduce_12 (by decide) rfl ?_
    refine g_aload_n 1 dX3_reduce_14 rfl ?_
    refine g_iload_n 2 dX3_reduce_15 rfl ?_
    refine g_iload_n 3 dX3_reduce_16 rfl ?_
    refine g_iload_n 4 dX3_reduce_17 rfl ?_
    refine g_cVZ (As := [vI a1, vI a2, vI a3]) (n := 3) (stk := []) (ci := 2) (b := 0) (N := 83) (hX3_types a1 a2 a3 s7) (by decide +kernel) rfl rfl (lw_V q1531 q1533 qs102 q168 q1534) (by decide +kernel) rfl (by decide) hRf hRl (fun _ => (avc ra1 (avc ra2 (avc ra3 avn)))) (Nat.le_of_ble_eq_true rfl) rfl rfl dX3_reduce_18 (fun v8 s9 zv8 => ?_)
    refine g_if_eq 44 dX3_reduce_21 (by decide) (fun _ => (inR_z zv8)) (fun _ => ?_) (fun _ => ?_)
    · exact g_pick [1] rfl (hj1 s9)
    · refine g_iload 0 dX3_reduce_24 rfl ?_
      refine g_if_eq 44 dX3_reduce_26 (by decide) (fun _ => rv6) (fun _ => ?_) (fun _ => ?_)
      · exact g_pick [1] rfl (hj1 s9)
      · refine g_aload_n 1 dX3_reduce_29 rfl ?_
        refine g_iload 0 dX3_reduce_30 rfl ?_
        refine g_aload_n 1 dX3_reduce_32 rfl ?_
        refine g_get (v := vR 30) (ci := 2) (b := 0) (N := 83) 20 rfl rfl (by decide) in_X3 rfl rfl q1152 dX3_reduce_33 ?_
        refine g_iload_n 2 dX3_reduce_36 rfl ?_
        refine g_iald (id := 20) 14 rfl rfl dX3_reduce_37 (fun v10 rv10 => ?_)
        refine g_cVZ (As := [vI v6, vI v10]) (n := 2) (stk := []) (ci := 2) (b := 0) (N := 83) (hX3_isBelow v6 v10 s9) (by decide +kernel) rfl rfl (lw_V q1395 q1397 qs81 q168 q1398) (by decide +kernel) rfl (by decide) hRf hRl (fun _ => (avc rv6 (avc rv10 avn))) (Nat.le_of_ble_eq_true rfl) rfl rfl dX3_reduce_38 (fun v11 s12 zv11 => ?_)
        refine g_if_ne 50 dX3_reduce_41 (by decide) (fun _ => (inR_z zv11)) (fun _ => ?_) (fun _ => ?_)
        · exact g_pick [1] rfl (hj1 s12)
        · refine g_aload_n 1 dX3_reduce_50 rfl ?_
          refine g_getI (ci := 2) (b := 0) (N := 83) 37 rfl rfl rfl (by decide) in_X3 rfl rfl q1169 dX3_reduce_51 (fun v13 rv13 => ?_)
          refine g_bipush (by decide +kernel) dX3_reduce_54 ?_
          refine g_icmp_ne 65 dX3_reduce_56 (by decide) (fun _ => rv13) (fun _ => (by decide : inR (30))) (fun _ => ?_) (fun _ => ?_)
          · refine g_aload_n 1 dX3_reduce_59 rfl ?_
            refine g_iconst dX3_reduce_60 ?_
            refine g_cVI (As := [vI 2]) (n := 1) (stk := []) (ci := 2) (b := 0) (N := 83) (hX3_fails 2 s12) (by decide +kernel) rfl rfl (lw_V q1407 q1409 qs84 q168 q1410) (by decide +kernel) rfl (by decide) hRf hRl (fun _ => (avc (by decide : inR (2)) avn)) (Nat.le_of_ble_eq_true rfl) rfl rfl dX3_reduce_61 (fun v14 s15 rv14 => ?_)
            exact g_iret rfl rfl (fun _ => rv14) dX3_reduce_64
          · refine g_aload_n 1 dX3_reduce_65 rfl ?_
            refine g_get (v := vR 39) (ci := 2) (b := 0) (N := 83) 29 rfl rfl (by decide) in_X3 rfl rfl q1161 dX3_reduce_66 ?_
            refine g_aload_n 1 dX3_reduce_69 rfl ?_
            refine g_getI (ci := 2) (b := 0) (N := 83) 37 rfl rfl rfl (by decide) in_X3 rfl rfl q1169 dX3_reduce_70 (fun v16 rv16 => ?_)
            refine g_iconst dX3_reduce_73 ?_
            refine g_iastU (id := 29) FT_ok 19 rfl rfl (by decide +kernel) (by decide : inR (3)) dX3_reduce_74 (fun s17 => ?_)
            refine g_aload_n 1 dX3_reduce_75 rfl ?_
            refine g_get (v := vR 46) (ci := 2) (b := 0) (N := 83) 36 rfl rfl (by decide) in_X3 rfl rfl q1168 dX3_reduce_76 ?_
            refine g_aload_n 1 dX3_reduce_79 rfl ?_
            refine g_getI (ci := 2) (b := 0) (N := 83) 37 rfl rfl rfl (by decide) in_X3 rfl rfl q1169 dX3_reduce_80 (fun v18 rv18 => ?_)
            refine g_iload 0 dX3_reduce_83 rfl ?_
            refine g_iastU (id := 36) FT_ok 26 rfl rfl (by decide +kernel) rv6 dX3_reduce_85 (fun s19 => ?_)
            refine g_aload_n 1 dX3_reduce_86 rfl ?_
            refine g_cVI (As := []) (n := 0) (stk := []) (ci := 2) (b := 0) (N := 83) (hX3_registered  s19) (by decide +kernel) rfl rfl (lw_V q1523 q1525 qs101 q168 q1526) (by decide +kernel) rfl (by decide) hRf hRl (fun _ => avn) (Nat.le_of_ble_eq_true rfl) rfl rfl dX3_reduce_87 (fun v20 s21 rv20 => ?_)
            exact g_iret rfl rfl (fun _ => rv20) dX3_reduce_90
end
section
variable {l : Launch} {d : Nat} {call : Nat → List Int → Sg → Option (Int × Sg)}
theorem ctX3_reduce (p0 : Program) (e0 : Env) (s0 : State) (m0 : MethodId) (meth0 : Method) (c0 : Code) (G0 : Gm) (hd : 2 ≤ d) (hX3_fails : ∀ (a1 : Int) (u : Sg), Ct l d FT clA yX3_fails cX3_fails 2 (some .int) DX3_fails rvI [vR 0, vI a1] u (call 17 [a1] u)) (hX3_form : ∀ (a1 a2 : Int) (u : Sg), Ct l d FT clA yX3_form cX3_form 3 (some .int) DX3_form rvI [vR 0, vI a1, vI a2] u (call 12 [a1, a2] u)) (hX3_types : ∀ (a1 a2 a3 : Int) (u : Sg), Ct l d FT clA yX3_types cX3_types 7 (some .boolean) DX3_types rvI [vR 0, vI a1, vI a2, vI a3] u (call 48 [a1, a2, a3] u)) (hX3_isBelow : ∀ (a1 a2 : Int) (u : Sg), Ct l d FT clA yX3_isBelow cX3_isBelow 3 (some .boolean) DX3_isBelow rvI [vR 0, vI a1, vI a2] u (call 14 [a1, a2] u)) (hX3_registered : ∀ (u : Sg), Ct l d FT clA yX3_registered cX3_registered 1 (some .int) DX3_registered rvI [vR 0] u (call 46 [] u)) (a1 a2 a3 a4 : Int) (u : Sg) : Ct l (d + 1) FT clA yX3_reduce cX3_reduce 6 (some .int) DX3_reduce rvI [vR 0, vI a1, vI a2, vI a3, vI a4] u (bX3_reduce call a1 a2 a3 a4 u) :=
  Ct_of (by decide) (Nat.le_of_ble_eq_true rfl) (fun p e R s1 m args below meth c G A ad hA hRf hRl => wX3_reduce hd hRf hRl hX3_fails hX3_form hX3_types hX3_isBelow hX3_registered a1 a2 a3 a4 u (hA _ (List.mem_cons_of_mem _ List.mem_cons_self)) (hA _ (List.mem_cons_of_mem _ (List.mem_cons_of_mem _ List.mem_cons_self))) (hA _ (List.mem_cons_of_mem _ (List.mem_cons_of_mem _ (List.mem_cons_of_mem _ List.mem_cons_self)))) (hA _ (List.mem_cons_of_mem _ (List.mem_cons_of_mem _ (List.mem_cons_of_mem _ (List.mem_cons_of_mem _ List.mem_cons_self)))))) p0 e0 s0 m0 meth0 c0 G0
end
/-! RoundCheckModel.premise(I)I -/
abbrev JX3_premise : Jm := (cX3_premise, RX3, 3, (some .int))
def bX3_premise (call : Nat → List Int → Sg → Option (Int × Sg)) (a1 : Int) (u : Sg) : Option (Int × Sg) := un (sI u 0 0) fun s1 => cl (call 12 [a1, 2] s1) fun v2 s3 => if v2 = 0 then (cl (call 17 [1] s3) fun v4 s5 => some (v4, s5)) else (un (gI s3 81) fun v6 => if v6 = 20 then (cl (call 17 [2] s3) fun v7 s8 => some (v7, s8)) else (un (gI s3 81) fun v9 => ar (v9 + 1) fun v10 => un (sI s3 81 v10) fun s11 => stA s11 80 v9 v2 fun s12 => un (gI s12 81) fun v13 => some (v13, s12)))
section
variable {p : Program} {l : Launch} {e : Env} {R : Room} {s : State} {m : MethodId} {args : Array Value} {below : List Frame} {meth : Method} {c : Code} {G : Gm} {A : Nat → Prop} {ad0 : Nat → Nat} {σ0 : Sg} {d : Nat} {call : Nat → List Int → Sg → Option (Int × Sg)}
theorem wX3_premise (hd : 2 ≤ d) (hRf : d + 1 ≤ R.frames) (hRl : 40 * (d + 1) ≤ R.locals) (hX3_form : ∀ (a1 a2 : Int) (u : Sg), Ct l d FT clA yX3_form cX3_form 3 (some .int) DX3_form rvI [vR 0, vI a1, vI a2] u (call 12 [a1, a2] u)) (hX3_fails : ∀ (a1 : Int) (u : Sg), Ct l d FT clA yX3_fails cX3_fails 2 (some .int) DX3_fails rvI [vR 0, vI a1] u (call 17 [a1] u)) (a1 : Int) (u : Sg) (ra1 : inR a1) : WG p l e R s m args below meth c JX3_premise DX3_premise G clA A FT ad0 σ0 rvI (bX3_premise call a1 u) u 0 [(0, vR 0), (1, vI a1)] [] := by
  unfold bX3_premise
  refine g_aload_n 0 dX3_premise_0 rfl ?_
  refine g_iconst dX3_premise_1 ?_
  refine g_sIU (ci := 2) (b := 0) (N := 83) FT_ok 0 rfl rfl rfl (by decide) in_X3 tyX3 tyX3_ok nmX3 rfl rfl rfl rfl (by decide +kernel) (inR_z (Or.inl rfl)) q1132 dX3_premise_2 (fun s1 => ?_)
  refine g_aload_n 0 dX3_premise_5 rfl ?_
  refine g_iload_n 1 dX3_premise_6 rfl ?_
  refine g_iconst dX3_premise_7 ?_
  refine g_cVI (As := [vI a1, vI 2]) (n := 2) (stk := []) (ci := 2) (b := 0) (N := 83) (hX3_form a1 2 s1) (by decide +kernel) rfl rfl (lw_V q1387 q1389 qs79 q168 q1390) (by decide +kernel) rfl (by decide) hRf hRl (fun _ => (avc ra1 (avc (by decide : inR (2)) avn))) (Nat.le_of_ble_eq_true rfl) rfl rfl dX3_premise_8 (fun v2 s3 rv2 => ?_)
  refine g_istore_n (loc' := [(2, vI v2), (0, vR 0), (1, vI a1)]) dX3_premise_11 (by decide) rfl ?_
  refine g_iload_n 0 dX3_premise_12 rfl ?_
  refine g_if_ne 22 dX3_premise_13 (by decide) (fun _ => rv2) (fun _ => ?_) (fun _ => ?_)
  · refine g_aload_n 1 dX3_premise_16 rfl ?_
    refine g_iconst dX3_premise_17 ?_
    refine g_cVI (As := [vI 1]) (n := 1) (stk := []) (ci := 2) (b := 0) (N := 83) (hX3_fails 1 s3) (by decide +kernel) rfl rfl (lw_V q1407 q1409 qs84 q168 q1410) (by decide +kernel) rfl (by decide) hRf hRl (fun _ => (avc (inR_z (Or.inr rfl)) avn)) (Nat.le_of_ble_eq_true rfl) rfl rfl dX3_premise_18 (fun v4 s5 rv4 => ?_)
    exact g_iret rfl rfl (fun _ => rv4) dX3_premise_21
  · refine g_aload_n 1 dX3_premise_22 rfl ?_
    refine g_getI (ci := 2) (b := 0) (N := 83) 81 rfl rfl rfl (by decide) in_X3 rfl rfl q1213 dX3_premise_23 (fun v6 rv6 => ?_)
    refine g_bipush (by decide +kernel) dX3_premise_26 ?_
    refine g_icmp_ne 37 dX3_premise_28 (by decide) (fun _ => rv6) (fun _ => (by decide : inR (20))) (fun _ => ?_) (fun _ => ?_)
    · refine g_aload_n 1 dX3_premise_31 rfl ?_
      refine g_iconst dX3_premise_32 ?_
      refine g_cVI (As := [vI 2]) (n := 1) (stk := []) (ci := 2) (b := 0) (N := 83) (hX3_fails 2 s3) (by decide +kernel) rfl rfl (lw_V q1407 q1409 qs84 q168 q1410) (by decide +kernel) rfl (by decide) hRf hRl (fun _ => (avc (by decide : inR (2)) avn)) (Nat.le_of_ble_eq_true rfl) rfl rfl dX3_premise_33 (fun v7 s8 rv7 => ?_)
      exact g_iret rfl rfl (fun _ => rv7) dX3_premise_36
    · refine g_aload_n 1 dX3_premise_37 rfl ?_
      refine g_get (v := vR 90) (ci := 2) (b := 0) (N := 83) 80 rfl rfl (by decide) in_X3 rfl rfl q1212 dX3_premise_38 ?_
      refine g_aload_n 1 dX3_premise_41 rfl ?_
      refine g_dup rfl dX3_premise_42 ?_
      refine g_getI (ci := 2) (b := 0) (N := 83) 81 rfl rfl rfl (by decide) in_X3 rfl rfl q1213 dX3_premise_43 (fun v9 rv9 => ?_)
      refine g_dup_x1 rfl rfl dX3_premise_46 ?_
      refine g_iconst dX3_premise_47 ?_
      refine g_iadd dX3_premise_48 (fun v10 rv10 => ?_)
      refine g_sIU (ci := 2) (b := 0) (N := 83) FT_ok 81 rfl rfl rfl (by decide) in_X3 tyX3 tyX3_ok nmX3 rfl rfl rfl rfl (by decide +kernel) rv10 q1213 dX3_premise_49 (fun s11 => ?_)
      refine g_iload_n 0 dX3_premise_52 rfl ?_
      refine g_iastU (id := 80) FT_ok 51 rfl rfl (by decide +kernel) rv2 dX3_premise_53 (fun s12 => ?_)
      refine g_aload_n 1 dX3_premise_54 rfl ?_
      refine g_getI (ci := 2) (b := 0) (N := 83) 81 rfl rfl rfl (by decide) in_X3 rfl rfl q1213 dX3_premise_55 (fun v13 rv13 => ?_)
      exact g_iret rfl rfl (fun _ => rv13) dX3_premise_58
end
section
variable {l : Launch} {d : Nat} {call : Nat → List Int → Sg → Option (Int × Sg)}
theorem ctX3_premise (p0 : Program) (e0 : Env) (s0 : State) (m0 : MethodId) (meth0 : Method) (c0 : Code) (G0 : Gm) (hd : 2 ≤ d) (hX3_form : ∀ (a1 a2 : Int) (u : Sg), Ct l d FT clA yX3_form cX3_form 3 (some .int) DX3_form rvI [vR 0, vI a1, vI a2] u (call 12 [a1, a2] u)) (hX3_fails : ∀ (a1 : Int) (u : Sg), Ct l d FT clA yX3_fails cX3_fails 2 (some .int) DX3_fails rvI [vR 0, vI a1] u (call 17 [a1] u)) (a1 : Int) (u : Sg) : Ct l (d + 1) FT clA yX3_premise cX3_premise 3 (some .int) DX3_premise rvI [vR 0, vI a1] u (bX3_premise call a1 u) :=
  Ct_of (by decide) (Nat.le_of_ble_eq_true rfl) (fun p e R s1 m args below meth c G A ad hA hRf hRl => wX3_premise hd hRf hRl hX3_form hX3_fails a1 u (hA _ (List.mem_cons_of_mem _ List.mem_cons_self))) p0 e0 s0 m0 meth0 c0 G0
end
/-! RoundCheckModel.clear()I -/
abbrev JX3_clear : Jm := (cX3_clear, RX3, 2, (some .int))
def bX3_clear (call : Nat → List Int → Sg → Option (Int × Sg)) (u : Sg) : Option (Int × Sg) := un (sI u 0 0) fun s1 => un (gI s1 81) fun v2 => un (sI s1 81 0) fun s3 => some (v2, s3)
section
variable {p : Program} {l : Launch} {e : Env} {R : Room} {s : State} {m : MethodId} {args : Array Value} {below : List Frame} {meth : Method} {c : Code} {G : Gm} {A : Nat → Prop} {ad0 : Nat → Nat} {σ0 : Sg} {d : Nat} {call : Nat → List Int → Sg → Option (Int × Sg)}
theorem wX3_clear (hd : 2 ≤ d) (hRf : d + 1 ≤ R.frames) (hRl : 40 * (d + 1) ≤ R.locals) (u : Sg) : WG p l e R s m args below meth c JX3_clear DX3_clear G clA A FT ad0 σ0 rvI (bX3_clear call u) u 0 [(0, vR 0)] [] := by
  unfold bX3_clear
  refine g_aload_n 0 dX3_clear_0 rfl ?_
  refine g_iconst dX3_clear_1 ?_
  refine g_sIU (ci := 2) (b := 0) (N := 83) FT_ok 0 rfl rfl rfl (by decide) in_X3 tyX3 tyX3_ok nmX3 rfl rfl rfl rfl (by decide +kernel) (inR_z (Or.inl rfl)) q1132 dX3_clear_2 (fun s1 => ?_)
  refine g_aload_n 0 dX3_clear_5 rfl ?_
  refine g_getI (ci := 2) (b := 0) (N := 83) 81 rfl rfl rfl (by decide) in_X3 rfl rfl q1213 dX3_clear_6 (fun v2 rv2 => ?_)
  refine g_istore_n (loc' := [(1, vI v2), (0, vR 0)]) dX3_clear_9 (by decide) rfl ?_
  refine g_aload_n 1 dX3_clear_10 rfl ?_
  refine g_iconst dX3_clear_11 ?_
  refine g_sIU (ci := 2) (b := 0) (N := 83) FT_ok 81 rfl rfl rfl (by decide) in_X3 tyX3 tyX3_ok nmX3 rfl rfl rfl rfl (by decide +kernel) (inR_z (Or.inl rfl)) q1213 dX3_clear_12 (fun s3 => ?_)
  refine g_iload_n 0 dX3_clear_15 rfl ?_
  exact g_iret rfl rfl (fun _ => rv2) dX3_clear_16
end
section
variable {l : Launch} {d : Nat} {call : Nat → List Int → Sg → Option (Int × Sg)}
theorem ctX3_clear (p0 : Program) (e0 : Env) (s0 : State) (m0 : MethodId) (meth0 : Method) (c0 : Code) (G0 : Gm) (hd : 2 ≤ d) (u : Sg) : Ct l (d + 1) FT clA yX3_clear cX3_clear 2 (some .int) DX3_clear rvI [vR 0] u (bX3_clear call u) :=
  Ct_of (by decide) (Nat.le_of_ble_eq_true rfl) (fun p e R s1 m args below meth c G A ad hA hRf hRl => wX3_clear hd hRf hRl u) p0 e0 s0 m0 meth0 c0 G0
end
/-! RoundCheckModel.check(I)I -/
abbrev JX3_check : Jm := (cX3_check, RX3, 3, (some .int))
def bX3_check (call : Nat → List Int → Sg → Option (Int × Sg)) (a1 : Int) (u : Sg) : Option (Int × Sg) := un (sI u 0 0) fun s1 => cl (call 12 [a1, 2] s1) fun v2 s3 => if v2 = 0 then (cl (call 17 [1] s3) fun v4 s5 => some (v4, s5)) else (cl (call 53 [v2] s3) fun v6 s7 => some (v6, s7))
section
variable {p : Program} {l : Launch} {e : Env} {R : Room} {s : State} {m : MethodId} {args : Array Value} {below : List Frame} {meth : Method} {c : Code} {G : Gm} {A : Nat → Prop} {ad0 : Nat → Nat} {σ0 : Sg} {d : Nat} {call : Nat → List Int → Sg → Option (Int × Sg)}
theorem wX3_check (hd : 2 ≤ d) (hRf : d + 1 ≤ R.frames) (hRl : 40 * (d + 1) ≤ R.locals) (hX3_form : ∀ (a1 a2 : Int) (u : Sg), Ct l d FT clA yX3_form cX3_form 3 (some .int) DX3_form rvI [vR 0, vI a1, vI a2] u (call 12 [a1, a2] u)) (hX3_fails : ∀ (a1 : Int) (u : Sg), Ct l d FT clA yX3_fails cX3_fails 2 (some .int) DX3_fails rvI [vR 0, vI a1] u (call 17 [a1] u)) (hX3_checked : ∀ (a1 : Int) (u : Sg), Ct l d FT clA yX3_checked cX3_checked 16 (some .int) DX3_checked rvI [vR 0, vI a1] u (call 53 [a1] u)) (a1 : Int) (u : Sg) (ra1 : inR a1) : WG p l e R s m args below meth c JX3_check DX3_check G clA A FT ad0 σ0 rvI (bX3_check call a1 u) u 0 [(0, vR 0), (1, vI a1)] [] := by
  unfold bX3_check
  refine g_aload_n 0 dX3_check_0 rfl ?_
  refine g_iconst dX3_check_1 ?_
  refine g_sIU (ci := 2) (b := 0) (N := 83) FT_ok 0 rfl rfl rfl (by decide) in_X3 tyX3 tyX3_ok nmX3 rfl rfl rfl rfl (by decide +kernel) (inR_z (Or.inl rfl)) q1132 dX3_check_2 (fun s1 => ?_)
  refine g_aload_n 0 dX3_check_5 rfl ?_
  refine g_iload_n 1 dX3_check_6 rfl ?_
  refine g_iconst dX3_check_7 ?_
  refine g_cVI (As := [vI a1, vI 2]) (n := 2) (stk := []) (ci := 2) (b := 0) (N := 83) (hX3_form a1 2 s1) (by decide +kernel) rfl rfl (lw_V q1387 q1389 qs79 q168 q1390) (by decide +kernel) rfl (by decide) hRf hRl (fun _ => (avc ra1 (avc (by decide : inR (2)) avn))) (Nat.le_of_ble_eq_true rfl) rfl rfl dX3_check_8 (fun v2 s3 rv2 => ?_)
  refine g_istore_n (loc' := [(2, vI v2), (0, vR 0), (1, vI a1)]) dX3_check_11 (by decide) rfl ?_
  refine g_iload_n 0 dX3_check_12 rfl ?_
  refine g_if_ne 24 dX3_check_13 (by decide) (fun _ => rv2) (fun _ => ?_) (fun _ => ?_)
  · refine g_aload_n 1 dX3_check_16 rfl ?_
    refine g_iconst dX3_check_17 ?_
    refine g_cVI (As := [vI 1]) (n := 1) (stk := []) (ci := 2) (b := 0) (N := 83) (hX3_fails 1 s3) (by decide +kernel) rfl rfl (lw_V q1407 q1409 qs84 q168 q1410) (by decide +kernel) rfl (by decide) hRf hRl (fun _ => (avc (inR_z (Or.inr rfl)) avn)) (Nat.le_of_ble_eq_true rfl) rfl rfl dX3_check_18 (fun v4 s5 rv4 => ?_)
    refine g_goto 29 dX3_check_21 (by decide) ?_
    exact g_iret rfl rfl (fun _ => rv4) dX3_check_29
  · refine g_aload_n 1 dX3_check_24 rfl ?_
    refine g_iload_n 0 dX3_check_25 rfl ?_
    refine g_cVI (As := [vI v2]) (n := 1) (stk := []) (ci := 2) (b := 0) (N := 83) (hX3_checked v2 s3) (by decide +kernel) rfl rfl (lw_V q1551 q1553 qs103 q168 q1554) (by decide +kernel) rfl (by decide) hRf hRl (fun _ => (avc rv2 avn)) (Nat.le_of_ble_eq_true rfl) rfl rfl dX3_check_26 (fun v6 s7 rv6 => ?_)
    exact g_iret rfl rfl (fun _ => rv6) dX3_check_29
end
section
variable {l : Launch} {d : Nat} {call : Nat → List Int → Sg → Option (Int × Sg)}
theorem ctX3_check (p0 : Program) (e0 : Env) (s0 : State) (m0 : MethodId) (meth0 : Method) (c0 : Code) (G0 : Gm) (hd : 2 ≤ d) (hX3_form : ∀ (a1 a2 : Int) (u : Sg), Ct l d FT clA yX3_form cX3_form 3 (some .int) DX3_form rvI [vR 0, vI a1, vI a2] u (call 12 [a1, a2] u)) (hX3_fails : ∀ (a1 : Int) (u : Sg), Ct l d FT clA yX3_fails cX3_fails 2 (some .int) DX3_fails rvI [vR 0, vI a1] u (call 17 [a1] u)) (hX3_checked : ∀ (a1 : Int) (u : Sg), Ct l d FT clA yX3_checked cX3_checked 16 (some .int) DX3_checked rvI [vR 0, vI a1] u (call 53 [a1] u)) (a1 : Int) (u : Sg) : Ct l (d + 1) FT clA yX3_check cX3_check 3 (some .int) DX3_check rvI [vR 0, vI a1] u (bX3_check call a1 u) :=
  Ct_of (by decide) (Nat.le_of_ble_eq_true rfl) (fun p e R s1 m args below meth c G A ad hA hRf hRl => wX3_check hd hRf hRl hX3_form hX3_fails hX3_checked a1 u (hA _ (List.mem_cons_of_mem _ List.mem_cons_self))) p0 e0 s0 m0 meth0 c0 G0
end
/-! RoundCheckModel.checked(I)I -/
abbrev JX3_checked : Jm := (cX3_checked, RX3, 16, (some .int))
def bX3_checked_L34 (call : Nat → List Int → Sg → Option (Int × Sg)) : Nat → Int → Int → Int → Int → Int → Int → Int → Sg → (Int → Int → Int → Int → Int → Int → Sg → Option (Int × Sg)) → Option (Int × Sg)
  | 0, _, _, _, _, _, _, _, _, _ => none
  | n + 1, a1, a2, a3, a4, a5, a6, a7, u, x70 => un (gI u 81) fun v1 => if a7 < v1 then (ld u 80 a7 fun v2 => cl (call 55 [v2] u) fun v3 s4 => cl (call 57 [a5, a6, v3] s4) fun v5 s6 => ar (a7 + 1) fun v7 => bX3_checked_L34 call n a1 a2 a3 a4 a5 v5 v7 s6 x70) else (x70 a1 a2 a3 a4 a5 a6 u)
def bX3_checked_L160 (call : Nat → List Int → Sg → Option (Int × Sg)) : Nat → Int → Int → Int → Int → Int → Int → Int → Int → Int → Int → Sg → (Int → Int → Int → Int → Sg → Option (Int × Sg)) → Option (Int × Sg)
  | 0, _, _, _, _, _, _, _, _, _, _, _, _ => none
  | n + 1, a2, a3, a4, a5, a7, a9, a10, a11, a12, a13, u, x224 => un (o_cmp a13 a7) fun v1 => if v1 < 0 then (if a9 = 0 then (x224 a2 a3 a4 a9 u) else (jn (fun (a2 a3 a4 a5 a7 a9 a10 a11 a12 a13 : Int) (s3 : Sg) => cl (call 110 [a10, a11] s3) fun v4 s5 => un (sI s5 19 a12) fun s6 => arL (a13 + 1) fun v7 => bX3_checked_L160 call n a2 a3 a4 a5 a7 a9 a10 a11 a12 v7 s6 x224) fun j2 => cl (call 61 [a5, a13] u) fun v8 s9 => if v8 = 1 then (j2 a2 a3 a4 a5 a7 a9 a10 a11 a12 a13 s9) else (jn (fun (a2 a3 a4 a5 a7 a10 a11 a12 a13 t0 : Int) (s11 : Sg) => j2 a2 a3 a4 a5 a7 t0 a10 a11 a12 a13 s11) fun j10 => if v8 = 0 then (j10 a2 a3 a4 a5 a7 a10 a11 a12 a13 0 s9) else (j10 a2 a3 a4 a5 a7 a10 a11 a12 a13 2 s9)))) else (x224 a2 a3 a4 a9 u)
def bX3_checked (call : Nat → List Int → Sg → Option (Int × Sg)) (a1 : Int) (u : Sg) : Option (Int × Sg) := un (gI u 8) fun v1 => un (gI u 10) fun v2 => un (gI u 19) fun v3 => un (sI u 48 0) fun s4 => cl (call 54 [1] s4) fun v5 s6 => bX3_checked_L34 call KF a1 v1 v2 v3 v5 0 0 s6 (fun v8 v9 v10 v11 v12 v13 s7 => jn (fun (a2 a3 a4 a5 a7 t0 : Int) (s15 : Sg) => jn (fun (a2 a3 a4 a9 : Int) (s17 : Sg) => cl (call 110 [a2, a3] s17) fun v18 s19 => un (sI s19 19 a4) fun s20 => some (a9, s20)) fun j16 => if t0 = 1 then (un (gI s15 8) fun v21 => un (gI s15 10) fun v22 => un (gI s15 19) fun v23 => bX3_checked_L160 call KF a2 a3 a4 a5 a7 t0 v21 v22 v23 0 s15 (fun v25 v26 v27 v28 s24 => j16 v25 v26 v27 v28 s24)) else (j16 a2 a3 a4 t0 s15)) fun j14 => cl (call 36 [v8] s7) fun v29 s30 => cl (call 55 [v29] s30) fun v31 s32 => cl (call 57 [v12, v13, v31] s32) fun v33 s34 => cl (call 56 [v12] s34) fun v35 s36 => ld s36 47 v12 fun v37 => un (if v37 < 1000 then v37 else 1000) fun v38 => ar v38 fun v39 => un (sI s36 82 v39) fun s40 => un (o_cmp v37 40) fun v41 => if v41 ≤ 0 then (j14 v9 v10 v11 v12 v37 1 s40) else (j14 v9 v10 v11 v12 v37 2 s40))
section
variable {p : Program} {l : Launch} {e : Env} {R : Room} {s : State} {m : MethodId} {args : Array Value} {below : List Frame} {meth : Method} {c : Code} {G : Gm} {A : Nat → Prop} {ad0 : Nat → Nat} {σ0 : Sg} {d : Nat} {call : Nat → List Int → Sg → Option (Int × Sg)}
theorem wX3_checked_L34 (hd : 2 ≤ d) (hRf : d + 1 ≤ R.frames) (hRl : 40 * (d + 1) ≤ R.locals) (hX3_q : ∀ (a1 : Int) (u : Sg), Ct l d FT clA yX3_q cX3_q 4 (some .int) DX3_q rvI [vR 0, vI a1] u (call 54 [a1] u)) (hX3_tree : ∀ (a1 : Int) (u : Sg), Ct l d FT clA yX3_tree cX3_tree 7 (some .int) DX3_tree rvI [vR 0, vI a1] u (call 55 [a1] u)) (hX3_hang : ∀ (a1 a2 a3 : Int) (u : Sg), Ct l d FT clA yX3_hang cX3_hang 4 (some .int) DX3_hang rvI [vR 0, vI a1, vI a2, vI a3] u (call 57 [a1, a2, a3] u)) (hX3_forget : ∀ (a1 a2 : Int) (u : Sg), Ct l d FT clA yX3_forget cX3_forget 3 none DX3_forget rvV [vR 0, vI a1, vI a2] u (call 110 [a1, a2] u)) (hX3_caseOf : ∀ (a1 a2 : Int) (u : Sg), Ct l d FT clA yX3_caseOf cX3_caseOf 8 (some .int) DX3_caseOf rvI [vR 0, vI a1, vL a2] u (call 61 [a1, a2] u)) (hX3_not : ∀ (a1 : Int) (u : Sg), Ct l d FT clA yX3_not cX3_not 2 (some .int) DX3_not rvI [vR 0, vI a1] u (call 36 [a1] u)) (hX3_counted : ∀ (a1 : Int) (u : Sg), Ct l d FT clA yX3_counted cX3_counted 6 (some .int) DX3_counted rvI [vR 0, vI a1] u (call 56 [a1] u)) (x70 : Int → Int → Int → Int → Int → Int → Sg → Option (Int × Sg)) (hx70 : ∀ (a1 a2 a3 a4 a5 a6 : Int) (u : Sg), inR a1 → inR a2 → inR a3 → inR a4 → inR a5 → inR a6 → WG p l e R s m args below meth c JX3_checked DX3_checked G clA A FT ad0 σ0 rvI (x70 a1 a2 a3 a4 a5 a6 u) u 70 [(0, vR 0), (1, vI a1), (2, vI a2), (3, vI a3), (4, vI a4), (5, vI a5), (6, vI a6)] []) : ∀ (n : Nat) (a1 a2 a3 a4 a5 a6 a7 : Int) (u : Sg), inR a1 → inR a2 → inR a3 → inR a4 → inR a5 → inR a6 → inR a7 → WG p l e R s m args below meth c JX3_checked DX3_checked G clA A FT ad0 σ0 rvI (bX3_checked_L34 call n a1 a2 a3 a4 a5 a6 a7 u x70) u 34 [(0, vR 0), (1, vI a1), (2, vI a2), (3, vI a3), (4, vI a4), (5, vI a5), (6, vI a6), (7, vI a7)] [] := by
  intro n
  induction n with
  | zero =>
    intro a1 a2 a3 a4 a5 a6 a7 u ra1 ra2 ra3 ra4 ra5 ra6 ra7
    exact g_none
  | succ n ih =>
    intro a1 a2 a3 a4 a5 a6 a7 u ra1 ra2 ra3 ra4 ra5 ra6 ra7
    rw [bX3_checked_L34]
    refine g_iload 7 dX3_checked_34 rfl ?_
    refine g_aload_n 0 dX3_checked_36 rfl ?_
    refine g_getI (ci := 2) (b := 0) (N := 83) 81 rfl rfl rfl (by decide) in_X3 rfl rfl q1213 dX3_checked_37 (fun v1 rv1 => ?_)
    refine g_icmp_ge 70 dX3_checked_40 (by decide) (fun _ => ra7) (fun _ => rv1) (fun _ => ?_) (fun _ => ?_)
    · refine g_aload_n 0 dX3_checked_43 rfl ?_
      refine g_iload 5 dX3_checked_44 rfl ?_
      refine g_iload 6 dX3_checked_46 rfl ?_
      refine g_aload_n 0 dX3_checked_48 rfl ?_
      refine g_aload_n 0 dX3_checked_49 rfl ?_
      refine g_get (v := vR 90) (ci := 2) (b := 0) (N := 83) 80 rfl rfl (by decide) in_X3 rfl rfl q1212 dX3_checked_50 ?_
      refine g_iload 7 dX3_checked_53 rfl ?_
      refine g_iald (id := 80) 51 rfl rfl dX3_checked_55 (fun v2 rv2 => ?_)
      refine g_cVI (As := [vI v2]) (n := 1) (stk := [vI a6, vI a5, vR 0]) (ci := 2) (b := 0) (N := 83) (hX3_tree v2 u) (by decide +kernel) rfl rfl (lw_V q1559 q1561 qs105 q168 q1562) (by decide +kernel) rfl (by decide) hRf hRl (fun _ => (avc rv2 avn)) (Nat.le_of_ble_eq_true rfl) rfl rfl dX3_checked_56 (fun v3 s4 rv3 => ?_)
      refine g_cVI (As := [vI a5, vI a6, vI v3]) (n := 3) (stk := []) (ci := 2) (b := 0) (N := 83) (hX3_hang a5 a6 v3 s4) (by decide +kernel) rfl rfl (lw_V q1569 q1571 qs107 q168 q1572) (by decide +kernel) rfl (by decide) hRf hRl (fun _ => (avc ra5 (avc ra6 (avc rv3 avn)))) (Nat.le_of_ble_eq_true rfl) rfl rfl dX3_checked_59 (fun v5 s6 rv5 => ?_)
      refine g_istore (loc' := [(6, vI v5), (0, vR 0), (1, vI a1), (2, vI a2), (3, vI a3), (4, vI a4), (5, vI a5), (7, vI a7)]) dX3_checked_62 (by decide) rfl ?_
      refine g_iinc 7 (loc' := fun v7 => [(7, vI v7), (6, vI v5), (0, vR 0), (1, vI a1), (2, vI a2), (3, vI a3), (4, vI a4), (5, vI a5)]) dX3_checked_64 rfl (by decide) (fun _ => rfl) (fun v7 rv7 => ?_)
      refine g_goto 34 dX3_checked_67 (by decide) ?_
      exact g_pick [2, 3, 4, 5, 6, 7, 1, 0] rfl (ih a1 a2 a3 a4 a5 v5 v7 s6 ra1 ra2 ra3 ra4 ra5 rv5 rv7)
    · exact g_pick [0, 1, 2, 3, 4, 5, 6] rfl (hx70 a1 a2 a3 a4 a5 a6 u ra1 ra2 ra3 ra4 ra5 ra6)
theorem wX3_checked_L160 (hd : 2 ≤ d) (hRf : d + 1 ≤ R.frames) (hRl : 40 * (d + 1) ≤ R.locals) (hX3_q : ∀ (a1 : Int) (u : Sg), Ct l d FT clA yX3_q cX3_q 4 (some .int) DX3_q rvI [vR 0, vI a1] u (call 54 [a1] u)) (hX3_tree : ∀ (a1 : Int) (u : Sg), Ct l d FT clA yX3_tree cX3_tree 7 (some .int) DX3_tree rvI [vR 0, vI a1] u (call 55 [a1] u)) (hX3_hang : ∀ (a1 a2 a3 : Int) (u : Sg), Ct l d FT clA yX3_hang cX3_hang 4 (some .int) DX3_hang rvI [vR 0, vI a1, vI a2, vI a3] u (call 57 [a1, a2, a3] u)) (hX3_forget : ∀ (a1 a2 : Int) (u : Sg), Ct l d FT clA yX3_forget cX3_forget 3 none DX3_forget rvV [vR 0, vI a1, vI a2] u (call 110 [a1, a2] u)) (hX3_caseOf : ∀ (a1 a2 : Int) (u : Sg), Ct l d FT clA yX3_caseOf cX3_caseOf 8 (some .int) DX3_caseOf rvI [vR 0, vI a1, vL a2] u (call 61 [a1, a2] u)) (hX3_not : ∀ (a1 : Int) (u : Sg), Ct l d FT clA yX3_not cX3_not 2 (some .int) DX3_not rvI [vR 0, vI a1] u (call 36 [a1] u)) (hX3_counted : ∀ (a1 : Int) (u : Sg), Ct l d FT clA yX3_counted cX3_counted 6 (some .int) DX3_counted rvI [vR 0, vI a1] u (call 56 [a1] u)) (x224 : Int → Int → Int → Int → Sg → Option (Int × Sg)) (hx224 : ∀ (a2 a3 a4 a9 : Int) (u : Sg), inR a2 → inR a3 → inR a4 → inR a9 → WG p l e R s m args below meth c JX3_checked DX3_checked G clA A FT ad0 σ0 rvI (x224 a2 a3 a4 a9 u) u 224 [(0, vR 0), (2, vI a2), (3, vI a3), (4, vI a4), (9, vI a9)] []) : ∀ (n : Nat) (a2 a3 a4 a5 a7 a9 a10 a11 a12 a13 : Int) (u : Sg), inR a2 → inR a3 → inR a4 → inR a5 → inL a7 → inR a9 → inR a10 → inR a11 → inR a12 → inL a13 → WG p l e R s m args below meth c JX3_checked DX3_checked G clA A FT ad0 σ0 rvI (bX3_checked_L160 call n a2 a3 a4 a5 a7 a9 a10 a11 a12 a13 u x224) u 160 [(0, vR 0), (2, vI a2), (3, vI a3), (4, vI a4), (5, vI a5), (7, vL a7), (9, vI a9), (10, vI a10), (11, vI a11), (12, vI a12), (13, vL a13)] [] := by
  intro n
  induction n with
  | zero =>
    intro a2 a3 a4 a5 a7 a9 a10 a11 a12 a13 u ra2 ra3 ra4 ra5 ra7 ra9 ra10 ra11 ra12 ra13
    exact g_none
  | succ n ih =>
    intro a2 a3 a4 a5 a7 a9 a10 a11 a12 a13 u ra2 ra3 ra4 ra5 ra7 ra9 ra10 ra11 ra12 ra13
    rw [bX3_checked_L160]
    refine g_lload 10 dX3_checked_160 rfl ?_
    refine g_lload 5 dX3_checked_162 rfl ?_
    refine g_lcmpU ra13 ra7 dX3_checked_164 (fun v1 rv1 => ?_)
    refine g_if_ge 224 dX3_checked_165 (by decide) (fun _ => rv1) (fun _ => ?_) (fun _ => ?_)
    · refine g_iload 6 dX3_checked_168 rfl ?_
      refine g_if_eq 224 dX3_checked_170 (by decide) (fun _ => ra9) (fun _ => ?_) (fun _ => ?_)
      · exact g_pick [0, 1, 2, 3, 6] rfl (hx224 a2 a3 a4 a9 u ra2 ra3 ra4 ra9)
      · refine g_jn (fun j2 => ∀ (a2 a3 a4 a5 a7 a9 a10 a11 a12 a13 : Int) (s3 : Sg), inR a2 → inR a3 → inR a4 → inR a5 → inL a7 → inR a9 → inR a10 → inR a11 → inR a12 → inL a13 → WG p l e R s m args below meth c JX3_checked DX3_checked G clA A FT ad0 σ0 rvI (j2 a2 a3 a4 a5 a7 a9 a10 a11 a12 a13 s3) s3 201 [(0, vR 0), (2, vI a2), (3, vI a3), (4, vI a4), (5, vI a5), (7, vL a7), (9, vI a9), (10, vI a10), (11, vI a11), (12, vI a12), (13, vL a13)] []) (fun a2 a3 a4 a5 a7 a9 a10 a11 a12 a13 s3 ra2 ra3 ra4 ra5 ra7 ra9 ra10 ra11 ra12 ra13 => ?_) (fun j2 hj2 => ?_)
        · refine g_aload_n 0 dX3_checked_201 rfl ?_
          refine g_iload 7 dX3_checked_202 rfl ?_
          refine g_iload 8 dX3_checked_204 rfl ?_
          refine g_cVV (As := [vI a10, vI a11]) (n := 2) (stk := []) (ci := 2) (b := 0) (N := 83) (hX3_forget a10 a11 s3) (by decide +kernel) rfl rfl (lw_V q1782 q1784 qs159 q168 q1785) (by decide +kernel) rfl (by decide) hRf hRl (fun _ => (avc ra10 (avc ra11 avn))) (Nat.le_of_ble_eq_true rfl) rfl rfl dX3_checked_206 (fun v4 s5 => ?_)
          refine g_aload_n 0 dX3_checked_209 rfl ?_
          refine g_iload 9 dX3_checked_210 rfl ?_
          refine g_sIU (ci := 2) (b := 0) (N := 83) FT_ok 19 rfl rfl rfl (by decide) in_X3 tyX3 tyX3_ok nmX3 rfl rfl rfl rfl (by decide +kernel) ra12 q1151 dX3_checked_212 (fun s6 => ?_)
          refine g_lload 10 dX3_checked_215 rfl ?_
          refine g_lconst (v := 1) (by decide +kernel) dX3_checked_217 ?_
          refine g_ladd dX3_checked_218 (fun v7 rv7 => ?_)
          refine g_lstore (loc' := [(13, vL v7), (0, vR 0), (2, vI a2), (3, vI a3), (4, vI a4), (5, vI a5), (7, vL a7), (9, vI a9), (10, vI a10), (11, vI a11), (12, vI a12)]) dX3_checked_219 (by decide) rfl ?_
          refine g_goto 160 dX3_checked_221 (by decide) ?_
          exact g_pick [1, 2, 3, 4, 5, 6, 7, 8, 9, 10, 0] rfl (ih a2 a3 a4 a5 a7 a9 a10 a11 a12 v7 s6 ra2 ra3 ra4 ra5 ra7 ra9 ra10 ra11 ra12 rv7)
        · refine g_aload_n 0 dX3_checked_173 rfl ?_
          refine g_iload 4 dX3_checked_174 rfl ?_
          refine g_lload 10 dX3_checked_176 rfl ?_
          refine g_cVI (As := [vI a5, vL a13]) (n := 2) (stk := []) (ci := 2) (b := 0) (N := 83) (hX3_caseOf a5 a13 u) (by decide +kernel) rfl rfl (lw_V q1587 q1589 qs111 q168 q1590) (by decide +kernel) rfl (by decide) hRf hRl (fun _ => (avc ra5 (avc ra13 avn))) (Nat.le_of_ble_eq_true rfl) rfl rfl dX3_checked_178 (fun v8 s9 rv8 => ?_)
          refine g_istore (loc' := [(15, vI v8), (0, vR 0), (2, vI a2), (3, vI a3), (4, vI a4), (5, vI a5), (7, vL a7), (9, vI a9), (10, vI a10), (11, vI a11), (12, vI a12), (13, vL a13)]) dX3_checked_181 (by decide) rfl ?_
          refine g_iload 0 dX3_checked_183 rfl ?_
          refine g_iconst dX3_checked_185 ?_
          refine g_icmp_eq 201 dX3_checked_186 (by decide) (fun _ => rv8) (fun _ => (inR_z (Or.inr rfl))) (fun _ => ?_) (fun _ => ?_)
          · exact g_pick [1, 2, 3, 4, 5, 6, 7, 8, 9, 10, 11] rfl (hj2 a2 a3 a4 a5 a7 a9 a10 a11 a12 a13 s9 ra2 ra3 ra4 ra5 ra7 ra9 ra10 ra11 ra12 ra13)
          · refine g_jn (fun j10 => ∀ (a2 a3 a4 a5 a7 a10 a11 a12 a13 t0 : Int) (s11 : Sg), inR a2 → inR a3 → inR a4 → inR a5 → inL a7 → inR a10 → inR a11 → inR a12 → inL a13 → inR t0 → WG p l e R s m args below meth c JX3_checked DX3_checked G clA A FT ad0 σ0 rvI (j10 a2 a3 a4 a5 a7 a10 a11 a12 a13 t0 s11) s11 199 [(0, vR 0), (2, vI a2), (3, vI a3), (4, vI a4), (5, vI a5), (7, vL a7), (10, vI a10), (11, vI a11), (12, vI a12), (13, vL a13)] [vI t0]) (fun a2 a3 a4 a5 a7 a10 a11 a12 a13 t0 s11 ra2 ra3 ra4 ra5 ra7 ra10 ra11 ra12 ra13 rt0 => ?_) (fun j10 hj10 => ?_)
            · refine g_istore (loc' := [(9, vI t0), (0, vR 0), (2, vI a2), (3, vI a3), (4, vI a4), (5, vI a5), (7, vL a7), (10, vI a10), (11, vI a11), (12, vI a12), (13, vL a13)]) dX3_checked_199 (by decide) rfl ?_
              exact g_pick [1, 2, 3, 4, 5, 6, 0, 7, 8, 9, 10] rfl (hj2 a2 a3 a4 a5 a7 t0 a10 a11 a12 a13 s11 ra2 ra3 ra4 ra5 ra7 rt0 ra10 ra11 ra12 ra13)
            · refine g_iload 0 dX3_checked_189 rfl ?_
              refine g_if_ne 198 dX3_checked_191 (by decide) (fun _ => rv8) (fun _ => ?_) (fun _ => ?_)
              · refine g_iconst dX3_checked_194 ?_
                refine g_goto 199 dX3_checked_195 (by decide) ?_
                exact g_pick [1, 2, 3, 4, 5, 6, 8, 9, 10, 11] rfl (hj10 a2 a3 a4 a5 a7 a10 a11 a12 a13 0 s9 ra2 ra3 ra4 ra5 ra7 ra10 ra11 ra12 ra13 (inR_z (Or.inl rfl)))
              · refine g_iconst dX3_checked_198 ?_
                exact g_pick [1, 2, 3, 4, 5, 6, 8, 9, 10, 11] rfl (hj10 a2 a3 a4 a5 a7 a10 a11 a12 a13 2 s9 ra2 ra3 ra4 ra5 ra7 ra10 ra11 ra12 ra13 (by decide : inR (2)))
    · exact g_pick [0, 1, 2, 3, 6] rfl (hx224 a2 a3 a4 a9 u ra2 ra3 ra4 ra9)
theorem wX3_checked (hd : 2 ≤ d) (hRf : d + 1 ≤ R.frames) (hRl : 40 * (d + 1) ≤ R.locals) (hX3_q : ∀ (a1 : Int) (u : Sg), Ct l d FT clA yX3_q cX3_q 4 (some .int) DX3_q rvI [vR 0, vI a1] u (call 54 [a1] u)) (hX3_tree : ∀ (a1 : Int) (u : Sg), Ct l d FT clA yX3_tree cX3_tree 7 (some .int) DX3_tree rvI [vR 0, vI a1] u (call 55 [a1] u)) (hX3_hang : ∀ (a1 a2 a3 : Int) (u : Sg), Ct l d FT clA yX3_hang cX3_hang 4 (some .int) DX3_hang rvI [vR 0, vI a1, vI a2, vI a3] u (call 57 [a1, a2, a3] u)) (hX3_forget : ∀ (a1 a2 : Int) (u : Sg), Ct l d FT clA yX3_forget cX3_forget 3 none DX3_forget rvV [vR 0, vI a1, vI a2] u (call 110 [a1, a2] u)) (hX3_caseOf : ∀ (a1 a2 : Int) (u : Sg), Ct l d FT clA yX3_caseOf cX3_caseOf 8 (some .int) DX3_caseOf rvI [vR 0, vI a1, vL a2] u (call 61 [a1, a2] u)) (hX3_not : ∀ (a1 : Int) (u : Sg), Ct l d FT clA yX3_not cX3_not 2 (some .int) DX3_not rvI [vR 0, vI a1] u (call 36 [a1] u)) (hX3_counted : ∀ (a1 : Int) (u : Sg), Ct l d FT clA yX3_counted cX3_counted 6 (some .int) DX3_counted rvI [vR 0, vI a1] u (call 56 [a1] u)) (a1 : Int) (u : Sg) (ra1 : inR a1) : WG p l e R s m args below meth c JX3_checked DX3_checked G clA A FT ad0 σ0 rvI (bX3_checked call a1 u) u 0 [(0, vR 0), (1, vI a1)] [] := by
  unfold bX3_checked
  refine g_aload_n 0 dX3_checked_0 rfl ?_
  refine g_getI (ci := 2) (b := 0) (N := 83) 8 rfl rfl rfl (by decide) in_X3 rfl rfl q1140 dX3_checked_1 (fun v1 rv1 => ?_)
  refine g_istore_n (loc' := [(2, vI v1), (0, vR 0), (1, vI a1)]) dX3_checked_4 (by decide) rfl ?_
  refine g_aload_n 1 dX3_checked_5 rfl ?_
  refine g_getI (ci := 2) (b := 0) (N := 83) 10 rfl rfl rfl (by decide) in_X3 rfl rfl q1142 dX3_checked_6 (fun v2 rv2 => ?_)
  refine g_istore_n (loc' := [(3, vI v2), (2, vI v1), (0, vR 0), (1, vI a1)]) dX3_checked_9 (by decide) rfl ?_
  refine g_aload_n 2 dX3_checked_10 rfl ?_
  refine g_getI (ci := 2) (b := 0) (N := 83) 19 rfl rfl rfl (by decide) in_X3 rfl rfl q1151 dX3_checked_11 (fun v3 rv3 => ?_)
  refine g_istore (loc' := [(4, vI v3), (3, vI v2), (2, vI v1), (0, vR 0), (1, vI a1)]) dX3_checked_14 (by decide) rfl ?_
  refine g_aload_n 3 dX3_checked_16 rfl ?_
  refine g_iconst dX3_checked_17 ?_
  refine g_sIU (ci := 2) (b := 0) (N := 83) FT_ok 48 rfl rfl rfl (by decide) in_X3 tyX3 tyX3_ok nmX3 rfl rfl rfl rfl (by decide +kernel) (inR_z (Or.inl rfl)) q1180 dX3_checked_18 (fun s4 => ?_)
  refine g_aload_n 3 dX3_checked_21 rfl ?_
  refine g_iconst dX3_checked_22 ?_
  refine g_cVI (As := [vI 1]) (n := 1) (stk := []) (ci := 2) (b := 0) (N := 83) (hX3_q 1 s4) (by decide +kernel) rfl rfl (lw_V q1555 q1557 qs104 q168 q1558) (by decide +kernel) rfl (by decide) hRf hRl (fun _ => (avc (inR_z (Or.inr rfl)) avn)) (Nat.le_of_ble_eq_true rfl) rfl rfl dX3_checked_23 (fun v5 s6 rv5 => ?_)
  refine g_istore (loc' := [(5, vI v5), (4, vI v3), (3, vI v2), (2, vI v1), (0, vR 0), (1, vI a1)]) dX3_checked_26 (by decide) rfl ?_
  refine g_iconst dX3_checked_28 ?_
  refine g_istore (loc' := [(6, vI 0), (5, vI v5), (4, vI v3), (3, vI v2), (2, vI v1), (0, vR 0), (1, vI a1)]) dX3_checked_29 (by decide) rfl ?_
  refine g_iconst dX3_checked_31 ?_
  refine g_istore (loc' := [(7, vI 0), (6, vI 0), (5, vI v5), (4, vI v3), (3, vI v2), (2, vI v1), (0, vR 0), (1, vI a1)]) dX3_checked_32 (by decide) rfl ?_
  refine g_pick [6, 7, 5, 4, 3, 2, 1, 0] rfl (wX3_checked_L34 hd hRf hRl hX3_q hX3_tree hX3_hang hX3_forget hX3_caseOf hX3_not hX3_counted _ (fun v8 v9 v10 v11 v12 v13 s7 rv8 rv9 rv10 rv11 rv12 rv13 => ?_) KF a1 v1 v2 v3 v5 0 0 s6 ra1 rv1 rv2 rv3 rv5 (inR_z (Or.inl rfl)) (inR_z (Or.inl rfl)))
  · refine g_jn (fun j14 => ∀ (a2 a3 a4 a5 a7 t0 : Int) (s15 : Sg), inR a2 → inR a3 → inR a4 → inR a5 → inL a7 → inR t0 → WG p l e R s m args below meth c JX3_checked DX3_checked G clA A FT ad0 σ0 rvI (j14 a2 a3 a4 a5 a7 t0 s15) s15 131 [(0, vR 0), (2, vI a2), (3, vI a3), (4, vI a4), (5, vI a5), (7, vL a7)] [vI t0]) (fun a2 a3 a4 a5 a7 t0 s15 ra2 ra3 ra4 ra5 ra7 rt0 => ?_) (fun j14 hj14 => ?_)
    · refine g_jn (fun j16 => ∀ (a2 a3 a4 a9 : Int) (s17 : Sg), inR a2 → inR a3 → inR a4 → inR a9 → WG p l e R s m args below meth c JX3_checked DX3_checked G clA A FT ad0 σ0 rvI (j16 a2 a3 a4 a9 s17) s17 224 [(0, vR 0), (2, vI a2), (3, vI a3), (4, vI a4), (9, vI a9)] []) (fun a2 a3 a4 a9 s17 ra2 ra3 ra4 ra9 => ?_) (fun j16 hj16 => ?_)
      · refine g_aload_n 0 dX3_checked_224 rfl ?_
        refine g_iload_n 1 dX3_checked_225 rfl ?_
        refine g_iload_n 2 dX3_checked_226 rfl ?_
        refine g_cVV (As := [vI a2, vI a3]) (n := 2) (stk := []) (ci := 2) (b := 0) (N := 83) (hX3_forget a2 a3 s17) (by decide +kernel) rfl rfl (lw_V q1782 q1784 qs159 q168 q1785) (by decide +kernel) rfl (by decide) hRf hRl (fun _ => (avc ra2 (avc ra3 avn))) (Nat.le_of_ble_eq_true rfl) rfl rfl dX3_checked_227 (fun v18 s19 => ?_)
        refine g_aload_n 0 dX3_checked_230 rfl ?_
        refine g_iload 3 dX3_checked_231 rfl ?_
        refine g_sIU (ci := 2) (b := 0) (N := 83) FT_ok 19 rfl rfl rfl (by decide) in_X3 tyX3 tyX3_ok nmX3 rfl rfl rfl rfl (by decide +kernel) ra4 q1151 dX3_checked_233 (fun s20 => ?_)
        refine g_iload 4 dX3_checked_236 rfl ?_
        exact g_iret rfl rfl (fun _ => ra9) dX3_checked_238
      · refine g_istore (loc' := [(9, vI t0), (0, vR 0), (2, vI a2), (3, vI a3), (4, vI a4), (5, vI a5), (7, vL a7)]) dX3_checked_131 (by decide) rfl ?_
        refine g_iload 0 dX3_checked_133 rfl ?_
        refine g_iconst dX3_checked_135 ?_
        refine g_icmp_ne 224 dX3_checked_136 (by decide) (fun _ => rt0) (fun _ => (inR_z (Or.inr rfl))) (fun _ => ?_) (fun _ => ?_)
        · refine g_aload_n 1 dX3_checked_139 rfl ?_
          refine g_getI (ci := 2) (b := 0) (N := 83) 8 rfl rfl rfl (by decide) in_X3 rfl rfl q1140 dX3_checked_140 (fun v21 rv21 => ?_)
          refine g_istore (loc' := [(10, vI v21), (9, vI t0), (0, vR 0), (2, vI a2), (3, vI a3), (4, vI a4), (5, vI a5), (7, vL a7)]) dX3_checked_143 (by decide) rfl ?_
          refine g_aload_n 2 dX3_checked_145 rfl ?_
          refine g_getI (ci := 2) (b := 0) (N := 83) 10 rfl rfl rfl (by decide) in_X3 rfl rfl q1142 dX3_checked_146 (fun v22 rv22 => ?_)
          refine g_istore (loc' := [(11, vI v22), (10, vI v21), (9, vI t0), (0, vR 0), (2, vI a2), (3, vI a3), (4, vI a4), (5, vI a5), (7, vL a7)]) dX3_checked_149 (by decide) rfl ?_
          refine g_aload_n 3 dX3_checked_151 rfl ?_
          refine g_getI (ci := 2) (b := 0) (N := 83) 19 rfl rfl rfl (by decide) in_X3 rfl rfl q1151 dX3_checked_152 (fun v23 rv23 => ?_)
          refine g_istore (loc' := [(12, vI v23), (11, vI v22), (10, vI v21), (9, vI t0), (0, vR 0), (2, vI a2), (3, vI a3), (4, vI a4), (5, vI a5), (7, vL a7)]) dX3_checked_155 (by decide) rfl ?_
          refine g_lconst (v := 0) (by decide +kernel) dX3_checked_157 ?_
          refine g_lstore (loc' := [(13, vL 0), (12, vI v23), (11, vI v22), (10, vI v21), (9, vI t0), (0, vR 0), (2, vI a2), (3, vI a3), (4, vI a4), (5, vI a5), (7, vL a7)]) dX3_checked_158 (by decide) rfl ?_
          refine g_pick [5, 6, 7, 8, 9, 10, 4, 3, 2, 1, 0] rfl (wX3_checked_L160 hd hRf hRl hX3_q hX3_tree hX3_hang hX3_forget hX3_caseOf hX3_not hX3_counted _ (fun v25 v26 v27 v28 s24 rv25 rv26 rv27 rv28 => ?_) KF a2 a3 a4 a5 a7 t0 v21 v22 v23 0 s15 ra2 ra3 ra4 ra5 ra7 rt0 rv21 rv22 rv23 (by decide : inL (0)))
          · exact g_pick [0, 1, 2, 3, 4] rfl (hj16 v25 v26 v27 v28 s24 rv25 rv26 rv27 rv28)
        · exact g_pick [1, 2, 3, 4, 0] rfl (hj16 a2 a3 a4 t0 s15 ra2 ra3 ra4 rt0)
    · refine g_aload_n 0 dX3_checked_70 rfl ?_
      refine g_iload 5 dX3_checked_71 rfl ?_
      refine g_iload 6 dX3_checked_73 rfl ?_
      refine g_aload_n 0 dX3_checked_75 rfl ?_
      refine g_aload_n 0 dX3_checked_76 rfl ?_
      refine g_iload_n 1 dX3_checked_77 rfl ?_
      refine g_cVI (As := [vI v8]) (n := 1) (stk := [vR 0, vI v13, vI v12, vR 0]) (ci := 2) (b := 0) (N := 83) (hX3_not v8 s7) (by decide +kernel) rfl rfl (lw_V q1483 q1485 qs93 q168 q1486) (by decide +kernel) rfl (by decide) hRf hRl (fun _ => (avc rv8 avn)) (Nat.le_of_ble_eq_true rfl) rfl rfl dX3_checked_78 (fun v29 s30 rv29 => ?_)
      refine g_cVI (As := [vI v29]) (n := 1) (stk := [vI v13, vI v12, vR 0]) (ci := 2) (b := 0) (N := 83) (hX3_tree v29 s30) (by decide +kernel) rfl rfl (lw_V q1559 q1561 qs105 q168 q1562) (by decide +kernel) rfl (by decide) hRf hRl (fun _ => (avc rv29 avn)) (Nat.le_of_ble_eq_true rfl) rfl rfl dX3_checked_81 (fun v31 s32 rv31 => ?_)
      refine g_cVI (As := [vI v12, vI v13, vI v31]) (n := 3) (stk := []) (ci := 2) (b := 0) (N := 83) (hX3_hang v12 v13 v31 s32) (by decide +kernel) rfl rfl (lw_V q1569 q1571 qs107 q168 q1572) (by decide +kernel) rfl (by decide) hRf hRl (fun _ => (avc rv12 (avc rv13 (avc rv31 avn)))) (Nat.le_of_ble_eq_true rfl) rfl rfl dX3_checked_84 (fun v33 s34 rv33 => ?_)
      refine g_pop rfl dX3_checked_87 ?_
      refine g_aload_n 0 dX3_checked_88 rfl ?_
      refine g_iload 5 dX3_checked_89 rfl ?_
      refine g_cVI (As := [vI v12]) (n := 1) (stk := []) (ci := 2) (b := 0) (N := 83) (hX3_counted v12 s34) (by decide +kernel) rfl rfl (lw_V q1563 q1565 qs106 q168 q1566) (by decide +kernel) rfl (by decide) hRf hRl (fun _ => (avc rv12 avn)) (Nat.le_of_ble_eq_true rfl) rfl rfl dX3_checked_91 (fun v35 s36 rv35 => ?_)
      refine g_pop rfl dX3_checked_94 ?_
      refine g_aload_n 0 dX3_checked_95 rfl ?_
      refine g_get (v := vR 57) (ci := 2) (b := 0) (N := 83) 47 rfl rfl (by decide) in_X3 rfl rfl q1179 dX3_checked_96 ?_
      refine g_iload 5 dX3_checked_99 rfl ?_
      refine g_lald (id := 47) 34 rfl rfl dX3_checked_101 (fun v37 rv37 => ?_)
      refine g_lstore (loc' := [(7, vL v37), (0, vR 0), (1, vI v8), (2, vI v9), (3, vI v10), (4, vI v11), (5, vI v12), (6, vI v13)]) dX3_checked_102 (by decide) rfl ?_
      refine g_aload_n 1 dX3_checked_104 rfl ?_
      refine g_ldc2 (n := 1000) (by decide +kernel) q1585 dX3_checked_105 ?_
      refine g_lload 0 dX3_checked_108 rfl ?_
      refine g_mminL (by decide : inL (1000)) rv37 (Nat.le_trans (Nat.succ_le_succ (Nat.zero_le _)) hRf) (Nat.le_trans (Nat.mul_le_mul_left 40 (Nat.succ_le_succ (Nat.zero_le d))) hRl) (Nat.le_of_ble_eq_true rfl) q1568 q221 q166 q222 dX3_checked_110 (fun v38 rv38 => ?_)
      refine g_l2i rv38 dX3_checked_113 (fun v39 rv39 => ?_)
      refine g_sIU (ci := 2) (b := 0) (N := 83) FT_ok 82 rfl rfl rfl (by decide) in_X3 tyX3 tyX3_ok nmX3 rfl rfl rfl rfl (by decide +kernel) rv39 q1214 dX3_checked_114 (fun s40 => ?_)
      refine g_lload 0 dX3_checked_117 rfl ?_
      refine g_ldc2 (n := 40) (by decide +kernel) q1586 dX3_checked_119 ?_
      refine g_lcmpU rv37 (by decide : inL (40)) dX3_checked_122 (fun v41 rv41 => ?_)
      refine g_if_le 130 dX3_checked_123 (by decide) (fun _ => rv41) (fun _ => ?_) (fun _ => ?_)
      · refine g_iconst dX3_checked_130 ?_
        exact g_pick [1, 3, 4, 5, 6, 0] rfl (hj14 v9 v10 v11 v12 v37 1 s40 rv9 rv10 rv11 rv12 rv37 (inR_z (Or.inr rfl)))
      · refine g_iconst dX3_checked_126 ?_
        refine g_goto 131 dX3_checked_127 (by decide) ?_
        exact g_pick [1, 3, 4, 5, 6, 0] rfl (hj14 v9 v10 v11 v12 v37 2 s40 rv9 rv10 rv11 rv12 rv37 (by decide : inR (2)))
end
section
variable {l : Launch} {d : Nat} {call : Nat → List Int → Sg → Option (Int × Sg)}
theorem ctX3_checked (p0 : Program) (e0 : Env) (s0 : State) (m0 : MethodId) (meth0 : Method) (c0 : Code) (G0 : Gm) (hd : 2 ≤ d) (hX3_q : ∀ (a1 : Int) (u : Sg), Ct l d FT clA yX3_q cX3_q 4 (some .int) DX3_q rvI [vR 0, vI a1] u (call 54 [a1] u)) (hX3_tree : ∀ (a1 : Int) (u : Sg), Ct l d FT clA yX3_tree cX3_tree 7 (some .int) DX3_tree rvI [vR 0, vI a1] u (call 55 [a1] u)) (hX3_hang : ∀ (a1 a2 a3 : Int) (u : Sg), Ct l d FT clA yX3_hang cX3_hang 4 (some .int) DX3_hang rvI [vR 0, vI a1, vI a2, vI a3] u (call 57 [a1, a2, a3] u)) (hX3_forget : ∀ (a1 a2 : Int) (u : Sg), Ct l d FT clA yX3_forget cX3_forget 3 none DX3_forget rvV [vR 0, vI a1, vI a2] u (call 110 [a1, a2] u)) (hX3_caseOf : ∀ (a1 a2 : Int) (u : Sg), Ct l d FT clA yX3_caseOf cX3_caseOf 8 (some .int) DX3_caseOf rvI [vR 0, vI a1, vL a2] u (call 61 [a1, a2] u)) (hX3_not : ∀ (a1 : Int) (u : Sg), Ct l d FT clA yX3_not cX3_not 2 (some .int) DX3_not rvI [vR 0, vI a1] u (call 36 [a1] u)) (hX3_counted : ∀ (a1 : Int) (u : Sg), Ct l d FT clA yX3_counted cX3_counted 6 (some .int) DX3_counted rvI [vR 0, vI a1] u (call 56 [a1] u)) (a1 : Int) (u : Sg) : Ct l (d + 1) FT clA yX3_checked cX3_checked 16 (some .int) DX3_checked rvI [vR 0, vI a1] u (bX3_checked call a1 u) :=
  Ct_of (by decide) (Nat.le_of_ble_eq_true rfl) (fun p e R s1 m args below meth c G A ad hA hRf hRl => wX3_checked hd hRf hRl hX3_q hX3_tree hX3_hang hX3_forget hX3_caseOf hX3_not hX3_counted a1 u (hA _ (List.mem_cons_of_mem _ List.mem_cons_self))) p0 e0 s0 m0 meth0 c0 G0
end
/-! RoundCheckModel.tree(I)I -/
abbrev JX3_tree : Jm := (cX3_tree, RX3, 7, (some .int))
def bX3_tree_L41 (call : Nat → List Int → Sg → Option (Int × Sg)) : Nat → Int → Int → Int → Int → Sg → (Int → Sg → Option (Int × Sg)) → Option (Int × Sg)
  | 0, _, _, _, _, _, _ => none
  | n + 1, a1, a3, a4, a5, u, x78 => ld u 3 a1 fun v1 => if a5 < v1 then (cl (call 7 [a1, a5] u) fun v2 s3 => cl (call 55 [v2] s3) fun v4 s5 => cl (call 57 [a3, a4, v4] s5) fun v6 s7 => ar (a5 + 1) fun v8 => bX3_tree_L41 call n a1 a3 v6 v8 s7 x78) else (x78 a3 u)
def bX3_tree_L142 (call : Nat → List Int → Sg → Option (Int × Sg)) : Nat → Int → Int → Int → Int → Sg → (Int → Sg → Option (Int × Sg)) → Option (Int × Sg)
  | 0, _, _, _, _, _, _ => none
  | n + 1, a3, a4, a5, a6, u, x184 => ld u 3 a3 fun v1 => if a6 < v1 then (cl (call 7 [a3, a6] u) fun v2 s3 => cl (call 36 [v2] s3) fun v4 s5 => cl (call 55 [v4] s5) fun v6 s7 => cl (call 57 [a4, a5, v6] s7) fun v8 s9 => ar (a6 + 1) fun v10 => bX3_tree_L142 call n a3 a4 v8 v10 s9 x184) else (x184 a4 u)
def bX3_tree (call : Nat → List Int → Sg → Option (Int × Sg)) (a1 : Int) (u : Sg) : Option (Int × Sg) := ld u 1 a1 fun v1 => if v1 = 8 then (cl (call 54 [1] u) fun v2 s3 => cl (call 56 [v2] s3) fun v4 s5 => some (v4, s5)) else (if v1 = 16 then (cl (call 54 [1] u) fun v6 s7 => bX3_tree_L41 call KF a1 v6 0 0 s7 (fun v9 s8 => cl (call 56 [v9] s8) fun v10 s11 => some (v10, s11))) else (jn (fun (a1 : Int) (s13 : Sg) => cl (call 54 [3] s13) fun v14 s15 => stA s15 46 v14 a1 fun s16 => stA s16 47 v14 1 fun s17 => some (v14, s17)) fun j12 => if v1 = 15 then (cl (call 7 [a1, 0] u) fun v18 s19 => ld s19 1 v18 fun v20 => if v20 = 8 then (cl (call 54 [2] s19) fun v21 s22 => cl (call 56 [v21] s22) fun v23 s24 => some (v23, s24)) else (ld s19 1 v18 fun v25 => if v25 = 16 then (cl (call 54 [2] s19) fun v26 s27 => bX3_tree_L142 call KF v18 v26 0 0 s27 (fun v29 s28 => cl (call 56 [v29] s28) fun v30 s31 => some (v30, s31))) else (ld s19 1 v18 fun v32 => if v32 = 17 then (cl (call 7 [v18, 1] s19) fun v33 s34 => cl (call 7 [v18, 0] s34) fun v35 s36 => cl (call 9 [0, v35] s36) fun v37 s38 => cl (call 27 [2, v37] s38) fun v39 s40 => cl (call 58 [v33, 0, v39] s40) fun v41 s42 => cl (call 36 [v41] s42) fun v43 s44 => cl (call 55 [v43] s44) fun v45 s46 => some (v45, s46)) else (j12 a1 s19)))) else (j12 a1 u)))
section
variable {p : Program} {l : Launch} {e : Env} {R : Room} {s : State} {m : MethodId} {args : Array Value} {below : List Frame} {meth : Method} {c : Code} {G : Gm} {A : Nat → Prop} {ad0 : Nat → Nat} {σ0 : Sg} {d : Nat} {call : Nat → List Int → Sg → Option (Int × Sg)}
theorem wX3_tree_L41 (hd : 2 ≤ d) (hRf : d + 1 ≤ R.frames) (hRl : 40 * (d + 1) ≤ R.locals) (hX3_q : ∀ (a1 : Int) (u : Sg), Ct l d FT clA yX3_q cX3_q 4 (some .int) DX3_q rvI [vR 0, vI a1] u (call 54 [a1] u)) (hX3_counted : ∀ (a1 : Int) (u : Sg), Ct l d FT clA yX3_counted cX3_counted 6 (some .int) DX3_counted rvI [vR 0, vI a1] u (call 56 [a1] u)) (hX3_get : ∀ (a1 a2 : Int) (u : Sg), Ct l d FT clA yX3_get cX3_get 3 (some .int) DX3_get rvI [vR 0, vI a1, vI a2] u (call 7 [a1, a2] u)) (hX3_tree : ∀ (a1 : Int) (u : Sg), Ct l d FT clA yX3_tree cX3_tree 7 (some .int) DX3_tree rvI [vR 0, vI a1] u (call 55 [a1] u)) (hX3_hang : ∀ (a1 a2 a3 : Int) (u : Sg), Ct l d FT clA yX3_hang cX3_hang 4 (some .int) DX3_hang rvI [vR 0, vI a1, vI a2, vI a3] u (call 57 [a1, a2, a3] u)) (hX3_not : ∀ (a1 : Int) (u : Sg), Ct l d FT clA yX3_not cX3_not 2 (some .int) DX3_not rvI [vR 0, vI a1] u (call 36 [a1] u)) (hX3_fresh : ∀ (a1 a2 : Int) (u : Sg), Ct l d FT clA yX3_fresh cX3_fresh 3 (some .int) DX3_fresh rvI [vR 0, vI a1, vI a2] u (call 9 [a1, a2] u)) (hX3_leaf : ∀ (a1 a2 : Int) (u : Sg), Ct l d FT clA yX3_leaf cX3_leaf 4 (some .int) DX3_leaf rvI [vR 0, vI a1, vI a2] u (call 27 [a1, a2] u)) (hX3_put : ∀ (a1 a2 a3 : Int) (u : Sg), Ct l d FT clA yX3_put cX3_put 8 (some .int) DX3_put rvI [vR 0, vI a1, vI a2, vI a3] u (call 58 [a1, a2, a3] u)) (x78 : Int → Sg → Option (Int × Sg)) (hx78 : ∀ (a3 : Int) (u : Sg), inR a3 → WG p l e R s m args below meth c JX3_tree DX3_tree G clA A FT ad0 σ0 rvI (x78 a3 u) u 78 [(0, vR 0), (3, vI a3)] []) : ∀ (n : Nat) (a1 a3 a4 a5 : Int) (u : Sg), inR a1 → inR a3 → inR a4 → inR a5 → WG p l e R s m args below meth c JX3_tree DX3_tree G clA A FT ad0 σ0 rvI (bX3_tree_L41 call n a1 a3 a4 a5 u x78) u 41 [(0, vR 0), (1, vI a1), (3, vI a3), (4, vI a4), (5, vI a5)] [] := by
  intro n
  induction n with
  | zero =>
    intro a1 a3 a4 a5 u ra1 ra3 ra4 ra5
    exact g_none
  | succ n ih =>
    intro a1 a3 a4 a5 u ra1 ra3 ra4 ra5
    rw [bX3_tree_L41]
    refine g_iload 4 dX3_tree_41 rfl ?_
    refine g_aload_n 0 dX3_tree_43 rfl ?_
    refine g_get (v := vR 13) (ci := 2) (b := 0) (N := 83) 3 rfl rfl (by decide) in_X3 rfl rfl q1135 dX3_tree_44 ?_
    refine g_iload_n 1 dX3_tree_47 rfl ?_
    refine g_iald (id := 3) 2 rfl rfl dX3_tree_48 (fun v1 rv1 => ?_)
    refine g_icmp_ge 78 dX3_tree_49 (by decide) (fun _ => ra5) (fun _ => rv1) (fun _ => ?_) (fun _ => ?_)
    · refine g_aload_n 0 dX3_tree_52 rfl ?_
      refine g_iload_n 2 dX3_tree_53 rfl ?_
      refine g_iload 3 dX3_tree_54 rfl ?_
      refine g_aload_n 0 dX3_tree_56 rfl ?_
      refine g_aload_n 0 dX3_tree_57 rfl ?_
      refine g_iload_n 1 dX3_tree_58 rfl ?_
      refine g_iload 4 dX3_tree_59 rfl ?_
      refine g_cVI (As := [vI a1, vI a5]) (n := 2) (stk := [vR 0, vI a4, vI a3, vR 0]) (ci := 2) (b := 0) (N := 83) (hX3_get a1 a5 u) (by decide +kernel) rfl rfl (lw_V q1116 q1118 qs76 q168 q1119) (by decide +kernel) rfl (by decide) hRf hRl (fun _ => (avc ra1 (avc ra5 avn))) (Nat.le_of_ble_eq_true rfl) rfl rfl dX3_tree_61 (fun v2 s3 rv2 => ?_)
      refine g_cVI (As := [vI v2]) (n := 1) (stk := [vI a4, vI a3, vR 0]) (ci := 2) (b := 0) (N := 83) (hX3_tree v2 s3) (by decide +kernel) rfl rfl (lw_V q1559 q1561 qs105 q168 q1562) (by decide +kernel) rfl (by decide) hRf hRl (fun _ => (avc rv2 avn)) (Nat.le_of_ble_eq_true rfl) rfl rfl dX3_tree_64 (fun v4 s5 rv4 => ?_)
      refine g_cVI (As := [vI a3, vI a4, vI v4]) (n := 3) (stk := []) (ci := 2) (b := 0) (N := 83) (hX3_hang a3 a4 v4 s5) (by decide +kernel) rfl rfl (lw_V q1569 q1571 qs107 q168 q1572) (by decide +kernel) rfl (by decide) hRf hRl (fun _ => (avc ra3 (avc ra4 (avc rv4 avn)))) (Nat.le_of_ble_eq_true rfl) rfl rfl dX3_tree_67 (fun v6 s7 rv6 => ?_)
      refine g_istore (loc' := [(4, vI v6), (0, vR 0), (1, vI a1), (3, vI a3), (5, vI a5)]) dX3_tree_70 (by decide) rfl ?_
      refine g_iinc 4 (loc' := fun v8 => [(5, vI v8), (4, vI v6), (0, vR 0), (1, vI a1), (3, vI a3)]) dX3_tree_72 rfl (by decide) (fun _ => rfl) (fun v8 rv8 => ?_)
      refine g_goto 41 dX3_tree_75 (by decide) ?_
      exact g_pick [2, 3, 4, 1, 0] rfl (ih a1 a3 v6 v8 s7 ra1 ra3 rv6 rv8)
    · exact g_pick [0, 2] rfl (hx78 a3 u ra3)
theorem wX3_tree_L142 (hd : 2 ≤ d) (hRf : d + 1 ≤ R.frames) (hRl : 40 * (d + 1) ≤ R.locals) (hX3_q : ∀ (a1 : Int) (u : Sg), Ct l d FT clA yX3_q cX3_q 4 (some .int) DX3_q rvI [vR 0, vI a1] u (call 54 [a1] u)) (hX3_counted : ∀ (a1 : Int) (u : Sg), Ct l d FT clA yX3_counted cX3_counted 6 (some .int) DX3_counted rvI [vR 0, vI a1] u (call 56 [a1] u)) (hX3_get : ∀ (a1 a2 : Int) (u : Sg), Ct l d FT clA yX3_get cX3_get 3 (some .int) DX3_get rvI [vR 0, vI a1, vI a2] u (call 7 [a1, a2] u)) (hX3_tree : ∀ (a1 : Int) (u : Sg), Ct l d FT clA yX3_tree cX3_tree 7 (some .int) DX3_tree rvI [vR 0, vI a1] u (call 55 [a1] u)) (hX3_hang : ∀ (a1 a2 a3 : Int) (u : Sg), Ct l d FT clA yX3_hang cX3_hang 4 (some .int) DX3_hang rvI [vR 0, vI a1, vI a2, vI a3] u (call 57 [a1, a2, a3] u)) (hX3_not : ∀ (a1 : Int) (u : Sg), Ct l d FT clA yX3_not cX3_not 2 (some .int) DX3_not rvI [vR 0, vI a1] u (call 36 [a1] u)) (hX3_fresh : ∀ (a1 a2 : Int) (u : Sg), Ct l d FT clA yX3_fresh cX3_fresh 3 (some .int) DX3_fresh rvI [vR 0, vI a1, vI a2] u (call 9 [a1, a2] u)) (hX3_leaf : ∀ (a1 a2 : Int) (u : Sg), Ct l d FT clA yX3_leaf cX3_leaf 4 (some .int) DX3_leaf rvI [vR 0, vI a1, vI a2] u (call 27 [a1, a2] u)) (hX3_put : ∀ (a1 a2 a3 : Int) (u : Sg), Ct l d FT clA yX3_put cX3_put 8 (some .int) DX3_put rvI [vR 0, vI a1, vI a2, vI a3] u (call 58 [a1, a2, a3] u)) (x184 : Int → Sg → Option (Int × Sg)) (hx184 : ∀ (a4 : Int) (u : Sg), inR a4 → WG p l e R s m args below meth c JX3_tree DX3_tree G clA A FT ad0 σ0 rvI (x184 a4 u) u 184 [(0, vR 0), (4, vI a4)] []) : ∀ (n : Nat) (a3 a4 a5 a6 : Int) (u : Sg), inR a3 → inR a4 → inR a5 → inR a6 → WG p l e R s m args below meth c JX3_tree DX3_tree G clA A FT ad0 σ0 rvI (bX3_tree_L142 call n a3 a4 a5 a6 u x184) u 142 [(0, vR 0), (3, vI a3), (4, vI a4), (5, vI a5), (6, vI a6)] [] := by
  intro n
  induction n with
  | zero =>
    intro a3 a4 a5 a6 u ra3 ra4 ra5 ra6
    exact g_none
  | succ n ih =>
    intro a3 a4 a5 a6 u ra3 ra4 ra5 ra6
    rw [bX3_tree_L142]
    refine g_iload 4 dX3_tree_142 rfl ?_
    refine g_aload_n 0 dX3_tree_144 rfl ?_
    refine g_get (v := vR 13) (ci := 2) (b := 0) (N := 83) 3 rfl rfl (by decide) in_X3 rfl rfl q1135 dX3_tree_145 ?_
    refine g_iload_n 1 dX3_tree_148 rfl ?_
    refine g_iald (id := 3) 2 rfl rfl dX3_tree_149 (fun v1 rv1 => ?_)
    refine g_icmp_ge 184 dX3_tree_150 (by decide) (fun _ => ra6) (fun _ => rv1) (fun _ => ?_) (fun _ => ?_)
    · refine g_aload_n 0 dX3_tree_153 rfl ?_
      refine g_iload 2 dX3_tree_154 rfl ?_
      refine g_iload 3 dX3_tree_156 rfl ?_
      refine g_aload_n 0 dX3_tree_158 rfl ?_
      refine g_aload_n 0 dX3_tree_159 rfl ?_
      refine g_aload_n 0 dX3_tree_160 rfl ?_
      refine g_iload_n 1 dX3_tree_161 rfl ?_
      refine g_iload 4 dX3_tree_162 rfl ?_
      refine g_cVI (As := [vI a3, vI a6]) (n := 2) (stk := [vR 0, vR 0, vI a5, vI a4, vR 0]) (ci := 2) (b := 0) (N := 83) (hX3_get a3 a6 u) (by decide +kernel) rfl rfl (lw_V q1116 q1118 qs76 q168 q1119) (by decide +kernel) rfl (by decide) hRf hRl (fun _ => (avc ra3 (avc ra6 avn))) (Nat.le_of_ble_eq_true rfl) rfl rfl dX3_tree_164 (fun v2 s3 rv2 => ?_)
      refine g_cVI (As := [vI v2]) (n := 1) (stk := [vR 0, vI a5, vI a4, vR 0]) (ci := 2) (b := 0) (N := 83) (hX3_not v2 s3) (by decide +kernel) rfl rfl (lw_V q1483 q1485 qs93 q168 q1486) (by decide +kernel) rfl (by decide) hRf hRl (fun _ => (avc rv2 avn)) (Nat.le_of_ble_eq_true rfl) rfl rfl dX3_tree_167 (fun v4 s5 rv4 => ?_)
      refine g_cVI (As := [vI v4]) (n := 1) (stk := [vI a5, vI a4, vR 0]) (ci := 2) (b := 0) (N := 83) (hX3_tree v4 s5) (by decide +kernel) rfl rfl (lw_V q1559 q1561 qs105 q168 q1562) (by decide +kernel) rfl (by decide) hRf hRl (fun _ => (avc rv4 avn)) (Nat.le_of_ble_eq_true rfl) rfl rfl dX3_tree_170 (fun v6 s7 rv6 => ?_)
      refine g_cVI (As := [vI a4, vI a5, vI v6]) (n := 3) (stk := []) (ci := 2) (b := 0) (N := 83) (hX3_hang a4 a5 v6 s7) (by decide +kernel) rfl rfl (lw_V q1569 q1571 qs107 q168 q1572) (by decide +kernel) rfl (by decide) hRf hRl (fun _ => (avc ra4 (avc ra5 (avc rv6 avn)))) (Nat.le_of_ble_eq_true rfl) rfl rfl dX3_tree_173 (fun v8 s9 rv8 => ?_)
      refine g_istore (loc' := [(5, vI v8), (0, vR 0), (3, vI a3), (4, vI a4), (6, vI a6)]) dX3_tree_176 (by decide) rfl ?_
      refine g_iinc 4 (loc' := fun v10 => [(6, vI v10), (5, vI v8), (0, vR 0), (3, vI a3), (4, vI a4)]) dX3_tree_178 rfl (by decide) (fun _ => rfl) (fun v10 rv10 => ?_)
      refine g_goto 142 dX3_tree_181 (by decide) ?_
      exact g_pick [2, 3, 4, 1, 0] rfl (ih a3 a4 v8 v10 s9 ra3 ra4 rv8 rv10)
    · exact g_pick [0, 2] rfl (hx184 a4 u ra4)
theorem wX3_tree (hd : 2 ≤ d) (hRf : d + 1 ≤ R.frames) (hRl : 40 * (d + 1) ≤ R.locals) (hX3_q : ∀ (a1 : Int) (u : Sg), Ct l d FT clA yX3_q cX3_q 4 (some .int) DX3_q rvI [vR 0, vI a1] u (call 54 [a1] u)) (hX3_counted : ∀ (a1 : Int) (u : Sg), Ct l d FT clA yX3_counted cX3_counted 6 (some .int) DX3_counted rvI [vR 0, vI a1] u (call 56 [a1] u)) (hX3_get : ∀ (a1 a2 : Int) (u : Sg), Ct l d FT clA yX3_get cX3_get 3 (some .int) DX3_get rvI [vR 0, vI a1, vI a2] u (call 7 [a1, a2] u)) (hX3_tree : ∀ (a1 : Int) (u : Sg), Ct l d FT clA yX3_tree cX3_tree 7 (some .int) DX3_tree rvI [vR 0, vI a1] u (call 55 [a1] u)) (hX3_hang : ∀ (a1 a2 a3 : Int) (u : Sg), Ct l d FT clA yX3_hang cX3_hang 4 (some .int) DX3_hang rvI [vR 0, vI a1, vI a2, vI a3] u (call 57 [a1, a2, a3] u)) (hX3_not : ∀ (a1 : Int) (u : Sg), Ct l d FT clA yX3_not cX3_not 2 (some .int) DX3_not rvI [vR 0, vI a1] u (call 36 [a1] u)) (hX3_fresh : ∀ (a1 a2 : Int) (u : Sg), Ct l d FT clA yX3_fresh cX3_fresh 3 (some .int) DX3_fresh rvI [vR 0, vI a1, vI a2] u (call 9 [a1, a2] u)) (hX3_leaf : ∀ (a1 a2 : Int) (u : Sg), Ct l d FT clA yX3_leaf cX3_leaf 4 (some .int) DX3_leaf rvI [vR 0, vI a1, vI a2] u (call 27 [a1, a2] u)) (hX3_put : ∀ (a1 a2 a3 : Int) (u : Sg), Ct l d FT clA yX3_put cX3_put 8 (some .int) DX3_put rvI [vR 0, vI a1, vI a2, vI a3] u (call 58 [a1, a2, a3] u)) (a1 : Int) (u : Sg) (ra1 : inR a1) : WG p l e R s m args below meth c JX3_tree DX3_tree G clA A FT ad0 σ0 rvI (bX3_tree call a1 u) u 0 [(0, vR 0), (1, vI a1)] [] := by
  unfold bX3_tree
  refine g_aload_n 0 dX3_tree_0 rfl ?_
  refine g_get (v := vR 11) (ci := 2) (b := 0) (N := 83) 1 rfl rfl (by decide) in_X3 rfl rfl q1133 dX3_tree_1 ?_
  refine g_iload_n 1 dX3_tree_4 rfl ?_
  refine g_iald (id := 1) 0 rfl rfl dX3_tree_5 (fun v1 rv1 => ?_)
  refine g_istore_n (loc' := [(2, vI v1), (0, vR 0), (1, vI a1)]) dX3_tree_6 (by decide) rfl ?_
  refine g_iload_n 0 dX3_tree_7 rfl ?_
  refine g_bipush (by decide +kernel) dX3_tree_8 ?_
  refine g_icmp_ne 23 dX3_tree_10 (by decide) (fun _ => rv1) (fun _ => (by decide : inR (8))) (fun _ => ?_) (fun _ => ?_)
  · refine g_aload_n 1 dX3_tree_13 rfl ?_
    refine g_aload_n 1 dX3_tree_14 rfl ?_
    refine g_iconst dX3_tree_15 ?_
    refine g_cVI (As := [vI 1]) (n := 1) (stk := [vR 0]) (ci := 2) (b := 0) (N := 83) (hX3_q 1 u) (by decide +kernel) rfl rfl (lw_V q1555 q1557 qs104 q168 q1558) (by decide +kernel) rfl (by decide) hRf hRl (fun _ => (avc (inR_z (Or.inr rfl)) avn)) (Nat.le_of_ble_eq_true rfl) rfl rfl dX3_tree_16 (fun v2 s3 rv2 => ?_)
    refine g_cVI (As := [vI v2]) (n := 1) (stk := []) (ci := 2) (b := 0) (N := 83) (hX3_counted v2 s3) (by decide +kernel) rfl rfl (lw_V q1563 q1565 qs106 q168 q1566) (by decide +kernel) rfl (by decide) hRf hRl (fun _ => (avc rv2 avn)) (Nat.le_of_ble_eq_true rfl) rfl rfl dX3_tree_19 (fun v4 s5 rv4 => ?_)
    exact g_iret rfl rfl (fun _ => rv4) dX3_tree_22
  · refine g_iload_n 0 dX3_tree_23 rfl ?_
    refine g_bipush (by decide +kernel) dX3_tree_24 ?_
    refine g_icmp_ne 84 dX3_tree_26 (by decide) (fun _ => rv1) (fun _ => (by decide : inR (16))) (fun _ => ?_) (fun _ => ?_)
    · refine g_aload_n 1 dX3_tree_29 rfl ?_
      refine g_iconst dX3_tree_30 ?_
      refine g_cVI (As := [vI 1]) (n := 1) (stk := []) (ci := 2) (b := 0) (N := 83) (hX3_q 1 u) (by decide +kernel) rfl rfl (lw_V q1555 q1557 qs104 q168 q1558) (by decide +kernel) rfl (by decide) hRf hRl (fun _ => (avc (inR_z (Or.inr rfl)) avn)) (Nat.le_of_ble_eq_true rfl) rfl rfl dX3_tree_31 (fun v6 s7 rv6 => ?_)
      refine g_istore_n (loc' := [(3, vI v6), (2, vI v1), (0, vR 0), (1, vI a1)]) dX3_tree_34 (by decide) rfl ?_
      refine g_iconst dX3_tree_35 ?_
      refine g_istore (loc' := [(4, vI 0), (3, vI v6), (2, vI v1), (0, vR 0), (1, vI a1)]) dX3_tree_36 (by decide) rfl ?_
      refine g_iconst dX3_tree_38 ?_
      refine g_istore (loc' := [(5, vI 0), (4, vI 0), (3, vI v6), (2, vI v1), (0, vR 0), (1, vI a1)]) dX3_tree_39 (by decide) rfl ?_
      refine g_pick [4, 5, 2, 1, 0] rfl (wX3_tree_L41 hd hRf hRl hX3_q hX3_counted hX3_get hX3_tree hX3_hang hX3_not hX3_fresh hX3_leaf hX3_put _ (fun v9 s8 rv9 => ?_) KF a1 v6 0 0 s7 ra1 rv6 (inR_z (Or.inl rfl)) (inR_z (Or.inl rfl)))
      · refine g_aload_n 0 dX3_tree_78 rfl ?_
        refine g_iload_n 1 dX3_tree_79 rfl ?_
        refine g_cVI (As := [vI v9]) (n := 1) (stk := []) (ci := 2) (b := 0) (N := 83) (hX3_counted v9 s8) (by decide +kernel) rfl rfl (lw_V q1563 q1565 qs106 q168 q1566) (by decide +kernel) rfl (by decide) hRf hRl (fun _ => (avc rv9 avn)) (Nat.le_of_ble_eq_true rfl) rfl rfl dX3_tree_80 (fun v10 s11 rv10 => ?_)
        exact g_iret rfl rfl (fun _ => rv10) dX3_tree_83
    · refine g_jn (fun j12 => ∀ (a1 : Int) (s13 : Sg), inR a1 → WG p l e R s m args below meth c JX3_tree DX3_tree G clA A FT ad0 σ0 rvI (j12 a1 s13) s13 238 [(0, vR 0), (1, vI a1)] []) (fun a1 s13 ra1 => ?_) (fun j12 hj12 => ?_)
      · refine g_aload_n 0 dX3_tree_238 rfl ?_
        refine g_iconst dX3_tree_239 ?_
        refine g_cVI (As := [vI 3]) (n := 1) (stk := []) (ci := 2) (b := 0) (N := 83) (hX3_q 3 s13) (by decide +kernel) rfl rfl (lw_V q1555 q1557 qs104 q168 q1558) (by decide +kernel) rfl (by decide) hRf hRl (fun _ => (avc (by decide : inR (3)) avn)) (Nat.le_of_ble_eq_true rfl) rfl rfl dX3_tree_240 (fun v14 s15 rv14 => ?_)
        refine g_istore_n (loc' := [(3, vI v14), (0, vR 0), (1, vI a1)]) dX3_tree_243 (by decide) rfl ?_
        refine g_aload_n 1 dX3_tree_244 rfl ?_
        refine g_get (v := vR 56) (ci := 2) (b := 0) (N := 83) 46 rfl rfl (by decide) in_X3 rfl rfl q1178 dX3_tree_245 ?_
        refine g_iload_n 0 dX3_tree_248 rfl ?_
        refine g_iload_n 2 dX3_tree_249 rfl ?_
        refine g_iastU (id := 46) FT_ok 33 rfl rfl (by decide +kernel) ra1 dX3_tree_250 (fun s16 => ?_)
        refine g_aload_n 1 dX3_tree_251 rfl ?_
        refine g_get (v := vR 57) (ci := 2) (b := 0) (N := 83) 47 rfl rfl (by decide) in_X3 rfl rfl q1179 dX3_tree_252 ?_
        refine g_iload_n 0 dX3_tree_255 rfl ?_
        refine g_lconst (v := 1) (by decide +kernel) dX3_tree_256 ?_
        refine g_lastU (id := 47) FT_ok 34 rfl rfl (by decide +kernel) (by decide : inL (1)) dX3_tree_257 (fun s17 => ?_)
        refine g_iload_n 0 dX3_tree_258 rfl ?_
        exact g_iret rfl rfl (fun _ => rv14) dX3_tree_259
      · refine g_iload_n 0 dX3_tree_84 rfl ?_
        refine g_bipush (by decide +kernel) dX3_tree_85 ?_
        refine g_icmp_ne 238 dX3_tree_87 (by decide) (fun _ => rv1) (fun _ => (by decide : inR (15))) (fun _ => ?_) (fun _ => ?_)
        · refine g_aload_n 1 dX3_tree_90 rfl ?_
          refine g_iload_n 2 dX3_tree_91 rfl ?_
          refine g_iconst dX3_tree_92 ?_
          refine g_cVI (As := [vI a1, vI 0]) (n := 2) (stk := []) (ci := 2) (b := 0) (N := 83) (hX3_get a1 0 u) (by decide +kernel) rfl rfl (lw_V q1116 q1118 qs76 q168 q1119) (by decide +kernel) rfl (by decide) hRf hRl (fun _ => (avc ra1 (avc (inR_z (Or.inl rfl)) avn))) (Nat.le_of_ble_eq_true rfl) rfl rfl dX3_tree_93 (fun v18 s19 rv18 => ?_)
          refine g_istore_n (loc' := [(3, vI v18), (2, vI v1), (0, vR 0), (1, vI a1)]) dX3_tree_96 (by decide) rfl ?_
          refine g_aload_n 2 dX3_tree_97 rfl ?_
          refine g_get (v := vR 11) (ci := 2) (b := 0) (N := 83) 1 rfl rfl (by decide) in_X3 rfl rfl q1133 dX3_tree_98 ?_
          refine g_iload_n 0 dX3_tree_101 rfl ?_
          refine g_iald (id := 1) 0 rfl rfl dX3_tree_102 (fun v20 rv20 => ?_)
          refine g_bipush (by decide +kernel) dX3_tree_103 ?_
          refine g_icmp_ne 118 dX3_tree_105 (by decide) (fun _ => rv20) (fun _ => (by decide : inR (8))) (fun _ => ?_) (fun _ => ?_)
          · refine g_aload_n 2 dX3_tree_108 rfl ?_
            refine g_aload_n 2 dX3_tree_109 rfl ?_
            refine g_iconst dX3_tree_110 ?_
            refine g_cVI (As := [vI 2]) (n := 1) (stk := [vR 0]) (ci := 2) (b := 0) (N := 83) (hX3_q 2 s19) (by decide +kernel) rfl rfl (lw_V q1555 q1557 qs104 q168 q1558) (by decide +kernel) rfl (by decide) hRf hRl (fun _ => (avc (by decide : inR (2)) avn)) (Nat.le_of_ble_eq_true rfl) rfl rfl dX3_tree_111 (fun v21 s22 rv21 => ?_)
            refine g_cVI (As := [vI v21]) (n := 1) (stk := []) (ci := 2) (b := 0) (N := 83) (hX3_counted v21 s22) (by decide +kernel) rfl rfl (lw_V q1563 q1565 qs106 q168 q1566) (by decide +kernel) rfl (by decide) hRf hRl (fun _ => (avc rv21 avn)) (Nat.le_of_ble_eq_true rfl) rfl rfl dX3_tree_114 (fun v23 s24 rv23 => ?_)
            exact g_iret rfl rfl (fun _ => rv23) dX3_tree_117
          · refine g_aload_n 2 dX3_tree_118 rfl ?_
            refine g_get (v := vR 11) (ci := 2) (b := 0) (N := 83) 1 rfl rfl (by decide) in_X3 rfl rfl q1133 dX3_tree_119 ?_
            refine g_iload_n 0 dX3_tree_122 rfl ?_
            refine g_iald (id := 1) 0 rfl rfl dX3_tree_123 (fun v25 rv25 => ?_)
            refine g_bipush (by decide +kernel) dX3_tree_124 ?_
            refine g_icmp_ne 191 dX3_tree_126 (by decide) (fun _ => rv25) (fun _ => (by decide : inR (16))) (fun _ => ?_) (fun _ => ?_)
            · refine g_aload_n 2 dX3_tree_129 rfl ?_
              refine g_iconst dX3_tree_130 ?_
              refine g_cVI (As := [vI 2]) (n := 1) (stk := []) (ci := 2) (b := 0) (N := 83) (hX3_q 2 s19) (by decide +kernel) rfl rfl (lw_V q1555 q1557 qs104 q168 q1558) (by decide +kernel) rfl (by decide) hRf hRl (fun _ => (avc (by decide : inR (2)) avn)) (Nat.le_of_ble_eq_true rfl) rfl rfl dX3_tree_131 (fun v26 s27 rv26 => ?_)
              refine g_istore (loc' := [(4, vI v26), (3, vI v18), (2, vI v1), (0, vR 0), (1, vI a1)]) dX3_tree_134 (by decide) rfl ?_
              refine g_iconst dX3_tree_136 ?_
              refine g_istore (loc' := [(5, vI 0), (4, vI v26), (3, vI v18), (2, vI v1), (0, vR 0), (1, vI a1)]) dX3_tree_137 (by decide) rfl ?_
              refine g_iconst dX3_tree_139 ?_
              refine g_istore (loc' := [(6, vI 0), (5, vI 0), (4, vI v26), (3, vI v18), (2, vI v1), (0, vR 0), (1, vI a1)]) dX3_tree_140 (by decide) rfl ?_
              refine g_pick [5, 3, 2, 1, 0] rfl (wX3_tree_L142 hd hRf hRl hX3_q hX3_counted hX3_get hX3_tree hX3_hang hX3_not hX3_fresh hX3_leaf hX3_put _ (fun v29 s28 rv29 => ?_) KF v18 v26 0 0 s27 rv18 rv26 (inR_z (Or.inl rfl)) (inR_z (Or.inl rfl)))
              · refine g_aload_n 0 dX3_tree_184 rfl ?_
                refine g_iload 1 dX3_tree_185 rfl ?_
                refine g_cVI (As := [vI v29]) (n := 1) (stk := []) (ci := 2) (b := 0) (N := 83) (hX3_counted v29 s28) (by decide +kernel) rfl rfl (lw_V q1563 q1565 qs106 q168 q1566) (by decide +kernel) rfl (by decide) hRf hRl (fun _ => (avc rv29 avn)) (Nat.le_of_ble_eq_true rfl) rfl rfl dX3_tree_187 (fun v30 s31 rv30 => ?_)
                exact g_iret rfl rfl (fun _ => rv30) dX3_tree_190
            · refine g_aload_n 2 dX3_tree_191 rfl ?_
              refine g_get (v := vR 11) (ci := 2) (b := 0) (N := 83) 1 rfl rfl (by decide) in_X3 rfl rfl q1133 dX3_tree_192 ?_
              refine g_iload_n 0 dX3_tree_195 rfl ?_
              refine g_iald (id := 1) 0 rfl rfl dX3_tree_196 (fun v32 rv32 => ?_)
              refine g_bipush (by decide +kernel) dX3_tree_197 ?_
              refine g_icmp_ne 238 dX3_tree_199 (by decide) (fun _ => rv32) (fun _ => (by decide : inR (17))) (fun _ => ?_) (fun _ => ?_)
              · refine g_aload_n 2 dX3_tree_202 rfl ?_
                refine g_aload_n 2 dX3_tree_203 rfl ?_
                refine g_aload_n 2 dX3_tree_204 rfl ?_
                refine g_aload_n 2 dX3_tree_205 rfl ?_
                refine g_iload_n 0 dX3_tree_206 rfl ?_
                refine g_iconst dX3_tree_207 ?_
                refine g_cVI (As := [vI v18, vI 1]) (n := 2) (stk := [vR 0, vR 0, vR 0]) (ci := 2) (b := 0) (N := 83) (hX3_get v18 1 s19) (by decide +kernel) rfl rfl (lw_V q1116 q1118 qs76 q168 q1119) (by decide +kernel) rfl (by decide) hRf hRl (fun _ => (avc rv18 (avc (inR_z (Or.inr rfl)) avn))) (Nat.le_of_ble_eq_true rfl) rfl rfl dX3_tree_208 (fun v33 s34 rv33 => ?_)
                refine g_iconst dX3_tree_211 ?_
                refine g_aload_n 2 dX3_tree_212 rfl ?_
                refine g_iconst dX3_tree_213 ?_
                refine g_aload_n 2 dX3_tree_214 rfl ?_
                refine g_iconst dX3_tree_215 ?_
                refine g_aload_n 2 dX3_tree_216 rfl ?_
                refine g_iload_n 0 dX3_tree_217 rfl ?_
                refine g_iconst dX3_tree_218 ?_
                refine g_cVI12 (As := [vI v18, vI 0]) (n := 2) (stk := [vI 0, vR 0, vI 2, vR 0, vI 0, vI v33, vR 0, vR 0, vR 0]) (ci := 2) (b := 0) (N := 83) (hX3_get v18 0 s34) (by decide +kernel) rfl rfl (lw_V q1116 q1118 qs76 q168 q1119) (by decide +kernel) rfl (by decide) hRf hRl (fun _ => (avc rv18 (avc (inR_z (Or.inl rfl)) avn))) (Nat.le_of_ble_eq_true rfl) rfl rfl dX3_tree_219 (fun v35 s36 rv35 => ?_)
                refine g_cVI (As := [vI 0, vI v35]) (n := 2) (stk := [vI 2, vR 0, vI 0, vI v33, vR 0, vR 0, vR 0]) (ci := 2) (b := 0) (N := 83) (hX3_fresh 0 v35 s36) (by decide +kernel) rfl rfl (lw_V q1123 q1125 qs77 q168 q1126) (by decide +kernel) rfl (by decide) hRf hRl (fun _ => (avc (inR_z (Or.inl rfl)) (avc rv35 avn))) (Nat.le_of_ble_eq_true rfl) rfl rfl dX3_tree_222 (fun v37 s38 rv37 => ?_)
                refine g_cVI (As := [vI 2, vI v37]) (n := 2) (stk := [vI 0, vI v33, vR 0, vR 0, vR 0]) (ci := 2) (b := 0) (N := 83) (hX3_leaf 2 v37 s38) (by decide +kernel) rfl rfl (lw_V q1447 q1449 qs89 q168 q1450) (by decide +kernel) rfl (by decide) hRf hRl (fun _ => (avc (by decide : inR (2)) (avc rv37 avn))) (Nat.le_of_ble_eq_true rfl) rfl rfl dX3_tree_225 (fun v39 s40 rv39 => ?_)
                refine g_cVI (As := [vI v33, vI 0, vI v39]) (n := 3) (stk := [vR 0, vR 0]) (ci := 2) (b := 0) (N := 83) (hX3_put v33 0 v39 s40) (by decide +kernel) rfl rfl (lw_V q1573 q1575 qs108 q168 q1576) (by decide +kernel) rfl (by decide) hRf hRl (fun _ => (avc rv33 (avc (inR_z (Or.inl rfl)) (avc rv39 avn)))) (Nat.le_of_ble_eq_true rfl) rfl rfl dX3_tree_228 (fun v41 s42 rv41 => ?_)
                refine g_cVI (As := [vI v41]) (n := 1) (stk := [vR 0]) (ci := 2) (b := 0) (N := 83) (hX3_not v41 s42) (by decide +kernel) rfl rfl (lw_V q1483 q1485 qs93 q168 q1486) (by decide +kernel) rfl (by decide) hRf hRl (fun _ => (avc rv41 avn)) (Nat.le_of_ble_eq_true rfl) rfl rfl dX3_tree_231 (fun v43 s44 rv43 => ?_)
                refine g_cVI (As := [vI v43]) (n := 1) (stk := []) (ci := 2) (b := 0) (N := 83) (hX3_tree v43 s44) (by decide +kernel) rfl rfl (lw_V q1559 q1561 qs105 q168 q1562) (by decide +kernel) rfl (by decide) hRf hRl (fun _ => (avc rv43 avn)) (Nat.le_of_ble_eq_true rfl) rfl rfl dX3_tree_234 (fun v45 s46 rv45 => ?_)
                exact g_iret rfl rfl (fun _ => rv45) dX3_tree_237
              · exact g_pick [2, 3] rfl (hj12 a1 s19 ra1)
        · exact g_pick [1, 2] rfl (hj12 a1 u ra1)
end
section
variable {l : Launch} {d : Nat} {call : Nat → List Int → Sg → Option (Int × Sg)}
theorem ctX3_tree (p0 : Program) (e0 : Env) (s0 : State) (m0 : MethodId) (meth0 : Method) (c0 : Code) (G0 : Gm) (hd : 2 ≤ d) (hX3_q : ∀ (a1 : Int) (u : Sg), Ct l d FT clA yX3_q cX3_q 4 (some .int) DX3_q rvI [vR 0, vI a1] u (call 54 [a1] u)) (hX3_counted : ∀ (a1 : Int) (u : Sg), Ct l d FT clA yX3_counted cX3_counted 6 (some .int) DX3_counted rvI [vR 0, vI a1] u (call 56 [a1] u)) (hX3_get : ∀ (a1 a2 : Int) (u : Sg), Ct l d FT clA yX3_get cX3_get 3 (some .int) DX3_get rvI [vR 0, vI a1, vI a2] u (call 7 [a1, a2] u)) (hX3_tree : ∀ (a1 : Int) (u : Sg), Ct l d FT clA yX3_tree cX3_tree 7 (some .int) DX3_tree rvI [vR 0, vI a1] u (call 55 [a1] u)) (hX3_hang : ∀ (a1 a2 a3 : Int) (u : Sg), Ct l d FT clA yX3_hang cX3_hang 4 (some .int) DX3_hang rvI [vR 0, vI a1, vI a2, vI a3] u (call 57 [a1, a2, a3] u)) (hX3_not : ∀ (a1 : Int) (u : Sg), Ct l d FT clA yX3_not cX3_not 2 (some .int) DX3_not rvI [vR 0, vI a1] u (call 36 [a1] u)) (hX3_fresh : ∀ (a1 a2 : Int) (u : Sg), Ct l d FT clA yX3_fresh cX3_fresh 3 (some .int) DX3_fresh rvI [vR 0, vI a1, vI a2] u (call 9 [a1, a2] u)) (hX3_leaf : ∀ (a1 a2 : Int) (u : Sg), Ct l d FT clA yX3_leaf cX3_leaf 4 (some .int) DX3_leaf rvI [vR 0, vI a1, vI a2] u (call 27 [a1, a2] u)) (hX3_put : ∀ (a1 a2 a3 : Int) (u : Sg), Ct l d FT clA yX3_put cX3_put 8 (some .int) DX3_put rvI [vR 0, vI a1, vI a2, vI a3] u (call 58 [a1, a2, a3] u)) (a1 : Int) (u : Sg) : Ct l (d + 1) FT clA yX3_tree cX3_tree 7 (some .int) DX3_tree rvI [vR 0, vI a1] u (bX3_tree call a1 u) :=
  Ct_of (by decide) (Nat.le_of_ble_eq_true rfl) (fun p e R s1 m args below meth c G A ad hA hRf hRl => wX3_tree hd hRf hRl hX3_q hX3_counted hX3_get hX3_tree hX3_hang hX3_not hX3_fresh hX3_leaf hX3_put a1 u (hA _ (List.mem_cons_of_mem _ List.mem_cons_self))) p0 e0 s0 m0 meth0 c0 G0
end
