/-! RoundCheckModel.takeIn()V -/
abbrev JX3_takeIn : Jm := (cX3_takeIn, RX3, 4, none)
def bX3_takeIn_L0 (call : Nat → List Int → Sg → Option (Int × Sg)) : Nat → Sg → (Sg → Option (Int × Sg)) → (Sg → Option (Int × Sg)) → Option (Int × Sg)
  | 0, _, _, _ => none
  | n + 1, u, x271, x78 => jn (fun (s2 : Sg) => un (gI s2 57) fun v3 => if v3 ≤ 100 then (un (sI s2 66 1) fun s4 => un (gI s4 67) fun v5 => un (gI s4 50) fun v6 => if v5 < v6 then (un (gI s4 67) fun v7 => ar (v7 + 1) fun v8 => un (sI s4 67 v8) fun s9 => ld s9 49 v7 fun v10 => cl (call 64 [v10] s9) fun v11 s12 => un (gI s12 57) fun v13 => if v13 ≤ 100 then (jn (fun (a1 t0 : Int) (s15 : Sg) => jn (fun (a2 t0 : Int) (s17 : Sg) => jn (fun (a2 a3 : Int) (s19 : Sg) => jn (fun (a2 a3 : Int) (s21 : Sg) => ld s21 1 a3 fun v22 => if v22 = 13 then (if a2 = 0 then (cl (call 7 [a3, 2] s21) fun v23 s24 => cl (call 66 [v23] s24) fun v25 s26 => cl (call 7 [a3, 0] s26) fun v27 s28 => cl (call 7 [a3, 1] s28) fun v29 s30 => cl (call 1 [v27, v29] s30) fun v31 s32 => cl (call 73 [v25, v31] s32) fun v33 s34 => bX3_takeIn_L0 call n s34 x271 x78) else (bX3_takeIn_L0 call n s21 x271 x78)) else (bX3_takeIn_L0 call n s21 x271 x78)) fun j20 => ld s19 1 a3 fun v35 => if v35 = 12 then (jn (fun (a2 a3 t1 t2 t3 : Int) (s37 : Sg) => ar (t2 + t3) fun v38 => cl (call 71 [t1, v38] s37) fun v39 s40 => j20 a2 a3 s40) fun j36 => cl (call 7 [a3, 1] s19) fun v41 s42 => cl (call 66 [v41] s42) fun v43 s44 => cl (call 7 [a3, 0] s44) fun v45 s46 => ar (2 * v45) fun v47 => if a2 = 0 then (j36 a2 a3 v43 v47 0 s46) else (j36 a2 a3 v43 v47 1 s46)) else (j20 a2 a3 s19)) fun j18 => ld s17 1 t0 fun v48 => if v48 = 9 then (if a2 = 0 then (cl (call 7 [t0, 0] s17) fun v49 s50 => cl (call 66 [v49] s50) fun v51 s52 => cl (call 7 [t0, 1] s52) fun v53 s54 => cl (call 66 [v53] s54) fun v55 s56 => cl (call 69 [v51, v55] s56) fun v57 s58 => j18 a2 t0 s58) else (j18 a2 t0 s17)) else (j18 a2 t0 s17)) fun j16 => if t0 = 0 then (j16 t0 a1 s15) else (cl (call 7 [a1, 0] s15) fun v59 s60 => j16 t0 v59 s60)) fun j14 => ld s12 1 v10 fun v61 => if v61 = 15 then (j14 v10 1 s12) else (j14 v10 0 s12)) else (x78 s12)) else (un (gI s4 68) fun v62 => ar (v62 + 1) fun v63 => un (sI s4 68 v63) fun s64 => ld s64 55 v62 fun v65 => cl (call 80 [v65] s64) fun v66 s67 => cl (call 73 [v62, v66] s67) fun v68 s69 => bX3_takeIn_L0 call n s69 x271 x78)) else (x271 s2)) fun j1 => un (gI u 67) fun v70 => un (gI u 50) fun v71 => if v70 < v71 then (j1 u) else (un (gI u 68) fun v72 => un (gI u 57) fun v73 => if v72 < v73 then (j1 u) else (x271 u))
def bX3_takeIn (call : Nat → List Int → Sg → Option (Int × Sg)) (u : Sg) : Option (Int × Sg) := bX3_takeIn_L0 call KF u (fun s1 => some (0, s1)) (fun s2 => some (0, s2))
section
variable {p : Program} {l : Launch} {e : Env} {R : Room} {s : State} {m : MethodId} {args : Array Value} {below : List Frame} {meth : Method} {c : Code} {G : Gm} {A : Nat → Prop} {ad0 : Nat → Nat} {σ0 : Sg} {d : Nat} {call : Nat → List Int → Sg → Option (Int × Sg)}
theorem wX3_takeIn_L0 (hd : 2 ≤ d) (hRf : d + 1 ≤ R.frames) (hRl : 40 * (d + 1) ≤ R.locals) (hX3_terms : ∀ (a1 : Int) (u : Sg), Ct l d FT clA yX3_terms cX3_terms 4 none DX3_terms rvV [vR 0, vI a1] u (call 64 [a1] u)) (hX3_get : ∀ (a1 a2 : Int) (u : Sg), Ct l d FT clA yX3_get cX3_get 3 (some .int) DX3_get rvI [vR 0, vI a1, vI a2] u (call 7 [a1, a2] u)) (hX3_indexOf : ∀ (a1 : Int) (u : Sg), Ct l d FT clA yX3_indexOf cX3_indexOf 2 (some .int) DX3_indexOf rvI [vR 0, vI a1] u (call 66 [a1] u)) (hX3_plain : ∀ (a1 a2 : Int) (u : Sg), Ct l d FT clA yX3_plain cX3_plain 3 (some .int) DX3_plain rvI [vR 0, vI a1, vI a2] u (call 1 [a1, a2] u)) (hX3_hasType : ∀ (a1 a2 : Int) (u : Sg), Ct l d FT clA yX3_hasType cX3_hasType 5 none DX3_hasType rvV [vR 0, vI a1, vI a2] u (call 73 [a1, a2] u)) (hX3_adj : ∀ (a1 a2 : Int) (u : Sg), Ct l d FT clA yX3_adj cX3_adj 3 none DX3_adj rvV [vR 0, vI a1, vI a2] u (call 71 [a1, a2] u)) (hX3_join_2 : ∀ (a1 a2 : Int) (u : Sg), Ct l d FT clA yX3_join_2 cX3_join_2 5 none DX3_join_2 rvV [vR 0, vI a1, vI a2] u (call 69 [a1, a2] u)) (hX3_typeOf : ∀ (a1 : Int) (u : Sg), Ct l d FT clA yX3_typeOf cX3_typeOf 2 (some .int) DX3_typeOf rvI [vR 0, vI a1] u (call 80 [a1] u)) (x271 : Sg → Option (Int × Sg)) (x78 : Sg → Option (Int × Sg)) (hx271 : ∀ (u : Sg), WG p l e R s m args below meth c JX3_takeIn DX3_takeIn G clA A FT ad0 σ0 rvV (x271 u) u 271 [] []) (hx78 : ∀ (u : Sg), WG p l e R s m args below meth c JX3_takeIn DX3_takeIn G clA A FT ad0 σ0 rvV (x78 u) u 78 [] []) : ∀ (n : Nat) (u : Sg), WG p l e R s m args below meth c JX3_takeIn DX3_takeIn G clA A FT ad0 σ0 rvV (bX3_takeIn_L0 call n u x271 x78) u 0 [(0, vR 0)] [] := by
  intro n
  induction n with
  | zero =>
    intro u
    exact g_none
  | succ n ih =>
    intro u
    rw [bX3_takeIn_L0]
    refine g_jn (fun j1 => ∀ (s2 : Sg), WG p l e R s m args below meth c JX3_takeIn DX3_takeIn G clA A FT ad0 σ0 rvV (j1 s2) s2 22 [(0, vR 0)] []) (fun s2 => ?_) (fun j1 hj1 => ?_)
    · refine g_aload_n 0 dX3_takeIn_22 rfl ?_
      refine g_getI (ci := 2) (b := 0) (N := 83) 57 rfl rfl rfl (by decide) in_X3 rfl rfl q1189 dX3_takeIn_23 (fun v3 rv3 => ?_)
      refine g_bipush (by decide +kernel) dX3_takeIn_26 ?_
      refine g_icmp_gt 271 dX3_takeIn_28 (by decide) (fun _ => rv3) (fun _ => (by decide : inR (100))) (fun _ => ?_) (fun _ => ?_)
      · refine g_aload_n 0 dX3_takeIn_31 rfl ?_
        refine g_iconst dX3_takeIn_32 ?_
        refine g_sZU (ci := 2) (b := 0) (N := 83) FT_ok 66 rfl rfl rfl (by decide) in_X3 tyX3 tyX3_ok nmX3 rfl rfl rfl rfl (by decide +kernel) (Or.inr rfl) q1198 dX3_takeIn_33 (fun s4 => ?_)
        refine g_aload_n 0 dX3_takeIn_36 rfl ?_
        refine g_getI (ci := 2) (b := 0) (N := 83) 67 rfl rfl rfl (by decide) in_X3 rfl rfl q1199 dX3_takeIn_37 (fun v5 rv5 => ?_)
        refine g_aload_n 0 dX3_takeIn_40 rfl ?_
        refine g_getI (ci := 2) (b := 0) (N := 83) 50 rfl rfl rfl (by decide) in_X3 rfl rfl q1182 dX3_takeIn_41 (fun v6 rv6 => ?_)
        refine g_icmp_ge 241 dX3_takeIn_44 (by decide) (fun _ => rv5) (fun _ => rv6) (fun _ => ?_) (fun _ => ?_)
        · refine g_aload_n 0 dX3_takeIn_47 rfl ?_
          refine g_get (v := vR 59) (ci := 2) (b := 0) (N := 83) 49 rfl rfl (by decide) in_X3 rfl rfl q1181 dX3_takeIn_48 ?_
          refine g_aload_n 0 dX3_takeIn_51 rfl ?_
          refine g_dup rfl dX3_takeIn_52 ?_
          refine g_getI (ci := 2) (b := 0) (N := 83) 67 rfl rfl rfl (by decide) in_X3 rfl rfl q1199 dX3_takeIn_53 (fun v7 rv7 => ?_)
          refine g_dup_x1 rfl rfl dX3_takeIn_56 ?_
          refine g_iconst dX3_takeIn_57 ?_
          refine g_iadd dX3_takeIn_58 (fun v8 rv8 => ?_)
          refine g_sIU (ci := 2) (b := 0) (N := 83) FT_ok 67 rfl rfl rfl (by decide) in_X3 tyX3 tyX3_ok nmX3 rfl rfl rfl rfl (by decide +kernel) rv8 q1199 dX3_takeIn_59 (fun s9 => ?_)
          refine g_iald (id := 49) 35 rfl rfl dX3_takeIn_62 (fun v10 rv10 => ?_)
          refine g_istore_n (loc' := [(1, vI v10), (0, vR 0)]) dX3_takeIn_63 (by decide) rfl ?_
          refine g_aload_n 1 dX3_takeIn_64 rfl ?_
          refine g_iload_n 0 dX3_takeIn_65 rfl ?_
          refine g_cVV (As := [vI v10]) (n := 1) (stk := []) (ci := 2) (b := 0) (N := 83) (hX3_terms v10 s9) (by decide +kernel) rfl rfl (lw_V q1599 q1601 qs114 q168 q1602) (by decide +kernel) rfl (by decide) hRf hRl (fun _ => (avc rv10 avn)) (Nat.le_of_ble_eq_true rfl) rfl rfl dX3_takeIn_66 (fun v11 s12 => ?_)
          refine g_aload_n 1 dX3_takeIn_69 rfl ?_
          refine g_getI (ci := 2) (b := 0) (N := 83) 57 rfl rfl rfl (by decide) in_X3 rfl rfl q1189 dX3_takeIn_70 (fun v13 rv13 => ?_)
          refine g_bipush (by decide +kernel) dX3_takeIn_73 ?_
          refine g_icmp_le 79 dX3_takeIn_75 (by decide) (fun _ => rv13) (fun _ => (by decide : inR (100))) (fun _ => ?_) (fun _ => ?_)
          · refine g_jn (fun j14 => ∀ (a1 t0 : Int) (s15 : Sg), inR a1 → (t0 = 0 ∨ t0 = 1) → WG p l e R s m args below meth c JX3_takeIn DX3_takeIn G clA A FT ad0 σ0 rvV (j14 a1 t0 s15) s15 95 [(0, vR 0), (1, vI a1)] [vI t0]) (fun a1 t0 s15 ra1 zt0 => ?_) (fun j14 hj14 => ?_)
            · refine g_jn (fun j16 => ∀ (a2 t0 : Int) (s17 : Sg), (a2 = 0 ∨ a2 = 1) → inR t0 → WG p l e R s m args below meth c JX3_takeIn DX3_takeIn G clA A FT ad0 σ0 rvV (j16 a2 t0 s17) s17 110 [(0, vR 0), (2, vI a2)] [vI t0]) (fun a2 t0 s17 za2 rt0 => ?_) (fun j16 hj16 => ?_)
              · refine g_jn (fun j18 => ∀ (a2 a3 : Int) (s19 : Sg), (a2 = 0 ∨ a2 = 1) → inR a3 → WG p l e R s m args below meth c JX3_takeIn DX3_takeIn G clA A FT ad0 σ0 rvV (j18 a2 a3 s19) s19 150 [(0, vR 0), (2, vI a2), (3, vI a3)] []) (fun a2 a3 s19 za2 ra3 => ?_) (fun j18 hj18 => ?_)
                · refine g_jn (fun j20 => ∀ (a2 a3 : Int) (s21 : Sg), (a2 = 0 ∨ a2 = 1) → inR a3 → WG p l e R s m args below meth c JX3_takeIn DX3_takeIn G clA A FT ad0 σ0 rvV (j20 a2 a3 s21) s21 193 [(0, vR 0), (2, vI a2), (3, vI a3)] []) (fun a2 a3 s21 za2 ra3 => ?_) (fun j20 hj20 => ?_)
                  · refine g_aload_n 0 dX3_takeIn_193 rfl ?_
                    refine g_get (v := vR 11) (ci := 2) (b := 0) (N := 83) 1 rfl rfl (by decide) in_X3 rfl rfl q1133 dX3_takeIn_194 ?_
                    refine g_iload_n 2 dX3_takeIn_197 rfl ?_
                    refine g_iald (id := 1) 0 rfl rfl dX3_takeIn_198 (fun v22 rv22 => ?_)
                    refine g_bipush (by decide +kernel) dX3_takeIn_199 ?_
                    refine g_icmp_ne 0 dX3_takeIn_201 (by decide) (fun _ => rv22) (fun _ => (by decide : inR (13))) (fun _ => ?_) (fun _ => ?_)
                    · refine g_iload_n 1 dX3_takeIn_204 rfl ?_
                      refine g_if_ne 0 dX3_takeIn_205 (by decide) (fun _ => (inR_z za2)) (fun _ => ?_) (fun _ => ?_)
                      · refine g_aload_n 0 dX3_takeIn_208 rfl ?_
                        refine g_aload_n 0 dX3_takeIn_209 rfl ?_
                        refine g_aload_n 0 dX3_takeIn_210 rfl ?_
                        refine g_iload_n 2 dX3_takeIn_211 rfl ?_
                        refine g_iconst dX3_takeIn_212 ?_
                        refine g_cVI (As := [vI a3, vI 2]) (n := 2) (stk := [vR 0, vR 0]) (ci := 2) (b := 0) (N := 83) (hX3_get a3 2 s21) (by decide +kernel) rfl rfl (lw_V q1116 q1118 qs76 q168 q1119) (by decide +kernel) rfl (by decide) hRf hRl (fun _ => (avc ra3 (avc (by decide : inR (2)) avn))) (Nat.le_of_ble_eq_true rfl) rfl rfl dX3_takeIn_213 (fun v23 s24 rv23 => ?_)
                        refine g_cVI (As := [vI v23]) (n := 1) (stk := [vR 0]) (ci := 2) (b := 0) (N := 83) (hX3_indexOf v23 s24) (by decide +kernel) rfl rfl (lw_V q1606 q1608 qs115 q168 q1609) (by decide +kernel) rfl (by decide) hRf hRl (fun _ => (avc rv23 avn)) (Nat.le_of_ble_eq_true rfl) rfl rfl dX3_takeIn_216 (fun v25 s26 rv25 => ?_)
                        refine g_aload_n 0 dX3_takeIn_219 rfl ?_
                        refine g_aload_n 0 dX3_takeIn_220 rfl ?_
                        refine g_iload_n 2 dX3_takeIn_221 rfl ?_
                        refine g_iconst dX3_takeIn_222 ?_
                        refine g_cVI (As := [vI a3, vI 0]) (n := 2) (stk := [vR 0, vI v25, vR 0]) (ci := 2) (b := 0) (N := 83) (hX3_get a3 0 s26) (by decide +kernel) rfl rfl (lw_V q1116 q1118 qs76 q168 q1119) (by decide +kernel) rfl (by decide) hRf hRl (fun _ => (avc ra3 (avc (inR_z (Or.inl rfl)) avn))) (Nat.le_of_ble_eq_true rfl) rfl rfl dX3_takeIn_223 (fun v27 s28 rv27 => ?_)
                        refine g_aload_n 0 dX3_takeIn_226 rfl ?_
                        refine g_iload_n 2 dX3_takeIn_227 rfl ?_
                        refine g_iconst dX3_takeIn_228 ?_
                        refine g_cVI (As := [vI a3, vI 1]) (n := 2) (stk := [vI v27, vR 0, vI v25, vR 0]) (ci := 2) (b := 0) (N := 83) (hX3_get a3 1 s28) (by decide +kernel) rfl rfl (lw_V q1116 q1118 qs76 q168 q1119) (by decide +kernel) rfl (by decide) hRf hRl (fun _ => (avc ra3 (avc (inR_z (Or.inr rfl)) avn))) (Nat.le_of_ble_eq_true rfl) rfl rfl dX3_takeIn_229 (fun v29 s30 rv29 => ?_)
                        refine g_cVI (As := [vI v27, vI v29]) (n := 2) (stk := [vI v25, vR 0]) (ci := 2) (b := 0) (N := 83) (hX3_plain v27 v29 s30) (by decide +kernel) rfl rfl (lw_V q1092 q1094 qs71 q168 q1095) (by decide +kernel) rfl (by decide) hRf hRl (fun _ => (avc rv27 (avc rv29 avn))) (Nat.le_of_ble_eq_true rfl) rfl rfl dX3_takeIn_232 (fun v31 s32 rv31 => ?_)
                        refine g_cVV (As := [vI v25, vI v31]) (n := 2) (stk := []) (ci := 2) (b := 0) (N := 83) (hX3_hasType v25 v31 s32) (by decide +kernel) rfl rfl (lw_V q1634 q1636 qs122 q168 q1637) (by decide +kernel) rfl (by decide) hRf hRl (fun _ => (avc rv25 (avc rv31 avn))) (Nat.le_of_ble_eq_true rfl) rfl rfl dX3_takeIn_235 (fun v33 s34 => ?_)
                        refine g_goto 0 dX3_takeIn_238 (by decide) ?_
                        exact g_pick [0] rfl (ih s34)
                      · exact g_pick [0] rfl (ih s21)
                    · exact g_pick [0] rfl (ih s21)
                  · refine g_aload_n 0 dX3_takeIn_150 rfl ?_
                    refine g_get (v := vR 11) (ci := 2) (b := 0) (N := 83) 1 rfl rfl (by decide) in_X3 rfl rfl q1133 dX3_takeIn_151 ?_
                    refine g_iload_n 2 dX3_takeIn_154 rfl ?_
                    refine g_iald (id := 1) 0 rfl rfl dX3_takeIn_155 (fun v35 rv35 => ?_)
                    refine g_bipush (by decide +kernel) dX3_takeIn_156 ?_
                    refine g_icmp_ne 193 dX3_takeIn_158 (by decide) (fun _ => rv35) (fun _ => (by decide : inR (12))) (fun _ => ?_) (fun _ => ?_)
                    · refine g_jn (fun j36 => ∀ (a2 a3 t1 t2 t3 : Int) (s37 : Sg), (a2 = 0 ∨ a2 = 1) → inR a3 → inR t1 → inR t2 → (t3 = 0 ∨ t3 = 1) → WG p l e R s m args below meth c JX3_takeIn DX3_takeIn G clA A FT ad0 σ0 rvV (j36 a2 a3 t1 t2 t3 s37) s37 189 [(0, vR 0), (2, vI a2), (3, vI a3)] [vI t3, vI t2, vI t1, vR 0]) (fun a2 a3 t1 t2 t3 s37 za2 ra3 rt1 rt2 zt3 => ?_) (fun j36 hj36 => ?_)
                      · refine g_iadd dX3_takeIn_189 (fun v38 rv38 => ?_)
                        refine g_cVV (As := [vI t1, vI v38]) (n := 2) (stk := []) (ci := 2) (b := 0) (N := 83) (hX3_adj t1 v38 s37) (by decide +kernel) rfl rfl (lw_V q1626 q1628 qs120 q168 q1629) (by decide +kernel) rfl (by decide) hRf hRl (fun _ => (avc rt1 (avc rv38 avn))) (Nat.le_of_ble_eq_true rfl) rfl rfl dX3_takeIn_190 (fun v39 s40 => ?_)
                        exact g_pick [0, 1, 2] rfl (hj20 a2 a3 s40 za2 ra3)
                      · refine g_aload_n 0 dX3_takeIn_161 rfl ?_
                        refine g_aload_n 0 dX3_takeIn_162 rfl ?_
                        refine g_aload_n 0 dX3_takeIn_163 rfl ?_
                        refine g_iload_n 2 dX3_takeIn_164 rfl ?_
                        refine g_iconst dX3_takeIn_165 ?_
                        refine g_cVI (As := [vI a3, vI 1]) (n := 2) (stk := [vR 0, vR 0]) (ci := 2) (b := 0) (N := 83) (hX3_get a3 1 s19) (by decide +kernel) rfl rfl (lw_V q1116 q1118 qs76 q168 q1119) (by decide +kernel) rfl (by decide) hRf hRl (fun _ => (avc ra3 (avc (inR_z (Or.inr rfl)) avn))) (Nat.le_of_ble_eq_true rfl) rfl rfl dX3_takeIn_166 (fun v41 s42 rv41 => ?_)
                        refine g_cVI (As := [vI v41]) (n := 1) (stk := [vR 0]) (ci := 2) (b := 0) (N := 83) (hX3_indexOf v41 s42) (by decide +kernel) rfl rfl (lw_V q1606 q1608 qs115 q168 q1609) (by decide +kernel) rfl (by decide) hRf hRl (fun _ => (avc rv41 avn)) (Nat.le_of_ble_eq_true rfl) rfl rfl dX3_takeIn_169 (fun v43 s44 rv43 => ?_)
                        refine g_iconst dX3_takeIn_172 ?_
                        refine g_aload_n 0 dX3_takeIn_173 rfl ?_
                        refine g_iload_n 2 dX3_takeIn_174 rfl ?_
                        refine g_iconst dX3_takeIn_175 ?_
                        refine g_cVI (As := [vI a3, vI 0]) (n := 2) (stk := [vI 2, vI v43, vR 0]) (ci := 2) (b := 0) (N := 83) (hX3_get a3 0 s44) (by decide +kernel) rfl rfl (lw_V q1116 q1118 qs76 q168 q1119) (by decide +kernel) rfl (by decide) hRf hRl (fun _ => (avc ra3 (avc (inR_z (Or.inl rfl)) avn))) (Nat.le_of_ble_eq_true rfl) rfl rfl dX3_takeIn_176 (fun v45 s46 rv45 => ?_)
                        refine g_imul dX3_takeIn_179 (fun v47 rv47 => ?_)
                        refine g_iload_n 1 dX3_takeIn_180 rfl ?_
                        refine g_if_eq 188 dX3_takeIn_181 (by decide) (fun _ => (inR_z za2)) (fun _ => ?_) (fun _ => ?_)
                        · refine g_iconst dX3_takeIn_188 ?_
                          exact g_pick [0, 1, 2] rfl (hj36 a2 a3 v43 v47 0 s46 za2 ra3 rv43 rv47 (Or.inl rfl))
                        · refine g_iconst dX3_takeIn_184 ?_
                          refine g_goto 189 dX3_takeIn_185 (by decide) ?_
                          exact g_pick [0, 1, 2] rfl (hj36 a2 a3 v43 v47 1 s46 za2 ra3 rv43 rv47 (Or.inr rfl))
                    · exact g_pick [0, 1, 2] rfl (hj20 a2 a3 s19 za2 ra3)
                · refine g_istore_n (loc' := [(3, vI t0), (0, vR 0), (2, vI a2)]) dX3_takeIn_110 (by decide) rfl ?_
                  refine g_aload_n 1 dX3_takeIn_111 rfl ?_
                  refine g_get (v := vR 11) (ci := 2) (b := 0) (N := 83) 1 rfl rfl (by decide) in_X3 rfl rfl q1133 dX3_takeIn_112 ?_
                  refine g_iload_n 0 dX3_takeIn_115 rfl ?_
                  refine g_iald (id := 1) 0 rfl rfl dX3_takeIn_116 (fun v48 rv48 => ?_)
                  refine g_bipush (by decide +kernel) dX3_takeIn_117 ?_
                  refine g_icmp_ne 150 dX3_takeIn_119 (by decide) (fun _ => rv48) (fun _ => (by decide : inR (9))) (fun _ => ?_) (fun _ => ?_)
                  · refine g_iload_n 2 dX3_takeIn_122 rfl ?_
                    refine g_if_ne 150 dX3_takeIn_123 (by decide) (fun _ => (inR_z za2)) (fun _ => ?_) (fun _ => ?_)
                    · refine g_aload_n 1 dX3_takeIn_126 rfl ?_
                      refine g_aload_n 1 dX3_takeIn_127 rfl ?_
                      refine g_aload_n 1 dX3_takeIn_128 rfl ?_
                      refine g_iload_n 0 dX3_takeIn_129 rfl ?_
                      refine g_iconst dX3_takeIn_130 ?_
                      refine g_cVI (As := [vI t0, vI 0]) (n := 2) (stk := [vR 0, vR 0]) (ci := 2) (b := 0) (N := 83) (hX3_get t0 0 s17) (by decide +kernel) rfl rfl (lw_V q1116 q1118 qs76 q168 q1119) (by decide +kernel) rfl (by decide) hRf hRl (fun _ => (avc rt0 (avc (inR_z (Or.inl rfl)) avn))) (Nat.le_of_ble_eq_true rfl) rfl rfl dX3_takeIn_131 (fun v49 s50 rv49 => ?_)
                      refine g_cVI (As := [vI v49]) (n := 1) (stk := [vR 0]) (ci := 2) (b := 0) (N := 83) (hX3_indexOf v49 s50) (by decide +kernel) rfl rfl (lw_V q1606 q1608 qs115 q168 q1609) (by decide +kernel) rfl (by decide) hRf hRl (fun _ => (avc rv49 avn)) (Nat.le_of_ble_eq_true rfl) rfl rfl dX3_takeIn_134 (fun v51 s52 rv51 => ?_)
                      refine g_aload_n 1 dX3_takeIn_137 rfl ?_
                      refine g_aload_n 1 dX3_takeIn_138 rfl ?_
                      refine g_iload_n 0 dX3_takeIn_139 rfl ?_
                      refine g_iconst dX3_takeIn_140 ?_
                      refine g_cVI (As := [vI t0, vI 1]) (n := 2) (stk := [vR 0, vI v51, vR 0]) (ci := 2) (b := 0) (N := 83) (hX3_get t0 1 s52) (by decide +kernel) rfl rfl (lw_V q1116 q1118 qs76 q168 q1119) (by decide +kernel) rfl (by decide) hRf hRl (fun _ => (avc rt0 (avc (inR_z (Or.inr rfl)) avn))) (Nat.le_of_ble_eq_true rfl) rfl rfl dX3_takeIn_141 (fun v53 s54 rv53 => ?_)
                      refine g_cVI (As := [vI v53]) (n := 1) (stk := [vI v51, vR 0]) (ci := 2) (b := 0) (N := 83) (hX3_indexOf v53 s54) (by decide +kernel) rfl rfl (lw_V q1606 q1608 qs115 q168 q1609) (by decide +kernel) rfl (by decide) hRf hRl (fun _ => (avc rv53 avn)) (Nat.le_of_ble_eq_true rfl) rfl rfl dX3_takeIn_144 (fun v55 s56 rv55 => ?_)
                      refine g_cVV (As := [vI v51, vI v55]) (n := 2) (stk := []) (ci := 2) (b := 0) (N := 83) (hX3_join_2 v51 v55 s56) (by decide +kernel) rfl rfl (lw_V q1618 q1620 qs118 q168 q1621) (by decide +kernel) rfl (by decide) hRf hRl (fun _ => (avc rv51 (avc rv55 avn))) (Nat.le_of_ble_eq_true rfl) rfl rfl dX3_takeIn_147 (fun v57 s58 => ?_)
                      exact g_pick [1, 2, 0] rfl (hj18 a2 t0 s58 za2 rt0)
                    · exact g_pick [1, 2, 0] rfl (hj18 a2 t0 s17 za2 rt0)
                  · exact g_pick [1, 2, 0] rfl (hj18 a2 t0 s17 za2 rt0)
              · refine g_istore_n (loc' := [(2, vI t0), (0, vR 0), (1, vI a1)]) dX3_takeIn_95 (by decide) rfl ?_
                refine g_iload_n 0 dX3_takeIn_96 rfl ?_
                refine g_if_eq 109 dX3_takeIn_97 (by decide) (fun _ => (inR_z zt0)) (fun _ => ?_) (fun _ => ?_)
                · refine g_iload_n 2 dX3_takeIn_109 rfl ?_
                  exact g_pick [1, 0] rfl (hj16 t0 a1 s15 zt0 ra1)
                · refine g_aload_n 1 dX3_takeIn_100 rfl ?_
                  refine g_iload_n 2 dX3_takeIn_101 rfl ?_
                  refine g_iconst dX3_takeIn_102 ?_
                  refine g_cVI (As := [vI a1, vI 0]) (n := 2) (stk := []) (ci := 2) (b := 0) (N := 83) (hX3_get a1 0 s15) (by decide +kernel) rfl rfl (lw_V q1116 q1118 qs76 q168 q1119) (by decide +kernel) rfl (by decide) hRf hRl (fun _ => (avc ra1 (avc (inR_z (Or.inl rfl)) avn))) (Nat.le_of_ble_eq_true rfl) rfl rfl dX3_takeIn_103 (fun v59 s60 rv59 => ?_)
                  refine g_goto 110 dX3_takeIn_106 (by decide) ?_
                  exact g_pick [1, 0] rfl (hj16 t0 v59 s60 zt0 rv59)
            · refine g_aload_n 1 dX3_takeIn_79 rfl ?_
              refine g_get (v := vR 11) (ci := 2) (b := 0) (N := 83) 1 rfl rfl (by decide) in_X3 rfl rfl q1133 dX3_takeIn_80 ?_
              refine g_iload_n 0 dX3_takeIn_83 rfl ?_
              refine g_iald (id := 1) 0 rfl rfl dX3_takeIn_84 (fun v61 rv61 => ?_)
              refine g_bipush (by decide +kernel) dX3_takeIn_85 ?_
              refine g_icmp_ne 94 dX3_takeIn_87 (by decide) (fun _ => rv61) (fun _ => (by decide : inR (15))) (fun _ => ?_) (fun _ => ?_)
              · refine g_iconst dX3_takeIn_90 ?_
                refine g_goto 95 dX3_takeIn_91 (by decide) ?_
                exact g_pick [1, 0] rfl (hj14 v10 1 s12 rv10 (Or.inr rfl))
              · refine g_iconst dX3_takeIn_94 ?_
                exact g_pick [1, 0] rfl (hj14 v10 0 s12 rv10 (Or.inl rfl))
          · exact g_pick [] rfl (hx78 s12)
        · refine g_aload_n 0 dX3_takeIn_241 rfl ?_
          refine g_dup rfl dX3_takeIn_242 ?_
          refine g_getI (ci := 2) (b := 0) (N := 83) 68 rfl rfl rfl (by decide) in_X3 rfl rfl q1200 dX3_takeIn_243 (fun v62 rv62 => ?_)
          refine g_dup_x1 rfl rfl dX3_takeIn_246 ?_
          refine g_iconst dX3_takeIn_247 ?_
          refine g_iadd dX3_takeIn_248 (fun v63 rv63 => ?_)
          refine g_sIU (ci := 2) (b := 0) (N := 83) FT_ok 68 rfl rfl rfl (by decide) in_X3 tyX3 tyX3_ok nmX3 rfl rfl rfl rfl (by decide +kernel) rv63 q1200 dX3_takeIn_249 (fun s64 => ?_)
          refine g_istore_n (loc' := [(1, vI v62), (0, vR 0)]) dX3_takeIn_252 (by decide) rfl ?_
          refine g_aload_n 1 dX3_takeIn_253 rfl ?_
          refine g_iload_n 0 dX3_takeIn_254 rfl ?_
          refine g_aload_n 1 dX3_takeIn_255 rfl ?_
          refine g_aload_n 1 dX3_takeIn_256 rfl ?_
          refine g_get (v := vR 65) (ci := 2) (b := 0) (N := 83) 55 rfl rfl (by decide) in_X3 rfl rfl q1187 dX3_takeIn_257 ?_
          refine g_iload_n 0 dX3_takeIn_260 rfl ?_
          refine g_iald (id := 55) 39 rfl rfl dX3_takeIn_261 (fun v65 rv65 => ?_)
          refine g_cVI (As := [vI v65]) (n := 1) (stk := [vI v62, vR 0]) (ci := 2) (b := 0) (N := 83) (hX3_typeOf v65 s64) (by decide +kernel) rfl rfl (lw_V q1662 q1664 qs129 q168 q1665) (by decide +kernel) rfl (by decide) hRf hRl (fun _ => (avc rv65 avn)) (Nat.le_of_ble_eq_true rfl) rfl rfl dX3_takeIn_262 (fun v66 s67 rv66 => ?_)
          refine g_cVV (As := [vI v62, vI v66]) (n := 2) (stk := []) (ci := 2) (b := 0) (N := 83) (hX3_hasType v62 v66 s67) (by decide +kernel) rfl rfl (lw_V q1634 q1636 qs122 q168 q1637) (by decide +kernel) rfl (by decide) hRf hRl (fun _ => (avc rv62 (avc rv66 avn))) (Nat.le_of_ble_eq_true rfl) rfl rfl dX3_takeIn_265 (fun v68 s69 => ?_)
          refine g_goto 0 dX3_takeIn_268 (by decide) ?_
          exact g_pick [1] rfl (ih s69)
      · exact g_pick [] rfl (hx271 s2)
    · refine g_aload_n 0 dX3_takeIn_0 rfl ?_
      refine g_getI (ci := 2) (b := 0) (N := 83) 67 rfl rfl rfl (by decide) in_X3 rfl rfl q1199 dX3_takeIn_1 (fun v70 rv70 => ?_)
      refine g_aload_n 0 dX3_takeIn_4 rfl ?_
      refine g_getI (ci := 2) (b := 0) (N := 83) 50 rfl rfl rfl (by decide) in_X3 rfl rfl q1182 dX3_takeIn_5 (fun v71 rv71 => ?_)
      refine g_icmp_lt 22 dX3_takeIn_8 (by decide) (fun _ => rv70) (fun _ => rv71) (fun _ => ?_) (fun _ => ?_)
      · exact g_pick [0] rfl (hj1 u)
      · refine g_aload_n 0 dX3_takeIn_11 rfl ?_
        refine g_getI (ci := 2) (b := 0) (N := 83) 68 rfl rfl rfl (by decide) in_X3 rfl rfl q1200 dX3_takeIn_12 (fun v72 rv72 => ?_)
        refine g_aload_n 0 dX3_takeIn_15 rfl ?_
        refine g_getI (ci := 2) (b := 0) (N := 83) 57 rfl rfl rfl (by decide) in_X3 rfl rfl q1189 dX3_takeIn_16 (fun v73 rv73 => ?_)
        refine g_icmp_ge 271 dX3_takeIn_19 (by decide) (fun _ => rv72) (fun _ => rv73) (fun _ => ?_) (fun _ => ?_)
        · exact g_pick [0] rfl (hj1 u)
        · exact g_pick [] rfl (hx271 u)
theorem wX3_takeIn (hd : 2 ≤ d) (hRf : d + 1 ≤ R.frames) (hRl : 40 * (d + 1) ≤ R.locals) (hX3_terms : ∀ (a1 : Int) (u : Sg), Ct l d FT clA yX3_terms cX3_terms 4 none DX3_terms rvV [vR 0, vI a1] u (call 64 [a1] u)) (hX3_get : ∀ (a1 a2 : Int) (u : Sg), Ct l d FT clA yX3_get cX3_get 3 (some .int) DX3_get rvI [vR 0, vI a1, vI a2] u (call 7 [a1, a2] u)) (hX3_indexOf : ∀ (a1 : Int) (u : Sg), Ct l d FT clA yX3_indexOf cX3_indexOf 2 (some .int) DX3_indexOf rvI [vR 0, vI a1] u (call 66 [a1] u)) (hX3_plain : ∀ (a1 a2 : Int) (u : Sg), Ct l d FT clA yX3_plain cX3_plain 3 (some .int) DX3_plain rvI [vR 0, vI a1, vI a2] u (call 1 [a1, a2] u)) (hX3_hasType : ∀ (a1 a2 : Int) (u : Sg), Ct l d FT clA yX3_hasType cX3_hasType 5 none DX3_hasType rvV [vR 0, vI a1, vI a2] u (call 73 [a1, a2] u)) (hX3_adj : ∀ (a1 a2 : Int) (u : Sg), Ct l d FT clA yX3_adj cX3_adj 3 none DX3_adj rvV [vR 0, vI a1, vI a2] u (call 71 [a1, a2] u)) (hX3_join_2 : ∀ (a1 a2 : Int) (u : Sg), Ct l d FT clA yX3_join_2 cX3_join_2 5 none DX3_join_2 rvV [vR 0, vI a1, vI a2] u (call 69 [a1, a2] u)) (hX3_typeOf : ∀ (a1 : Int) (u : Sg), Ct l d FT clA yX3_typeOf cX3_typeOf 2 (some .int) DX3_typeOf rvI [vR 0, vI a1] u (call 80 [a1] u)) (u : Sg) : WG p l e R s m args below meth c JX3_takeIn DX3_takeIn G clA A FT ad0 σ0 rvV (bX3_takeIn call u) u 0 [(0, vR 0)] [] := by
  unfold bX3_takeIn
  refine g_pick [0] rfl (wX3_takeIn_L0 hd hRf hRl hX3_terms hX3_get hX3_indexOf hX3_plain hX3_hasType hX3_adj hX3_join_2 hX3_typeOf _ _ (fun s1 => ?_) (fun s2 => ?_) KF u)
  · exact g_vret rfl rfl dX3_takeIn_271
  · exact g_vret rfl rfl dX3_takeIn_78
end
section
variable {l : Launch} {d : Nat} {call : Nat → List Int → Sg → Option (Int × Sg)}
theorem ctX3_takeIn (p0 : Program) (e0 : Env) (s0 : State) (m0 : MethodId) (meth0 : Method) (c0 : Code) (G0 : Gm) (hd : 2 ≤ d) (hX3_terms : ∀ (a1 : Int) (u : Sg), Ct l d FT clA yX3_terms cX3_terms 4 none DX3_terms rvV [vR 0, vI a1] u (call 64 [a1] u)) (hX3_get : ∀ (a1 a2 : Int) (u : Sg), Ct l d FT clA yX3_get cX3_get 3 (some .int) DX3_get rvI [vR 0, vI a1, vI a2] u (call 7 [a1, a2] u)) (hX3_indexOf : ∀ (a1 : Int) (u : Sg), Ct l d FT clA yX3_indexOf cX3_indexOf 2 (some .int) DX3_indexOf rvI [vR 0, vI a1] u (call 66 [a1] u)) (hX3_plain : ∀ (a1 a2 : Int) (u : Sg), Ct l d FT clA yX3_plain cX3_plain 3 (some .int) DX3_plain rvI [vR 0, vI a1, vI a2] u (call 1 [a1, a2] u)) (hX3_hasType : ∀ (a1 a2 : Int) (u : Sg), Ct l d FT clA yX3_hasType cX3_hasType 5 none DX3_hasType rvV [vR 0, vI a1, vI a2] u (call 73 [a1, a2] u)) (hX3_adj : ∀ (a1 a2 : Int) (u : Sg), Ct l d FT clA yX3_adj cX3_adj 3 none DX3_adj rvV [vR 0, vI a1, vI a2] u (call 71 [a1, a2] u)) (hX3_join_2 : ∀ (a1 a2 : Int) (u : Sg), Ct l d FT clA yX3_join_2 cX3_join_2 5 none DX3_join_2 rvV [vR 0, vI a1, vI a2] u (call 69 [a1, a2] u)) (hX3_typeOf : ∀ (a1 : Int) (u : Sg), Ct l d FT clA yX3_typeOf cX3_typeOf 2 (some .int) DX3_typeOf rvI [vR 0, vI a1] u (call 80 [a1] u)) (u : Sg) : Ct l (d + 1) FT clA yX3_takeIn cX3_takeIn 4 none DX3_takeIn rvV [vR 0] u (bX3_takeIn call u) :=
  Ct_of (by decide) (Nat.le_of_ble_eq_true rfl) (fun p e R s1 m args below meth c G A ad hA hRf hRl => wX3_takeIn hd hRf hRl hX3_terms hX3_get hX3_indexOf hX3_plain hX3_hasType hX3_adj hX3_join_2 hX3_typeOf u) p0 e0 s0 m0 meth0 c0 G0
end
/-! RoundCheckModel.join(II)V -/
abbrev JX3_join_2 : Jm := (cX3_join_2, RX3, 5, none)
def bX3_join_2 (call : Nat → List Int → Sg → Option (Int × Sg)) (a1 a2 : Int) (u : Sg) : Option (Int × Sg) := cl (call 70 [a1] u) fun v1 s2 => cl (call 70 [a2] s2) fun v3 s4 => if v1 = v3 then (some (0, s4)) else (jn (fun (a3 a4 t1 : Int) (s6 : Sg) => jn (fun (t1 t2 : Int) (s8 : Sg) => stA s8 56 t1 t2 fun s9 => un (sI s9 66 1) fun s10 => some (0, s10)) fun j7 => if a3 ≤ a4 then (j7 t1 a3 s6) else (j7 t1 a4 s6)) fun j5 => if v1 ≤ v3 then (j5 v1 v3 v3 s4) else (j5 v1 v3 v1 s4))
section
variable {p : Program} {l : Launch} {e : Env} {R : Room} {s : State} {m : MethodId} {args : Array Value} {below : List Frame} {meth : Method} {c : Code} {G : Gm} {A : Nat → Prop} {ad0 : Nat → Nat} {σ0 : Sg} {d : Nat} {call : Nat → List Int → Sg → Option (Int × Sg)}
theorem wX3_join_2 (hd : 2 ≤ d) (hRf : d + 1 ≤ R.frames) (hRl : 40 * (d + 1) ≤ R.locals) (hX3_top : ∀ (a1 : Int) (u : Sg), Ct l d FT clA yX3_top cX3_top 2 (some .int) DX3_top rvI [vR 0, vI a1] u (call 70 [a1] u)) (a1 a2 : Int) (u : Sg) (ra1 : inR a1) (ra2 : inR a2) : WG p l e R s m args below meth c JX3_join_2 DX3_join_2 G clA A FT ad0 σ0 rvV (bX3_join_2 call a1 a2 u) u 0 [(0, vR 0), (1, vI a1), (2, vI a2)] [] := by
  unfold bX3_join_2
  refine g_aload_n 0 dX3_join_2_0 rfl ?_
  refine g_iload_n 1 dX3_join_2_1 rfl ?_
  refine g_cVI (As := [vI a1]) (n := 1) (stk := []) (ci := 2) (b := 0) (N := 83) (hX3_top a1 u) (by decide +kernel) rfl rfl (lw_V q1622 q1624 qs119 q168 q1625) (by decide +kernel) rfl (by decide) hRf hRl (fun _ => (avc ra1 avn)) (Nat.le_of_ble_eq_true rfl) rfl rfl dX3_join_2_2 (fun v1 s2 rv1 => ?_)
  refine g_istore_n (loc' := [(3, vI v1), (0, vR 0), (1, vI a1), (2, vI a2)]) dX3_join_2_5 (by decide) rfl ?_
  refine g_aload_n 1 dX3_join_2_6 rfl ?_
  refine g_iload_n 3 dX3_join_2_7 rfl ?_
  refine g_cVI (As := [vI a2]) (n := 1) (stk := []) (ci := 2) (b := 0) (N := 83) (hX3_top a2 s2) (by decide +kernel) rfl rfl (lw_V q1622 q1624 qs119 q168 q1625) (by decide +kernel) rfl (by decide) hRf hRl (fun _ => (avc ra2 avn)) (Nat.le_of_ble_eq_true rfl) rfl rfl dX3_join_2_8 (fun v3 s4 rv3 => ?_)
  refine g_istore (loc' := [(4, vI v3), (3, vI v1), (0, vR 0), (1, vI a1), (2, vI a2)]) dX3_join_2_11 (by decide) rfl ?_
  refine g_iload_n 1 dX3_join_2_13 rfl ?_
  refine g_iload 0 dX3_join_2_14 rfl ?_
  refine g_icmp_ne 20 dX3_join_2_16 (by decide) (fun _ => rv1) (fun _ => rv3) (fun _ => ?_) (fun _ => ?_)
  · exact g_vret rfl rfl dX3_join_2_19
  · refine g_jn (fun j5 => ∀ (a3 a4 t1 : Int) (s6 : Sg), inR a3 → inR a4 → inR t1 → WG p l e R s m args below meth c JX3_join_2 DX3_join_2 G clA A FT ad0 σ0 rvV (j5 a3 a4 t1 s6) s6 36 [(0, vR 0), (3, vI a3), (4, vI a4)] [vI t1, vR 66]) (fun a3 a4 t1 s6 ra3 ra4 rt1 => ?_) (fun j5 hj5 => ?_)
    · refine g_jn (fun j7 => ∀ (t1 t2 : Int) (s8 : Sg), inR t1 → inR t2 → WG p l e R s m args below meth c JX3_join_2 DX3_join_2 G clA A FT ad0 σ0 rvV (j7 t1 t2 s8) s8 48 [(0, vR 0)] [vI t2, vI t1, vR 66]) (fun t1 t2 s8 rt1 rt2 => ?_) (fun j7 hj7 => ?_)
      · refine g_iastU (id := 56) FT_ok 40 rfl rfl (by decide +kernel) rt2 dX3_join_2_48 (fun s9 => ?_)
        refine g_aload_n 0 dX3_join_2_49 rfl ?_
        refine g_iconst dX3_join_2_50 ?_
        refine g_sZU (ci := 2) (b := 0) (N := 83) FT_ok 66 rfl rfl rfl (by decide) in_X3 tyX3 tyX3_ok nmX3 rfl rfl rfl rfl (by decide +kernel) (Or.inr rfl) q1198 dX3_join_2_51 (fun s10 => ?_)
        exact g_vret rfl rfl dX3_join_2_54
      · refine g_iload_n 1 dX3_join_2_36 rfl ?_
        refine g_iload 2 dX3_join_2_37 rfl ?_
        refine g_icmp_le 47 dX3_join_2_39 (by decide) (fun _ => ra3) (fun _ => ra4) (fun _ => ?_) (fun _ => ?_)
        · refine g_iload_n 1 dX3_join_2_47 rfl ?_
          exact g_pick [0] rfl (hj7 t1 a3 s6 rt1 ra3)
        · refine g_iload 2 dX3_join_2_42 rfl ?_
          refine g_goto 48 dX3_join_2_44 (by decide) ?_
          exact g_pick [0] rfl (hj7 t1 a4 s6 rt1 ra4)
    · refine g_aload_n 2 dX3_join_2_20 rfl ?_
      refine g_get (v := vR 66) (ci := 2) (b := 0) (N := 83) 56 rfl rfl (by decide) in_X3 rfl rfl q1188 dX3_join_2_21 ?_
      refine g_iload_n 1 dX3_join_2_24 rfl ?_
      refine g_iload 0 dX3_join_2_25 rfl ?_
      refine g_icmp_le 34 dX3_join_2_27 (by decide) (fun _ => rv1) (fun _ => rv3) (fun _ => ?_) (fun _ => ?_)
      · refine g_iload 0 dX3_join_2_34 rfl ?_
        exact g_pick [2, 1, 0] rfl (hj5 v1 v3 v3 s4 rv1 rv3 rv3)
      · refine g_iload_n 1 dX3_join_2_30 rfl ?_
        refine g_goto 36 dX3_join_2_31 (by decide) ?_
        exact g_pick [2, 1, 0] rfl (hj5 v1 v3 v1 s4 rv1 rv3 rv1)
end
section
variable {l : Launch} {d : Nat} {call : Nat → List Int → Sg → Option (Int × Sg)}
theorem ctX3_join_2 (p0 : Program) (e0 : Env) (s0 : State) (m0 : MethodId) (meth0 : Method) (c0 : Code) (G0 : Gm) (hd : 2 ≤ d) (hX3_top : ∀ (a1 : Int) (u : Sg), Ct l d FT clA yX3_top cX3_top 2 (some .int) DX3_top rvI [vR 0, vI a1] u (call 70 [a1] u)) (a1 a2 : Int) (u : Sg) : Ct l (d + 1) FT clA yX3_join_2 cX3_join_2 5 none DX3_join_2 rvV [vR 0, vI a1, vI a2] u (bX3_join_2 call a1 a2 u) :=
  Ct_of (by decide) (Nat.le_of_ble_eq_true rfl) (fun p e R s1 m args below meth c G A ad hA hRf hRl => wX3_join_2 hd hRf hRl hX3_top a1 a2 u (hA _ (List.mem_cons_of_mem _ List.mem_cons_self)) (hA _ (List.mem_cons_of_mem _ (List.mem_cons_of_mem _ List.mem_cons_self)))) p0 e0 s0 m0 meth0 c0 G0
end
/-! RoundCheckModel.top(I)I -/
abbrev JX3_top : Jm := (cX3_top, RX3, 2, (some .int))
def bX3_top_L0 (call : Nat → List Int → Sg → Option (Int × Sg)) : Nat → Int → Sg → (Int → Sg → Option (Int × Sg)) → Option (Int × Sg)
  | 0, _, _, _ => none
  | n + 1, a1, u, x20 => ld u 56 a1 fun v1 => if v1 = a1 then (x20 a1 u) else (ld u 56 a1 fun v2 => bX3_top_L0 call n v2 u x20)
def bX3_top (call : Nat → List Int → Sg → Option (Int × Sg)) (a1 : Int) (u : Sg) : Option (Int × Sg) := bX3_top_L0 call KF a1 u (fun v2 s1 => some (v2, s1))
section
variable {p : Program} {l : Launch} {e : Env} {R : Room} {s : State} {m : MethodId} {args : Array Value} {below : List Frame} {meth : Method} {c : Code} {G : Gm} {A : Nat → Prop} {ad0 : Nat → Nat} {σ0 : Sg} {d : Nat} {call : Nat → List Int → Sg → Option (Int × Sg)}
theorem wX3_top_L0 (hd : 2 ≤ d) (hRf : d + 1 ≤ R.frames) (hRl : 40 * (d + 1) ≤ R.locals) (x20 : Int → Sg → Option (Int × Sg)) (hx20 : ∀ (a1 : Int) (u : Sg), inR a1 → WG p l e R s m args below meth c JX3_top DX3_top G clA A FT ad0 σ0 rvI (x20 a1 u) u 20 [(1, vI a1)] []) : ∀ (n : Nat) (a1 : Int) (u : Sg), inR a1 → WG p l e R s m args below meth c JX3_top DX3_top G clA A FT ad0 σ0 rvI (bX3_top_L0 call n a1 u x20) u 0 [(0, vR 0), (1, vI a1)] [] := by
  intro n
  induction n with
  | zero =>
    intro a1 u ra1
    exact g_none
  | succ n ih =>
    intro a1 u ra1
    rw [bX3_top_L0]
    refine g_aload_n 0 dX3_top_0 rfl ?_
    refine g_get (v := vR 66) (ci := 2) (b := 0) (N := 83) 56 rfl rfl (by decide) in_X3 rfl rfl q1188 dX3_top_1 ?_
    refine g_iload_n 1 dX3_top_4 rfl ?_
    refine g_iald (id := 56) 40 rfl rfl dX3_top_5 (fun v1 rv1 => ?_)
    refine g_iload_n 1 dX3_top_6 rfl ?_
    refine g_icmp_eq 20 dX3_top_7 (by decide) (fun _ => rv1) (fun _ => ra1) (fun _ => ?_) (fun _ => ?_)
    · exact g_pick [1] rfl (hx20 a1 u ra1)
    · refine g_aload_n 0 dX3_top_10 rfl ?_
      refine g_get (v := vR 66) (ci := 2) (b := 0) (N := 83) 56 rfl rfl (by decide) in_X3 rfl rfl q1188 dX3_top_11 ?_
      refine g_iload_n 1 dX3_top_14 rfl ?_
      refine g_iald (id := 56) 40 rfl rfl dX3_top_15 (fun v2 rv2 => ?_)
      refine g_istore_n (loc' := [(1, vI v2), (0, vR 0)]) dX3_top_16 (by decide) rfl ?_
      refine g_goto 0 dX3_top_17 (by decide) ?_
      exact g_pick [1, 0] rfl (ih v2 u rv2)
theorem wX3_top (hd : 2 ≤ d) (hRf : d + 1 ≤ R.frames) (hRl : 40 * (d + 1) ≤ R.locals) (a1 : Int) (u : Sg) (ra1 : inR a1) : WG p l e R s m args below meth c JX3_top DX3_top G clA A FT ad0 σ0 rvI (bX3_top call a1 u) u 0 [(0, vR 0), (1, vI a1)] [] := by
  unfold bX3_top
  refine g_pick [0, 1] rfl (wX3_top_L0 hd hRf hRl _ (fun v2 s1 rv2 => ?_) KF a1 u ra1)
  · refine g_iload_n 0 dX3_top_20 rfl ?_
    exact g_iret rfl rfl (fun _ => rv2) dX3_top_21
end
section
variable {l : Launch} {d : Nat} {call : Nat → List Int → Sg → Option (Int × Sg)}
theorem ctX3_top (p0 : Program) (e0 : Env) (s0 : State) (m0 : MethodId) (meth0 : Method) (c0 : Code) (G0 : Gm) (hd : 2 ≤ d) (a1 : Int) (u : Sg) : Ct l (d + 1) FT clA yX3_top cX3_top 2 (some .int) DX3_top rvI [vR 0, vI a1] u (bX3_top call a1 u) :=
  Ct_of (by decide) (Nat.le_of_ble_eq_true rfl) (fun p e R s1 m args below meth c G A ad hA hRf hRl => wX3_top hd hRf hRl a1 u (hA _ (List.mem_cons_of_mem _ List.mem_cons_self))) p0 e0 s0 m0 meth0 c0 G0
end
/-! RoundCheckModel.adj(II)V -/
abbrev JX3_adj : Jm := (cX3_adj, RX3, 3, none)
def bX3_adj (call : Nat → List Int → Sg → Option (Int × Sg)) (a1 a2 : Int) (u : Sg) : Option (Int × Sg) := cl (call 72 [a1, a2] u) fun v1 s2 => if v1 = 0 then (un (gI s2 65) fun v3 => mor s2 63 v3 fun s4 => un (gI s4 65) fun v5 => mor s4 64 v5 fun s6 => un (gI s6 65) fun v7 => stA s6 63 v7 a1 fun s8 => un (gI s8 65) fun v9 => ar (v9 + 1) fun v10 => un (sI s8 65 v10) fun s11 => stA s11 64 v9 a2 fun s12 => un (sI s12 66 1) fun s13 => some (0, s13)) else (some (0, s2))
section
variable {p : Program} {l : Launch} {e : Env} {R : Room} {s : State} {m : MethodId} {args : Array Value} {below : List Frame} {meth : Method} {c : Code} {G : Gm} {A : Nat → Prop} {ad0 : Nat → Nat} {σ0 : Sg} {d : Nat} {call : Nat → List Int → Sg → Option (Int × Sg)}
theorem wX3_adj (hd : 2 ≤ d) (hRf : d + 1 ≤ R.frames) (hRl : 40 * (d + 1) ≤ R.locals) (hX3_hasAdj : ∀ (a1 a2 : Int) (u : Sg), Ct l d FT clA yX3_hasAdj cX3_hasAdj 4 (some .boolean) DX3_hasAdj rvI [vR 0, vI a1, vI a2] u (call 72 [a1, a2] u)) (a1 a2 : Int) (u : Sg) (ra1 : inR a1) (ra2 : inR a2) : WG p l e R s m args below meth c JX3_adj DX3_adj G clA A FT ad0 σ0 rvV (bX3_adj call a1 a2 u) u 0 [(0, vR 0), (1, vI a1), (2, vI a2)] [] := by
  unfold bX3_adj
  refine g_aload_n 0 dX3_adj_0 rfl ?_
  refine g_iload_n 1 dX3_adj_1 rfl ?_
  refine g_iload_n 2 dX3_adj_2 rfl ?_
  refine g_cVZ (As := [vI a1, vI a2]) (n := 2) (stk := []) (ci := 2) (b := 0) (N := 83) (hX3_hasAdj a1 a2 u) (by decide +kernel) rfl rfl (lw_V q1630 q1632 qs121 q168 q1633) (by decide +kernel) rfl (by decide) hRf hRl (fun _ => (avc ra1 (avc ra2 avn))) (Nat.le_of_ble_eq_true rfl) rfl rfl dX3_adj_3 (fun v1 s2 zv1 => ?_)
  refine g_if_eq 10 dX3_adj_6 (by decide) (fun _ => (inR_z zv1)) (fun _ => ?_) (fun _ => ?_)
  · refine g_aload_n 0 dX3_adj_10 rfl ?_
    refine g_aload_n 0 dX3_adj_11 rfl ?_
    refine g_get (v := vR 73) (ci := 2) (b := 0) (N := 83) 63 rfl rfl (by decide) in_X3 rfl rfl q1195 dX3_adj_12 ?_
    refine g_aload_n 0 dX3_adj_15 rfl ?_
    refine g_getI (ci := 2) (b := 0) (N := 83) 65 rfl rfl rfl (by decide) in_X3 rfl rfl q1197 dX3_adj_16 (fun v3 rv3 => ?_)
    refine g_more (ci := 2) (b := 0) (N := 83) FT_ok FT_10 rfl 63 44 rfl rfl rfl rfl (by decide) in_X3 tyX3 tyX3_ok nmX3 rfl rfl rfl rfl (by decide +kernel) rv3 q1104 q1195 hRf hRl hd (Nat.le_of_ble_eq_true rfl) rfl rfl dX3_adj_19 dX3_adj_22 (fun s4 => ?_)
    refine g_aload_n 0 dX3_adj_25 rfl ?_
    refine g_aload_n 0 dX3_adj_26 rfl ?_
    refine g_get (v := vR 74) (ci := 2) (b := 0) (N := 83) 64 rfl rfl (by decide) in_X3 rfl rfl q1196 dX3_adj_27 ?_
    refine g_aload_n 0 dX3_adj_30 rfl ?_
    refine g_getI (ci := 2) (b := 0) (N := 83) 65 rfl rfl rfl (by decide) in_X3 rfl rfl q1197 dX3_adj_31 (fun v5 rv5 => ?_)
    refine g_more (ci := 2) (b := 0) (N := 83) FT_ok FT_10 rfl 64 45 rfl rfl rfl rfl (by decide) in_X3 tyX3 tyX3_ok nmX3 rfl rfl rfl rfl (by decide +kernel) rv5 q1104 q1196 hRf hRl hd (Nat.le_of_ble_eq_true rfl) rfl rfl dX3_adj_34 dX3_adj_37 (fun s6 => ?_)
    refine g_aload_n 0 dX3_adj_40 rfl ?_
    refine g_get (v := vR 73) (ci := 2) (b := 0) (N := 83) 63 rfl rfl (by decide) in_X3 rfl rfl q1195 dX3_adj_41 ?_
    refine g_aload_n 0 dX3_adj_44 rfl ?_
    refine g_getI (ci := 2) (b := 0) (N := 83) 65 rfl rfl rfl (by decide) in_X3 rfl rfl q1197 dX3_adj_45 (fun v7 rv7 => ?_)
    refine g_iload_n 1 dX3_adj_48 rfl ?_
    refine g_iastU (id := 63) FT_ok 44 rfl rfl (by decide +kernel) ra1 dX3_adj_49 (fun s8 => ?_)
    refine g_aload_n 0 dX3_adj_50 rfl ?_
    refine g_get (v := vR 74) (ci := 2) (b := 0) (N := 83) 64 rfl rfl (by decide) in_X3 rfl rfl q1196 dX3_adj_51 ?_
    refine g_aload_n 0 dX3_adj_54 rfl ?_
    refine g_dup rfl dX3_adj_55 ?_
    refine g_getI (ci := 2) (b := 0) (N := 83) 65 rfl rfl rfl (by decide) in_X3 rfl rfl q1197 dX3_adj_56 (fun v9 rv9 => ?_)
    refine g_dup_x1 rfl rfl dX3_adj_59 ?_
    refine g_iconst dX3_adj_60 ?_
    refine g_iadd dX3_adj_61 (fun v10 rv10 => ?_)
    refine g_sIU (ci := 2) (b := 0) (N := 83) FT_ok 65 rfl rfl rfl (by decide) in_X3 tyX3 tyX3_ok nmX3 rfl rfl rfl rfl (by decide +kernel) rv10 q1197 dX3_adj_62 (fun s11 => ?_)
    refine g_iload_n 2 dX3_adj_65 rfl ?_
    refine g_iastU (id := 64) FT_ok 45 rfl rfl (by decide +kernel) ra2 dX3_adj_66 (fun s12 => ?_)
    refine g_aload_n 0 dX3_adj_67 rfl ?_
    refine g_iconst dX3_adj_68 ?_
    refine g_sZU (ci := 2) (b := 0) (N := 83) FT_ok 66 rfl rfl rfl (by decide) in_X3 tyX3 tyX3_ok nmX3 rfl rfl rfl rfl (by decide +kernel) (Or.inr rfl) q1198 dX3_adj_69 (fun s13 => ?_)
    exact g_vret rfl rfl dX3_adj_72
  · exact g_vret rfl rfl dX3_adj_9
end
section
variable {l : Launch} {d : Nat} {call : Nat → List Int → Sg → Option (Int × Sg)}
theorem ctX3_adj (p0 : Program) (e0 : Env) (s0 : State) (m0 : MethodId) (meth0 : Method) (c0 : Code) (G0 : Gm) (hd : 2 ≤ d) (hX3_hasAdj : ∀ (a1 a2 : Int) (u : Sg), Ct l d FT clA yX3_hasAdj cX3_hasAdj 4 (some .boolean) DX3_hasAdj rvI [vR 0, vI a1, vI a2] u (call 72 [a1, a2] u)) (a1 a2 : Int) (u : Sg) : Ct l (d + 1) FT clA yX3_adj cX3_adj 3 none DX3_adj rvV [vR 0, vI a1, vI a2] u (bX3_adj call a1 a2 u) :=
  Ct_of (by decide) (Nat.le_of_ble_eq_true rfl) (fun p e R s1 m args below meth c G A ad hA hRf hRl => wX3_adj hd hRf hRl hX3_hasAdj a1 a2 u (hA _ (List.mem_cons_of_mem _ List.mem_cons_self)) (hA _ (List.mem_cons_of_mem _ (List.mem_cons_of_mem _ List.mem_cons_self)))) p0 e0 s0 m0 meth0 c0 G0
end
/-! RoundCheckModel.hasAdj(II)Z -/
abbrev JX3_hasAdj : Jm := (cX3_hasAdj, RX3, 4, (some .boolean))
def bX3_hasAdj_L2 (call : Nat → List Int → Sg → Option (Int × Sg)) : Nat → Int → Int → Int → Sg → (Sg → Option (Int × Sg)) → (Sg → Option (Int × Sg)) → Option (Int × Sg)
  | 0, _, _, _, _, _, _ => none
  | n + 1, a1, a2, a3, u, x46, x38 => un (gI u 65) fun v1 => if a3 < v1 then (ld u 64 a3 fun v2 => if v2 = a2 then (ld u 63 a3 fun v3 => cl (call 70 [v3] u) fun v4 s5 => cl (call 70 [a1] s5) fun v6 s7 => if v4 = v6 then (x38 s7) else (ar (a3 + 1) fun v8 => bX3_hasAdj_L2 call n a1 a2 v8 s7 x46 x38)) else (ar (a3 + 1) fun v9 => bX3_hasAdj_L2 call n a1 a2 v9 u x46 x38)) else (x46 u)
def bX3_hasAdj (call : Nat → List Int → Sg → Option (Int × Sg)) (a1 a2 : Int) (u : Sg) : Option (Int × Sg) := bX3_hasAdj_L2 call KF a1 a2 0 u (fun s1 => some (0, s1)) (fun s2 => some (1, s2))
section
variable {p : Program} {l : Launch} {e : Env} {R : Room} {s : State} {m : MethodId} {args : Array Value} {below : List Frame} {meth : Method} {c : Code} {G : Gm} {A : Nat → Prop} {ad0 : Nat → Nat} {σ0 : Sg} {d : Nat} {call : Nat → List Int → Sg → Option (Int × Sg)}
theorem wX3_hasAdj_L2 (hd : 2 ≤ d) (hRf : d + 1 ≤ R.frames) (hRl : 40 * (d + 1) ≤ R.locals) (hX3_top : ∀ (a1 : Int) (u : Sg), Ct l d FT clA yX3_top cX3_top 2 (some .int) DX3_top rvI [vR 0, vI a1] u (call 70 [a1] u)) (x46 : Sg → Option (Int × Sg)) (x38 : Sg → Option (Int × Sg)) (hx46 : ∀ (u : Sg), WG p l e R s m args below meth c JX3_hasAdj DX3_hasAdj G clA A FT ad0 σ0 rvI (x46 u) u 46 [] []) (hx38 : ∀ (u : Sg), WG p l e R s m args below meth c JX3_hasAdj DX3_hasAdj G clA A FT ad0 σ0 rvI (x38 u) u 38 [] []) : ∀ (n : Nat) (a1 a2 a3 : Int) (u : Sg), inR a1 → inR a2 → inR a3 → WG p l e R s m args below meth c JX3_hasAdj DX3_hasAdj G clA A FT ad0 σ0 rvI (bX3_hasAdj_L2 call n a1 a2 a3 u x46 x38) u 2 [(0, vR 0), (1, vI a1), (2, vI a2), (3, vI a3)] [] := by
  intro n
  induction n with
  | zero =>
    intro a1 a2 a3 u ra1 ra2 ra3
    exact g_none
  | succ n ih =>
    intro a1 a2 a3 u ra1 ra2 ra3
    rw [bX3_hasAdj_L2]
    refine g_iload_n 3 dX3_hasAdj_2 rfl ?_
    refine g_aload_n 0 dX3_hasAdj_3 rfl ?_
    refine g_getI (ci := 2) (b := 0) (N := 83) 65 rfl rfl rfl (by decide) in_X3 rfl rfl q1197 dX3_hasAdj_4 (fun v1 rv1 => ?_)
    refine g_icmp_ge 46 dX3_hasAdj_7 (by decide) (fun _ => ra3) (fun _ => rv1) (fun _ => ?_) (fun _ => ?_)
    · refine g_aload_n 0 dX3_hasAdj_10 rfl ?_
      refine g_get (v := vR 74) (ci := 2) (b := 0) (N := 83) 64 rfl rfl (by decide) in_X3 rfl rfl q1196 dX3_hasAdj_11 ?_
      refine g_iload_n 3 dX3_hasAdj_14 rfl ?_
      refine g_iald (id := 64) 45 rfl rfl dX3_hasAdj_15 (fun v2 rv2 => ?_)
      refine g_iload_n 2 dX3_hasAdj_16 rfl ?_
      refine g_icmp_ne 40 dX3_hasAdj_17 (by decide) (fun _ => rv2) (fun _ => ra2) (fun _ => ?_) (fun _ => ?_)
      · refine g_aload_n 0 dX3_hasAdj_20 rfl ?_
        refine g_aload_n 0 dX3_hasAdj_21 rfl ?_
        refine g_get (v := vR 73) (ci := 2) (b := 0) (N := 83) 63 rfl rfl (by decide) in_X3 rfl rfl q1195 dX3_hasAdj_22 ?_
        refine g_iload_n 3 dX3_hasAdj_25 rfl ?_
        refine g_iald (id := 63) 44 rfl rfl dX3_hasAdj_26 (fun v3 rv3 => ?_)
        refine g_cVI (As := [vI v3]) (n := 1) (stk := []) (ci := 2) (b := 0) (N := 83) (hX3_top v3 u) (by decide +kernel) rfl rfl (lw_V q1622 q1624 qs119 q168 q1625) (by decide +kernel) rfl (by decide) hRf hRl (fun _ => (avc rv3 avn)) (Nat.le_of_ble_eq_true rfl) rfl rfl dX3_hasAdj_27 (fun v4 s5 rv4 => ?_)
        refine g_aload_n 0 dX3_hasAdj_30 rfl ?_
        refine g_iload_n 1 dX3_hasAdj_31 rfl ?_
        refine g_cVI (As := [vI a1]) (n := 1) (stk := [vI v4]) (ci := 2) (b := 0) (N := 83) (hX3_top a1 s5) (by decide +kernel) rfl rfl (lw_V q1622 q1624 qs119 q168 q1625) (by decide +kernel) rfl (by decide) hRf hRl (fun _ => (avc ra1 avn)) (Nat.le_of_ble_eq_true rfl) rfl rfl dX3_hasAdj_32 (fun v6 s7 rv6 => ?_)
        refine g_icmp_ne 40 dX3_hasAdj_35 (by decide) (fun _ => rv4) (fun _ => rv6) (fun _ => ?_) (fun _ => ?_)
        · exact g_pick [] rfl (hx38 s7)
        · refine g_iinc 3 (loc' := fun v8 => [(3, vI v8), (0, vR 0), (1, vI a1), (2, vI a2)]) dX3_hasAdj_40 rfl (by decide) (fun _ => rfl) (fun v8 rv8 => ?_)
          refine g_goto 2 dX3_hasAdj_43 (by decide) ?_
          exact g_pick [1, 2, 3, 0] rfl (ih a1 a2 v8 s7 ra1 ra2 rv8)
      · refine g_iinc 3 (loc' := fun v9 => [(3, vI v9), (0, vR 0), (1, vI a1), (2, vI a2)]) dX3_hasAdj_40 rfl (by decide) (fun _ => rfl) (fun v9 rv9 => ?_)
        refine g_goto 2 dX3_hasAdj_43 (by decide) ?_
        exact g_pick [1, 2, 3, 0] rfl (ih a1 a2 v9 u ra1 ra2 rv9)
    · exact g_pick [] rfl (hx46 u)
theorem wX3_hasAdj (hd : 2 ≤ d) (hRf : d + 1 ≤ R.frames) (hRl : 40 * (d + 1) ≤ R.locals) (hX3_top : ∀ (a1 : Int) (u : Sg), Ct l d FT clA yX3_top cX3_top 2 (some .int) DX3_top rvI [vR 0, vI a1] u (call 70 [a1] u)) (a1 a2 : Int) (u : Sg) (ra1 : inR a1) (ra2 : inR a2) : WG p l e R s m args below meth c JX3_hasAdj DX3_hasAdj G clA A FT ad0 σ0 rvI (bX3_hasAdj call a1 a2 u) u 0 [(0, vR 0), (1, vI a1), (2, vI a2)] [] := by
  unfold bX3_hasAdj
  refine g_iconst dX3_hasAdj_0 ?_
  refine g_istore_n (loc' := [(3, vI 0), (0, vR 0), (1, vI a1), (2, vI a2)]) dX3_hasAdj_1 (by decide) rfl ?_
  refine g_pick [1, 2, 3, 0] rfl (wX3_hasAdj_L2 hd hRf hRl hX3_top _ _ (fun s1 => ?_) (fun s2 => ?_) KF a1 a2 0 u ra1 ra2 (inR_z (Or.inl rfl)))
  · refine g_iconst dX3_hasAdj_46 ?_
    exact g_zret rfl rfl (fun _ => (Or.inl rfl)) dX3_hasAdj_47
  · refine g_iconst dX3_hasAdj_38 ?_
    exact g_zret rfl rfl (fun _ => (Or.inr rfl)) dX3_hasAdj_39
end
section
variable {l : Launch} {d : Nat} {call : Nat → List Int → Sg → Option (Int × Sg)}
theorem ctX3_hasAdj (p0 : Program) (e0 : Env) (s0 : State) (m0 : MethodId) (meth0 : Method) (c0 : Code) (G0 : Gm) (hd : 2 ≤ d) (hX3_top : ∀ (a1 : Int) (u : Sg), Ct l d FT clA yX3_top cX3_top 2 (some .int) DX3_top rvI [vR 0, vI a1] u (call 70 [a1] u)) (a1 a2 : Int) (u : Sg) : Ct l (d + 1) FT clA yX3_hasAdj cX3_hasAdj 4 (some .boolean) DX3_hasAdj rvI [vR 0, vI a1, vI a2] u (bX3_hasAdj call a1 a2 u) :=
  Ct_of (by decide) (Nat.le_of_ble_eq_true rfl) (fun p e R s1 m args below meth c G A ad hA hRf hRl => wX3_hasAdj hd hRf hRl hX3_top a1 a2 u (hA _ (List.mem_cons_of_mem _ List.mem_cons_self)) (hA _ (List.mem_cons_of_mem _ (List.mem_cons_of_mem _ List.mem_cons_self)))) p0 e0 s0 m0 meth0 c0 G0
end
/-! RoundCheckModel.hasType(II)V -/
abbrev JX3_hasType : Jm := (cX3_hasType, RX3, 5, none)
def bX3_hasType_L64 (call : Nat → List Int → Sg → Option (Int × Sg)) : Nat → Int → Int → Int → Sg → (Int → Int → Sg → Option (Int × Sg)) → Option (Int × Sg)
  | 0, _, _, _, _, _ => none
  | n + 1, a1, a3, a4, u, x93 => ld u 3 a3 fun v1 => if a4 < v1 then (cl (call 7 [a3, a4] u) fun v2 s3 => cl (call 71 [a1, v2] s3) fun v4 s5 => ar (a4 + 1) fun v6 => bX3_hasType_L64 call n a1 a3 v6 s5 x93) else (x93 a1 a3 u)
def bX3_hasType_L2 (call : Nat → List Int → Sg → Option (Int × Sg)) : Nat → Int → Int → Sg → (Sg → Option (Int × Sg)) → (Sg → Option (Int × Sg)) → Option (Int × Sg)
  | 0, _, _, _, _, _ => none
  | n + 1, a1, a3, u, x102, x34 => if a3 ≤ 0 then (x102 u) else (jn (fun (a1 a3 : Int) (s2 : Sg) => un (gI s2 57) fun v3 => if v3 ≤ 100 then (jn (fun (a1 a3 : Int) (s5 : Sg) => bX3_hasType_L64 call KF a1 a3 2 s5 (fun v7 v8 s6 => cl (call 77 [v8] s6) fun v9 s10 => bX3_hasType_L2 call n v7 v9 s10 x102 x34)) fun j4 => cl (call 7 [a3, 0] s2) fun v11 s12 => if v11 = 0 then (j4 a1 a3 s12) else (cl (call 7 [a3, 0] s12) fun v13 s14 => cl (call 7 [a3, 1] s14) fun v15 s16 => cl (call 74 [a1, v13, v15] s16) fun v17 s18 => j4 a1 a3 s18)) else (x34 s2)) fun j1 => cl (call 7 [a3, 1] u) fun v19 s20 => if v19 ≤ 0 then (j1 a1 a3 s20) else (cl (call 7 [a3, 1] s20) fun v21 s22 => cl (call 64 [v21] s22) fun v23 s24 => j1 a1 a3 s24))
def bX3_hasType (call : Nat → List Int → Sg → Option (Int × Sg)) (a1 a2 : Int) (u : Sg) : Option (Int × Sg) := bX3_hasType_L2 call KF a1 a2 u (fun s1 => some (0, s1)) (fun s2 => some (0, s2))
section
variable {p : Program} {l : Launch} {e : Env} {R : Room} {s : State} {m : MethodId} {args : Array Value} {below : List Frame} {meth : Method} {c : Code} {G : Gm} {A : Nat → Prop} {ad0 : Nat → Nat} {σ0 : Sg} {d : Nat} {call : Nat → List Int → Sg → Option (Int × Sg)}
theorem wX3_hasType_L64 (hd : 2 ≤ d) (hRf : d + 1 ≤ R.frames) (hRl : 40 * (d + 1) ≤ R.locals) (hX3_get : ∀ (a1 a2 : Int) (u : Sg), Ct l d FT clA yX3_get cX3_get 3 (some .int) DX3_get rvI [vR 0, vI a1, vI a2] u (call 7 [a1, a2] u)) (hX3_adj : ∀ (a1 a2 : Int) (u : Sg), Ct l d FT clA yX3_adj cX3_adj 3 none DX3_adj rvV [vR 0, vI a1, vI a2] u (call 71 [a1, a2] u)) (hX3_parent : ∀ (a1 : Int) (u : Sg), Ct l d FT clA yX3_parent cX3_parent 3 (some .int) DX3_parent rvI [vR 0, vI a1] u (call 77 [a1] u)) (hX3_mode_2 : ∀ (a1 a2 a3 : Int) (u : Sg), Ct l d FT clA yX3_mode_2 cX3_mode_2 4 none DX3_mode_2 rvV [vR 0, vI a1, vI a2, vI a3] u (call 74 [a1, a2, a3] u)) (hX3_terms : ∀ (a1 : Int) (u : Sg), Ct l d FT clA yX3_terms cX3_terms 4 none DX3_terms rvV [vR 0, vI a1] u (call 64 [a1] u)) (x93 : Int → Int → Sg → Option (Int × Sg)) (hx93 : ∀ (a1 a3 : Int) (u : Sg), inR a1 → inR a3 → WG p l e R s m args below meth c JX3_hasType DX3_hasType G clA A FT ad0 σ0 rvV (x93 a1 a3 u) u 93 [(0, vR 0), (1, vI a1), (3, vI a3)] []) : ∀ (n : Nat) (a1 a3 a4 : Int) (u : Sg), inR a1 → inR a3 → inR a4 → WG p l e R s m args below meth c JX3_hasType DX3_hasType G clA A FT ad0 σ0 rvV (bX3_hasType_L64 call n a1 a3 a4 u x93) u 64 [(0, vR 0), (1, vI a1), (3, vI a3), (4, vI a4)] [] := by
  intro n
  induction n with
  | zero =>
    intro a1 a3 a4 u ra1 ra3 ra4
    exact g_none
  | succ n ih =>
    intro a1 a3 a4 u ra1 ra3 ra4
    rw [bX3_hasType_L64]
    refine g_iload 3 dX3_hasType_64 rfl ?_
    refine g_aload_n 0 dX3_hasType_66 rfl ?_
    refine g_get (v := vR 13) (ci := 2) (b := 0) (N := 83) 3 rfl rfl (by decide) in_X3 rfl rfl q1135 dX3_hasType_67 ?_
    refine g_iload_n 2 dX3_hasType_70 rfl ?_
    refine g_iald (id := 3) 2 rfl rfl dX3_hasType_71 (fun v1 rv1 => ?_)
    refine g_icmp_ge 93 dX3_hasType_72 (by decide) (fun _ => ra4) (fun _ => rv1) (fun _ => ?_) (fun _ => ?_)
    · refine g_aload_n 0 dX3_hasType_75 rfl ?_
      refine g_iload_n 1 dX3_hasType_76 rfl ?_
      refine g_aload_n 0 dX3_hasType_77 rfl ?_
      refine g_iload_n 2 dX3_hasType_78 rfl ?_
      refine g_iload 3 dX3_hasType_79 rfl ?_
      refine g_cVI (As := [vI a3, vI a4]) (n := 2) (stk := [vI a1, vR 0]) (ci := 2) (b := 0) (N := 83) (hX3_get a3 a4 u) (by decide +kernel) rfl rfl (lw_V q1116 q1118 qs76 q168 q1119) (by decide +kernel) rfl (by decide) hRf hRl (fun _ => (avc ra3 (avc ra4 avn))) (Nat.le_of_ble_eq_true rfl) rfl rfl dX3_hasType_81 (fun v2 s3 rv2 => ?_)
      refine g_cVV (As := [vI a1, vI v2]) (n := 2) (stk := []) (ci := 2) (b := 0) (N := 83) (hX3_adj a1 v2 s3) (by decide +kernel) rfl rfl (lw_V q1626 q1628 qs120 q168 q1629) (by decide +kernel) rfl (by decide) hRf hRl (fun _ => (avc ra1 (avc rv2 avn))) (Nat.le_of_ble_eq_true rfl) rfl rfl dX3_hasType_84 (fun v4 s5 => ?_)
      refine g_iinc 3 (loc' := fun v6 => [(4, vI v6), (0, vR 0), (1, vI a1), (3, vI a3)]) dX3_hasType_87 rfl (by decide) (fun _ => rfl) (fun v6 rv6 => ?_)
      refine g_goto 64 dX3_hasType_90 (by decide) ?_
      exact g_pick [1, 2, 3, 0] rfl (ih a1 a3 v6 s5 ra1 ra3 rv6)
    · exact g_pick [0, 1, 2] rfl (hx93 a1 a3 u ra1 ra3)
theorem wX3_hasType_L2 (hd : 2 ≤ d) (hRf : d + 1 ≤ R.frames) (hRl : 40 * (d + 1) ≤ R.locals) (hX3_get : ∀ (a1 a2 : Int) (u : Sg), Ct l d FT clA yX3_get cX3_get 3 (some .int) DX3_get rvI [vR 0, vI a1, vI a2] u (call 7 [a1, a2] u)) (hX3_adj : ∀ (a1 a2 : Int) (u : Sg), Ct l d FT clA yX3_adj cX3_adj 3 none DX3_adj rvV [vR 0, vI a1, vI a2] u (call 71 [a1, a2] u)) (hX3_parent : ∀ (a1 : Int) (u : Sg), Ct l d FT clA yX3_parent cX3_parent 3 (some .int) DX3_parent rvI [vR 0, vI a1] u (call 77 [a1] u)) (hX3_mode_2 : ∀ (a1 a2 a3 : Int) (u : Sg), Ct l d FT clA yX3_mode_2 cX3_mode_2 4 none DX3_mode_2 rvV [vR 0, vI a1, vI a2, vI a3] u (call 74 [a1, a2, a3] u)) (hX3_terms : ∀ (a1 : Int) (u : Sg), Ct l d FT clA yX3_terms cX3_terms 4 none DX3_terms rvV [vR 0, vI a1] u (call 64 [a1] u)) (x102 : Sg → Option (Int × Sg)) (x34 : Sg → Option (Int × Sg)) (hx102 : ∀ (u : Sg), WG p l e R s m args below meth c JX3_hasType DX3_hasType G clA A FT ad0 σ0 rvV (x102 u) u 102 [] []) (hx34 : ∀ (u : Sg), WG p l e R s m args below meth c JX3_hasType DX3_hasType G clA A FT ad0 σ0 rvV (x34 u) u 34 [] []) : ∀ (n : Nat) (a1 a3 : Int) (u : Sg), inR a1 → inR a3 → WG p l e R s m args below meth c JX3_hasType DX3_hasType G clA A FT ad0 σ0 rvV (bX3_hasType_L2 call n a1 a3 u x102 x34) u 2 [(0, vR 0), (1, vI a1), (3, vI a3)] [] := by
  intro n
  induction n with
  | zero =>
    intro a1 a3 u ra1 ra3
    exact g_none
  | succ n ih =>
    intro a1 a3 u ra1 ra3
    rw [bX3_hasType_L2]
    refine g_iload_n 2 dX3_hasType_2 rfl ?_
    refine g_if_le 102 dX3_hasType_3 (by decide) (fun _ => ra3) (fun _ => ?_) (fun _ => ?_)
    · exact g_pick [] rfl (hx102 u)
    · refine g_jn (fun j1 => ∀ (a1 a3 : Int) (s2 : Sg), inR a1 → inR a3 → WG p l e R s m args below meth c JX3_hasType DX3_hasType G clA A FT ad0 σ0 rvV (j1 a1 a3 s2) s2 25 [(0, vR 0), (1, vI a1), (3, vI a3)] []) (fun a1 a3 s2 ra1 ra3 => ?_) (fun j1 hj1 => ?_)
      · refine g_aload_n 0 dX3_hasType_25 rfl ?_
        refine g_getI (ci := 2) (b := 0) (N := 83) 57 rfl rfl rfl (by decide) in_X3 rfl rfl q1189 dX3_hasType_26 (fun v3 rv3 => ?_)
        refine g_bipush (by decide +kernel) dX3_hasType_29 ?_
        refine g_icmp_le 35 dX3_hasType_31 (by decide) (fun _ => rv3) (fun _ => (by decide : inR (100))) (fun _ => ?_) (fun _ => ?_)
        · refine g_jn (fun j4 => ∀ (a1 a3 : Int) (s5 : Sg), inR a1 → inR a3 → WG p l e R s m args below meth c JX3_hasType DX3_hasType G clA A FT ad0 σ0 rvV (j4 a1 a3 s5) s5 61 [(0, vR 0), (1, vI a1), (3, vI a3)] []) (fun a1 a3 s5 ra1 ra3 => ?_) (fun j4 hj4 => ?_)
          · refine g_iconst dX3_hasType_61 ?_
            refine g_istore (loc' := [(4, vI 2), (0, vR 0), (1, vI a1), (3, vI a3)]) dX3_hasType_62 (by decide) rfl ?_
            refine g_pick [1, 2, 3, 0] rfl (wX3_hasType_L64 hd hRf hRl hX3_get hX3_adj hX3_parent hX3_mode_2 hX3_terms _ (fun v7 v8 s6 rv7 rv8 => ?_) KF a1 a3 2 s5 ra1 ra3 (by decide : inR (2)))
            · refine g_aload_n 0 dX3_hasType_93 rfl ?_
              refine g_iload_n 2 dX3_hasType_94 rfl ?_
              refine g_cVI (As := [vI v8]) (n := 1) (stk := []) (ci := 2) (b := 0) (N := 83) (hX3_parent v8 s6) (by decide +kernel) rfl rfl (lw_V q1650 q1652 qs126 q168 q1653) (by decide +kernel) rfl (by decide) hRf hRl (fun _ => (avc rv8 avn)) (Nat.le_of_ble_eq_true rfl) rfl rfl dX3_hasType_95 (fun v9 s10 rv9 => ?_)
              refine g_istore_n (loc' := [(3, vI v9), (0, vR 0), (1, vI v7)]) dX3_hasType_98 (by decide) rfl ?_
              refine g_goto 2 dX3_hasType_99 (by decide) ?_
              exact g_pick [1, 2, 0] rfl (ih v7 v9 s10 rv7 rv9)
          · refine g_aload_n 0 dX3_hasType_35 rfl ?_
            refine g_iload_n 2 dX3_hasType_36 rfl ?_
            refine g_iconst dX3_hasType_37 ?_
            refine g_cVI (As := [vI a3, vI 0]) (n := 2) (stk := []) (ci := 2) (b := 0) (N := 83) (hX3_get a3 0 s2) (by decide +kernel) rfl rfl (lw_V q1116 q1118 qs76 q168 q1119) (by decide +kernel) rfl (by decide) hRf hRl (fun _ => (avc ra3 (avc (inR_z (Or.inl rfl)) avn))) (Nat.le_of_ble_eq_true rfl) rfl rfl dX3_hasType_38 (fun v11 s12 rv11 => ?_)
            refine g_if_eq 61 dX3_hasType_41 (by decide) (fun _ => rv11) (fun _ => ?_) (fun _ => ?_)
            · exact g_pick [0, 1, 2] rfl (hj4 a1 a3 s12 ra1 ra3)
            · refine g_aload_n 0 dX3_hasType_44 rfl ?_
              refine g_iload_n 1 dX3_hasType_45 rfl ?_
              refine g_aload_n 0 dX3_hasType_46 rfl ?_
              refine g_iload_n 2 dX3_hasType_47 rfl ?_
              refine g_iconst dX3_hasType_48 ?_
              refine g_cVI (As := [vI a3, vI 0]) (n := 2) (stk := [vI a1, vR 0]) (ci := 2) (b := 0) (N := 83) (hX3_get a3 0 s12) (by decide +kernel) rfl rfl (lw_V q1116 q1118 qs76 q168 q1119) (by decide +kernel) rfl (by decide) hRf hRl (fun _ => (avc ra3 (avc (inR_z (Or.inl rfl)) avn))) (Nat.le_of_ble_eq_true rfl) rfl rfl dX3_hasType_49 (fun v13 s14 rv13 => ?_)
              refine g_aload_n 0 dX3_hasType_52 rfl ?_
              refine g_iload_n 2 dX3_hasType_53 rfl ?_
              refine g_iconst dX3_hasType_54 ?_
              refine g_cVI (As := [vI a3, vI 1]) (n := 2) (stk := [vI v13, vI a1, vR 0]) (ci := 2) (b := 0) (N := 83) (hX3_get a3 1 s14) (by decide +kernel) rfl rfl (lw_V q1116 q1118 qs76 q168 q1119) (by decide +kernel) rfl (by decide) hRf hRl (fun _ => (avc ra3 (avc (inR_z (Or.inr rfl)) avn))) (Nat.le_of_ble_eq_true rfl) rfl rfl dX3_hasType_55 (fun v15 s16 rv15 => ?_)
              refine g_cVV (As := [vI a1, vI v13, vI v15]) (n := 3) (stk := []) (ci := 2) (b := 0) (N := 83) (hX3_mode_2 a1 v13 v15 s16) (by decide +kernel) rfl rfl (lw_V q1638 q1640 qs123 q168 q1641) (by decide +kernel) rfl (by decide) hRf hRl (fun _ => (avc ra1 (avc rv13 (avc rv15 avn)))) (Nat.le_of_ble_eq_true rfl) rfl rfl dX3_hasType_58 (fun v17 s18 => ?_)
              exact g_pick [0, 1, 2] rfl (hj4 a1 a3 s18 ra1 ra3)
        · exact g_pick [] rfl (hx34 s2)
      · refine g_aload_n 0 dX3_hasType_6 rfl ?_
        refine g_iload_n 2 dX3_hasType_7 rfl ?_
        refine g_iconst dX3_hasType_8 ?_
        refine g_cVI (As := [vI a3, vI 1]) (n := 2) (stk := []) (ci := 2) (b := 0) (N := 83) (hX3_get a3 1 u) (by decide +kernel) rfl rfl (lw_V q1116 q1118 qs76 q168 q1119) (by decide +kernel) rfl (by decide) hRf hRl (fun _ => (avc ra3 (avc (inR_z (Or.inr rfl)) avn))) (Nat.le_of_ble_eq_true rfl) rfl rfl dX3_hasType_9 (fun v19 s20 rv19 => ?_)
        refine g_if_le 25 dX3_hasType_12 (by decide) (fun _ => rv19) (fun _ => ?_) (fun _ => ?_)
        · exact g_pick [0, 1, 2] rfl (hj1 a1 a3 s20 ra1 ra3)
        · refine g_aload_n 0 dX3_hasType_15 rfl ?_
          refine g_aload_n 0 dX3_hasType_16 rfl ?_
          refine g_iload_n 2 dX3_hasType_17 rfl ?_
          refine g_iconst dX3_hasType_18 ?_
          refine g_cVI (As := [vI a3, vI 1]) (n := 2) (stk := [vR 0]) (ci := 2) (b := 0) (N := 83) (hX3_get a3 1 s20) (by decide +kernel) rfl rfl (lw_V q1116 q1118 qs76 q168 q1119) (by decide +kernel) rfl (by decide) hRf hRl (fun _ => (avc ra3 (avc (inR_z (Or.inr rfl)) avn))) (Nat.le_of_ble_eq_true rfl) rfl rfl dX3_hasType_19 (fun v21 s22 rv21 => ?_)
          refine g_cVV (As := [vI v21]) (n := 1) (stk := []) (ci := 2) (b := 0) (N := 83) (hX3_terms v21 s22) (by decide +kernel) rfl rfl (lw_V q1599 q1601 qs114 q168 q1602) (by decide +kernel) rfl (by decide) hRf hRl (fun _ => (avc rv21 avn)) (Nat.le_of_ble_eq_true rfl) rfl rfl dX3_hasType_22 (fun v23 s24 => ?_)
          exact g_pick [0, 1, 2] rfl (hj1 a1 a3 s24 ra1 ra3)
theorem wX3_hasType (hd : 2 ≤ d) (hRf : d + 1 ≤ R.frames) (hRl : 40 * (d + 1) ≤ R.locals) (hX3_get : ∀ (a1 a2 : Int) (u : Sg), Ct l d FT clA yX3_get cX3_get 3 (some .int) DX3_get rvI [vR 0, vI a1, vI a2] u (call 7 [a1, a2] u)) (hX3_adj : ∀ (a1 a2 : Int) (u : Sg), Ct l d FT clA yX3_adj cX3_adj 3 none DX3_adj rvV [vR 0, vI a1, vI a2] u (call 71 [a1, a2] u)) (hX3_parent : ∀ (a1 : Int) (u : Sg), Ct l d FT clA yX3_parent cX3_parent 3 (some .int) DX3_parent rvI [vR 0, vI a1] u (call 77 [a1] u)) (hX3_mode_2 : ∀ (a1 a2 a3 : Int) (u : Sg), Ct l d FT clA yX3_mode_2 cX3_mode_2 4 none DX3_mode_2 rvV [vR 0, vI a1, vI a2, vI a3] u (call 74 [a1, a2, a3] u)) (hX3_terms : ∀ (a1 : Int) (u : Sg), Ct l d FT clA yX3_terms cX3_terms 4 none DX3_terms rvV [vR 0, vI a1] u (call 64 [a1] u)) (a1 a2 : Int) (u : Sg) (ra1 : inR a1) (ra2 : inR a2) : WG p l e R s m args below meth c JX3_hasType DX3_hasType G clA A FT ad0 σ0 rvV (bX3_hasType call a1 a2 u) u 0 [(0, vR 0), (1, vI a1), (2, vI a2)] [] := by
  unfold bX3_hasType
  refine g_iload_n 2 dX3_hasType_0 rfl ?_
  refine g_istore_n (loc' := [(3, vI a2), (0, vR 0), (1, vI a1), (2, vI a2)]) dX3_hasType_1 (by decide) rfl ?_
  refine g_pick [1, 2, 0] rfl (wX3_hasType_L2 hd hRf hRl hX3_get hX3_adj hX3_parent hX3_mode_2 hX3_terms _ _ (fun s1 => ?_) (fun s2 => ?_) KF a1 a2 u ra1 ra2)
  · exact g_vret rfl rfl dX3_hasType_102
  · exact g_vret rfl rfl dX3_hasType_34
end
section
variable {l : Launch} {d : Nat} {call : Nat → List Int → Sg → Option (Int × Sg)}
theorem ctX3_hasType (p0 : Program) (e0 : Env) (s0 : State) (m0 : MethodId) (meth0 : Method) (c0 : Code) (G0 : Gm) (hd : 2 ≤ d) (hX3_get : ∀ (a1 a2 : Int) (u : Sg), Ct l d FT clA yX3_get cX3_get 3 (some .int) DX3_get rvI [vR 0, vI a1, vI a2] u (call 7 [a1, a2] u)) (hX3_adj : ∀ (a1 a2 : Int) (u : Sg), Ct l d FT clA yX3_adj cX3_adj 3 none DX3_adj rvV [vR 0, vI a1, vI a2] u (call 71 [a1, a2] u)) (hX3_parent : ∀ (a1 : Int) (u : Sg), Ct l d FT clA yX3_parent cX3_parent 3 (some .int) DX3_parent rvI [vR 0, vI a1] u (call 77 [a1] u)) (hX3_mode_2 : ∀ (a1 a2 a3 : Int) (u : Sg), Ct l d FT clA yX3_mode_2 cX3_mode_2 4 none DX3_mode_2 rvV [vR 0, vI a1, vI a2, vI a3] u (call 74 [a1, a2, a3] u)) (hX3_terms : ∀ (a1 : Int) (u : Sg), Ct l d FT clA yX3_terms cX3_terms 4 none DX3_terms rvV [vR 0, vI a1] u (call 64 [a1] u)) (a1 a2 : Int) (u : Sg) : Ct l (d + 1) FT clA yX3_hasType cX3_hasType 5 none DX3_hasType rvV [vR 0, vI a1, vI a2] u (bX3_hasType call a1 a2 u) :=
  Ct_of (by decide) (Nat.le_of_ble_eq_true rfl) (fun p e R s1 m args below meth c G A ad hA hRf hRl => wX3_hasType hd hRf hRl hX3_get hX3_adj hX3_parent hX3_mode_2 hX3_terms a1 a2 u (hA _ (List.mem_cons_of_mem _ List.mem_cons_self)) (hA _ (List.mem_cons_of_mem _ (List.mem_cons_of_mem _ List.mem_cons_self)))) p0 e0 s0 m0 meth0 c0 G0
end
/-! RoundCheckModel.mode(III)V -/
abbrev JX3_mode_2 : Jm := (cX3_mode_2, RX3, 4, none)
def bX3_mode_2 (call : Nat → List Int → Sg → Option (Int × Sg)) (a1 a2 a3 : Int) (u : Sg) : Option (Int × Sg) := cl (call 75 [a1, a2, a3] u) fun v1 s2 => if v1 = 0 then (un (gI s2 62) fun v3 => mor s2 59 v3 fun s4 => un (gI s4 62) fun v5 => mor s4 60 v5 fun s6 => un (gI s6 62) fun v7 => mor s6 61 v7 fun s8 => un (gI s8 62) fun v9 => stA s8 59 v9 a1 fun s10 => un (gI s10 62) fun v11 => stA s10 60 v11 a2 fun s12 => un (gI s12 62) fun v13 => ar (v13 + 1) fun v14 => un (sI s12 62 v14) fun s15 => stA s15 61 v13 a3 fun s16 => un (sI s16 66 1) fun s17 => some (0, s17)) else (some (0, s2))
section
variable {p : Program} {l : Launch} {e : Env} {R : Room} {s : State} {m : MethodId} {args : Array Value} {below : List Frame} {meth : Method} {c : Code} {G : Gm} {A : Nat → Prop} {ad0 : Nat → Nat} {σ0 : Sg} {d : Nat} {call : Nat → List Int → Sg → Option (Int × Sg)}
theorem wX3_mode_2 (hd : 2 ≤ d) (hRf : d + 1 ≤ R.frames) (hRl : 40 * (d + 1) ≤ R.locals) (hX3_hasHere : ∀ (a1 a2 a3 : Int) (u : Sg), Ct l d FT clA yX3_hasHere cX3_hasHere 5 (some .boolean) DX3_hasHere rvI [vR 0, vI a1, vI a2, vI a3] u (call 75 [a1, a2, a3] u)) (a1 a2 a3 : Int) (u : Sg) (ra1 : inR a1) (ra2 : inR a2) (ra3 : inR a3) : WG p l e R s m args below meth c JX3_mode_2 DX3_mode_2 G clA A FT ad0 σ0 rvV (bX3_mode_2 call a1 a2 a3 u) u 0 [(0, vR 0), (1, vI a1), (2, vI a2), (3, vI a3)] [] := by
  unfold bX3_mode_2
  refine g_aload_n 0 dX3_mode_2_0 rfl ?_
  refine g_iload_n 1 dX3_mode_2_1 rfl ?_
  refine g_iload_n 2 dX3_mode_2_2 rfl ?_
  refine g_iload_n 3 dX3_mode_2_3 rfl ?_
  refine g_cVZ (As := [vI a1, vI a2, vI a3]) (n := 3) (stk := []) (ci := 2) (b := 0) (N := 83) (hX3_hasHere a1 a2 a3 u) (by decide +kernel) rfl rfl (lw_V q1642 q1644 qs124 q168 q1645) (by decide +kernel) rfl (by decide) hRf hRl (fun _ => (avc ra1 (avc ra2 (avc ra3 avn)))) (Nat.le_of_ble_eq_true rfl) rfl rfl dX3_mode_2_4 (fun v1 s2 zv1 => ?_)
  refine g_if_eq 11 dX3_mode_2_7 (by decide) (fun _ => (inR_z zv1)) (fun _ => ?_) (fun _ => ?_)
  · refine g_aload_n 0 dX3_mode_2_11 rfl ?_
    refine g_aload_n 0 dX3_mode_2_12 rfl ?_
    refine g_get (v := vR 69) (ci := 2) (b := 0) (N := 83) 59 rfl rfl (by decide) in_X3 rfl rfl q1191 dX3_mode_2_13 ?_
    refine g_aload_n 0 dX3_mode_2_16 rfl ?_
    refine g_getI (ci := 2) (b := 0) (N := 83) 62 rfl rfl rfl (by decide) in_X3 rfl rfl q1194 dX3_mode_2_17 (fun v3 rv3 => ?_)
    refine g_more (ci := 2) (b := 0) (N := 83) FT_ok FT_10 rfl 59 41 rfl rfl rfl rfl (by decide) in_X3 tyX3 tyX3_ok nmX3 rfl rfl rfl rfl (by decide +kernel) rv3 q1104 q1191 hRf hRl hd (Nat.le_of_ble_eq_true rfl) rfl rfl dX3_mode_2_20 dX3_mode_2_23 (fun s4 => ?_)
    refine g_aload_n 0 dX3_mode_2_26 rfl ?_
    refine g_aload_n 0 dX3_mode_2_27 rfl ?_
    refine g_get (v := vR 70) (ci := 2) (b := 0) (N := 83) 60 rfl rfl (by decide) in_X3 rfl rfl q1192 dX3_mode_2_28 ?_
    refine g_aload_n 0 dX3_mode_2_31 rfl ?_
    refine g_getI (ci := 2) (b := 0) (N := 83) 62 rfl rfl rfl (by decide) in_X3 rfl rfl q1194 dX3_mode_2_32 (fun v5 rv5 => ?_)
    refine g_more (ci := 2) (b := 0) (N := 83) FT_ok FT_10 rfl 60 42 rfl rfl rfl rfl (by decide) in_X3 tyX3 tyX3_ok nmX3 rfl rfl rfl rfl (by decide +kernel) rv5 q1104 q1192 hRf hRl hd (Nat.le_of_ble_eq_true rfl) rfl rfl dX3_mode_2_35 dX3_mode_2_38 (fun s6 => ?_)
    refine g_aload_n 0 dX3_mode_2_41 rfl ?_
    refine g_aload_n 0 dX3_mode_2_42 rfl ?_
    refine g_get (v := vR 71) (ci := 2) (b := 0) (N := 83) 61 rfl rfl (by decide) in_X3 rfl rfl q1193 dX3_mode_2_43 ?_
    refine g_aload_n 0 dX3_mode_2_46 rfl ?_
    refine g_getI (ci := 2) (b := 0) (N := 83) 62 rfl rfl rfl (by decide) in_X3 rfl rfl q1194 dX3_mode_2_47 (fun v7 rv7 => ?_)
    refine g_more (ci := 2) (b := 0) (N := 83) FT_ok FT_10 rfl 61 43 rfl rfl rfl rfl (by decide) in_X3 tyX3 tyX3_ok nmX3 rfl rfl rfl rfl (by decide +kernel) rv7 q1104 q1193 hRf hRl hd (Nat.le_of_ble_eq_true rfl) rfl rfl dX3_mode_2_50 dX3_mode_2_53 (fun s8 => ?_)
    refine g_aload_n 0 dX3_mode_2_56 rfl ?_
    refine g_get (v := vR 69) (ci := 2) (b := 0) (N := 83) 59 rfl rfl (by decide) in_X3 rfl rfl q1191 dX3_mode_2_57 ?_
    refine g_aload_n 0 dX3_mode_2_60 rfl ?_
    refine g_getI (ci := 2) (b := 0) (N := 83) 62 rfl rfl rfl (by decide) in_X3 rfl rfl q1194 dX3_mode_2_61 (fun v9 rv9 => ?_)
    refine g_iload_n 1 dX3_mode_2_64 rfl ?_
    refine g_iastU (id := 59) FT_ok 41 rfl rfl (by decide +kernel) ra1 dX3_mode_2_65 (fun s10 => ?_)
    refine g_aload_n 0 dX3_mode_2_66 rfl ?_
    refine g_get (v := vR 70) (ci := 2) (b := 0) (N := 83) 60 rfl rfl (by decide) in_X3 rfl rfl q1192 dX3_mode_2_67 ?_
    refine g_aload_n 0 dX3_mode_2_70 rfl ?_
    refine g_getI (ci := 2) (b := 0) (N := 83) 62 rfl rfl rfl (by decide) in_X3 rfl rfl q1194 dX3_mode_2_71 (fun v11 rv11 => ?_)
    refine g_iload_n 2 dX3_mode_2_74 rfl ?_
    refine g_iastU (id := 60) FT_ok 42 rfl rfl (by decide +kernel) ra2 dX3_mode_2_75 (fun s12 => ?_)
    refine g_aload_n 0 dX3_mode_2_76 rfl ?_
    refine g_get (v := vR 71) (ci := 2) (b := 0) (N := 83) 61 rfl rfl (by decide) in_X3 rfl rfl q1193 dX3_mode_2_77 ?_
    refine g_aload_n 0 dX3_mode_2_80 rfl ?_
    refine g_dup rfl dX3_mode_2_81 ?_
    refine g_getI (ci := 2) (b := 0) (N := 83) 62 rfl rfl rfl (by decide) in_X3 rfl rfl q1194 dX3_mode_2_82 (fun v13 rv13 => ?_)
    refine g_dup_x1 rfl rfl dX3_mode_2_85 ?_
    refine g_iconst dX3_mode_2_86 ?_
    refine g_iadd dX3_mode_2_87 (fun v14 rv14 => ?_)
    refine g_sIU (ci := 2) (b := 0) (N := 83) FT_ok 62 rfl rfl rfl (by decide) in_X3 tyX3 tyX3_ok nmX3 rfl rfl rfl rfl (by decide +kernel) rv14 q1194 dX3_mode_2_88 (fun s15 => ?_)
    refine g_iload_n 3 dX3_mode_2_91 rfl ?_
    refine g_iastU (id := 61) FT_ok 43 rfl rfl (by decide +kernel) ra3 dX3_mode_2_92 (fun s16 => ?_)
    refine g_aload_n 0 dX3_mode_2_93 rfl ?_
    refine g_iconst dX3_mode_2_94 ?_
    refine g_sZU (ci := 2) (b := 0) (N := 83) FT_ok 66 rfl rfl rfl (by decide) in_X3 tyX3 tyX3_ok nmX3 rfl rfl rfl rfl (by decide +kernel) (Or.inr rfl) q1198 dX3_mode_2_95 (fun s17 => ?_)
    exact g_vret rfl rfl dX3_mode_2_98
  · exact g_vret rfl rfl dX3_mode_2_10
end
section
variable {l : Launch} {d : Nat} {call : Nat → List Int → Sg → Option (Int × Sg)}
theorem ctX3_mode_2 (p0 : Program) (e0 : Env) (s0 : State) (m0 : MethodId) (meth0 : Method) (c0 : Code) (G0 : Gm) (hd : 2 ≤ d) (hX3_hasHere : ∀ (a1 a2 a3 : Int) (u : Sg), Ct l d FT clA yX3_hasHere cX3_hasHere 5 (some .boolean) DX3_hasHere rvI [vR 0, vI a1, vI a2, vI a3] u (call 75 [a1, a2, a3] u)) (a1 a2 a3 : Int) (u : Sg) : Ct l (d + 1) FT clA yX3_mode_2 cX3_mode_2 4 none DX3_mode_2 rvV [vR 0, vI a1, vI a2, vI a3] u (bX3_mode_2 call a1 a2 a3 u) :=
  Ct_of (by decide) (Nat.le_of_ble_eq_true rfl) (fun p e R s1 m args below meth c G A ad hA hRf hRl => wX3_mode_2 hd hRf hRl hX3_hasHere a1 a2 a3 u (hA _ (List.mem_cons_of_mem _ List.mem_cons_self)) (hA _ (List.mem_cons_of_mem _ (List.mem_cons_of_mem _ List.mem_cons_self))) (hA _ (List.mem_cons_of_mem _ (List.mem_cons_of_mem _ (List.mem_cons_of_mem _ List.mem_cons_self))))) p0 e0 s0 m0 meth0 c0 G0
end
/-! RoundCheckModel.hasHere(III)Z -/
abbrev JX3_hasHere : Jm := (cX3_hasHere, RX3, 5, (some .boolean))
def bX3_hasHere_L9 (call : Nat → List Int → Sg → Option (Int × Sg)) : Nat → Int → Int → Int → Int → Sg → (Sg → Option (Int × Sg)) → (Sg → Option (Int × Sg)) → Option (Int × Sg)
  | 0, _, _, _, _, _, _, _ => none
  | n + 1, a1, a2, a3, a4, u, x71, x63 => un (gI u 62) fun v1 => if a4 < v1 then (ld u 60 a4 fun v2 => if v2 = a2 then (ld u 59 a4 fun v3 => cl (call 70 [v3] u) fun v4 s5 => cl (call 70 [a1] s5) fun v6 s7 => if v4 = v6 then (ld s7 61 a4 fun v8 => cl (call 76 [v8, a3] s7) fun v9 s10 => if v9 = 0 then (ar (a4 + 1) fun v11 => bX3_hasHere_L9 call n a1 a2 a3 v11 s10 x71 x63) else (x63 s10)) else (ar (a4 + 1) fun v12 => bX3_hasHere_L9 call n a1 a2 a3 v12 s7 x71 x63)) else (ar (a4 + 1) fun v13 => bX3_hasHere_L9 call n a1 a2 a3 v13 u x71 x63)) else (x71 u)
def bX3_hasHere (call : Nat → List Int → Sg → Option (Int × Sg)) (a1 a2 a3 : Int) (u : Sg) : Option (Int × Sg) := if a2 = 0 then (some (1, u)) else (bX3_hasHere_L9 call KF a1 a2 a3 0 u (fun s1 => some (0, s1)) (fun s2 => some (1, s2)))
section
variable {p : Program} {l : Launch} {e : Env} {R : Room} {s : State} {m : MethodId} {args : Array Value} {below : List Frame} {meth : Method} {c : Code} {G : Gm} {A : Nat → Prop} {ad0 : Nat → Nat} {σ0 : Sg} {d : Nat} {call : Nat → List Int → Sg → Option (Int × Sg)}
theorem wX3_hasHere_L9 (hd : 2 ≤ d) (hRf : d + 1 ≤ R.frames) (hRl : 40 * (d + 1) ≤ R.locals) (hX3_top : ∀ (a1 : Int) (u : Sg), Ct l d FT clA yX3_top cX3_top 2 (some .int) DX3_top rvI [vR 0, vI a1] u (call 70 [a1] u)) (hX3_equal : ∀ (a1 a2 : Int) (u : Sg), Ct l d FT clA yX3_equal cX3_equal 5 (some .boolean) DX3_equal rvI [vR 0, vI a1, vI a2] u (call 76 [a1, a2] u)) (x71 : Sg → Option (Int × Sg)) (x63 : Sg → Option (Int × Sg)) (hx71 : ∀ (u : Sg), WG p l e R s m args below meth c JX3_hasHere DX3_hasHere G clA A FT ad0 σ0 rvI (x71 u) u 71 [] []) (hx63 : ∀ (u : Sg), WG p l e R s m args below meth c JX3_hasHere DX3_hasHere G clA A FT ad0 σ0 rvI (x63 u) u 63 [] []) : ∀ (n : Nat) (a1 a2 a3 a4 : Int) (u : Sg), inR a1 → inR a2 → inR a3 → inR a4 → WG p l e R s m args below meth c JX3_hasHere DX3_hasHere G clA A FT ad0 σ0 rvI (bX3_hasHere_L9 call n a1 a2 a3 a4 u x71 x63) u 9 [(0, vR 0), (1, vI a1), (2, vI a2), (3, vI a3), (4, vI a4)] [] := by
  intro n
  induction n with
  | zero =>
    intro a1 a2 a3 a4 u ra1 ra2 ra3 ra4
    exact g_none
  | succ n ih =>
    intro a1 a2 a3 a4 u ra1 ra2 ra3 ra4
    rw [bX3_hasHere_L9]
    refine g_iload 4 dX3_hasHere_9 rfl ?_
    refine g_aload_n 0 dX3_hasHere_11 rfl ?_
    refine g_getI (ci := 2) (b := 0) (N := 83) 62 rfl rfl rfl (by decide) in_X3 rfl rfl q1194 dX3_hasHere_12 (fun v1 rv1 => ?_)
    refine g_icmp_ge 71 dX3_hasHere_15 (by decide) (fun _ => ra4) (fun _ => rv1) (fun _ => ?_) (fun _ => ?_)
    · refine g_aload_n 0 dX3_hasHere_18 rfl ?_
      refine g_get (v := vR 70) (ci := 2) (b := 0) (N := 83) 60 rfl rfl (by decide) in_X3 rfl rfl q1192 dX3_hasHere_19 ?_
      refine g_iload 4 dX3_hasHere_22 rfl ?_
      refine g_iald (id := 60) 42 rfl rfl dX3_hasHere_24 (fun v2 rv2 => ?_)
      refine g_iload_n 2 dX3_hasHere_25 rfl ?_
      refine g_icmp_ne 65 dX3_hasHere_26 (by decide) (fun _ => rv2) (fun _ => ra2) (fun _ => ?_) (fun _ => ?_)
      · refine g_aload_n 0 dX3_hasHere_29 rfl ?_
        refine g_aload_n 0 dX3_hasHere_30 rfl ?_
        refine g_get (v := vR 69) (ci := 2) (b := 0) (N := 83) 59 rfl rfl (by decide) in_X3 rfl rfl q1191 dX3_hasHere_31 ?_
        refine g_iload 4 dX3_hasHere_34 rfl ?_
        refine g_iald (id := 59) 41 rfl rfl dX3_hasHere_36 (fun v3 rv3 => ?_)
        refine g_cVI (As := [vI v3]) (n := 1) (stk := []) (ci := 2) (b := 0) (N := 83) (hX3_top v3 u) (by decide +kernel) rfl rfl (lw_V q1622 q1624 qs119 q168 q1625) (by decide +kernel) rfl (by decide) hRf hRl (fun _ => (avc rv3 avn)) (Nat.le_of_ble_eq_true rfl) rfl rfl dX3_hasHere_37 (fun v4 s5 rv4 => ?_)
        refine g_aload_n 0 dX3_hasHere_40 rfl ?_
        refine g_iload_n 1 dX3_hasHere_41 rfl ?_
        refine g_cVI (As := [vI a1]) (n := 1) (stk := [vI v4]) (ci := 2) (b := 0) (N := 83) (hX3_top a1 s5) (by decide +kernel) rfl rfl (lw_V q1622 q1624 qs119 q168 q1625) (by decide +kernel) rfl (by decide) hRf hRl (fun _ => (avc ra1 avn)) (Nat.le_of_ble_eq_true rfl) rfl rfl dX3_hasHere_42 (fun v6 s7 rv6 => ?_)
        refine g_icmp_ne 65 dX3_hasHere_45 (by decide) (fun _ => rv4) (fun _ => rv6) (fun _ => ?_) (fun _ => ?_)
        · refine g_aload_n 0 dX3_hasHere_48 rfl ?_
          refine g_aload_n 0 dX3_hasHere_49 rfl ?_
          refine g_get (v := vR 71) (ci := 2) (b := 0) (N := 83) 61 rfl rfl (by decide) in_X3 rfl rfl q1193 dX3_hasHere_50 ?_
          refine g_iload 4 dX3_hasHere_53 rfl ?_
          refine g_iald (id := 61) 43 rfl rfl dX3_hasHere_55 (fun v8 rv8 => ?_)
          refine g_iload_n 3 dX3_hasHere_56 rfl ?_
          refine g_cVZ (As := [vI v8, vI a3]) (n := 2) (stk := []) (ci := 2) (b := 0) (N := 83) (hX3_equal v8 a3 s7) (by decide +kernel) rfl rfl (lw_V q1646 q1648 qs125 q168 q1649) (by decide +kernel) rfl (by decide) hRf hRl (fun _ => (avc rv8 (avc ra3 avn))) (Nat.le_of_ble_eq_true rfl) rfl rfl dX3_hasHere_57 (fun v9 s10 zv9 => ?_)
          refine g_if_eq 65 dX3_hasHere_60 (by decide) (fun _ => (inR_z zv9)) (fun _ => ?_) (fun _ => ?_)
          · refine g_iinc 4 (loc' := fun v11 => [(4, vI v11), (0, vR 0), (1, vI a1), (2, vI a2), (3, vI a3)]) dX3_hasHere_65 rfl (by decide) (fun _ => rfl) (fun v11 rv11 => ?_)
            refine g_goto 9 dX3_hasHere_68 (by decide) ?_
            exact g_pick [1, 2, 3, 4, 0] rfl (ih a1 a2 a3 v11 s10 ra1 ra2 ra3 rv11)
          · exact g_pick [] rfl (hx63 s10)
        · refine g_iinc 4 (loc' := fun v12 => [(4, vI v12), (0, vR 0), (1, vI a1), (2, vI a2), (3, vI a3)]) dX3_hasHere_65 rfl (by decide) (fun _ => rfl) (fun v12 rv12 => ?_)
          refine g_goto 9 dX3_hasHere_68 (by decide) ?_
          exact g_pick [1, 2, 3, 4, 0] rfl (ih a1 a2 a3 v12 s7 ra1 ra2 ra3 rv12)
      · refine g_iinc 4 (loc' := fun v13 => [(4, vI v13), (0, vR 0), (1, vI a1), (2, vI a2), (3, vI a3)]) dX3_hasHere_65 rfl (by decide) (fun _ => rfl) (fun v13 rv13 => ?_)
        refine g_goto 9 dX3_hasHere_68 (by decide) ?_
        exact g_pick [1, 2, 3, 4, 0] rfl (ih a1 a2 a3 v13 u ra1 ra2 ra3 rv13)
    · exact g_pick [] rfl (hx71 u)
theorem wX3_hasHere (hd : 2 ≤ d) (hRf : d + 1 ≤ R.frames) (hRl : 40 * (d + 1) ≤ R.locals) (hX3_top : ∀ (a1 : Int) (u : Sg), Ct l d FT clA yX3_top cX3_top 2 (some .int) DX3_top rvI [vR 0, vI a1] u (call 70 [a1] u)) (hX3_equal : ∀ (a1 a2 : Int) (u : Sg), Ct l d FT clA yX3_equal cX3_equal 5 (some .boolean) DX3_equal rvI [vR 0, vI a1, vI a2] u (call 76 [a1, a2] u)) (a1 a2 a3 : Int) (u : Sg) (ra1 : inR a1) (ra2 : inR a2) (ra3 : inR a3) : WG p l e R s m args below meth c JX3_hasHere DX3_hasHere G clA A FT ad0 σ0 rvI (bX3_hasHere call a1 a2 a3 u) u 0 [(0, vR 0), (1, vI a1), (2, vI a2), (3, vI a3)] [] := by
  unfold bX3_hasHere
  refine g_iload_n 2 dX3_hasHere_0 rfl ?_
  refine g_if_ne 6 dX3_hasHere_1 (by decide) (fun _ => ra2) (fun _ => ?_) (fun _ => ?_)
  · refine g_iconst dX3_hasHere_4 ?_
    exact g_zret rfl rfl (fun _ => (Or.inr rfl)) dX3_hasHere_5
  · refine g_iconst dX3_hasHere_6 ?_
    refine g_istore (loc' := [(4, vI 0), (0, vR 0), (1, vI a1), (2, vI a2), (3, vI a3)]) dX3_hasHere_7 (by decide) rfl ?_
    refine g_pick [1, 2, 3, 4, 0] rfl (wX3_hasHere_L9 hd hRf hRl hX3_top hX3_equal _ _ (fun s1 => ?_) (fun s2 => ?_) KF a1 a2 a3 0 u ra1 ra2 ra3 (inR_z (Or.inl rfl)))
    · refine g_iconst dX3_hasHere_71 ?_
      exact g_zret rfl rfl (fun _ => (Or.inl rfl)) dX3_hasHere_72
    · refine g_iconst dX3_hasHere_63 ?_
      exact g_zret rfl rfl (fun _ => (Or.inr rfl)) dX3_hasHere_64
end
section
variable {l : Launch} {d : Nat} {call : Nat → List Int → Sg → Option (Int × Sg)}
theorem ctX3_hasHere (p0 : Program) (e0 : Env) (s0 : State) (m0 : MethodId) (meth0 : Method) (c0 : Code) (G0 : Gm) (hd : 2 ≤ d) (hX3_top : ∀ (a1 : Int) (u : Sg), Ct l d FT clA yX3_top cX3_top 2 (some .int) DX3_top rvI [vR 0, vI a1] u (call 70 [a1] u)) (hX3_equal : ∀ (a1 a2 : Int) (u : Sg), Ct l d FT clA yX3_equal cX3_equal 5 (some .boolean) DX3_equal rvI [vR 0, vI a1, vI a2] u (call 76 [a1, a2] u)) (a1 a2 a3 : Int) (u : Sg) : Ct l (d + 1) FT clA yX3_hasHere cX3_hasHere 5 (some .boolean) DX3_hasHere rvI [vR 0, vI a1, vI a2, vI a3] u (bX3_hasHere call a1 a2 a3 u) :=
  Ct_of (by decide) (Nat.le_of_ble_eq_true rfl) (fun p e R s1 m args below meth c G A ad hA hRf hRl => wX3_hasHere hd hRf hRl hX3_top hX3_equal a1 a2 a3 u (hA _ (List.mem_cons_of_mem _ List.mem_cons_self)) (hA _ (List.mem_cons_of_mem _ (List.mem_cons_of_mem _ List.mem_cons_self))) (hA _ (List.mem_cons_of_mem _ (List.mem_cons_of_mem _ (List.mem_cons_of_mem _ List.mem_cons_self))))) p0 e0 s0 m0 meth0 c0 G0
end
/-! RoundCheckModel.equal(II)Z -/
abbrev JX3_equal : Jm := (cX3_equal, RX3, 5, (some .boolean))
def bX3_equal (call : Nat → List Int → Sg → Option (Int × Sg)) (a1 a2 : Int) (u : Sg) : Option (Int × Sg) := if a1 = a2 then (some (1, u)) else (if a1 = 0 then (some (0, u)) else (if a2 = 0 then (some (0, u)) else (jn (fun (s2 : Sg) => some (0, s2)) fun j1 => cl (call 66 [a1] u) fun v3 s4 => cl (call 66 [a2] s4) fun v5 s6 => if v3 < 0 then (j1 s6) else (if v5 < 0 then (j1 s6) else (cl (call 70 [v3] s6) fun v7 s8 => cl (call 70 [v5] s8) fun v9 s10 => if v7 = v9 then (some (1, s10)) else (j1 s10))))))
section
variable {p : Program} {l : Launch} {e : Env} {R : Room} {s : State} {m : MethodId} {args : Array Value} {below : List Frame} {meth : Method} {c : Code} {G : Gm} {A : Nat → Prop} {ad0 : Nat → Nat} {σ0 : Sg} {d : Nat} {call : Nat → List Int → Sg → Option (Int × Sg)}
theorem wX3_equal (hd : 2 ≤ d) (hRf : d + 1 ≤ R.frames) (hRl : 40 * (d + 1) ≤ R.locals) (hX3_indexOf : ∀ (a1 : Int) (u : Sg), Ct l d FT clA yX3_indexOf cX3_indexOf 2 (some .int) DX3_indexOf rvI [vR 0, vI a1] u (call 66 [a1] u)) (hX3_top : ∀ (a1 : Int) (u : Sg), Ct l d FT clA yX3_top cX3_top 2 (some .int) DX3_top rvI [vR 0, vI a1] u (call 70 [a1] u)) (a1 a2 : Int) (u : Sg) (ra1 : inR a1) (ra2 : inR a2) : WG p l e R s m args below meth c JX3_equal DX3_equal G clA A FT ad0 σ0 rvI (bX3_equal call a1 a2 u) u 0 [(0, vR 0), (1, vI a1), (2, vI a2)] [] := by
  unfold bX3_equal
  refine g_iload_n 1 dX3_equal_0 rfl ?_
  refine g_iload_n 2 dX3_equal_1 rfl ?_
  refine g_icmp_ne 7 dX3_equal_2 (by decide) (fun _ => ra1) (fun _ => ra2) (fun _ => ?_) (fun _ => ?_)
  · refine g_iconst dX3_equal_5 ?_
    exact g_zret rfl rfl (fun _ => (Or.inr rfl)) dX3_equal_6
  · refine g_iload_n 1 dX3_equal_7 rfl ?_
    refine g_if_eq 15 dX3_equal_8 (by decide) (fun _ => ra1) (fun _ => ?_) (fun _ => ?_)
    · refine g_iconst dX3_equal_15 ?_
      exact g_zret rfl rfl (fun _ => (Or.inl rfl)) dX3_equal_16
    · refine g_iload_n 2 dX3_equal_11 rfl ?_
      refine g_if_ne 17 dX3_equal_12 (by decide) (fun _ => ra2) (fun _ => ?_) (fun _ => ?_)
      · refine g_iconst dX3_equal_15 ?_
        exact g_zret rfl rfl (fun _ => (Or.inl rfl)) dX3_equal_16
      · refine g_jn (fun j1 => ∀ (s2 : Sg), WG p l e R s m args below meth c JX3_equal DX3_equal G clA A FT ad0 σ0 rvI (j1 s2) s2 57 [] []) (fun s2 => ?_) (fun j1 hj1 => ?_)
        · refine g_iconst dX3_equal_57 ?_
          exact g_zret rfl rfl (fun _ => (Or.inl rfl)) dX3_equal_58
        · refine g_aload_n 0 dX3_equal_17 rfl ?_
          refine g_iload_n 1 dX3_equal_18 rfl ?_
          refine g_cVI (As := [vI a1]) (n := 1) (stk := []) (ci := 2) (b := 0) (N := 83) (hX3_indexOf a1 u) (by decide +kernel) rfl rfl (lw_V q1606 q1608 qs115 q168 q1609) (by decide +kernel) rfl (by decide) hRf hRl (fun _ => (avc ra1 avn)) (Nat.le_of_ble_eq_true rfl) rfl rfl dX3_equal_19 (fun v3 s4 rv3 => ?_)
          refine g_istore_n (loc' := [(3, vI v3), (0, vR 0), (1, vI a1), (2, vI a2)]) dX3_equal_22 (by decide) rfl ?_
          refine g_aload_n 1 dX3_equal_23 rfl ?_
          refine g_iload_n 3 dX3_equal_24 rfl ?_
          refine g_cVI (As := [vI a2]) (n := 1) (stk := []) (ci := 2) (b := 0) (N := 83) (hX3_indexOf a2 s4) (by decide +kernel) rfl rfl (lw_V q1606 q1608 qs115 q168 q1609) (by decide +kernel) rfl (by decide) hRf hRl (fun _ => (avc ra2 avn)) (Nat.le_of_ble_eq_true rfl) rfl rfl dX3_equal_25 (fun v5 s6 rv5 => ?_)
          refine g_istore (loc' := [(4, vI v5), (3, vI v3), (0, vR 0), (1, vI a1), (2, vI a2)]) dX3_equal_28 (by decide) rfl ?_
          refine g_iload_n 1 dX3_equal_30 rfl ?_
          refine g_if_lt 57 dX3_equal_31 (by decide) (fun _ => rv3) (fun _ => ?_) (fun _ => ?_)
          · exact g_pick [] rfl (hj1 s6)
          · refine g_iload 0 dX3_equal_34 rfl ?_
            refine g_if_lt 57 dX3_equal_36 (by decide) (fun _ => rv5) (fun _ => ?_) (fun _ => ?_)
            · exact g_pick [] rfl (hj1 s6)
            · refine g_aload_n 2 dX3_equal_39 rfl ?_
              refine g_iload_n 1 dX3_equal_40 rfl ?_
              refine g_cVI (As := [vI v3]) (n := 1) (stk := []) (ci := 2) (b := 0) (N := 83) (hX3_top v3 s6) (by decide +kernel) rfl rfl (lw_V q1622 q1624 qs119 q168 q1625) (by decide +kernel) rfl (by decide) hRf hRl (fun _ => (avc rv3 avn)) (Nat.le_of_ble_eq_true rfl) rfl rfl dX3_equal_41 (fun v7 s8 rv7 => ?_)
              refine g_aload_n 2 dX3_equal_44 rfl ?_
              refine g_iload 0 dX3_equal_45 rfl ?_
              refine g_cVI (As := [vI v5]) (n := 1) (stk := [vI v7]) (ci := 2) (b := 0) (N := 83) (hX3_top v5 s8) (by decide +kernel) rfl rfl (lw_V q1622 q1624 qs119 q168 q1625) (by decide +kernel) rfl (by decide) hRf hRl (fun _ => (avc rv5 avn)) (Nat.le_of_ble_eq_true rfl) rfl rfl dX3_equal_47 (fun v9 s10 rv9 => ?_)
              refine g_icmp_ne 57 dX3_equal_50 (by decide) (fun _ => rv7) (fun _ => rv9) (fun _ => ?_) (fun _ => ?_)
              · refine g_iconst dX3_equal_53 ?_
                refine g_goto 58 dX3_equal_54 (by decide) ?_
                exact g_zret rfl rfl (fun _ => (Or.inr rfl)) dX3_equal_58
              · exact g_pick [] rfl (hj1 s10)
end
section
variable {l : Launch} {d : Nat} {call : Nat → List Int → Sg → Option (Int × Sg)}
theorem ctX3_equal (p0 : Program) (e0 : Env) (s0 : State) (m0 : MethodId) (meth0 : Method) (c0 : Code) (G0 : Gm) (hd : 2 ≤ d) (hX3_indexOf : ∀ (a1 : Int) (u : Sg), Ct l d FT clA yX3_indexOf cX3_indexOf 2 (some .int) DX3_indexOf rvI [vR 0, vI a1] u (call 66 [a1] u)) (hX3_top : ∀ (a1 : Int) (u : Sg), Ct l d FT clA yX3_top cX3_top 2 (some .int) DX3_top rvI [vR 0, vI a1] u (call 70 [a1] u)) (a1 a2 : Int) (u : Sg) : Ct l (d + 1) FT clA yX3_equal cX3_equal 5 (some .boolean) DX3_equal rvI [vR 0, vI a1, vI a2] u (bX3_equal call a1 a2 u) :=
  Ct_of (by decide) (Nat.le_of_ble_eq_true rfl) (fun p e R s1 m args below meth c G A ad hA hRf hRl => wX3_equal hd hRf hRl hX3_indexOf hX3_top a1 a2 u (hA _ (List.mem_cons_of_mem _ List.mem_cons_self)) (hA _ (List.mem_cons_of_mem _ (List.mem_cons_of_mem _ List.mem_cons_self)))) p0 e0 s0 m0 meth0 c0 G0
end
/-! RoundCheckModel.parent(I)I -/
abbrev JX3_parent : Jm := (cX3_parent, RX3, 3, (some .int))
def bX3_parent (call : Nat → List Int → Sg → Option (Int × Sg)) (a1 : Int) (u : Sg) : Option (Int × Sg) := cl (call 7 [a1, 0] u) fun v1 s2 => if v1 = 0 then (some (0, s2)) else (jn (fun (a2 : Int) (s4 : Sg) => ld s4 25 a2 fun v5 => cl (call 78 [v5] s4) fun v6 s7 => some (v6, s7)) fun j3 => un (sI s2 16 0) fun s8 => cl (call 7 [a1, 1] s8) fun v9 s10 => if v9 ≤ 0 then (j3 v1 s10) else (stA s10 14 0 0 fun s11 => cl (call 7 [a1, 1] s11) fun v12 s13 => gd (keeps [15] s11 s13 = true) (stA s13 15 0 v12 fun s14 => un (sI s14 16 1) fun s15 => j3 v1 s15)))
section
variable {p : Program} {l : Launch} {e : Env} {R : Room} {s : State} {m : MethodId} {args : Array Value} {below : List Frame} {meth : Method} {c : Code} {G : Gm} {A : Nat → Prop} {ad0 : Nat → Nat} {σ0 : Sg} {d : Nat} {call : Nat → List Int → Sg → Option (Int × Sg)}
theorem wX3_parent (hd : 2 ≤ d) (hRf : d + 1 ≤ R.frames) (hRl : 40 * (d + 1) ≤ R.locals) (hX3_get : ∀ (a1 a2 : Int) (u : Sg), Ct l d FT clA yX3_get cX3_get 3 (some .int) DX3_get rvI [vR 0, vI a1, vI a2] u (call 7 [a1, a2] u)) (hX3_move : ∀ (a1 : Int) (u : Sg), Ct l d FT clA yX3_move cX3_move 2 (some .int) DX3_move rvI [vR 0, vI a1] u (call 78 [a1] u)) (a1 : Int) (u : Sg) (ra1 : inR a1) : WG p l e R s m args below meth c JX3_parent DX3_parent G clA A FT ad0 σ0 rvI (bX3_parent call a1 u) u 0 [(0, vR 0), (1, vI a1)] [] := by
  unfold bX3_parent
  refine g_aload_n 0 dX3_parent_0 rfl ?_
  refine g_iload_n 1 dX3_parent_1 rfl ?_
  refine g_iconst dX3_parent_2 ?_
  refine g_cVI (As := [vI a1, vI 0]) (n := 2) (stk := []) (ci := 2) (b := 0) (N := 83) (hX3_get a1 0 u) (by decide +kernel) rfl rfl (lw_V q1116 q1118 qs76 q168 q1119) (by decide +kernel) rfl (by decide) hRf hRl (fun _ => (avc ra1 (avc (inR_z (Or.inl rfl)) avn))) (Nat.le_of_ble_eq_true rfl) rfl rfl dX3_parent_3 (fun v1 s2 rv1 => ?_)
  refine g_istore_n (loc' := [(2, vI v1), (0, vR 0), (1, vI a1)]) dX3_parent_6 (by decide) rfl ?_
  refine g_iload_n 0 dX3_parent_7 rfl ?_
  refine g_if_ne 13 dX3_parent_8 (by decide) (fun _ => rv1) (fun _ => ?_) (fun _ => ?_)
  · refine g_iconst dX3_parent_11 ?_
    exact g_iret rfl rfl (fun _ => (inR_z (Or.inl rfl))) dX3_parent_12
  · refine g_jn (fun j3 => ∀ (a2 : Int) (s4 : Sg), inR a2 → WG p l e R s m args below meth c JX3_parent DX3_parent G clA A FT ad0 σ0 rvI (j3 a2 s4) s4 51 [(0, vR 0), (2, vI a2)] []) (fun a2 s4 ra2 => ?_) (fun j3 hj3 => ?_)
    · refine g_aload_n 0 dX3_parent_51 rfl ?_
      refine g_aload_n 0 dX3_parent_52 rfl ?_
      refine g_get (v := vR 35) (ci := 2) (b := 0) (N := 83) 25 rfl rfl (by decide) in_X3 rfl rfl q1157 dX3_parent_53 ?_
      refine g_iload_n 1 dX3_parent_56 rfl ?_
      refine g_iald (id := 25) 17 rfl rfl dX3_parent_57 (fun v5 rv5 => ?_)
      refine g_cVI (As := [vI v5]) (n := 1) (stk := []) (ci := 2) (b := 0) (N := 83) (hX3_move v5 s4) (by decide +kernel) rfl rfl (lw_V q1654 q1656 qs127 q168 q1657) (by decide +kernel) rfl (by decide) hRf hRl (fun _ => (avc rv5 avn)) (Nat.le_of_ble_eq_true rfl) rfl rfl dX3_parent_58 (fun v6 s7 rv6 => ?_)
      exact g_iret rfl rfl (fun _ => rv6) dX3_parent_61
    · refine g_aload_n 1 dX3_parent_13 rfl ?_
      refine g_iconst dX3_parent_14 ?_
      refine g_sIU (ci := 2) (b := 0) (N := 83) FT_ok 16 rfl rfl rfl (by decide) in_X3 tyX3 tyX3_ok nmX3 rfl rfl rfl rfl (by decide +kernel) (inR_z (Or.inl rfl)) q1148 dX3_parent_15 (fun s8 => ?_)
      refine g_aload_n 1 dX3_parent_18 rfl ?_
      refine g_iload_n 2 dX3_parent_19 rfl ?_
      refine g_iconst dX3_parent_20 ?_
      refine g_cVI (As := [vI a1, vI 1]) (n := 2) (stk := []) (ci := 2) (b := 0) (N := 83) (hX3_get a1 1 s8) (by decide +kernel) rfl rfl (lw_V q1116 q1118 qs76 q168 q1119) (by decide +kernel) rfl (by decide) hRf hRl (fun _ => (avc ra1 (avc (inR_z (Or.inr rfl)) avn))) (Nat.le_of_ble_eq_true rfl) rfl rfl dX3_parent_21 (fun v9 s10 rv9 => ?_)
      refine g_if_le 51 dX3_parent_24 (by decide) (fun _ => rv9) (fun _ => ?_) (fun _ => ?_)
      · exact g_pick [1, 0] rfl (hj3 v1 s10 rv1)
      · refine g_aload_n 1 dX3_parent_27 rfl ?_
        refine g_get (v := vR 24) (ci := 2) (b := 0) (N := 83) 14 rfl rfl (by decide) in_X3 rfl rfl q1146 dX3_parent_28 ?_
        refine g_iconst dX3_parent_31 ?_
        refine g_iconst dX3_parent_32 ?_
        refine g_iastU (id := 14) FT_ok 10 rfl rfl (by decide +kernel) (inR_z (Or.inl rfl)) dX3_parent_33 (fun s11 => ?_)
        refine g_aload_n 1 dX3_parent_34 rfl ?_
        refine g_get (v := vR 25) (ci := 2) (b := 0) (N := 83) 15 rfl rfl (by decide) in_X3 rfl rfl q1147 dX3_parent_35 ?_
        refine g_iconst dX3_parent_38 ?_
        refine g_aload_n 1 dX3_parent_39 rfl ?_
        refine g_iload_n 2 dX3_parent_40 rfl ?_
        refine g_iconst dX3_parent_41 ?_
        refine g_cVIk [15] (As := [vI a1, vI 1]) (n := 2) (stk := [vI 0, vR 25]) (ci := 2) (b := 0) (N := 83) (hX3_get a1 1 s11) (by decide +kernel) rfl rfl (lw_V q1116 q1118 qs76 q168 q1119) (by decide +kernel) rfl (by decide) hRf hRl (fun _ => (avc ra1 (avc (inR_z (Or.inr rfl)) avn))) (Nat.le_of_ble_eq_true rfl) rfl rfl dX3_parent_42 (fun v12 s13 rv12 => ?_)
        refine g_iastU (id := 15) FT_ok 11 rfl rfl (by decide +kernel) rv12 dX3_parent_45 (fun s14 => ?_)
        refine g_aload_n 1 dX3_parent_46 rfl ?_
        refine g_iconst dX3_parent_47 ?_
        refine g_sIU (ci := 2) (b := 0) (N := 83) FT_ok 16 rfl rfl rfl (by decide) in_X3 tyX3 tyX3_ok nmX3 rfl rfl rfl rfl (by decide +kernel) (inR_z (Or.inr rfl)) q1148 dX3_parent_48 (fun s15 => ?_)
        exact g_pick [1, 0] rfl (hj3 v1 s15 rv1)
end
section
variable {l : Launch} {d : Nat} {call : Nat → List Int → Sg → Option (Int × Sg)}
theorem ctX3_parent (p0 : Program) (e0 : Env) (s0 : State) (m0 : MethodId) (meth0 : Method) (c0 : Code) (G0 : Gm) (hd : 2 ≤ d) (hX3_get : ∀ (a1 a2 : Int) (u : Sg), Ct l d FT clA yX3_get cX3_get 3 (some .int) DX3_get rvI [vR 0, vI a1, vI a2] u (call 7 [a1, a2] u)) (hX3_move : ∀ (a1 : Int) (u : Sg), Ct l d FT clA yX3_move cX3_move 2 (some .int) DX3_move rvI [vR 0, vI a1] u (call 78 [a1] u)) (a1 : Int) (u : Sg) : Ct l (d + 1) FT clA yX3_parent cX3_parent 3 (some .int) DX3_parent rvI [vR 0, vI a1] u (bX3_parent call a1 u) :=
  Ct_of (by decide) (Nat.le_of_ble_eq_true rfl) (fun p e R s1 m args below meth c G A ad hA hRf hRl => wX3_parent hd hRf hRl hX3_get hX3_move a1 u (hA _ (List.mem_cons_of_mem _ List.mem_cons_self))) p0 e0 s0 m0 meth0 c0 G0
end
/-! RoundCheckModel.move(I)I -/
abbrev JX3_move : Jm := (cX3_move, RX3, 2, (some .int))
def bX3_move (call : Nat → List Int → Sg → Option (Int × Sg)) (a1 : Int) (u : Sg) : Option (Int × Sg) := un (gI u 16) fun v1 => if v1 = 0 then (some (a1, u)) else (cl (call 79 [a1, 0] u) fun v2 s3 => some (v2, s3))
section
variable {p : Program} {l : Launch} {e : Env} {R : Room} {s : State} {m : MethodId} {args : Array Value} {below : List Frame} {meth : Method} {c : Code} {G : Gm} {A : Nat → Prop} {ad0 : Nat → Nat} {σ0 : Sg} {d : Nat} {call : Nat → List Int → Sg → Option (Int × Sg)}
theorem wX3_move (hd : 2 ≤ d) (hRf : d + 1 ≤ R.frames) (hRl : 40 * (d + 1) ≤ R.locals) (hX3_move_2 : ∀ (a1 a2 : Int) (u : Sg), Ct l d FT clA yX3_move_2 cX3_move_2 6 (some .int) DX3_move_2 rvI [vR 0, vI a1, vI a2] u (call 79 [a1, a2] u)) (a1 : Int) (u : Sg) (ra1 : inR a1) : WG p l e R s m args below meth c JX3_move DX3_move G clA A FT ad0 σ0 rvI (bX3_move call a1 u) u 0 [(0, vR 0), (1, vI a1)] [] := by
  unfold bX3_move
  refine g_aload_n 0 dX3_move_0 rfl ?_
  refine g_getI (ci := 2) (b := 0) (N := 83) 16 rfl rfl rfl (by decide) in_X3 rfl rfl q1148 dX3_move_1 (fun v1 rv1 => ?_)
  refine g_if_ne 11 dX3_move_4 (by decide) (fun _ => rv1) (fun _ => ?_) (fun _ => ?_)
  · refine g_iload_n 1 dX3_move_7 rfl ?_
    refine g_goto 17 dX3_move_8 (by decide) ?_
    exact g_iret rfl rfl (fun _ => ra1) dX3_move_17
  · refine g_aload_n 0 dX3_move_11 rfl ?_
    refine g_iload_n 1 dX3_move_12 rfl ?_
    refine g_iconst dX3_move_13 ?_
    refine g_cVI (As := [vI a1, vI 0]) (n := 2) (stk := []) (ci := 2) (b := 0) (N := 83) (hX3_move_2 a1 0 u) (by decide +kernel) rfl rfl (lw_V q1658 q1660 qs128 q168 q1661) (by decide +kernel) rfl (by decide) hRf hRl (fun _ => (avc ra1 (avc (inR_z (Or.inl rfl)) avn))) (Nat.le_of_ble_eq_true rfl) rfl rfl dX3_move_14 (fun v2 s3 rv2 => ?_)
    exact g_iret rfl rfl (fun _ => rv2) dX3_move_17
end
section
variable {l : Launch} {d : Nat} {call : Nat → List Int → Sg → Option (Int × Sg)}
theorem ctX3_move (p0 : Program) (e0 : Env) (s0 : State) (m0 : MethodId) (meth0 : Method) (c0 : Code) (G0 : Gm) (hd : 2 ≤ d) (hX3_move_2 : ∀ (a1 a2 : Int) (u : Sg), Ct l d FT clA yX3_move_2 cX3_move_2 6 (some .int) DX3_move_2 rvI [vR 0, vI a1, vI a2] u (call 79 [a1, a2] u)) (a1 : Int) (u : Sg) : Ct l (d + 1) FT clA yX3_move cX3_move 2 (some .int) DX3_move rvI [vR 0, vI a1] u (bX3_move call a1 u) :=
  Ct_of (by decide) (Nat.le_of_ble_eq_true rfl) (fun p e R s1 m args below meth c G A ad hA hRf hRl => wX3_move hd hRf hRl hX3_move_2 a1 u (hA _ (List.mem_cons_of_mem _ List.mem_cons_self))) p0 e0 s0 m0 meth0 c0 G0
end
/-! RoundCheckModel.move(II)I -/
abbrev JX3_move_2 : Jm := (cX3_move_2, RX3, 6, (some .int))
def bX3_move_2_L15 (call : Nat → List Int → Sg → Option (Int × Sg)) : Nat → Int → Int → Int → Sg → (Int → Sg → Option (Int × Sg)) → (Int → Int → Sg → Option (Int × Sg)) → Option (Int × Sg)
  | 0, _, _, _, _, _, _ => none
  | n + 1, a1, a2, a4, u, x59, x40 => un (gI u 16) fun v1 => if a4 < v1 then (ld u 14 a4 fun v2 => cl (call 7 [a1, 0] u) fun v3 s4 => if v2 = v3 then (x40 a2 a4 s4) else (ar (a4 + 1) fun v5 => bX3_move_2_L15 call n a1 a2 v5 s4 x59 x40)) else (x59 a1 u)
def bX3_move_2_L88 (call : Nat → List Int → Sg → Option (Int × Sg)) : Nat → Int → Int → Int → Int → Int → Sg → (Int → Int → Sg → Option (Int × Sg)) → Option (Int × Sg)
  | 0, _, _, _, _, _, _, _ => none
  | n + 1, a1, a2, a3, a4, a5, u, x159 => ld u 3 a1 fun v1 => if a5 < v1 then (jn (fun (a1 a2 a3 a4 a5 t1 : Int) (s3 : Sg) => cl (call 3 [t1] s3) fun v4 s5 => ar (a5 + 1) fun v6 => bX3_move_2_L88 call n a1 a2 a3 a4 v6 s5 x159) fun j2 => cl (call 16 [a1, a5] u) fun v7 s8 => if v7 = 0 then (cl (call 7 [a1, a5] s8) fun v9 s10 => j2 a1 a2 a3 a4 a5 v9 s10) else (jn (fun (a1 a2 a3 a4 a5 t2 t3 : Int) (s12 : Sg) => cl (call 79 [t2, t3] s12) fun v13 s14 => j2 a1 a2 a3 a4 a5 v13 s14) fun j11 => jn (fun (a1 a2 a3 a4 a5 t2 : Int) (s16 : Sg) => j11 a1 a2 a3 a4 a5 t2 a2 s16) fun j15 => cl (call 7 [a1, a5] s8) fun v17 s18 => if a3 = 17 then (if a5 = 1 then (ar (a2 + 1) fun v19 => j11 a1 a2 a3 a4 a5 v17 v19 s18) else (j15 a1 a2 a3 a4 a5 v17 s18)) else (j15 a1 a2 a3 a4 a5 v17 s18))) else (x159 a1 a4 u)
def bX3_move_2 (call : Nat → List Int → Sg → Option (Int × Sg)) (a1 a2 : Int) (u : Sg) : Option (Int × Sg) := ld u 1 a1 fun v1 => if v1 = 2 then (bX3_move_2_L15 call KF a1 a2 0 u (fun v3 s2 => some (v3, s2)) (fun v5 v6 s4 => ld s4 15 v6 fun v7 => cl (call 59 [v7, v5] s4) fun v8 s9 => some (v8, s9))) else (if v1 = 3 then (some (a1, u)) else (if v1 = 8 then (some (a1, u)) else (if v1 = 1 then (some (a1, u)) else (un (gI u 13) fun v10 => bX3_move_2_L88 call KF a1 a2 v1 v10 0 u (fun v12 v13 s11 => cl (call 43 [v12, v13] s11) fun v14 s15 => some (v14, s15))))))
section
variable {p : Program} {l : Launch} {e : Env} {R : Room} {s : State} {m : MethodId} {args : Array Value} {below : List Frame} {meth : Method} {c : Code} {G : Gm} {A : Nat → Prop} {ad0 : Nat → Nat} {σ0 : Sg} {d : Nat} {call : Nat → List Int → Sg → Option (Int × Sg)}
theorem wX3_move_2_L15 (hd : 2 ≤ d) (hRf : d + 1 ≤ R.frames) (hRl : 40 * (d + 1) ≤ R.locals) (hX3_get : ∀ (a1 a2 : Int) (u : Sg), Ct l d FT clA yX3_get cX3_get 3 (some .int) DX3_get rvI [vR 0, vI a1, vI a2] u (call 7 [a1, a2] u)) (hX3_lift : ∀ (a1 a2 : Int) (u : Sg), Ct l d FT clA yX3_lift cX3_lift 3 (some .int) DX3_lift rvI [vR 0, vI a1, vI a2] u (call 59 [a1, a2] u)) (hX3_give : ∀ (a1 : Int) (u : Sg), Ct l d FT clA yX3_give cX3_give 2 none DX3_give rvV [vR 0, vI a1] u (call 3 [a1] u)) (hX3_isPart : ∀ (a1 a2 : Int) (u : Sg), Ct l d FT clA yX3_isPart cX3_isPart 4 (some .boolean) DX3_isPart rvI [vR 0, vI a1, vI a2] u (call 16 [a1, a2] u)) (hX3_move_2 : ∀ (a1 a2 : Int) (u : Sg), Ct l d FT clA yX3_move_2 cX3_move_2 6 (some .int) DX3_move_2 rvI [vR 0, vI a1, vI a2] u (call 79 [a1, a2] u)) (hX3_again : ∀ (a1 a2 : Int) (u : Sg), Ct l d FT clA yX3_again cX3_again 5 (some .int) DX3_again rvI [vR 0, vI a1, vI a2] u (call 43 [a1, a2] u)) (x59 : Int → Sg → Option (Int × Sg)) (x40 : Int → Int → Sg → Option (Int × Sg)) (hx59 : ∀ (a1 : Int) (u : Sg), inR a1 → WG p l e R s m args below meth c JX3_move_2 DX3_move_2 G clA A FT ad0 σ0 rvI (x59 a1 u) u 59 [(1, vI a1)] []) (hx40 : ∀ (a2 a4 : Int) (u : Sg), inR a2 → inR a4 → WG p l e R s m args below meth c JX3_move_2 DX3_move_2 G clA A FT ad0 σ0 rvI (x40 a2 a4 u) u 40 [(0, vR 0), (2, vI a2), (4, vI a4)] []) : ∀ (n : Nat) (a1 a2 a4 : Int) (u : Sg), inR a1 → inR a2 → inR a4 → WG p l e R s m args below meth c JX3_move_2 DX3_move_2 G clA A FT ad0 σ0 rvI (bX3_move_2_L15 call n a1 a2 a4 u x59 x40) u 15 [(0, vR 0), (1, vI a1), (2, vI a2), (4, vI a4)] [] := by
  intro n
  induction n with
  | zero =>
    intro a1 a2 a4 u ra1 ra2 ra4
    exact g_none
  | succ n ih =>
    intro a1 a2 a4 u ra1 ra2 ra4
    rw [bX3_move_2_L15]
    refine g_iload 3 dX3_move_2_15 rfl ?_
    refine g_aload_n 0 dX3_move_2_17 rfl ?_
    refine g_getI (ci := 2) (b := 0) (N := 83) 16 rfl rfl rfl (by decide) in_X3 rfl rfl q1148 dX3_move_2_18 (fun v1 rv1 => ?_)
    refine g_icmp_ge 59 dX3_move_2_21 (by decide) (fun _ => ra4) (fun _ => rv1) (fun _ => ?_) (fun _ => ?_)
    · refine g_aload_n 0 dX3_move_2_24 rfl ?_
      refine g_get (v := vR 24) (ci := 2) (b := 0) (N := 83) 14 rfl rfl (by decide) in_X3 rfl rfl q1146 dX3_move_2_25 ?_
      refine g_iload 3 dX3_move_2_28 rfl ?_
      refine g_iald (id := 14) 10 rfl rfl dX3_move_2_30 (fun v2 rv2 => ?_)
      refine g_aload_n 0 dX3_move_2_31 rfl ?_
      refine g_iload_n 1 dX3_move_2_32 rfl ?_
      refine g_iconst dX3_move_2_33 ?_
      refine g_cVI (As := [vI a1, vI 0]) (n := 2) (stk := [vI v2]) (ci := 2) (b := 0) (N := 83) (hX3_get a1 0 u) (by decide +kernel) rfl rfl (lw_V q1116 q1118 qs76 q168 q1119) (by decide +kernel) rfl (by decide) hRf hRl (fun _ => (avc ra1 (avc (inR_z (Or.inl rfl)) avn))) (Nat.le_of_ble_eq_true rfl) rfl rfl dX3_move_2_34 (fun v3 s4 rv3 => ?_)
      refine g_icmp_ne 53 dX3_move_2_37 (by decide) (fun _ => rv2) (fun _ => rv3) (fun _ => ?_) (fun _ => ?_)
      · exact g_pick [0, 2, 3] rfl (hx40 a2 a4 s4 ra2 ra4)
      · refine g_iinc 3 (loc' := fun v5 => [(4, vI v5), (0, vR 0), (1, vI a1), (2, vI a2)]) dX3_move_2_53 rfl (by decide) (fun _ => rfl) (fun v5 rv5 => ?_)
        refine g_goto 15 dX3_move_2_56 (by decide) ?_
        exact g_pick [1, 2, 3, 0] rfl (ih a1 a2 v5 s4 ra1 ra2 rv5)
    · exact g_pick [1] rfl (hx59 a1 u ra1)
theorem wX3_move_2_L88 (hd : 2 ≤ d) (hRf : d + 1 ≤ R.frames) (hRl : 40 * (d + 1) ≤ R.locals) (hX3_get : ∀ (a1 a2 : Int) (u : Sg), Ct l d FT clA yX3_get cX3_get 3 (some .int) DX3_get rvI [vR 0, vI a1, vI a2] u (call 7 [a1, a2] u)) (hX3_lift : ∀ (a1 a2 : Int) (u : Sg), Ct l d FT clA yX3_lift cX3_lift 3 (some .int) DX3_lift rvI [vR 0, vI a1, vI a2] u (call 59 [a1, a2] u)) (hX3_give : ∀ (a1 : Int) (u : Sg), Ct l d FT clA yX3_give cX3_give 2 none DX3_give rvV [vR 0, vI a1] u (call 3 [a1] u)) (hX3_isPart : ∀ (a1 a2 : Int) (u : Sg), Ct l d FT clA yX3_isPart cX3_isPart 4 (some .boolean) DX3_isPart rvI [vR 0, vI a1, vI a2] u (call 16 [a1, a2] u)) (hX3_move_2 : ∀ (a1 a2 : Int) (u : Sg), Ct l d FT clA yX3_move_2 cX3_move_2 6 (some .int) DX3_move_2 rvI [vR 0, vI a1, vI a2] u (call 79 [a1, a2] u)) (hX3_again : ∀ (a1 a2 : Int) (u : Sg), Ct l d FT clA yX3_again cX3_again 5 (some .int) DX3_again rvI [vR 0, vI a1, vI a2] u (call 43 [a1, a2] u)) (x159 : Int → Int → Sg → Option (Int × Sg)) (hx159 : ∀ (a1 a4 : Int) (u : Sg), inR a1 → inR a4 → WG p l e R s m args below meth c JX3_move_2 DX3_move_2 G clA A FT ad0 σ0 rvI (x159 a1 a4 u) u 159 [(0, vR 0), (1, vI a1), (4, vI a4)] []) : ∀ (n : Nat) (a1 a2 a3 a4 a5 : Int) (u : Sg), inR a1 → inR a2 → inR a3 → inR a4 → inR a5 → WG p l e R s m args below meth c JX3_move_2 DX3_move_2 G clA A FT ad0 σ0 rvI (bX3_move_2_L88 call n a1 a2 a3 a4 a5 u x159) u 88 [(0, vR 0), (1, vI a1), (2, vI a2), (3, vI a3), (4, vI a4), (5, vI a5)] [] := by
  intro n
  induction n with
  | zero =>
    intro a1 a2 a3 a4 a5 u ra1 ra2 ra3 ra4 ra5
    exact g_none
  | succ n ih =>
    intro a1 a2 a3 a4 a5 u ra1 ra2 ra3 ra4 ra5
    rw [bX3_move_2_L88]
    refine g_iload 5 dX3_move_2_88 rfl ?_
    refine g_aload_n 0 dX3_move_2_90 rfl ?_
    refine g_get (v := vR 13) (ci := 2) (b := 0) (N := 83) 3 rfl rfl (by decide) in_X3 rfl rfl q1135 dX3_move_2_91 ?_
    refine g_iload_n 1 dX3_move_2_94 rfl ?_
    refine g_iald (id := 3) 2 rfl rfl dX3_move_2_95 (fun v1 rv1 => ?_)
    refine g_icmp_ge 159 dX3_move_2_96 (by decide) (fun _ => ra5) (fun _ => rv1) (fun _ => ?_) (fun _ => ?_)
    · refine g_jn (fun j2 => ∀ (a1 a2 a3 a4 a5 t1 : Int) (s3 : Sg), inR a1 → inR a2 → inR a3 → inR a4 → inR a5 → inR t1 → WG p l e R s m args below meth c JX3_move_2 DX3_move_2 G clA A FT ad0 σ0 rvI (j2 a1 a2 a3 a4 a5 t1 s3) s3 150 [(0, vR 0), (1, vI a1), (2, vI a2), (3, vI a3), (4, vI a4), (5, vI a5)] [vI t1, vR 0]) (fun a1 a2 a3 a4 a5 t1 s3 ra1 ra2 ra3 ra4 ra5 rt1 => ?_) (fun j2 hj2 => ?_)
      · refine g_cVV (As := [vI t1]) (n := 1) (stk := []) (ci := 2) (b := 0) (N := 83) (hX3_give t1 s3) (by decide +kernel) rfl rfl (lw_V q1100 q1102 qs73 q168 q1103) (by decide +kernel) rfl (by decide) hRf hRl (fun _ => (avc rt1 avn)) (Nat.le_of_ble_eq_true rfl) rfl rfl dX3_move_2_150 (fun v4 s5 => ?_)
        refine g_iinc 5 (loc' := fun v6 => [(5, vI v6), (0, vR 0), (1, vI a1), (2, vI a2), (3, vI a3), (4, vI a4)]) dX3_move_2_153 rfl (by decide) (fun _ => rfl) (fun v6 rv6 => ?_)
        refine g_goto 88 dX3_move_2_156 (by decide) ?_
        exact g_pick [1, 2, 3, 4, 5, 0] rfl (ih a1 a2 a3 a4 v6 s5 ra1 ra2 ra3 ra4 rv6)
      · refine g_aload_n 0 dX3_move_2_99 rfl ?_
        refine g_aload_n 0 dX3_move_2_100 rfl ?_
        refine g_iload_n 1 dX3_move_2_101 rfl ?_
        refine g_iload 5 dX3_move_2_102 rfl ?_
        refine g_cVZ (As := [vI a1, vI a5]) (n := 2) (stk := [vR 0]) (ci := 2) (b := 0) (N := 83) (hX3_isPart a1 a5 u) (by decide +kernel) rfl rfl (lw_V q1403 q1405 qs83 q168 q1406) (by decide +kernel) rfl (by decide) hRf hRl (fun _ => (avc ra1 (avc ra5 avn))) (Nat.le_of_ble_eq_true rfl) rfl rfl dX3_move_2_104 (fun v7 s8 zv7 => ?_)
        refine g_if_eq 143 dX3_move_2_107 (by decide) (fun _ => (inR_z zv7)) (fun _ => ?_) (fun _ => ?_)
        · refine g_aload_n 0 dX3_move_2_143 rfl ?_
          refine g_iload_n 1 dX3_move_2_144 rfl ?_
          refine g_iload 5 dX3_move_2_145 rfl ?_
          refine g_cVI (As := [vI a1, vI a5]) (n := 2) (stk := [vR 0]) (ci := 2) (b := 0) (N := 83) (hX3_get a1 a5 s8) (by decide +kernel) rfl rfl (lw_V q1116 q1118 qs76 q168 q1119) (by decide +kernel) rfl (by decide) hRf hRl (fun _ => (avc ra1 (avc ra5 avn))) (Nat.le_of_ble_eq_true rfl) rfl rfl dX3_move_2_147 (fun v9 s10 rv9 => ?_)
          exact g_pick [0, 1, 2, 3, 4, 5] rfl (hj2 a1 a2 a3 a4 a5 v9 s10 ra1 ra2 ra3 ra4 ra5 rv9)
        · refine g_jn (fun j11 => ∀ (a1 a2 a3 a4 a5 t2 t3 : Int) (s12 : Sg), inR a1 → inR a2 → inR a3 → inR a4 → inR a5 → inR t2 → inR t3 → WG p l e R s m args below meth c JX3_move_2 DX3_move_2 G clA A FT ad0 σ0 rvI (j11 a1 a2 a3 a4 a5 t2 t3 s12) s12 137 [(0, vR 0), (1, vI a1), (2, vI a2), (3, vI a3), (4, vI a4), (5, vI a5)] [vI t3, vI t2, vR 0, vR 0]) (fun a1 a2 a3 a4 a5 t2 t3 s12 ra1 ra2 ra3 ra4 ra5 rt2 rt3 => ?_) (fun j11 hj11 => ?_)
          · refine g_cVI (As := [vI t2, vI t3]) (n := 2) (stk := [vR 0]) (ci := 2) (b := 0) (N := 83) (hX3_move_2 t2 t3 s12) (by decide +kernel) rfl rfl (lw_V q1658 q1660 qs128 q168 q1661) (by decide +kernel) rfl (by decide) hRf hRl (fun _ => (avc rt2 (avc rt3 avn))) (Nat.le_of_ble_eq_true rfl) rfl rfl dX3_move_2_137 (fun v13 s14 rv13 => ?_)
            refine g_goto 150 dX3_move_2_140 (by decide) ?_
            exact g_pick [0, 1, 2, 3, 4, 5] rfl (hj2 a1 a2 a3 a4 a5 v13 s14 ra1 ra2 ra3 ra4 ra5 rv13)
          · refine g_jn (fun j15 => ∀ (a1 a2 a3 a4 a5 t2 : Int) (s16 : Sg), inR a1 → inR a2 → inR a3 → inR a4 → inR a5 → inR t2 → WG p l e R s m args below meth c JX3_move_2 DX3_move_2 G clA A FT ad0 σ0 rvI (j15 a1 a2 a3 a4 a5 t2 s16) s16 136 [(0, vR 0), (1, vI a1), (2, vI a2), (3, vI a3), (4, vI a4), (5, vI a5)] [vI t2, vR 0, vR 0]) (fun a1 a2 a3 a4 a5 t2 s16 ra1 ra2 ra3 ra4 ra5 rt2 => ?_) (fun j15 hj15 => ?_)
            · refine g_iload_n 2 dX3_move_2_136 rfl ?_
              exact g_pick [0, 1, 2, 3, 4, 5] rfl (hj11 a1 a2 a3 a4 a5 t2 a2 s16 ra1 ra2 ra3 ra4 ra5 rt2 ra2)
            · refine g_aload_n 0 dX3_move_2_110 rfl ?_
              refine g_aload_n 0 dX3_move_2_111 rfl ?_
              refine g_iload_n 1 dX3_move_2_112 rfl ?_
              refine g_iload 5 dX3_move_2_113 rfl ?_
              refine g_cVI (As := [vI a1, vI a5]) (n := 2) (stk := [vR 0, vR 0]) (ci := 2) (b := 0) (N := 83) (hX3_get a1 a5 s8) (by decide +kernel) rfl rfl (lw_V q1116 q1118 qs76 q168 q1119) (by decide +kernel) rfl (by decide) hRf hRl (fun _ => (avc ra1 (avc ra5 avn))) (Nat.le_of_ble_eq_true rfl) rfl rfl dX3_move_2_115 (fun v17 s18 rv17 => ?_)
              refine g_iload_n 3 dX3_move_2_118 rfl ?_
              refine g_bipush (by decide +kernel) dX3_move_2_119 ?_
              refine g_icmp_ne 136 dX3_move_2_121 (by decide) (fun _ => ra3) (fun _ => (by decide : inR (17))) (fun _ => ?_) (fun _ => ?_)
              · refine g_iload 5 dX3_move_2_124 rfl ?_
                refine g_iconst dX3_move_2_126 ?_
                refine g_icmp_ne 136 dX3_move_2_127 (by decide) (fun _ => ra5) (fun _ => (inR_z (Or.inr rfl))) (fun _ => ?_) (fun _ => ?_)
                · refine g_iload_n 2 dX3_move_2_130 rfl ?_
                  refine g_iconst dX3_move_2_131 ?_
                  refine g_iadd dX3_move_2_132 (fun v19 rv19 => ?_)
                  refine g_goto 137 dX3_move_2_133 (by decide) ?_
                  exact g_pick [0, 1, 2, 3, 4, 5] rfl (hj11 a1 a2 a3 a4 a5 v17 v19 s18 ra1 ra2 ra3 ra4 ra5 rv17 rv19)
                · exact g_pick [0, 1, 2, 3, 4, 5] rfl (hj15 a1 a2 a3 a4 a5 v17 s18 ra1 ra2 ra3 ra4 ra5 rv17)
              · exact g_pick [0, 1, 2, 3, 4, 5] rfl (hj15 a1 a2 a3 a4 a5 v17 s18 ra1 ra2 ra3 ra4 ra5 rv17)
    · exact g_pick [0, 1, 4] rfl (hx159 a1 a4 u ra1 ra4)
theorem wX3_move_2 (hd : 2 ≤ d) (hRf : d + 1 ≤ R.frames) (hRl : 40 * (d + 1) ≤ R.locals) (hX3_get : ∀ (a1 a2 : Int) (u : Sg), Ct l d FT clA yX3_get cX3_get 3 (some .int) DX3_get rvI [vR 0, vI a1, vI a2] u (call 7 [a1, a2] u)) (hX3_lift : ∀ (a1 a2 : Int) (u : Sg), Ct l d FT clA yX3_lift cX3_lift 3 (some .int) DX3_lift rvI [vR 0, vI a1, vI a2] u (call 59 [a1, a2] u)) (hX3_give : ∀ (a1 : Int) (u : Sg), Ct l d FT clA yX3_give cX3_give 2 none DX3_give rvV [vR 0, vI a1] u (call 3 [a1] u)) (hX3_isPart : ∀ (a1 a2 : Int) (u : Sg), Ct l d FT clA yX3_isPart cX3_isPart 4 (some .boolean) DX3_isPart rvI [vR 0, vI a1, vI a2] u (call 16 [a1, a2] u)) (hX3_move_2 : ∀ (a1 a2 : Int) (u : Sg), Ct l d FT clA yX3_move_2 cX3_move_2 6 (some .int) DX3_move_2 rvI [vR 0, vI a1, vI a2] u (call 79 [a1, a2] u)) (hX3_again : ∀ (a1 a2 : Int) (u : Sg), Ct l d FT clA yX3_again cX3_again 5 (some .int) DX3_again rvI [vR 0, vI a1, vI a2] u (call 43 [a1, a2] u)) (a1 a2 : Int) (u : Sg) (ra1 : inR a1) (ra2 : inR a2) : WG p l e R s m args below meth c JX3_move_2 DX3_move_2 G clA A FT ad0 σ0 rvI (bX3_move_2 call a1 a2 u) u 0 [(0, vR 0), (1, vI a1), (2, vI a2)] [] := by
  unfold bX3_move_2
  refine g_aload_n 0 dX3_move_2_0 rfl ?_
  refine g_get (v := vR 11) (ci := 2) (b := 0) (N := 83) 1 rfl rfl (by decide) in_X3 rfl rfl q1133 dX3_move_2_1 ?_
  refine g_iload_n 1 dX3_move_2_4 rfl ?_
  refine g_iald (id := 1) 0 rfl rfl dX3_move_2_5 (fun v1 rv1 => ?_)
  refine g_istore_n (loc' := [(3, vI v1), (0, vR 0), (1, vI a1), (2, vI a2)]) dX3_move_2_6 (by decide) rfl ?_
  refine g_iload_n 0 dX3_move_2_7 rfl ?_
  refine g_iconst dX3_move_2_8 ?_
  refine g_icmp_ne 61 dX3_move_2_9 (by decide) (fun _ => rv1) (fun _ => (by decide : inR (2))) (fun _ => ?_) (fun _ => ?_)
  · refine g_iconst dX3_move_2_12 ?_
    refine g_istore (loc' := [(4, vI 0), (3, vI v1), (0, vR 0), (1, vI a1), (2, vI a2)]) dX3_move_2_13 (by decide) rfl ?_
    refine g_pick [2, 3, 4, 0] rfl (wX3_move_2_L15 hd hRf hRl hX3_get hX3_lift hX3_give hX3_isPart hX3_move_2 hX3_again _ _ (fun v3 s2 rv3 => ?_) (fun v5 v6 s4 rv5 rv6 => ?_) KF a1 a2 0 u ra1 ra2 (inR_z (Or.inl rfl)))
    · refine g_iload_n 0 dX3_move_2_59 rfl ?_
      exact g_iret rfl rfl (fun _ => rv3) dX3_move_2_60
    · refine g_aload_n 0 dX3_move_2_40 rfl ?_
      refine g_aload_n 0 dX3_move_2_41 rfl ?_
      refine g_get (v := vR 25) (ci := 2) (b := 0) (N := 83) 15 rfl rfl (by decide) in_X3 rfl rfl q1147 dX3_move_2_42 ?_
      refine g_iload 2 dX3_move_2_45 rfl ?_
      refine g_iald (id := 15) 11 rfl rfl dX3_move_2_47 (fun v7 rv7 => ?_)
      refine g_iload_n 1 dX3_move_2_48 rfl ?_
      refine g_cVI (As := [vI v7, vI v5]) (n := 2) (stk := []) (ci := 2) (b := 0) (N := 83) (hX3_lift v7 v5 s4) (by decide +kernel) rfl rfl (lw_V q1577 q1579 qs109 q168 q1580) (by decide +kernel) rfl (by decide) hRf hRl (fun _ => (avc rv7 (avc rv5 avn))) (Nat.le_of_ble_eq_true rfl) rfl rfl dX3_move_2_49 (fun v8 s9 rv8 => ?_)
      exact g_iret rfl rfl (fun _ => rv8) dX3_move_2_52
  · refine g_iload_n 0 dX3_move_2_61 rfl ?_
    refine g_iconst dX3_move_2_62 ?_
    refine g_icmp_eq 77 dX3_move_2_63 (by decide) (fun _ => rv1) (fun _ => (by decide : inR (3))) (fun _ => ?_) (fun _ => ?_)
    · refine g_iload_n 2 dX3_move_2_77 rfl ?_
      exact g_iret rfl rfl (fun _ => ra1) dX3_move_2_78
    · refine g_iload_n 0 dX3_move_2_66 rfl ?_
      refine g_bipush (by decide +kernel) dX3_move_2_67 ?_
      refine g_icmp_eq 77 dX3_move_2_69 (by decide) (fun _ => rv1) (fun _ => (by decide : inR (8))) (fun _ => ?_) (fun _ => ?_)
      · refine g_iload_n 2 dX3_move_2_77 rfl ?_
        exact g_iret rfl rfl (fun _ => ra1) dX3_move_2_78
      · refine g_iload_n 0 dX3_move_2_72 rfl ?_
        refine g_iconst dX3_move_2_73 ?_
        refine g_icmp_ne 79 dX3_move_2_74 (by decide) (fun _ => rv1) (fun _ => (inR_z (Or.inr rfl))) (fun _ => ?_) (fun _ => ?_)
        · refine g_iload_n 2 dX3_move_2_77 rfl ?_
          exact g_iret rfl rfl (fun _ => ra1) dX3_move_2_78
        · refine g_aload_n 1 dX3_move_2_79 rfl ?_
          refine g_getI (ci := 2) (b := 0) (N := 83) 13 rfl rfl rfl (by decide) in_X3 rfl rfl q1145 dX3_move_2_80 (fun v10 rv10 => ?_)
          refine g_istore (loc' := [(4, vI v10), (3, vI v1), (0, vR 0), (1, vI a1), (2, vI a2)]) dX3_move_2_83 (by decide) rfl ?_
          refine g_iconst dX3_move_2_85 ?_
          refine g_istore (loc' := [(5, vI 0), (4, vI v10), (3, vI v1), (0, vR 0), (1, vI a1), (2, vI a2)]) dX3_move_2_86 (by decide) rfl ?_
          refine g_pick [3, 4, 5, 2, 1, 0] rfl (wX3_move_2_L88 hd hRf hRl hX3_get hX3_lift hX3_give hX3_isPart hX3_move_2 hX3_again _ (fun v12 v13 s11 rv12 rv13 => ?_) KF a1 a2 v1 v10 0 u ra1 ra2 rv1 rv10 (inR_z (Or.inl rfl)))
          · refine g_aload_n 0 dX3_move_2_159 rfl ?_
            refine g_iload_n 1 dX3_move_2_160 rfl ?_
            refine g_iload 2 dX3_move_2_161 rfl ?_
            refine g_cVI (As := [vI v12, vI v13]) (n := 2) (stk := []) (ci := 2) (b := 0) (N := 83) (hX3_again v12 v13 s11) (by decide +kernel) rfl rfl (lw_V q1511 q1513 qs99 q168 q1514) (by decide +kernel) rfl (by decide) hRf hRl (fun _ => (avc rv12 (avc rv13 avn))) (Nat.le_of_ble_eq_true rfl) rfl rfl dX3_move_2_163 (fun v14 s15 rv14 => ?_)
            exact g_iret rfl rfl (fun _ => rv14) dX3_move_2_166
end
section
variable {l : Launch} {d : Nat} {call : Nat → List Int → Sg → Option (Int × Sg)}
theorem ctX3_move_2 (p0 : Program) (e0 : Env) (s0 : State) (m0 : MethodId) (meth0 : Method) (c0 : Code) (G0 : Gm) (hd : 2 ≤ d) (hX3_get : ∀ (a1 a2 : Int) (u : Sg), Ct l d FT clA yX3_get cX3_get 3 (some .int) DX3_get rvI [vR 0, vI a1, vI a2] u (call 7 [a1, a2] u)) (hX3_lift : ∀ (a1 a2 : Int) (u : Sg), Ct l d FT clA yX3_lift cX3_lift 3 (some .int) DX3_lift rvI [vR 0, vI a1, vI a2] u (call 59 [a1, a2] u)) (hX3_give : ∀ (a1 : Int) (u : Sg), Ct l d FT clA yX3_give cX3_give 2 none DX3_give rvV [vR 0, vI a1] u (call 3 [a1] u)) (hX3_isPart : ∀ (a1 a2 : Int) (u : Sg), Ct l d FT clA yX3_isPart cX3_isPart 4 (some .boolean) DX3_isPart rvI [vR 0, vI a1, vI a2] u (call 16 [a1, a2] u)) (hX3_move_2 : ∀ (a1 a2 : Int) (u : Sg), Ct l d FT clA yX3_move_2 cX3_move_2 6 (some .int) DX3_move_2 rvI [vR 0, vI a1, vI a2] u (call 79 [a1, a2] u)) (hX3_again : ∀ (a1 a2 : Int) (u : Sg), Ct l d FT clA yX3_again cX3_again 5 (some .int) DX3_again rvI [vR 0, vI a1, vI a2] u (call 43 [a1, a2] u)) (a1 a2 : Int) (u : Sg) : Ct l (d + 1) FT clA yX3_move_2 cX3_move_2 6 (some .int) DX3_move_2 rvI [vR 0, vI a1, vI a2] u (bX3_move_2 call a1 a2 u) :=
  Ct_of (by decide) (Nat.le_of_ble_eq_true rfl) (fun p e R s1 m args below meth c G A ad hA hRf hRl => wX3_move_2 hd hRf hRl hX3_get hX3_lift hX3_give hX3_isPart hX3_move_2 hX3_again a1 a2 u (hA _ (List.mem_cons_of_mem _ List.mem_cons_self)) (hA _ (List.mem_cons_of_mem _ (List.mem_cons_of_mem _ List.mem_cons_self)))) p0 e0 s0 m0 meth0 c0 G0
end
/-! RoundCheckModel.typeOf(I)I -/
abbrev JX3_typeOf : Jm := (cX3_typeOf, RX3, 2, (some .int))
def bX3_typeOf (call : Nat → List Int → Sg → Option (Int × Sg)) (a1 : Int) (u : Sg) : Option (Int × Sg) := ld u 1 a1 fun v1 => if v1 = 2 then (cl (call 7 [a1, 0] u) fun v2 s3 => gd (keeps [18] u s3 = true) (ld s3 18 v2 fun v4 => some (v4, s3))) else (ld u 1 a1 fun v5 => if v5 = 5 then (cl (call 7 [a1, 0] u) fun v6 s7 => some (v6, s7)) else (cl (call 81 [a1] u) fun v8 s9 => cl (call 7 [a1, 0] s9) fun v10 s11 => gd (keeps [21] s9 s11 = true) (ld s11 21 v10 fun v12 => cl (call 78 [v12] s11) fun v13 s14 => some (v13, s14))))
section
variable {p : Program} {l : Launch} {e : Env} {R : Room} {s : State} {m : MethodId} {args : Array Value} {below : List Frame} {meth : Method} {c : Code} {G : Gm} {A : Nat → Prop} {ad0 : Nat → Nat} {σ0 : Sg} {d : Nat} {call : Nat → List Int → Sg → Option (Int × Sg)}
theorem wX3_typeOf (hd : 2 ≤ d) (hRf : d + 1 ≤ R.frames) (hRl : 40 * (d + 1) ≤ R.locals) (hX3_get : ∀ (a1 a2 : Int) (u : Sg), Ct l d FT clA yX3_get cX3_get 3 (some .int) DX3_get rvI [vR 0, vI a1, vI a2] u (call 7 [a1, a2] u)) (hX3_moveLoci : ∀ (a1 : Int) (u : Sg), Ct l d FT clA yX3_moveLoci cX3_moveLoci 3 none DX3_moveLoci rvV [vR 0, vI a1] u (call 81 [a1] u)) (hX3_move : ∀ (a1 : Int) (u : Sg), Ct l d FT clA yX3_move cX3_move 2 (some .int) DX3_move rvI [vR 0, vI a1] u (call 78 [a1] u)) (a1 : Int) (u : Sg) (ra1 : inR a1) : WG p l e R s m args below meth c JX3_typeOf DX3_typeOf G clA A FT ad0 σ0 rvI (bX3_typeOf call a1 u) u 0 [(0, vR 0), (1, vI a1)] [] := by
  unfold bX3_typeOf
  refine g_aload_n 0 dX3_typeOf_0 rfl ?_
  refine g_get (v := vR 11) (ci := 2) (b := 0) (N := 83) 1 rfl rfl (by decide) in_X3 rfl rfl q1133 dX3_typeOf_1 ?_
  refine g_iload_n 1 dX3_typeOf_4 rfl ?_
  refine g_iald (id := 1) 0 rfl rfl dX3_typeOf_5 (fun v1 rv1 => ?_)
  refine g_iconst dX3_typeOf_6 ?_
  refine g_icmp_ne 22 dX3_typeOf_7 (by decide) (fun _ => rv1) (fun _ => (by decide : inR (2))) (fun _ => ?_) (fun _ => ?_)
  · refine g_aload_n 0 dX3_typeOf_10 rfl ?_
    refine g_get (v := vR 28) (ci := 2) (b := 0) (N := 83) 18 rfl rfl (by decide) in_X3 rfl rfl q1150 dX3_typeOf_11 ?_
    refine g_aload_n 0 dX3_typeOf_14 rfl ?_
    refine g_iload_n 1 dX3_typeOf_15 rfl ?_
    refine g_iconst dX3_typeOf_16 ?_
    refine g_cVIk [18] (As := [vI a1, vI 0]) (n := 2) (stk := [vR 28]) (ci := 2) (b := 0) (N := 83) (hX3_get a1 0 u) (by decide +kernel) rfl rfl (lw_V q1116 q1118 qs76 q168 q1119) (by decide +kernel) rfl (by decide) hRf hRl (fun _ => (avc ra1 (avc (inR_z (Or.inl rfl)) avn))) (Nat.le_of_ble_eq_true rfl) rfl rfl dX3_typeOf_17 (fun v2 s3 rv2 => ?_)
    refine g_iald (id := 18) 13 rfl rfl dX3_typeOf_20 (fun v4 rv4 => ?_)
    exact g_iret rfl rfl (fun _ => rv4) dX3_typeOf_21
  · refine g_aload_n 0 dX3_typeOf_22 rfl ?_
    refine g_get (v := vR 11) (ci := 2) (b := 0) (N := 83) 1 rfl rfl (by decide) in_X3 rfl rfl q1133 dX3_typeOf_23 ?_
    refine g_iload_n 1 dX3_typeOf_26 rfl ?_
    refine g_iald (id := 1) 0 rfl rfl dX3_typeOf_27 (fun v5 rv5 => ?_)
    refine g_iconst dX3_typeOf_28 ?_
    refine g_icmp_ne 39 dX3_typeOf_29 (by decide) (fun _ => rv5) (fun _ => (by decide : inR (5))) (fun _ => ?_) (fun _ => ?_)
    · refine g_aload_n 0 dX3_typeOf_32 rfl ?_
      refine g_iload_n 1 dX3_typeOf_33 rfl ?_
      refine g_iconst dX3_typeOf_34 ?_
      refine g_cVI (As := [vI a1, vI 0]) (n := 2) (stk := []) (ci := 2) (b := 0) (N := 83) (hX3_get a1 0 u) (by decide +kernel) rfl rfl (lw_V q1116 q1118 qs76 q168 q1119) (by decide +kernel) rfl (by decide) hRf hRl (fun _ => (avc ra1 (avc (inR_z (Or.inl rfl)) avn))) (Nat.le_of_ble_eq_true rfl) rfl rfl dX3_typeOf_35 (fun v6 s7 rv6 => ?_)
      exact g_iret rfl rfl (fun _ => rv6) dX3_typeOf_38
    · refine g_aload_n 0 dX3_typeOf_39 rfl ?_
      refine g_iload_n 1 dX3_typeOf_40 rfl ?_
      refine g_cVV (As := [vI a1]) (n := 1) (stk := []) (ci := 2) (b := 0) (N := 83) (hX3_moveLoci a1 u) (by decide +kernel) rfl rfl (lw_V q1666 q1668 qs130 q168 q1669) (by decide +kernel) rfl (by decide) hRf hRl (fun _ => (avc ra1 avn)) (Nat.le_of_ble_eq_true rfl) rfl rfl dX3_typeOf_41 (fun v8 s9 => ?_)
      refine g_aload_n 0 dX3_typeOf_44 rfl ?_
      refine g_aload_n 0 dX3_typeOf_45 rfl ?_
      refine g_get (v := vR 31) (ci := 2) (b := 0) (N := 83) 21 rfl rfl (by decide) in_X3 rfl rfl q1153 dX3_typeOf_46 ?_
      refine g_aload_n 0 dX3_typeOf_49 rfl ?_
      refine g_iload_n 1 dX3_typeOf_50 rfl ?_
      refine g_iconst dX3_typeOf_51 ?_
      refine g_cVIk [21] (As := [vI a1, vI 0]) (n := 2) (stk := [vR 31, vR 0]) (ci := 2) (b := 0) (N := 83) (hX3_get a1 0 s9) (by decide +kernel) rfl rfl (lw_V q1116 q1118 qs76 q168 q1119) (by decide +kernel) rfl (by decide) hRf hRl (fun _ => (avc ra1 (avc (inR_z (Or.inl rfl)) avn))) (Nat.le_of_ble_eq_true rfl) rfl rfl dX3_typeOf_52 (fun v10 s11 rv10 => ?_)
      refine g_iald (id := 21) 15 rfl rfl dX3_typeOf_55 (fun v12 rv12 => ?_)
      refine g_cVI (As := [vI v12]) (n := 1) (stk := []) (ci := 2) (b := 0) (N := 83) (hX3_move v12 s11) (by decide +kernel) rfl rfl (lw_V q1654 q1656 qs127 q168 q1657) (by decide +kernel) rfl (by decide) hRf hRl (fun _ => (avc rv12 avn)) (Nat.le_of_ble_eq_true rfl) rfl rfl dX3_typeOf_56 (fun v13 s14 rv13 => ?_)
      exact g_iret rfl rfl (fun _ => rv13) dX3_typeOf_59
end
section
variable {l : Launch} {d : Nat} {call : Nat → List Int → Sg → Option (Int × Sg)}
theorem ctX3_typeOf (p0 : Program) (e0 : Env) (s0 : State) (m0 : MethodId) (meth0 : Method) (c0 : Code) (G0 : Gm) (hd : 2 ≤ d) (hX3_get : ∀ (a1 a2 : Int) (u : Sg), Ct l d FT clA yX3_get cX3_get 3 (some .int) DX3_get rvI [vR 0, vI a1, vI a2] u (call 7 [a1, a2] u)) (hX3_moveLoci : ∀ (a1 : Int) (u : Sg), Ct l d FT clA yX3_moveLoci cX3_moveLoci 3 none DX3_moveLoci rvV [vR 0, vI a1] u (call 81 [a1] u)) (hX3_move : ∀ (a1 : Int) (u : Sg), Ct l d FT clA yX3_move cX3_move 2 (some .int) DX3_move rvI [vR 0, vI a1] u (call 78 [a1] u)) (a1 : Int) (u : Sg) : Ct l (d + 1) FT clA yX3_typeOf cX3_typeOf 2 (some .int) DX3_typeOf rvI [vR 0, vI a1] u (bX3_typeOf call a1 u) :=
  Ct_of (by decide) (Nat.le_of_ble_eq_true rfl) (fun p e R s1 m args below meth c G A ad hA hRf hRl => wX3_typeOf hd hRf hRl hX3_get hX3_moveLoci hX3_move a1 u (hA _ (List.mem_cons_of_mem _ List.mem_cons_self))) p0 e0 s0 m0 meth0 c0 G0
end
/-! RoundCheckModel.moveLoci(I)V -/
abbrev JX3_moveLoci : Jm := (cX3_moveLoci, RX3, 3, none)
def bX3_moveLoci_L14 (call : Nat → List Int → Sg → Option (Int × Sg)) : Nat → Int → Int → Sg → (Sg → Option (Int × Sg)) → Option (Int × Sg)
  | 0, _, _, _, _ => none
  | n + 1, a1, a2, u, x49 => un (gI u 16) fun v1 => if a2 < v1 then (stA u 14 a2 a2 fun s2 => ar (1 + a2) fun v3 => cl (call 7 [a1, v3] s2) fun v4 s5 => gd (keeps [15] s2 s5 = true) (stA s5 15 a2 v4 fun s6 => ar (a2 + 1) fun v7 => bX3_moveLoci_L14 call n a1 v7 s6 x49)) else (x49 u)
def bX3_moveLoci (call : Nat → List Int → Sg → Option (Int × Sg)) (a1 : Int) (u : Sg) : Option (Int × Sg) := ld u 3 a1 fun v1 => ar (v1 - 1) fun v2 => un (sI u 16 v2) fun s3 => bX3_moveLoci_L14 call KF a1 0 s3 (fun s4 => some (0, s4))
section
variable {p : Program} {l : Launch} {e : Env} {R : Room} {s : State} {m : MethodId} {args : Array Value} {below : List Frame} {meth : Method} {c : Code} {G : Gm} {A : Nat → Prop} {ad0 : Nat → Nat} {σ0 : Sg} {d : Nat} {call : Nat → List Int → Sg → Option (Int × Sg)}
theorem wX3_moveLoci_L14 (hd : 2 ≤ d) (hRf : d + 1 ≤ R.frames) (hRl : 40 * (d + 1) ≤ R.locals) (hX3_get : ∀ (a1 a2 : Int) (u : Sg), Ct l d FT clA yX3_get cX3_get 3 (some .int) DX3_get rvI [vR 0, vI a1, vI a2] u (call 7 [a1, a2] u)) (x49 : Sg → Option (Int × Sg)) (hx49 : ∀ (u : Sg), WG p l e R s m args below meth c JX3_moveLoci DX3_moveLoci G clA A FT ad0 σ0 rvV (x49 u) u 49 [] []) : ∀ (n : Nat) (a1 a2 : Int) (u : Sg), inR a1 → inR a2 → WG p l e R s m args below meth c JX3_moveLoci DX3_moveLoci G clA A FT ad0 σ0 rvV (bX3_moveLoci_L14 call n a1 a2 u x49) u 14 [(0, vR 0), (1, vI a1), (2, vI a2)] [] := by
  intro n
  induction n with
  | zero =>
    intro a1 a2 u ra1 ra2
    exact g_none
  | succ n ih =>
    intro a1 a2 u ra1 ra2
    rw [bX3_moveLoci_L14]
    refine g_iload_n 2 dX3_moveLoci_14 rfl ?_
    refine g_aload_n 0 dX3_moveLoci_15 rfl ?_
    refine g_getI (ci := 2) (b := 0) (N := 83) 16 rfl rfl rfl (by decide) in_X3 rfl rfl q1148 dX3_moveLoci_16 (fun v1 rv1 => ?_)
    refine g_icmp_ge 49 dX3_moveLoci_19 (by decide) (fun _ => ra2) (fun _ => rv1) (fun _ => ?_) (fun _ => ?_)
    · refine g_aload_n 0 dX3_moveLoci_22 rfl ?_
      refine g_get (v := vR 24) (ci := 2) (b := 0) (N := 83) 14 rfl rfl (by decide) in_X3 rfl rfl q1146 dX3_moveLoci_23 ?_
      refine g_iload_n 2 dX3_moveLoci_26 rfl ?_
      refine g_iload_n 2 dX3_moveLoci_27 rfl ?_
      refine g_iastU (id := 14) FT_ok 10 rfl rfl (by decide +kernel) ra2 dX3_moveLoci_28 (fun s2 => ?_)
      refine g_aload_n 0 dX3_moveLoci_29 rfl ?_
      refine g_get (v := vR 25) (ci := 2) (b := 0) (N := 83) 15 rfl rfl (by decide) in_X3 rfl rfl q1147 dX3_moveLoci_30 ?_
      refine g_iload_n 2 dX3_moveLoci_33 rfl ?_
      refine g_aload_n 0 dX3_moveLoci_34 rfl ?_
      refine g_iload_n 1 dX3_moveLoci_35 rfl ?_
      refine g_iconst dX3_moveLoci_36 ?_
      refine g_iload_n 2 dX3_moveLoci_37 rfl ?_
      refine g_iadd dX3_moveLoci_38 (fun v3 rv3 => ?_)
      refine g_cVIk [15] (As := [vI a1, vI v3]) (n := 2) (stk := [vI a2, vR 25]) (ci := 2) (b := 0) (N := 83) (hX3_get a1 v3 s2) (by decide +kernel) rfl rfl (lw_V q1116 q1118 qs76 q168 q1119) (by decide +kernel) rfl (by decide) hRf hRl (fun _ => (avc ra1 (avc rv3 avn))) (Nat.le_of_ble_eq_true rfl) rfl rfl dX3_moveLoci_39 (fun v4 s5 rv4 => ?_)
      refine g_iastU (id := 15) FT_ok 11 rfl rfl (by decide +kernel) rv4 dX3_moveLoci_42 (fun s6 => ?_)
      refine g_iinc 2 (loc' := fun v7 => [(2, vI v7), (0, vR 0), (1, vI a1)]) dX3_moveLoci_43 rfl (by decide) (fun _ => rfl) (fun v7 rv7 => ?_)
      refine g_goto 14 dX3_moveLoci_46 (by decide) ?_
      exact g_pick [1, 2, 0] rfl (ih a1 v7 s6 ra1 rv7)
    · exact g_pick [] rfl (hx49 u)
theorem wX3_moveLoci (hd : 2 ≤ d) (hRf : d + 1 ≤ R.frames) (hRl : 40 * (d + 1) ≤ R.locals) (hX3_get : ∀ (a1 a2 : Int) (u : Sg), Ct l d FT clA yX3_get cX3_get 3 (some .int) DX3_get rvI [vR 0, vI a1, vI a2] u (call 7 [a1, a2] u)) (a1 : Int) (u : Sg) (ra1 : inR a1) : WG p l e R s m args below meth c JX3_moveLoci DX3_moveLoci G clA A FT ad0 σ0 rvV (bX3_moveLoci call a1 u) u 0 [(0, vR 0), (1, vI a1)] [] := by
  unfold bX3_moveLoci
  refine g_aload_n 0 dX3_moveLoci_0 rfl ?_
  refine g_aload_n 0 dX3_moveLoci_1 rfl ?_
  refine g_get (v := vR 13) (ci := 2) (b := 0) (N := 83) 3 rfl rfl (by decide) in_X3 rfl rfl q1135 dX3_moveLoci_2 ?_
  refine g_iload_n 1 dX3_moveLoci_5 rfl ?_
  refine g_iald (id := 3) 2 rfl rfl dX3_moveLoci_6 (fun v1 rv1 => ?_)
  refine g_iconst dX3_moveLoci_7 ?_
  refine g_isub dX3_moveLoci_8 (fun v2 rv2 => ?_)
  refine g_sIU (ci := 2) (b := 0) (N := 83) FT_ok 16 rfl rfl rfl (by decide) in_X3 tyX3 tyX3_ok nmX3 rfl rfl rfl rfl (by decide +kernel) rv2 q1148 dX3_moveLoci_9 (fun s3 => ?_)
  refine g_iconst dX3_moveLoci_12 ?_
  refine g_istore_n (loc' := [(2, vI 0), (0, vR 0), (1, vI a1)]) dX3_moveLoci_13 (by decide) rfl ?_
  refine g_pick [1, 2, 0] rfl (wX3_moveLoci_L14 hd hRf hRl hX3_get _ (fun s4 => ?_) KF a1 0 s3 ra1 (inR_z (Or.inl rfl)))
  · exact g_vret rfl rfl dX3_moveLoci_49
end
section
variable {l : Launch} {d : Nat} {call : Nat → List Int → Sg → Option (Int × Sg)}
theorem ctX3_moveLoci (p0 : Program) (e0 : Env) (s0 : State) (m0 : MethodId) (meth0 : Method) (c0 : Code) (G0 : Gm) (hd : 2 ≤ d) (hX3_get : ∀ (a1 a2 : Int) (u : Sg), Ct l d FT clA yX3_get cX3_get 3 (some .int) DX3_get rvI [vR 0, vI a1, vI a2] u (call 7 [a1, a2] u)) (a1 : Int) (u : Sg) : Ct l (d + 1) FT clA yX3_moveLoci cX3_moveLoci 3 none DX3_moveLoci rvV [vR 0, vI a1] u (bX3_moveLoci call a1 u) :=
  Ct_of (by decide) (Nat.le_of_ble_eq_true rfl) (fun p e R s1 m args below meth c G A ad hA hRf hRl => wX3_moveLoci hd hRf hRl hX3_get a1 u (hA _ (List.mem_cons_of_mem _ List.mem_cons_self))) p0 e0 s0 m0 meth0 c0 G0
end
/-! RoundCheckModel.isCongruent(II)Z -/
abbrev JX3_isCongruent : Jm := (cX3_isCongruent, RX3, 7, (some .boolean))
def bX3_isCongruent_L104 (call : Nat → List Int → Sg → Option (Int × Sg)) : Nat → Int → Int → Int → Sg → (Int → Int → Sg → Option (Int × Sg)) → (Sg → Option (Int × Sg)) → Option (Int × Sg)
  | 0, _, _, _, _, _, _ => none
  | n + 1, a4, a5, a6, u, x143, x135 => ld u 3 a4 fun v1 => if a6 < v1 then (cl (call 7 [a4, a6] u) fun v2 s3 => cl (call 7 [a5, a6] s3) fun v4 s5 => if v2 = v4 then (ar (a6 + 1) fun v6 => bX3_isCongruent_L104 call n a4 a5 v6 s5 x143 x135) else (x135 s5)) else (x143 a4 a5 u)
def bX3_isCongruent_L182 (call : Nat → List Int → Sg → Option (Int × Sg)) : Nat → Int → Int → Int → Sg → (Sg → Option (Int × Sg)) → (Sg → Option (Int × Sg)) → Option (Int × Sg)
  | 0, _, _, _, _, _, _ => none
  | n + 1, a1, a2, a4, u, x222, x214 => ld u 3 a1 fun v1 => if a4 < v1 then (cl (call 7 [a1, a4] u) fun v2 s3 => cl (call 7 [a2, a4] s3) fun v4 s5 => cl (call 76 [v2, v4] s5) fun v6 s7 => if v6 = 0 then (x214 s7) else (ar (a4 + 1) fun v8 => bX3_isCongruent_L182 call n a1 a2 v8 s7 x222 x214)) else (x222 u)
def bX3_isCongruent (call : Nat → List Int → Sg → Option (Int × Sg)) (a1 a2 : Int) (u : Sg) : Option (Int × Sg) := ld u 1 a1 fun v1 => ld u 1 a2 fun v2 => if v1 = v2 then (ld u 3 a1 fun v3 => ld u 3 a2 fun v4 => if v3 = v4 then (jn (fun (a1 a2 a3 : Int) (s6 : Sg) => if a3 = 5 then (cl (call 7 [a1, 0] s6) fun v7 s8 => cl (call 7 [a2, 0] s8) fun v9 s10 => ld s10 3 v7 fun v11 => ld s10 3 v9 fun v12 => if v11 = v12 then (cl (call 7 [v7, 0] s10) fun v13 s14 => cl (call 7 [v9, 0] s14) fun v15 s16 => if v13 = v15 then (bX3_isCongruent_L104 call KF v7 v9 2 s16 (fun v18 v19 s17 => cl (call 7 [v18, 1] s17) fun v20 s21 => cl (call 7 [v19, 1] s21) fun v22 s23 => cl (call 76 [v20, v22] s23) fun v24 s25 => some (v24, s25)) (fun s26 => some (0, s26))) else (some (0, s16))) else (some (0, s10))) else (cl (call 7 [a1, 0] s6) fun v27 s28 => cl (call 7 [a2, 0] s28) fun v29 s30 => if v27 = v29 then (bX3_isCongruent_L182 call KF a1 a2 1 s30 (fun s31 => some (1, s31)) (fun s32 => some (0, s32))) else (some (0, s30)))) fun j5 => if v1 = 4 then (j5 a1 a2 v1 u) else (if v1 = 5 then (j5 a1 a2 v1 u) else (some (0, u)))) else (some (0, u))) else (some (0, u))
section
variable {p : Program} {l : Launch} {e : Env} {R : Room} {s : State} {m : MethodId} {args : Array Value} {below : List Frame} {meth : Method} {c : Code} {G : Gm} {A : Nat → Prop} {ad0 : Nat → Nat} {σ0 : Sg} {d : Nat} {call : Nat → List Int → Sg → Option (Int × Sg)}
theorem wX3_isCongruent_L104 (hd : 2 ≤ d) (hRf : d + 1 ≤ R.frames) (hRl : 40 * (d + 1) ≤ R.locals) (hX3_get : ∀ (a1 a2 : Int) (u : Sg), Ct l d FT clA yX3_get cX3_get 3 (some .int) DX3_get rvI [vR 0, vI a1, vI a2] u (call 7 [a1, a2] u)) (hX3_equal : ∀ (a1 a2 : Int) (u : Sg), Ct l d FT clA yX3_equal cX3_equal 5 (some .boolean) DX3_equal rvI [vR 0, vI a1, vI a2] u (call 76 [a1, a2] u)) (x143 : Int → Int → Sg → Option (Int × Sg)) (x135 : Sg → Option (Int × Sg)) (hx143 : ∀ (a4 a5 : Int) (u : Sg), inR a4 → inR a5 → WG p l e R s m args below meth c JX3_isCongruent DX3_isCongruent G clA A FT ad0 σ0 rvI (x143 a4 a5 u) u 143 [(0, vR 0), (4, vI a4), (5, vI a5)] []) (hx135 : ∀ (u : Sg), WG p l e R s m args below meth c JX3_isCongruent DX3_isCongruent G clA A FT ad0 σ0 rvI (x135 u) u 135 [] []) : ∀ (n : Nat) (a4 a5 a6 : Int) (u : Sg), inR a4 → inR a5 → inR a6 → WG p l e R s m args below meth c JX3_isCongruent DX3_isCongruent G clA A FT ad0 σ0 rvI (bX3_isCongruent_L104 call n a4 a5 a6 u x143 x135) u 104 [(0, vR 0), (4, vI a4), (5, vI a5), (6, vI a6)] [] := by
  intro n
  induction n with
  | zero =>
    intro a4 a5 a6 u ra4 ra5 ra6
    exact g_none
  | succ n ih =>
    intro a4 a5 a6 u ra4 ra5 ra6
    rw [bX3_isCongruent_L104]
    refine g_iload 3 dX3_isCongruent_104 rfl ?_
    refine g_aload_n 0 dX3_isCongruent_106 rfl ?_
    refine g_get (v := vR 13) (ci := 2) (b := 0) (N := 83) 3 rfl rfl (by decide) in_X3 rfl rfl q1135 dX3_isCongruent_107 ?_
    refine g_iload 1 dX3_isCongruent_110 rfl ?_
    refine g_iald (id := 3) 2 rfl rfl dX3_isCongruent_112 (fun v1 rv1 => ?_)
    refine g_icmp_ge 143 dX3_isCongruent_113 (by decide) (fun _ => ra6) (fun _ => rv1) (fun _ => ?_) (fun _ => ?_)
    · refine g_aload_n 0 dX3_isCongruent_116 rfl ?_
      refine g_iload 1 dX3_isCongruent_117 rfl ?_
      refine g_iload 3 dX3_isCongruent_119 rfl ?_
      refine g_cVI (As := [vI a4, vI a6]) (n := 2) (stk := []) (ci := 2) (b := 0) (N := 83) (hX3_get a4 a6 u) (by decide +kernel) rfl rfl (lw_V q1116 q1118 qs76 q168 q1119) (by decide +kernel) rfl (by decide) hRf hRl (fun _ => (avc ra4 (avc ra6 avn))) (Nat.le_of_ble_eq_true rfl) rfl rfl dX3_isCongruent_121 (fun v2 s3 rv2 => ?_)
      refine g_aload_n 0 dX3_isCongruent_124 rfl ?_
      refine g_iload 2 dX3_isCongruent_125 rfl ?_
      refine g_iload 3 dX3_isCongruent_127 rfl ?_
      refine g_cVI (As := [vI a5, vI a6]) (n := 2) (stk := [vI v2]) (ci := 2) (b := 0) (N := 83) (hX3_get a5 a6 s3) (by decide +kernel) rfl rfl (lw_V q1116 q1118 qs76 q168 q1119) (by decide +kernel) rfl (by decide) hRf hRl (fun _ => (avc ra5 (avc ra6 avn))) (Nat.le_of_ble_eq_true rfl) rfl rfl dX3_isCongruent_129 (fun v4 s5 rv4 => ?_)
      refine g_icmp_eq 137 dX3_isCongruent_132 (by decide) (fun _ => rv2) (fun _ => rv4) (fun _ => ?_) (fun _ => ?_)
      · refine g_iinc 3 (loc' := fun v6 => [(6, vI v6), (0, vR 0), (4, vI a4), (5, vI a5)]) dX3_isCongruent_137 rfl (by decide) (fun _ => rfl) (fun v6 rv6 => ?_)
        refine g_goto 104 dX3_isCongruent_140 (by decide) ?_
        exact g_pick [1, 2, 3, 0] rfl (ih a4 a5 v6 s5 ra4 ra5 rv6)
      · exact g_pick [] rfl (hx135 s5)
    · exact g_pick [0, 1, 2] rfl (hx143 a4 a5 u ra4 ra5)
theorem wX3_isCongruent_L182 (hd : 2 ≤ d) (hRf : d + 1 ≤ R.frames) (hRl : 40 * (d + 1) ≤ R.locals) (hX3_get : ∀ (a1 a2 : Int) (u : Sg), Ct l d FT clA yX3_get cX3_get 3 (some .int) DX3_get rvI [vR 0, vI a1, vI a2] u (call 7 [a1, a2] u)) (hX3_equal : ∀ (a1 a2 : Int) (u : Sg), Ct l d FT clA yX3_equal cX3_equal 5 (some .boolean) DX3_equal rvI [vR 0, vI a1, vI a2] u (call 76 [a1, a2] u)) (x222 : Sg → Option (Int × Sg)) (x214 : Sg → Option (Int × Sg)) (hx222 : ∀ (u : Sg), WG p l e R s m args below meth c JX3_isCongruent DX3_isCongruent G clA A FT ad0 σ0 rvI (x222 u) u 222 [] []) (hx214 : ∀ (u : Sg), WG p l e R s m args below meth c JX3_isCongruent DX3_isCongruent G clA A FT ad0 σ0 rvI (x214 u) u 214 [] []) : ∀ (n : Nat) (a1 a2 a4 : Int) (u : Sg), inR a1 → inR a2 → inR a4 → WG p l e R s m args below meth c JX3_isCongruent DX3_isCongruent G clA A FT ad0 σ0 rvI (bX3_isCongruent_L182 call n a1 a2 a4 u x222 x214) u 182 [(0, vR 0), (1, vI a1), (2, vI a2), (4, vI a4)] [] := by
  intro n
  induction n with
  | zero =>
    intro a1 a2 a4 u ra1 ra2 ra4
    exact g_none
  | succ n ih =>
    intro a1 a2 a4 u ra1 ra2 ra4
    rw [bX3_isCongruent_L182]
    refine g_iload 3 dX3_isCongruent_182 rfl ?_
    refine g_aload_n 0 dX3_isCongruent_184 rfl ?_
    refine g_get (v := vR 13) (ci := 2) (b := 0) (N := 83) 3 rfl rfl (by decide) in_X3 rfl rfl q1135 dX3_isCongruent_185 ?_
    refine g_iload_n 1 dX3_isCongruent_188 rfl ?_
    refine g_iald (id := 3) 2 rfl rfl dX3_isCongruent_189 (fun v1 rv1 => ?_)
    refine g_icmp_ge 222 dX3_isCongruent_190 (by decide) (fun _ => ra4) (fun _ => rv1) (fun _ => ?_) (fun _ => ?_)
    · refine g_aload_n 0 dX3_isCongruent_193 rfl ?_
      refine g_aload_n 0 dX3_isCongruent_194 rfl ?_
      refine g_iload_n 1 dX3_isCongruent_195 rfl ?_
      refine g_iload 3 dX3_isCongruent_196 rfl ?_
      refine g_cVI (As := [vI a1, vI a4]) (n := 2) (stk := [vR 0]) (ci := 2) (b := 0) (N := 83) (hX3_get a1 a4 u) (by decide +kernel) rfl rfl (lw_V q1116 q1118 qs76 q168 q1119) (by decide +kernel) rfl (by decide) hRf hRl (fun _ => (avc ra1 (avc ra4 avn))) (Nat.le_of_ble_eq_true rfl) rfl rfl dX3_isCongruent_198 (fun v2 s3 rv2 => ?_)
      refine g_aload_n 0 dX3_isCongruent_201 rfl ?_
      refine g_iload_n 2 dX3_isCongruent_202 rfl ?_
      refine g_iload 3 dX3_isCongruent_203 rfl ?_
      refine g_cVI (As := [vI a2, vI a4]) (n := 2) (stk := [vI v2, vR 0]) (ci := 2) (b := 0) (N := 83) (hX3_get a2 a4 s3) (by decide +kernel) rfl rfl (lw_V q1116 q1118 qs76 q168 q1119) (by decide +kernel) rfl (by decide) hRf hRl (fun _ => (avc ra2 (avc ra4 avn))) (Nat.le_of_ble_eq_true rfl) rfl rfl dX3_isCongruent_205 (fun v4 s5 rv4 => ?_)
      refine g_cVZ (As := [vI v2, vI v4]) (n := 2) (stk := []) (ci := 2) (b := 0) (N := 83) (hX3_equal v2 v4 s5) (by decide +kernel) rfl rfl (lw_V q1646 q1648 qs125 q168 q1649) (by decide +kernel) rfl (by decide) hRf hRl (fun _ => (avc rv2 (avc rv4 avn))) (Nat.le_of_ble_eq_true rfl) rfl rfl dX3_isCongruent_208 (fun v6 s7 zv6 => ?_)
      refine g_if_ne 216 dX3_isCongruent_211 (by decide) (fun _ => (inR_z zv6)) (fun _ => ?_) (fun _ => ?_)
      · exact g_pick [] rfl (hx214 s7)
      · refine g_iinc 3 (loc' := fun v8 => [(4, vI v8), (0, vR 0), (1, vI a1), (2, vI a2)]) dX3_isCongruent_216 rfl (by decide) (fun _ => rfl) (fun v8 rv8 => ?_)
        refine g_goto 182 dX3_isCongruent_219 (by decide) ?_
        exact g_pick [1, 2, 3, 0] rfl (ih a1 a2 v8 s7 ra1 ra2 rv8)
    · exact g_pick [] rfl (hx222 u)
theorem wX3_isCongruent (hd : 2 ≤ d) (hRf : d + 1 ≤ R.frames) (hRl : 40 * (d + 1) ≤ R.locals) (hX3_get : ∀ (a1 a2 : Int) (u : Sg), Ct l d FT clA yX3_get cX3_get 3 (some .int) DX3_get rvI [vR 0, vI a1, vI a2] u (call 7 [a1, a2] u)) (hX3_equal : ∀ (a1 a2 : Int) (u : Sg), Ct l d FT clA yX3_equal cX3_equal 5 (some .boolean) DX3_equal rvI [vR 0, vI a1, vI a2] u (call 76 [a1, a2] u)) (a1 a2 : Int) (u : Sg) (ra1 : inR a1) (ra2 : inR a2) : WG p l e R s m args below meth c JX3_isCongruent DX3_isCongruent G clA A FT ad0 σ0 rvI (bX3_isCongruent call a1 a2 u) u 0 [(0, vR 0), (1, vI a1), (2, vI a2)] [] := by
  unfold bX3_isCongruent
  refine g_aload_n 0 dX3_isCongruent_0 rfl ?_
  refine g_get (v := vR 11) (ci := 2) (b := 0) (N := 83) 1 rfl rfl (by decide) in_X3 rfl rfl q1133 dX3_isCongruent_1 ?_
  refine g_iload_n 1 dX3_isCongruent_4 rfl ?_
  refine g_iald (id := 1) 0 rfl rfl dX3_isCongruent_5 (fun v1 rv1 => ?_)
  refine g_istore_n (loc' := [(3, vI v1), (0, vR 0), (1, vI a1), (2, vI a2)]) dX3_isCongruent_6 (by decide) rfl ?_
  refine g_iload_n 0 dX3_isCongruent_7 rfl ?_
  refine g_aload_n 1 dX3_isCongruent_8 rfl ?_
  refine g_get (v := vR 11) (ci := 2) (b := 0) (N := 83) 1 rfl rfl (by decide) in_X3 rfl rfl q1133 dX3_isCongruent_9 ?_
  refine g_iload_n 3 dX3_isCongruent_12 rfl ?_
  refine g_iald (id := 1) 0 rfl rfl dX3_isCongruent_13 (fun v2 rv2 => ?_)
  refine g_icmp_ne 42 dX3_isCongruent_14 (by decide) (fun _ => rv1) (fun _ => rv2) (fun _ => ?_) (fun _ => ?_)
  · refine g_aload_n 1 dX3_isCongruent_17 rfl ?_
    refine g_get (v := vR 13) (ci := 2) (b := 0) (N := 83) 3 rfl rfl (by decide) in_X3 rfl rfl q1135 dX3_isCongruent_18 ?_
    refine g_iload_n 2 dX3_isCongruent_21 rfl ?_
    refine g_iald (id := 3) 2 rfl rfl dX3_isCongruent_22 (fun v3 rv3 => ?_)
    refine g_aload_n 1 dX3_isCongruent_23 rfl ?_
    refine g_get (v := vR 13) (ci := 2) (b := 0) (N := 83) 3 rfl rfl (by decide) in_X3 rfl rfl q1135 dX3_isCongruent_24 ?_
    refine g_iload_n 3 dX3_isCongruent_27 rfl ?_
    refine g_iald (id := 3) 2 rfl rfl dX3_isCongruent_28 (fun v4 rv4 => ?_)
    refine g_icmp_ne 42 dX3_isCongruent_29 (by decide) (fun _ => rv3) (fun _ => rv4) (fun _ => ?_) (fun _ => ?_)
    · refine g_jn (fun j5 => ∀ (a1 a2 a3 : Int) (s6 : Sg), inR a1 → inR a2 → inR a3 → WG p l e R s m args below meth c JX3_isCongruent DX3_isCongruent G clA A FT ad0 σ0 rvI (j5 a1 a2 a3 s6) s6 44 [(0, vR 0), (1, vI a1), (2, vI a2), (3, vI a3)] []) (fun a1 a2 a3 s6 ra1 ra2 ra3 => ?_) (fun j5 hj5 => ?_)
      · refine g_iload_n 3 dX3_isCongruent_44 rfl ?_
        refine g_iconst dX3_isCongruent_45 ?_
        refine g_icmp_ne 162 dX3_isCongruent_46 (by decide) (fun _ => ra3) (fun _ => (by decide : inR (5))) (fun _ => ?_) (fun _ => ?_)
        · refine g_aload_n 0 dX3_isCongruent_49 rfl ?_
          refine g_iload_n 1 dX3_isCongruent_50 rfl ?_
          refine g_iconst dX3_isCongruent_51 ?_
          refine g_cVI (As := [vI a1, vI 0]) (n := 2) (stk := []) (ci := 2) (b := 0) (N := 83) (hX3_get a1 0 s6) (by decide +kernel) rfl rfl (lw_V q1116 q1118 qs76 q168 q1119) (by decide +kernel) rfl (by decide) hRf hRl (fun _ => (avc ra1 (avc (inR_z (Or.inl rfl)) avn))) (Nat.le_of_ble_eq_true rfl) rfl rfl dX3_isCongruent_52 (fun v7 s8 rv7 => ?_)
          refine g_istore (loc' := [(4, vI v7), (0, vR 0), (1, vI a1), (2, vI a2), (3, vI a3)]) dX3_isCongruent_55 (by decide) rfl ?_
          refine g_aload_n 1 dX3_isCongruent_57 rfl ?_
          refine g_iload_n 3 dX3_isCongruent_58 rfl ?_
          refine g_iconst dX3_isCongruent_59 ?_
          refine g_cVI (As := [vI a2, vI 0]) (n := 2) (stk := []) (ci := 2) (b := 0) (N := 83) (hX3_get a2 0 s8) (by decide +kernel) rfl rfl (lw_V q1116 q1118 qs76 q168 q1119) (by decide +kernel) rfl (by decide) hRf hRl (fun _ => (avc ra2 (avc (inR_z (Or.inl rfl)) avn))) (Nat.le_of_ble_eq_true rfl) rfl rfl dX3_isCongruent_60 (fun v9 s10 rv9 => ?_)
          refine g_istore (loc' := [(5, vI v9), (4, vI v7), (0, vR 0), (1, vI a1), (2, vI a2), (3, vI a3)]) dX3_isCongruent_63 (by decide) rfl ?_
          refine g_aload_n 2 dX3_isCongruent_65 rfl ?_
          refine g_get (v := vR 13) (ci := 2) (b := 0) (N := 83) 3 rfl rfl (by decide) in_X3 rfl rfl q1135 dX3_isCongruent_66 ?_
          refine g_iload 1 dX3_isCongruent_69 rfl ?_
          refine g_iald (id := 3) 2 rfl rfl dX3_isCongruent_71 (fun v11 rv11 => ?_)
          refine g_aload_n 2 dX3_isCongruent_72 rfl ?_
          refine g_get (v := vR 13) (ci := 2) (b := 0) (N := 83) 3 rfl rfl (by decide) in_X3 rfl rfl q1135 dX3_isCongruent_73 ?_
          refine g_iload 0 dX3_isCongruent_76 rfl ?_
          refine g_iald (id := 3) 2 rfl rfl dX3_isCongruent_78 (fun v12 rv12 => ?_)
          refine g_icmp_ne 99 dX3_isCongruent_79 (by decide) (fun _ => rv11) (fun _ => rv12) (fun _ => ?_) (fun _ => ?_)
          · refine g_aload_n 2 dX3_isCongruent_82 rfl ?_
            refine g_iload 1 dX3_isCongruent_83 rfl ?_
            refine g_iconst dX3_isCongruent_85 ?_
            refine g_cVI (As := [vI v7, vI 0]) (n := 2) (stk := []) (ci := 2) (b := 0) (N := 83) (hX3_get v7 0 s10) (by decide +kernel) rfl rfl (lw_V q1116 q1118 qs76 q168 q1119) (by decide +kernel) rfl (by decide) hRf hRl (fun _ => (avc rv7 (avc (inR_z (Or.inl rfl)) avn))) (Nat.le_of_ble_eq_true rfl) rfl rfl dX3_isCongruent_86 (fun v13 s14 rv13 => ?_)
            refine g_aload_n 2 dX3_isCongruent_89 rfl ?_
            refine g_iload 0 dX3_isCongruent_90 rfl ?_
            refine g_iconst dX3_isCongruent_92 ?_
            refine g_cVI (As := [vI v9, vI 0]) (n := 2) (stk := [vI v13]) (ci := 2) (b := 0) (N := 83) (hX3_get v9 0 s14) (by decide +kernel) rfl rfl (lw_V q1116 q1118 qs76 q168 q1119) (by decide +kernel) rfl (by decide) hRf hRl (fun _ => (avc rv9 (avc (inR_z (Or.inl rfl)) avn))) (Nat.le_of_ble_eq_true rfl) rfl rfl dX3_isCongruent_93 (fun v15 s16 rv15 => ?_)
            refine g_icmp_eq 101 dX3_isCongruent_96 (by decide) (fun _ => rv13) (fun _ => rv15) (fun _ => ?_) (fun _ => ?_)
            · refine g_iconst dX3_isCongruent_101 ?_
              refine g_istore (loc' := [(6, vI 2), (5, vI v9), (4, vI v7), (0, vR 0), (1, vI a1), (2, vI a2), (3, vI a3)]) dX3_isCongruent_102 (by decide) rfl ?_
              refine g_pick [3, 2, 1, 0] rfl (wX3_isCongruent_L104 hd hRf hRl hX3_get hX3_equal _ _ (fun v18 v19 s17 rv18 rv19 => ?_) (fun s26 => ?_) KF v7 v9 2 s16 rv7 rv9 (by decide : inR (2)))
              · refine g_aload_n 0 dX3_isCongruent_143 rfl ?_
                refine g_aload_n 0 dX3_isCongruent_144 rfl ?_
                refine g_iload 1 dX3_isCongruent_145 rfl ?_
                refine g_iconst dX3_isCongruent_147 ?_
                refine g_cVI (As := [vI v18, vI 1]) (n := 2) (stk := [vR 0]) (ci := 2) (b := 0) (N := 83) (hX3_get v18 1 s17) (by decide +kernel) rfl rfl (lw_V q1116 q1118 qs76 q168 q1119) (by decide +kernel) rfl (by decide) hRf hRl (fun _ => (avc rv18 (avc (inR_z (Or.inr rfl)) avn))) (Nat.le_of_ble_eq_true rfl) rfl rfl dX3_isCongruent_148 (fun v20 s21 rv20 => ?_)
                refine g_aload_n 0 dX3_isCongruent_151 rfl ?_
                refine g_iload 2 dX3_isCongruent_152 rfl ?_
                refine g_iconst dX3_isCongruent_154 ?_
                refine g_cVI (As := [vI v19, vI 1]) (n := 2) (stk := [vI v20, vR 0]) (ci := 2) (b := 0) (N := 83) (hX3_get v19 1 s21) (by decide +kernel) rfl rfl (lw_V q1116 q1118 qs76 q168 q1119) (by decide +kernel) rfl (by decide) hRf hRl (fun _ => (avc rv19 (avc (inR_z (Or.inr rfl)) avn))) (Nat.le_of_ble_eq_true rfl) rfl rfl dX3_isCongruent_155 (fun v22 s23 rv22 => ?_)
                refine g_cVZ (As := [vI v20, vI v22]) (n := 2) (stk := []) (ci := 2) (b := 0) (N := 83) (hX3_equal v20 v22 s23) (by decide +kernel) rfl rfl (lw_V q1646 q1648 qs125 q168 q1649) (by decide +kernel) rfl (by decide) hRf hRl (fun _ => (avc rv20 (avc rv22 avn))) (Nat.le_of_ble_eq_true rfl) rfl rfl dX3_isCongruent_158 (fun v24 s25 zv24 => ?_)
                exact g_zret rfl rfl (fun _ => zv24) dX3_isCongruent_161
              · refine g_iconst dX3_isCongruent_135 ?_
                exact g_zret rfl rfl (fun _ => (Or.inl rfl)) dX3_isCongruent_136
            · refine g_iconst dX3_isCongruent_99 ?_
              exact g_zret rfl rfl (fun _ => (Or.inl rfl)) dX3_isCongruent_100
          · refine g_iconst dX3_isCongruent_99 ?_
            exact g_zret rfl rfl (fun _ => (Or.inl rfl)) dX3_isCongruent_100
        · refine g_aload_n 0 dX3_isCongruent_162 rfl ?_
          refine g_iload_n 1 dX3_isCongruent_163 rfl ?_
          refine g_iconst dX3_isCongruent_164 ?_
          refine g_cVI (As := [vI a1, vI 0]) (n := 2) (stk := []) (ci := 2) (b := 0) (N := 83) (hX3_get a1 0 s6) (by decide +kernel) rfl rfl (lw_V q1116 q1118 qs76 q168 q1119) (by decide +kernel) rfl (by decide) hRf hRl (fun _ => (avc ra1 (avc (inR_z (Or.inl rfl)) avn))) (Nat.le_of_ble_eq_true rfl) rfl rfl dX3_isCongruent_165 (fun v27 s28 rv27 => ?_)
          refine g_aload_n 0 dX3_isCongruent_168 rfl ?_
          refine g_iload_n 2 dX3_isCongruent_169 rfl ?_
          refine g_iconst dX3_isCongruent_170 ?_
          refine g_cVI (As := [vI a2, vI 0]) (n := 2) (stk := [vI v27]) (ci := 2) (b := 0) (N := 83) (hX3_get a2 0 s28) (by decide +kernel) rfl rfl (lw_V q1116 q1118 qs76 q168 q1119) (by decide +kernel) rfl (by decide) hRf hRl (fun _ => (avc ra2 (avc (inR_z (Or.inl rfl)) avn))) (Nat.le_of_ble_eq_true rfl) rfl rfl dX3_isCongruent_171 (fun v29 s30 rv29 => ?_)
          refine g_icmp_eq 179 dX3_isCongruent_174 (by decide) (fun _ => rv27) (fun _ => rv29) (fun _ => ?_) (fun _ => ?_)
          · refine g_iconst dX3_isCongruent_179 ?_
            refine g_istore (loc' := [(4, vI 1), (0, vR 0), (1, vI a1), (2, vI a2), (3, vI a3)]) dX3_isCongruent_180 (by decide) rfl ?_
            refine g_pick [1, 2, 3, 0] rfl (wX3_isCongruent_L182 hd hRf hRl hX3_get hX3_equal _ _ (fun s31 => ?_) (fun s32 => ?_) KF a1 a2 1 s30 ra1 ra2 (inR_z (Or.inr rfl)))
            · refine g_iconst dX3_isCongruent_222 ?_
              exact g_zret rfl rfl (fun _ => (Or.inr rfl)) dX3_isCongruent_223
            · refine g_iconst dX3_isCongruent_214 ?_
              exact g_zret rfl rfl (fun _ => (Or.inl rfl)) dX3_isCongruent_215
          · refine g_iconst dX3_isCongruent_177 ?_
            exact g_zret rfl rfl (fun _ => (Or.inl rfl)) dX3_isCongruent_178
      · refine g_iload_n 0 dX3_isCongruent_32 rfl ?_
        refine g_iconst dX3_isCongruent_33 ?_
        refine g_icmp_eq 44 dX3_isCongruent_34 (by decide) (fun _ => rv1) (fun _ => (by decide : inR (4))) (fun _ => ?_) (fun _ => ?_)
        · exact g_pick [1, 2, 3, 0] rfl (hj5 a1 a2 v1 u ra1 ra2 rv1)
        · refine g_iload_n 0 dX3_isCongruent_37 rfl ?_
          refine g_iconst dX3_isCongruent_38 ?_
          refine g_icmp_eq 44 dX3_isCongruent_39 (by decide) (fun _ => rv1) (fun _ => (by decide : inR (5))) (fun _ => ?_) (fun _ => ?_)
          · exact g_pick [1, 2, 3, 0] rfl (hj5 a1 a2 v1 u ra1 ra2 rv1)
          · refine g_iconst dX3_isCongruent_42 ?_
            exact g_zret rfl rfl (fun _ => (Or.inl rfl)) dX3_isCongruent_43
    · refine g_iconst dX3_isCongruent_42 ?_
      exact g_zret rfl rfl (fun _ => (Or.inl rfl)) dX3_isCongruent_43
  · refine g_iconst dX3_isCongruent_42 ?_
    exact g_zret rfl rfl (fun _ => (Or.inl rfl)) dX3_isCongruent_43
end
section
variable {l : Launch} {d : Nat} {call : Nat → List Int → Sg → Option (Int × Sg)}
theorem ctX3_isCongruent (p0 : Program) (e0 : Env) (s0 : State) (m0 : MethodId) (meth0 : Method) (c0 : Code) (G0 : Gm) (hd : 2 ≤ d) (hX3_get : ∀ (a1 a2 : Int) (u : Sg), Ct l d FT clA yX3_get cX3_get 3 (some .int) DX3_get rvI [vR 0, vI a1, vI a2] u (call 7 [a1, a2] u)) (hX3_equal : ∀ (a1 a2 : Int) (u : Sg), Ct l d FT clA yX3_equal cX3_equal 5 (some .boolean) DX3_equal rvI [vR 0, vI a1, vI a2] u (call 76 [a1, a2] u)) (a1 a2 : Int) (u : Sg) : Ct l (d + 1) FT clA yX3_isCongruent cX3_isCongruent 7 (some .boolean) DX3_isCongruent rvI [vR 0, vI a1, vI a2] u (bX3_isCongruent call a1 a2 u) :=
  Ct_of (by decide) (Nat.le_of_ble_eq_true rfl) (fun p e R s1 m args below meth c G A ad hA hRf hRl => wX3_isCongruent hd hRf hRl hX3_get hX3_equal a1 a2 u (hA _ (List.mem_cons_of_mem _ List.mem_cons_self)) (hA _ (List.mem_cons_of_mem _ (List.mem_cons_of_mem _ List.mem_cons_self)))) p0 e0 s0 m0 meth0 c0 G0
end
