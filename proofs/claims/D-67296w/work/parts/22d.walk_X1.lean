/-! RoundCheck.isKnownHere(I)Z -/
abbrev JX1_isKnownHere : Jm := (cX1_isKnownHere, RX1, 2, (some .boolean))
def bX1_isKnownHere (call : Nat → List Int → Sg → Option (Int × Sg)) (a1 : Int) (u : Sg) : Option (Int × Sg) := jn (fun (s2 : Sg) => some (0, s2)) fun j1 => un (gL u 37 : Int) fun v3 => if a1 < v3 then (ld u 37 a1 fun v4 => un (gI u 36) fun v5 => if v4 = v5 then (some (1, u)) else (j1 u)) else (j1 u)
section
variable {p : Program} {l : Launch} {e : Env} {R : Room} {s : State} {m : MethodId} {args : Array Value} {below : List Frame} {meth : Method} {c : Code} {G : Gm} {A : Nat → Prop} {ad0 : Nat → Nat} {σ0 : Sg} {d : Nat} {call : Nat → List Int → Sg → Option (Int × Sg)}
theorem wX1_isKnownHere (hd : 2 ≤ d) (hRf : d + 1 ≤ R.frames) (hRl : 40 * (d + 1) ≤ R.locals) (a1 : Int) (u : Sg) (ra1 : inR a1) : WG p l e R s m args below meth c JX1_isKnownHere DX1_isKnownHere G clA A FC ad0 σ0 rvI (bX1_isKnownHere call a1 u) u 0 [(0, vR 1), (1, vI a1)] [] := by
  unfold bX1_isKnownHere
  refine g_jn (fun j1 => ∀ (s2 : Sg), WG p l e R s m args below meth c JX1_isKnownHere DX1_isKnownHere G clA A FC ad0 σ0 rvI (j1 s2) s2 26 [] []) (fun s2 => ?_) (fun j1 hj1 => ?_)
  · refine g_iconst dX1_isKnownHere_26 ?_
    exact g_zret rfl rfl (fun _ => (Or.inl rfl)) dX1_isKnownHere_27
  · refine g_iload_n 1 dX1_isKnownHere_0 rfl ?_
    refine g_aload_n 0 dX1_isKnownHere_1 rfl ?_
    refine g_get (v := vR 47) (ci := 1) (b := 30) (N := 57) 7 rfl rfl (by decide) in_X1 rfl rfl q315 dX1_isKnownHere_2 ?_
    refine g_alenU (id := 37) 13 rfl (Or.inl rfl) dX1_isKnownHere_5 (fun v3 rv3 => ?_)
    refine g_icmp_ge 26 dX1_isKnownHere_6 (by decide) (fun _ => ra1) (fun _ => rv3) (fun _ => ?_) (fun _ => ?_)
    · refine g_aload_n 0 dX1_isKnownHere_9 rfl ?_
      refine g_get (v := vR 47) (ci := 1) (b := 30) (N := 57) 7 rfl rfl (by decide) in_X1 rfl rfl q315 dX1_isKnownHere_10 ?_
      refine g_iload_n 1 dX1_isKnownHere_13 rfl ?_
      refine g_iald (id := 37) 13 rfl rfl dX1_isKnownHere_14 (fun v4 rv4 => ?_)
      refine g_aload_n 0 dX1_isKnownHere_15 rfl ?_
      refine g_getI (ci := 1) (b := 30) (N := 57) 6 rfl rfl rfl (by decide) in_X1 rfl rfl q314 dX1_isKnownHere_16 (fun v5 rv5 => ?_)
      refine g_icmp_ne 26 dX1_isKnownHere_19 (by decide) (fun _ => rv4) (fun _ => rv5) (fun _ => ?_) (fun _ => ?_)
      · refine g_iconst dX1_isKnownHere_22 ?_
        refine g_goto 27 dX1_isKnownHere_23 (by decide) ?_
        exact g_zret rfl rfl (fun _ => (Or.inr rfl)) dX1_isKnownHere_27
      · exact g_pick [] rfl (hj1 u)
    · exact g_pick [] rfl (hj1 u)
end
section
variable {l : Launch} {d : Nat} {call : Nat → List Int → Sg → Option (Int × Sg)}
theorem ctX1_isKnownHere (p0 : Program) (e0 : Env) (s0 : State) (m0 : MethodId) (meth0 : Method) (c0 : Code) (G0 : Gm) (hd : 2 ≤ d) (a1 : Int) (u : Sg) : Ct l (d + 1) FC clA yX1_isKnownHere cX1_isKnownHere 2 (some .boolean) DX1_isKnownHere rvI [vR 1, vI a1] u (bX1_isKnownHere call a1 u) :=
  Ct_of (by decide) (Nat.le_of_ble_eq_true rfl) (fun p e R s1 m args below meth c G A ad hA hRf hRl => wX1_isKnownHere hd hRf hRl a1 u (hA _ (List.mem_cons_of_mem _ List.mem_cons_self))) p0 e0 s0 m0 meth0 c0 G0
end
/-! RoundCheck.holds(I)Z -/
abbrev JX1_holds : Jm := (cX1_holds, RX1, 3, (some .boolean))
def bX1_holds_L148 (call : Nat → List Int → Sg → Option (Int × Sg)) : Nat → Int → Int → Sg → (Sg → Option (Int × Sg)) → (Sg → Option (Int × Sg)) → Option (Int × Sg)
  | 0, _, _, _, _, _ => none
  | n + 1, a1, a2, u, x185, x177 => ld u 3 a1 fun v1 => if a2 < v1 then (cl (call 98 [a1, a2] u) fun v2 s3 => cl (call 67 [v2] s3) fun v4 s5 => if v4 = 0 then (x177 s5) else (ar (a2 + 1) fun v6 => bX1_holds_L148 call n a1 v6 s5 x185 x177)) else (x185 u)
def bX1_holds (call : Nat → List Int → Sg → Option (Int × Sg)) (a1 : Int) (u : Sg) : Option (Int × Sg) := ld u 0 a1 fun v1 => if v1 = 9 then (some (1, u)) else (if v1 = 10 then (cl (call 98 [a1, 0] u) fun v2 s3 => cl (call 98 [a1, 1] s3) fun v4 s5 => cl (call 59 [v2, v4] s5) fun v6 s7 => some (v6, s7)) else (if v1 = 11 then (cl (call 69 [a1, 0] u) fun v8 s9 => some (v8, s9)) else (if v1 = 12 then (cl (call 69 [a1, 0] u) fun v10 s11 => some (v10, s11)) else (if v1 = 13 then (cl (call 98 [a1, 0] u) fun v12 s13 => ld s13 1 a1 fun v14 => ar (2 * v14) fun v15 => cl (call 63 [v12, v15] s13) fun v16 s17 => some (v16, s17)) else (if v1 = 14 then (cl (call 98 [a1, 1] u) fun v18 s19 => ld s19 1 a1 fun v20 => cl (call 98 [a1, 0] s19) fun v21 s22 => cl (call 62 [v18, v20, v21] s22) fun v23 s24 => some (v23, s24)) else (if v1 = 15 then (cl (call 69 [a1, 0] u) fun v25 s26 => some (v25, s26)) else (if v1 = 16 then (cl (call 98 [a1, 0] u) fun v27 s28 => cl (call 68 [v27, a1] s28) fun v29 s30 => some (v29, s30)) else (if v1 = 17 then (bX1_holds_L148 call KF a1 0 u (fun s31 => some (1, s31)) (fun s32 => some (0, s32))) else (if v1 = 18 then (cl (call 66 [a1] u) fun v33 s34 => some (v33, s34)) else (cl (call 69 [a1, 0] u) fun v35 s36 => some (v35, s36)))))))))))
section
variable {p : Program} {l : Launch} {e : Env} {R : Room} {s : State} {m : MethodId} {args : Array Value} {below : List Frame} {meth : Method} {c : Code} {G : Gm} {A : Nat → Prop} {ad0 : Nat → Nat} {σ0 : Sg} {d : Nat} {call : Nat → List Int → Sg → Option (Int × Sg)}
theorem wX1_holds_L148 (hd : 2 ≤ d) (hRf : d + 1 ≤ R.frames) (hRl : 40 * (d + 1) ≤ R.locals) (hX2_at : ∀ (a1 a2 : Int) (u : Sg), Ct l d FC clA yX2_at cX2_at 3 (some .int) DX2_at rvI [vR 0, vI a1, vI a2] u (call 98 [a1, a2] u)) (hX1_equal : ∀ (a1 a2 : Int) (u : Sg), Ct l d FC clA yX1_equal cX1_equal 3 (some .boolean) DX1_equal rvI [vR 1, vI a1, vI a2] u (call 59 [a1, a2] u)) (hX1_isSaid : ∀ (a1 a2 : Int) (u : Sg), Ct l d FC clA yX1_isSaid cX1_isSaid 5 (some .boolean) DX1_isSaid rvI [vR 1, vI a1, vI a2] u (call 69 [a1, a2] u)) (hX1_classHas : ∀ (a1 a2 : Int) (u : Sg), Ct l d FC clA yX1_classHas cX1_classHas 4 (some .boolean) DX1_classHas rvI [vR 1, vI a1, vI a2] u (call 63 [a1, a2] u)) (hX1_classHasMode : ∀ (a1 a2 a3 : Int) (u : Sg), Ct l d FC clA yX1_classHasMode cX1_classHasMode 5 (some .boolean) DX1_classHasMode rvI [vR 1, vI a1, vI a2, vI a3] u (call 62 [a1, a2, a3] u)) (hX1_fails : ∀ (a1 a2 : Int) (u : Sg), Ct l d FC clA yX1_fails cX1_fails 8 (some .boolean) DX1_fails rvI [vR 1, vI a1, vI a2] u (call 68 [a1, a2] u)) (hX1_holds : ∀ (a1 : Int) (u : Sg), Ct l d FC clA yX1_holds cX1_holds 3 (some .boolean) DX1_holds rvI [vR 1, vI a1] u (call 67 [a1] u)) (hX1_isKnownHere : ∀ (a1 : Int) (u : Sg), Ct l d FC clA yX1_isKnownHere cX1_isKnownHere 2 (some .boolean) DX1_isKnownHere rvI [vR 1, vI a1] u (call 66 [a1] u)) (x185 : Sg → Option (Int × Sg)) (x177 : Sg → Option (Int × Sg)) (hx185 : ∀ (u : Sg), WG p l e R s m args below meth c JX1_holds DX1_holds G clA A FC ad0 σ0 rvI (x185 u) u 185 [] []) (hx177 : ∀ (u : Sg), WG p l e R s m args below meth c JX1_holds DX1_holds G clA A FC ad0 σ0 rvI (x177 u) u 177 [] []) : ∀ (n : Nat) (a1 a2 : Int) (u : Sg), inR a1 → inR a2 → WG p l e R s m args below meth c JX1_holds DX1_holds G clA A FC ad0 σ0 rvI (bX1_holds_L148 call n a1 a2 u x185 x177) u 148 [(0, vR 1), (1, vI a1), (2, vI a2)] [] := by
  intro n
  induction n with
  | zero =>
    intro a1 a2 u ra1 ra2
    exact g_none
  | succ n ih =>
    intro a1 a2 u ra1 ra2
    rw [bX1_holds_L148]
    refine g_iload_n 2 dX1_holds_148 rfl ?_
    refine g_aload_n 0 dX1_holds_149 rfl ?_
    refine g_get (v := vR 0) (ci := 1) (b := 30) (N := 57) 0 rfl rfl (by decide) in_X1 rfl rfl q308 dX1_holds_150 ?_
    refine g_get (v := vR 13) (ci := 0) (b := 0) (N := 21) 3 rfl rfl (by decide) in_X2 rfl rfl q237 dX1_holds_153 ?_
    refine g_iload_n 1 dX1_holds_156 rfl ?_
    refine g_iald (id := 3) 3 rfl rfl dX1_holds_157 (fun v1 rv1 => ?_)
    refine g_icmp_ge 185 dX1_holds_158 (by decide) (fun _ => ra2) (fun _ => rv1) (fun _ => ?_) (fun _ => ?_)
    · refine g_aload_n 0 dX1_holds_161 rfl ?_
      refine g_aload_n 0 dX1_holds_162 rfl ?_
      refine g_get (v := vR 0) (ci := 1) (b := 30) (N := 57) 0 rfl rfl (by decide) in_X1 rfl rfl q308 dX1_holds_163 ?_
      refine g_iload_n 1 dX1_holds_166 rfl ?_
      refine g_iload_n 2 dX1_holds_167 rfl ?_
      refine g_cVI (As := [vI a1, vI a2]) (n := 2) (stk := [vR 1]) (ci := 0) (b := 0) (N := 21) (hX2_at a1 a2 u) (by decide +kernel) rfl rfl (lw_V q571 q572 q573 q164 q574) (by decide +kernel) rfl (by decide) hRf hRl (fun _ => (avc ra1 (avc ra2 avn))) (Nat.le_of_ble_eq_true rfl) rfl rfl dX1_holds_168 (fun v2 s3 rv2 => ?_)
      refine g_cVZ (As := [vI v2]) (n := 1) (stk := []) (ci := 1) (b := 30) (N := 57) (hX1_holds v2 s3) (by decide +kernel) rfl rfl (lw_V q950 q952 qs49 q163 q953) (by decide +kernel) rfl (by decide) hRf hRl (fun _ => (avc rv2 avn)) (Nat.le_of_ble_eq_true rfl) rfl rfl dX1_holds_171 (fun v4 s5 zv4 => ?_)
      refine g_if_ne 179 dX1_holds_174 (by decide) (fun _ => (inR_z zv4)) (fun _ => ?_) (fun _ => ?_)
      · exact g_pick [] rfl (hx177 s5)
      · refine g_iinc 2 (loc' := fun v6 => [(2, vI v6), (0, vR 1), (1, vI a1)]) dX1_holds_179 rfl (by decide) (fun _ => rfl) (fun v6 rv6 => ?_)
        refine g_goto 148 dX1_holds_182 (by decide) ?_
        exact g_pick [1, 2, 0] rfl (ih a1 v6 s5 ra1 rv6)
    · exact g_pick [] rfl (hx185 u)
theorem wX1_holds (hd : 2 ≤ d) (hRf : d + 1 ≤ R.frames) (hRl : 40 * (d + 1) ≤ R.locals) (hX2_at : ∀ (a1 a2 : Int) (u : Sg), Ct l d FC clA yX2_at cX2_at 3 (some .int) DX2_at rvI [vR 0, vI a1, vI a2] u (call 98 [a1, a2] u)) (hX1_equal : ∀ (a1 a2 : Int) (u : Sg), Ct l d FC clA yX1_equal cX1_equal 3 (some .boolean) DX1_equal rvI [vR 1, vI a1, vI a2] u (call 59 [a1, a2] u)) (hX1_isSaid : ∀ (a1 a2 : Int) (u : Sg), Ct l d FC clA yX1_isSaid cX1_isSaid 5 (some .boolean) DX1_isSaid rvI [vR 1, vI a1, vI a2] u (call 69 [a1, a2] u)) (hX1_classHas : ∀ (a1 a2 : Int) (u : Sg), Ct l d FC clA yX1_classHas cX1_classHas 4 (some .boolean) DX1_classHas rvI [vR 1, vI a1, vI a2] u (call 63 [a1, a2] u)) (hX1_classHasMode : ∀ (a1 a2 a3 : Int) (u : Sg), Ct l d FC clA yX1_classHasMode cX1_classHasMode 5 (some .boolean) DX1_classHasMode rvI [vR 1, vI a1, vI a2, vI a3] u (call 62 [a1, a2, a3] u)) (hX1_fails : ∀ (a1 a2 : Int) (u : Sg), Ct l d FC clA yX1_fails cX1_fails 8 (some .boolean) DX1_fails rvI [vR 1, vI a1, vI a2] u (call 68 [a1, a2] u)) (hX1_holds : ∀ (a1 : Int) (u : Sg), Ct l d FC clA yX1_holds cX1_holds 3 (some .boolean) DX1_holds rvI [vR 1, vI a1] u (call 67 [a1] u)) (hX1_isKnownHere : ∀ (a1 : Int) (u : Sg), Ct l d FC clA yX1_isKnownHere cX1_isKnownHere 2 (some .boolean) DX1_isKnownHere rvI [vR 1, vI a1] u (call 66 [a1] u)) (a1 : Int) (u : Sg) (ra1 : inR a1) : WG p l e R s m args below meth c JX1_holds DX1_holds G clA A FC ad0 σ0 rvI (bX1_holds call a1 u) u 0 [(0, vR 1), (1, vI a1)] [] := by
  unfold bX1_holds
  refine g_aload_n 0 dX1_holds_0 rfl ?_
  refine g_get (v := vR 0) (ci := 1) (b := 30) (N := 57) 0 rfl rfl (by decide) in_X1 rfl rfl q308 dX1_holds_1 ?_
  refine g_get (v := vR 10) (ci := 0) (b := 0) (N := 21) 0 rfl rfl (by decide) in_X2 rfl rfl q232 dX1_holds_4 ?_
  refine g_iload_n 1 dX1_holds_7 rfl ?_
  refine g_iald (id := 0) 0 rfl rfl dX1_holds_8 (fun v1 rv1 => ?_)
  refine WG.byc (fun e0 => ?_) (fun n0 => ?_)
  · refine g_tswIn 64 9 dX1_holds_9 (by decide) rfl (by decide) e0 ?_
    refine g_iconst dX1_holds_64 ?_
    exact g_zret rfl rfl (fun _ => (Or.inr rfl)) dX1_holds_65
  · skip
    refine WG.byc (fun e1 => ?_) (fun n1 => ?_)
    · refine g_tswIn 66 10 dX1_holds_9 (by decide) rfl (by decide) e1 ?_
      refine g_aload_n 0 dX1_holds_66 rfl ?_
      refine g_aload_n 0 dX1_holds_67 rfl ?_
      refine g_get (v := vR 0) (ci := 1) (b := 30) (N := 57) 0 rfl rfl (by decide) in_X1 rfl rfl q308 dX1_holds_68 ?_
      refine g_iload_n 1 dX1_holds_71 rfl ?_
      refine g_iconst dX1_holds_72 ?_
      refine g_cVI (As := [vI a1, vI 0]) (n := 2) (stk := [vR 1]) (ci := 0) (b := 0) (N := 21) (hX2_at a1 0 u) (by decide +kernel) rfl rfl (lw_V q571 q572 q573 q164 q574) (by decide +kernel) rfl (by decide) hRf hRl (fun _ => (avc ra1 (avc (inR_z (Or.inl rfl)) avn))) (Nat.le_of_ble_eq_true rfl) rfl rfl dX1_holds_73 (fun v2 s3 rv2 => ?_)
      refine g_aload_n 0 dX1_holds_76 rfl ?_
      refine g_get (v := vR 0) (ci := 1) (b := 30) (N := 57) 0 rfl rfl (by decide) in_X1 rfl rfl q308 dX1_holds_77 ?_
      refine g_iload_n 1 dX1_holds_80 rfl ?_
      refine g_iconst dX1_holds_81 ?_
      refine g_cVI (As := [vI a1, vI 1]) (n := 2) (stk := [vI v2, vR 1]) (ci := 0) (b := 0) (N := 21) (hX2_at a1 1 s3) (by decide +kernel) rfl rfl (lw_V q571 q572 q573 q164 q574) (by decide +kernel) rfl (by decide) hRf hRl (fun _ => (avc ra1 (avc (inR_z (Or.inr rfl)) avn))) (Nat.le_of_ble_eq_true rfl) rfl rfl dX1_holds_82 (fun v4 s5 rv4 => ?_)
      refine g_cVZ (As := [vI v2, vI v4]) (n := 2) (stk := []) (ci := 1) (b := 30) (N := 57) (hX1_equal v2 v4 s5) (by decide +kernel) rfl rfl (lw_V q918 q920 qs41 q163 q921) (by decide +kernel) rfl (by decide) hRf hRl (fun _ => (avc rv2 (avc rv4 avn))) (Nat.le_of_ble_eq_true rfl) rfl rfl dX1_holds_85 (fun v6 s7 zv6 => ?_)
      exact g_zret rfl rfl (fun _ => zv6) dX1_holds_88
    · skip
      refine WG.byc (fun e2 => ?_) (fun n2 => ?_)
      · refine g_tswIn 208 11 dX1_holds_9 (by decide) rfl (by decide) e2 ?_
        refine g_aload_n 0 dX1_holds_208 rfl ?_
        refine g_iload_n 1 dX1_holds_209 rfl ?_
        refine g_iconst dX1_holds_210 ?_
        refine g_cVZ (As := [vI a1, vI 0]) (n := 2) (stk := []) (ci := 1) (b := 30) (N := 57) (hX1_isSaid a1 0 u) (by decide +kernel) rfl rfl (lw_V q958 q960 qs51 q163 q961) (by decide +kernel) rfl (by decide) hRf hRl (fun _ => (avc ra1 (avc (inR_z (Or.inl rfl)) avn))) (Nat.le_of_ble_eq_true rfl) rfl rfl dX1_holds_211 (fun v8 s9 zv8 => ?_)
        exact g_zret rfl rfl (fun _ => zv8) dX1_holds_214
      · skip
        refine WG.byc (fun e3 => ?_) (fun n3 => ?_)
        · refine g_tswIn 208 12 dX1_holds_9 (by decide) rfl (by decide) e3 ?_
          refine g_aload_n 0 dX1_holds_208 rfl ?_
          refine g_iload_n 1 dX1_holds_209 rfl ?_
          refine g_iconst dX1_holds_210 ?_
          refine g_cVZ (As := [vI a1, vI 0]) (n := 2) (stk := []) (ci := 1) (b := 30) (N := 57) (hX1_isSaid a1 0 u) (by decide +kernel) rfl rfl (lw_V q958 q960 qs51 q163 q961) (by decide +kernel) rfl (by decide) hRf hRl (fun _ => (avc ra1 (avc (inR_z (Or.inl rfl)) avn))) (Nat.le_of_ble_eq_true rfl) rfl rfl dX1_holds_211 (fun v10 s11 zv10 => ?_)
          exact g_zret rfl rfl (fun _ => zv10) dX1_holds_214
        · skip
          refine WG.byc (fun e4 => ?_) (fun n4 => ?_)
          · refine g_tswIn 89 13 dX1_holds_9 (by decide) rfl (by decide) e4 ?_
            refine g_aload_n 0 dX1_holds_89 rfl ?_
            refine g_aload_n 0 dX1_holds_90 rfl ?_
            refine g_get (v := vR 0) (ci := 1) (b := 30) (N := 57) 0 rfl rfl (by decide) in_X1 rfl rfl q308 dX1_holds_91 ?_
            refine g_iload_n 1 dX1_holds_94 rfl ?_
            refine g_iconst dX1_holds_95 ?_
            refine g_cVI (As := [vI a1, vI 0]) (n := 2) (stk := [vR 1]) (ci := 0) (b := 0) (N := 21) (hX2_at a1 0 u) (by decide +kernel) rfl rfl (lw_V q571 q572 q573 q164 q574) (by decide +kernel) rfl (by decide) hRf hRl (fun _ => (avc ra1 (avc (inR_z (Or.inl rfl)) avn))) (Nat.le_of_ble_eq_true rfl) rfl rfl dX1_holds_96 (fun v12 s13 rv12 => ?_)
            refine g_iconst dX1_holds_99 ?_
            refine g_aload_n 0 dX1_holds_100 rfl ?_
            refine g_get (v := vR 0) (ci := 1) (b := 30) (N := 57) 0 rfl rfl (by decide) in_X1 rfl rfl q308 dX1_holds_101 ?_
            refine g_get (v := vR 11) (ci := 0) (b := 0) (N := 21) 1 rfl rfl (by decide) in_X2 rfl rfl q234 dX1_holds_104 ?_
            refine g_iload_n 1 dX1_holds_107 rfl ?_
            refine g_iald (id := 1) 1 rfl rfl dX1_holds_108 (fun v14 rv14 => ?_)
            refine g_imul dX1_holds_109 (fun v15 rv15 => ?_)
            refine g_cVZ (As := [vI v12, vI v15]) (n := 2) (stk := []) (ci := 1) (b := 30) (N := 57) (hX1_classHas v12 v15 s13) (by decide +kernel) rfl rfl (lw_V q934 q936 qs45 q163 q937) (by decide +kernel) rfl (by decide) hRf hRl (fun _ => (avc rv12 (avc rv15 avn))) (Nat.le_of_ble_eq_true rfl) rfl rfl dX1_holds_110 (fun v16 s17 zv16 => ?_)
            exact g_zret rfl rfl (fun _ => zv16) dX1_holds_113
          · skip
            refine WG.byc (fun e5 => ?_) (fun n5 => ?_)
            · refine g_tswIn 114 14 dX1_holds_9 (by decide) rfl (by decide) e5 ?_
              refine g_aload_n 0 dX1_holds_114 rfl ?_
              refine g_aload_n 0 dX1_holds_115 rfl ?_
              refine g_get (v := vR 0) (ci := 1) (b := 30) (N := 57) 0 rfl rfl (by decide) in_X1 rfl rfl q308 dX1_holds_116 ?_
              refine g_iload_n 1 dX1_holds_119 rfl ?_
              refine g_iconst dX1_holds_120 ?_
              refine g_cVI (As := [vI a1, vI 1]) (n := 2) (stk := [vR 1]) (ci := 0) (b := 0) (N := 21) (hX2_at a1 1 u) (by decide +kernel) rfl rfl (lw_V q571 q572 q573 q164 q574) (by decide +kernel) rfl (by decide) hRf hRl (fun _ => (avc ra1 (avc (inR_z (Or.inr rfl)) avn))) (Nat.le_of_ble_eq_true rfl) rfl rfl dX1_holds_121 (fun v18 s19 rv18 => ?_)
              refine g_aload_n 0 dX1_holds_124 rfl ?_
              refine g_get (v := vR 0) (ci := 1) (b := 30) (N := 57) 0 rfl rfl (by decide) in_X1 rfl rfl q308 dX1_holds_125 ?_
              refine g_get (v := vR 11) (ci := 0) (b := 0) (N := 21) 1 rfl rfl (by decide) in_X2 rfl rfl q234 dX1_holds_128 ?_
              refine g_iload_n 1 dX1_holds_131 rfl ?_
              refine g_iald (id := 1) 1 rfl rfl dX1_holds_132 (fun v20 rv20 => ?_)
              refine g_aload_n 0 dX1_holds_133 rfl ?_
              refine g_get (v := vR 0) (ci := 1) (b := 30) (N := 57) 0 rfl rfl (by decide) in_X1 rfl rfl q308 dX1_holds_134 ?_
              refine g_iload_n 1 dX1_holds_137 rfl ?_
              refine g_iconst dX1_holds_138 ?_
              refine g_cVI (As := [vI a1, vI 0]) (n := 2) (stk := [vI v20, vI v18, vR 1]) (ci := 0) (b := 0) (N := 21) (hX2_at a1 0 s19) (by decide +kernel) rfl rfl (lw_V q571 q572 q573 q164 q574) (by decide +kernel) rfl (by decide) hRf hRl (fun _ => (avc ra1 (avc (inR_z (Or.inl rfl)) avn))) (Nat.le_of_ble_eq_true rfl) rfl rfl dX1_holds_139 (fun v21 s22 rv21 => ?_)
              refine g_cVZ (As := [vI v18, vI v20, vI v21]) (n := 3) (stk := []) (ci := 1) (b := 30) (N := 57) (hX1_classHasMode v18 v20 v21 s22) (by decide +kernel) rfl rfl (lw_V q930 q932 qs44 q163 q933) (by decide +kernel) rfl (by decide) hRf hRl (fun _ => (avc rv18 (avc rv20 (avc rv21 avn)))) (Nat.le_of_ble_eq_true rfl) rfl rfl dX1_holds_142 (fun v23 s24 zv23 => ?_)
              exact g_zret rfl rfl (fun _ => zv23) dX1_holds_145
            · skip
              refine WG.byc (fun e6 => ?_) (fun n6 => ?_)
              · refine g_tswIn 208 15 dX1_holds_9 (by decide) rfl (by decide) e6 ?_
                refine g_aload_n 0 dX1_holds_208 rfl ?_
                refine g_iload_n 1 dX1_holds_209 rfl ?_
                refine g_iconst dX1_holds_210 ?_
                refine g_cVZ (As := [vI a1, vI 0]) (n := 2) (stk := []) (ci := 1) (b := 30) (N := 57) (hX1_isSaid a1 0 u) (by decide +kernel) rfl rfl (lw_V q958 q960 qs51 q163 q961) (by decide +kernel) rfl (by decide) hRf hRl (fun _ => (avc ra1 (avc (inR_z (Or.inl rfl)) avn))) (Nat.le_of_ble_eq_true rfl) rfl rfl dX1_holds_211 (fun v25 s26 zv25 => ?_)
                exact g_zret rfl rfl (fun _ => zv25) dX1_holds_214
              · skip
                refine WG.byc (fun e7 => ?_) (fun n7 => ?_)
                · refine g_tswIn 193 16 dX1_holds_9 (by decide) rfl (by decide) e7 ?_
                  refine g_aload_n 0 dX1_holds_193 rfl ?_
                  refine g_aload_n 0 dX1_holds_194 rfl ?_
                  refine g_get (v := vR 0) (ci := 1) (b := 30) (N := 57) 0 rfl rfl (by decide) in_X1 rfl rfl q308 dX1_holds_195 ?_
                  refine g_iload_n 1 dX1_holds_198 rfl ?_
                  refine g_iconst dX1_holds_199 ?_
                  refine g_cVI (As := [vI a1, vI 0]) (n := 2) (stk := [vR 1]) (ci := 0) (b := 0) (N := 21) (hX2_at a1 0 u) (by decide +kernel) rfl rfl (lw_V q571 q572 q573 q164 q574) (by decide +kernel) rfl (by decide) hRf hRl (fun _ => (avc ra1 (avc (inR_z (Or.inl rfl)) avn))) (Nat.le_of_ble_eq_true rfl) rfl rfl dX1_holds_200 (fun v27 s28 rv27 => ?_)
                  refine g_iload_n 1 dX1_holds_203 rfl ?_
                  refine g_cVZ (As := [vI v27, vI a1]) (n := 2) (stk := []) (ci := 1) (b := 30) (N := 57) (hX1_fails v27 a1 s28) (by decide +kernel) rfl rfl (lw_V q954 q956 qs50 q163 q957) (by decide +kernel) rfl (by decide) hRf hRl (fun _ => (avc rv27 (avc ra1 avn))) (Nat.le_of_ble_eq_true rfl) rfl rfl dX1_holds_204 (fun v29 s30 zv29 => ?_)
                  exact g_zret rfl rfl (fun _ => zv29) dX1_holds_207
                · skip
                  refine WG.byc (fun e8 => ?_) (fun n8 => ?_)
                  · refine g_tswIn 146 17 dX1_holds_9 (by decide) rfl (by decide) e8 ?_
                    refine g_iconst dX1_holds_146 ?_
                    refine g_istore_n (loc' := [(2, vI 0), (0, vR 1), (1, vI a1)]) dX1_holds_147 (by decide) rfl ?_
                    refine g_pick [1, 2, 0] rfl (wX1_holds_L148 hd hRf hRl hX2_at hX1_equal hX1_isSaid hX1_classHas hX1_classHasMode hX1_fails hX1_holds hX1_isKnownHere _ _ (fun s31 => ?_) (fun s32 => ?_) KF a1 0 u ra1 (inR_z (Or.inl rfl)))
                    · refine g_iconst dX1_holds_185 ?_
                      exact g_zret rfl rfl (fun _ => (Or.inr rfl)) dX1_holds_186
                    · refine g_iconst dX1_holds_177 ?_
                      exact g_zret rfl rfl (fun _ => (Or.inl rfl)) dX1_holds_178
                  · skip
                    refine WG.byc (fun e9 => ?_) (fun n9 => ?_)
                    · refine g_tswIn 187 18 dX1_holds_9 (by decide) rfl (by decide) e9 ?_
                      refine g_aload_n 0 dX1_holds_187 rfl ?_
                      refine g_iload_n 1 dX1_holds_188 rfl ?_
                      refine g_cVZ (As := [vI a1]) (n := 1) (stk := []) (ci := 1) (b := 30) (N := 57) (hX1_isKnownHere a1 u) (by decide +kernel) rfl rfl (lw_V q946 q948 qs48 q163 q949) (by decide +kernel) rfl (by decide) hRf hRl (fun _ => (avc ra1 avn)) (Nat.le_of_ble_eq_true rfl) rfl rfl dX1_holds_189 (fun v33 s34 zv33 => ?_)
                      exact g_zret rfl rfl (fun _ => zv33) dX1_holds_192
                    · skip
                      refine g_tswOut 208 dX1_holds_9 (fun _ => rv1) (by omega) (by decide) ?_
                      refine g_aload_n 0 dX1_holds_208 rfl ?_
                      refine g_iload_n 1 dX1_holds_209 rfl ?_
                      refine g_iconst dX1_holds_210 ?_
                      refine g_cVZ (As := [vI a1, vI 0]) (n := 2) (stk := []) (ci := 1) (b := 30) (N := 57) (hX1_isSaid a1 0 u) (by decide +kernel) rfl rfl (lw_V q958 q960 qs51 q163 q961) (by decide +kernel) rfl (by decide) hRf hRl (fun _ => (avc ra1 (avc (inR_z (Or.inl rfl)) avn))) (Nat.le_of_ble_eq_true rfl) rfl rfl dX1_holds_211 (fun v35 s36 zv35 => ?_)
                      exact g_zret rfl rfl (fun _ => zv35) dX1_holds_214
end
section
variable {l : Launch} {d : Nat} {call : Nat → List Int → Sg → Option (Int × Sg)}
theorem ctX1_holds (p0 : Program) (e0 : Env) (s0 : State) (m0 : MethodId) (meth0 : Method) (c0 : Code) (G0 : Gm) (hd : 2 ≤ d) (hX2_at : ∀ (a1 a2 : Int) (u : Sg), Ct l d FC clA yX2_at cX2_at 3 (some .int) DX2_at rvI [vR 0, vI a1, vI a2] u (call 98 [a1, a2] u)) (hX1_equal : ∀ (a1 a2 : Int) (u : Sg), Ct l d FC clA yX1_equal cX1_equal 3 (some .boolean) DX1_equal rvI [vR 1, vI a1, vI a2] u (call 59 [a1, a2] u)) (hX1_isSaid : ∀ (a1 a2 : Int) (u : Sg), Ct l d FC clA yX1_isSaid cX1_isSaid 5 (some .boolean) DX1_isSaid rvI [vR 1, vI a1, vI a2] u (call 69 [a1, a2] u)) (hX1_classHas : ∀ (a1 a2 : Int) (u : Sg), Ct l d FC clA yX1_classHas cX1_classHas 4 (some .boolean) DX1_classHas rvI [vR 1, vI a1, vI a2] u (call 63 [a1, a2] u)) (hX1_classHasMode : ∀ (a1 a2 a3 : Int) (u : Sg), Ct l d FC clA yX1_classHasMode cX1_classHasMode 5 (some .boolean) DX1_classHasMode rvI [vR 1, vI a1, vI a2, vI a3] u (call 62 [a1, a2, a3] u)) (hX1_fails : ∀ (a1 a2 : Int) (u : Sg), Ct l d FC clA yX1_fails cX1_fails 8 (some .boolean) DX1_fails rvI [vR 1, vI a1, vI a2] u (call 68 [a1, a2] u)) (hX1_holds : ∀ (a1 : Int) (u : Sg), Ct l d FC clA yX1_holds cX1_holds 3 (some .boolean) DX1_holds rvI [vR 1, vI a1] u (call 67 [a1] u)) (hX1_isKnownHere : ∀ (a1 : Int) (u : Sg), Ct l d FC clA yX1_isKnownHere cX1_isKnownHere 2 (some .boolean) DX1_isKnownHere rvI [vR 1, vI a1] u (call 66 [a1] u)) (a1 : Int) (u : Sg) : Ct l (d + 1) FC clA yX1_holds cX1_holds 3 (some .boolean) DX1_holds rvI [vR 1, vI a1] u (bX1_holds call a1 u) :=
  Ct_of (by decide) (Nat.le_of_ble_eq_true rfl) (fun p e R s1 m args below meth c G A ad hA hRf hRl => wX1_holds hd hRf hRl hX2_at hX1_equal hX1_isSaid hX1_classHas hX1_classHasMode hX1_fails hX1_holds hX1_isKnownHere a1 u (hA _ (List.mem_cons_of_mem _ List.mem_cons_self))) p0 e0 s0 m0 meth0 c0 G0
end
/-! RoundCheck.fails(II)Z -/
abbrev JX1_fails : Jm := (cX1_fails, RX1, 8, (some .boolean))
def bX1_fails_L90 (call : Nat → List Int → Sg → Option (Int × Sg)) : Nat → Int → Int → Int → Sg → (Sg → Option (Int × Sg)) → (Sg → Option (Int × Sg)) → Option (Int × Sg)
  | 0, _, _, _, _, _, _ => none
  | n + 1, a3, a4, a5, u, x243, x235 => un (gI u 35) fun v1 => if a5 < v1 then (ld u 34 a5 fun v2 => ld u 0 v2 fun v3 => if v3 = 16 then (cl (call 98 [v2, 0] u) fun v4 s5 => gd (keeps [0] u s5 = true) (ld s5 0 v4 fun v6 => if v6 = 10 then (jn (fun (a3 a4 a5 a7 : Int) (s8 : Sg) => cl (call 98 [a7, 0] s8) fun v9 s10 => cl (call 59 [v9, a4] s10) fun v11 s12 => if v11 = 0 then (ar (a5 + 1) fun v13 => bX1_fails_L90 call n a3 a4 v13 s12 x243 x235) else (cl (call 98 [a7, 1] s12) fun v14 s15 => cl (call 59 [v14, a3] s15) fun v16 s17 => if v16 = 0 then (ar (a5 + 1) fun v18 => bX1_fails_L90 call n a3 a4 v18 s17 x243 x235) else (x235 s17))) fun j7 => cl (call 98 [v2, 0] s5) fun v19 s20 => cl (call 98 [v19, 0] s20) fun v21 s22 => cl (call 59 [v21, a3] s22) fun v23 s24 => if v23 = 0 then (j7 a3 a4 a5 v19 s24) else (cl (call 98 [v19, 1] s24) fun v25 s26 => cl (call 59 [v25, a4] s26) fun v27 s28 => if v27 = 0 then (j7 a3 a4 a5 v19 s28) else (x235 s28))) else (ar (a5 + 1) fun v29 => bX1_fails_L90 call n a3 a4 v29 s5 x243 x235))) else (ar (a5 + 1) fun v30 => bX1_fails_L90 call n a3 a4 v30 u x243 x235)) else (x243 u)
def bX1_fails_L328 (call : Nat → List Int → Sg → Option (Int × Sg)) : Nat → Int → Int → Sg → (Sg → Option (Int × Sg)) → (Sg → Option (Int × Sg)) → Option (Int × Sg)
  | 0, _, _, _, _, _ => none
  | n + 1, a1, a3, u, x536, x528 => un (gI u 35) fun v1 => if a3 < v1 then (ld u 34 a3 fun v2 => ld u 0 v2 fun v3 => if v3 = 16 then (cl (call 98 [v2, 0] u) fun v4 s5 => gd (keeps [0] u s5 = true) (ld s5 0 v4 fun v6 => if v6 = 14 then (jn (fun (a1 a3 a5 t0 : Int) (s8 : Sg) => ld s8 1 a5 fun v9 => ld s8 1 a1 fun v10 => if v9 = v10 then (if t0 = 0 then (ar (a3 + 1) fun v11 => bX1_fails_L328 call n a1 v11 s8 x536 x528) else (cl (call 98 [a5, 1] s8) fun v12 s13 => cl (call 98 [a1, 1] s13) fun v14 s15 => cl (call 59 [v12, v14] s15) fun v16 s17 => if v16 = 0 then (ar (a3 + 1) fun v18 => bX1_fails_L328 call n a1 v18 s17 x536 x528) else (x528 s17))) else (ar (a3 + 1) fun v19 => bX1_fails_L328 call n a1 v19 s8 x536 x528)) fun j7 => cl (call 98 [v2, 0] s5) fun v20 s21 => cl (call 98 [v20, 0] s21) fun v22 s23 => if v22 = 0 then (cl (call 98 [a1, 0] s23) fun v24 s25 => if v24 = 0 then (j7 a1 a3 v20 1 s25) else (j7 a1 a3 v20 0 s25)) else (jn (fun (a1 a3 a5 : Int) (s27 : Sg) => j7 a1 a3 a5 0 s27) fun j26 => cl (call 98 [a1, 0] s23) fun v28 s29 => if v28 = 0 then (j26 a1 a3 v20 s29) else (cl (call 98 [v20, 0] s29) fun v30 s31 => cl (call 98 [a1, 0] s31) fun v32 s33 => cl (call 59 [v30, v32] s33) fun v34 s35 => if v34 = 0 then (j26 a1 a3 v20 s35) else (j7 a1 a3 v20 1 s35)))) else (ar (a3 + 1) fun v36 => bX1_fails_L328 call n a1 v36 s5 x536 x528))) else (ar (a3 + 1) fun v37 => bX1_fails_L328 call n a1 v37 u x536 x528)) else (x536 u)
def bX1_fails_L274 (call : Nat → List Int → Sg → Option (Int × Sg)) : Nat → Int → Int → Sg → (Sg → Option (Int × Sg)) → (Sg → Option (Int × Sg)) → Option (Int × Sg)
  | 0, _, _, _, _, _ => none
  | n + 1, a1, a3, u, x318, x310 => ld u 3 a1 fun v1 => if a3 < v1 then (cl (call 98 [a1, a3] u) fun v2 s3 => cl (call 102 [v2] s3) fun v4 s5 => cl (call 67 [v4] s5) fun v6 s7 => if v6 = 0 then (ar (a3 + 1) fun v8 => bX1_fails_L274 call n a1 v8 s7 x318 x310) else (x310 s7)) else (x318 u)
def bX1_fails (call : Nat → List Int → Sg → Option (Int × Sg)) (a1 a2 : Int) (u : Sg) : Option (Int × Sg) := ld u 0 a1 fun v1 => if v1 = 9 then (some (0, u)) else (if v1 = 10 then (cl (call 98 [a1, 0] u) fun v2 s3 => cl (call 98 [a1, 1] s3) fun v4 s5 => bX1_fails_L90 call KF v2 v4 0 s5 (fun s6 => some (0, s6)) (fun s7 => some (1, s7))) else (if v1 = 11 then (cl (call 69 [a1, 1] u) fun v8 s9 => some (v8, s9)) else (if v1 = 12 then (cl (call 69 [a1, 1] u) fun v10 s11 => some (v10, s11)) else (if v1 = 13 then (cl (call 98 [a1, 0] u) fun v12 s13 => ld s13 1 a1 fun v14 => ar (2 * v14) fun v15 => ar (v15 + 1) fun v16 => cl (call 63 [v12, v16] s13) fun v17 s18 => some (v17, s18)) else (if v1 = 14 then (bX1_fails_L328 call KF a1 0 u (fun s19 => some (0, s19)) (fun s20 => some (1, s20))) else (if v1 = 15 then (cl (call 69 [a1, 1] u) fun v21 s22 => some (v21, s22)) else (if v1 = 16 then (cl (call 69 [a1, 1] u) fun v23 s24 => some (v23, s24)) else (if v1 = 17 then (bX1_fails_L274 call KF a1 0 u (fun s25 => some (0, s25)) (fun s26 => some (1, s26))) else (if v1 = 18 then (cl (call 66 [a2] u) fun v27 s28 => some (v27, s28)) else (cl (call 69 [a1, 1] u) fun v29 s30 => some (v29, s30)))))))))))
section
variable {p : Program} {l : Launch} {e : Env} {R : Room} {s : State} {m : MethodId} {args : Array Value} {below : List Frame} {meth : Method} {c : Code} {G : Gm} {A : Nat → Prop} {ad0 : Nat → Nat} {σ0 : Sg} {d : Nat} {call : Nat → List Int → Sg → Option (Int × Sg)}
theorem wX1_fails_L90 (hd : 2 ≤ d) (hRf : d + 1 ≤ R.frames) (hRl : 40 * (d + 1) ≤ R.locals) (hX2_at : ∀ (a1 a2 : Int) (u : Sg), Ct l d FC clA yX2_at cX2_at 3 (some .int) DX2_at rvI [vR 0, vI a1, vI a2] u (call 98 [a1, a2] u)) (hX1_equal : ∀ (a1 a2 : Int) (u : Sg), Ct l d FC clA yX1_equal cX1_equal 3 (some .boolean) DX1_equal rvI [vR 1, vI a1, vI a2] u (call 59 [a1, a2] u)) (hX1_isSaid : ∀ (a1 a2 : Int) (u : Sg), Ct l d FC clA yX1_isSaid cX1_isSaid 5 (some .boolean) DX1_isSaid rvI [vR 1, vI a1, vI a2] u (call 69 [a1, a2] u)) (hX1_classHas : ∀ (a1 a2 : Int) (u : Sg), Ct l d FC clA yX1_classHas cX1_classHas 4 (some .boolean) DX1_classHas rvI [vR 1, vI a1, vI a2] u (call 63 [a1, a2] u)) (hX2_not : ∀ (a1 : Int) (u : Sg), Ct l d FC clA yX2_not cX2_not 2 (some .int) DX2_not rvI [vR 0, vI a1] u (call 102 [a1] u)) (hX1_holds : ∀ (a1 : Int) (u : Sg), Ct l d FC clA yX1_holds cX1_holds 3 (some .boolean) DX1_holds rvI [vR 1, vI a1] u (call 67 [a1] u)) (hX1_isKnownHere : ∀ (a1 : Int) (u : Sg), Ct l d FC clA yX1_isKnownHere cX1_isKnownHere 2 (some .boolean) DX1_isKnownHere rvI [vR 1, vI a1] u (call 66 [a1] u)) (x243 : Sg → Option (Int × Sg)) (x235 : Sg → Option (Int × Sg)) (hx243 : ∀ (u : Sg), WG p l e R s m args below meth c JX1_fails DX1_fails G clA A FC ad0 σ0 rvI (x243 u) u 243 [] []) (hx235 : ∀ (u : Sg), WG p l e R s m args below meth c JX1_fails DX1_fails G clA A FC ad0 σ0 rvI (x235 u) u 235 [] []) : ∀ (n : Nat) (a3 a4 a5 : Int) (u : Sg), inR a3 → inR a4 → inR a5 → WG p l e R s m args below meth c JX1_fails DX1_fails G clA A FC ad0 σ0 rvI (bX1_fails_L90 call n a3 a4 a5 u x243 x235) u 90 [(0, vR 1), (3, vI a3), (4, vI a4), (5, vI a5)] [] := by
  intro n
  induction n with
  | zero =>
    intro a3 a4 a5 u ra3 ra4 ra5
    exact g_none
  | succ n ih =>
    intro a3 a4 a5 u ra3 ra4 ra5
    rw [bX1_fails_L90]
    refine g_iload 3 dX1_fails_90 rfl ?_
    refine g_aload_n 0 dX1_fails_92 rfl ?_
    refine g_getI (ci := 1) (b := 30) (N := 57) 5 rfl rfl rfl (by decide) in_X1 rfl rfl q313 dX1_fails_93 (fun v1 rv1 => ?_)
    refine g_icmp_ge 243 dX1_fails_96 (by decide) (fun _ => ra5) (fun _ => rv1) (fun _ => ?_) (fun _ => ?_)
    · refine g_aload_n 0 dX1_fails_99 rfl ?_
      refine g_get (v := vR 44) (ci := 1) (b := 30) (N := 57) 4 rfl rfl (by decide) in_X1 rfl rfl q312 dX1_fails_100 ?_
      refine g_iload 3 dX1_fails_103 rfl ?_
      refine g_iald (id := 34) 12 rfl rfl dX1_fails_105 (fun v2 rv2 => ?_)
      refine g_istore (loc' := [(6, vI v2), (0, vR 1), (3, vI a3), (4, vI a4), (5, vI a5)]) dX1_fails_106 (by decide) rfl ?_
      refine g_aload_n 1 dX1_fails_108 rfl ?_
      refine g_get (v := vR 0) (ci := 1) (b := 30) (N := 57) 0 rfl rfl (by decide) in_X1 rfl rfl q308 dX1_fails_109 ?_
      refine g_get (v := vR 10) (ci := 0) (b := 0) (N := 21) 0 rfl rfl (by decide) in_X2 rfl rfl q232 dX1_fails_112 ?_
      refine g_iload 0 dX1_fails_115 rfl ?_
      refine g_iald (id := 0) 0 rfl rfl dX1_fails_117 (fun v3 rv3 => ?_)
      refine g_bipush (by decide +kernel) dX1_fails_118 ?_
      refine g_icmp_ne 237 dX1_fails_120 (by decide) (fun _ => rv3) (fun _ => (by decide : inR (16))) (fun _ => ?_) (fun _ => ?_)
      · refine g_aload_n 1 dX1_fails_123 rfl ?_
        refine g_get (v := vR 0) (ci := 1) (b := 30) (N := 57) 0 rfl rfl (by decide) in_X1 rfl rfl q308 dX1_fails_124 ?_
        refine g_get (v := vR 10) (ci := 0) (b := 0) (N := 21) 0 rfl rfl (by decide) in_X2 rfl rfl q232 dX1_fails_127 ?_
        refine g_aload_n 1 dX1_fails_130 rfl ?_
        refine g_get (v := vR 0) (ci := 1) (b := 30) (N := 57) 0 rfl rfl (by decide) in_X1 rfl rfl q308 dX1_fails_131 ?_
        refine g_iload 0 dX1_fails_134 rfl ?_
        refine g_iconst dX1_fails_136 ?_
        refine g_cVIk [0] (As := [vI v2, vI 0]) (n := 2) (stk := [vR 10]) (ci := 0) (b := 0) (N := 21) (hX2_at v2 0 u) (by decide +kernel) rfl rfl (lw_V q571 q572 q573 q164 q574) (by decide +kernel) rfl (by decide) hRf hRl (fun _ => (avc rv2 (avc (inR_z (Or.inl rfl)) avn))) (Nat.le_of_ble_eq_true rfl) rfl rfl dX1_fails_137 (fun v4 s5 rv4 => ?_)
        refine g_iald (id := 0) 0 rfl rfl dX1_fails_140 (fun v6 rv6 => ?_)
        refine g_bipush (by decide +kernel) dX1_fails_141 ?_
        refine g_icmp_eq 149 dX1_fails_143 (by decide) (fun _ => rv6) (fun _ => (by decide : inR (10))) (fun _ => ?_) (fun _ => ?_)
        · refine g_jn (fun j7 => ∀ (a3 a4 a5 a7 : Int) (s8 : Sg), inR a3 → inR a4 → inR a5 → inR a7 → WG p l e R s m args below meth c JX1_fails DX1_fails G clA A FC ad0 σ0 rvI (j7 a3 a4 a5 a7 s8) s8 198 [(0, vR 1), (3, vI a3), (4, vI a4), (5, vI a5), (7, vI a7)] []) (fun a3 a4 a5 a7 s8 ra3 ra4 ra5 ra7 => ?_) (fun j7 hj7 => ?_)
          · refine g_aload_n 0 dX1_fails_198 rfl ?_
            refine g_aload_n 0 dX1_fails_199 rfl ?_
            refine g_get (v := vR 0) (ci := 1) (b := 30) (N := 57) 0 rfl rfl (by decide) in_X1 rfl rfl q308 dX1_fails_200 ?_
            refine g_iload 4 dX1_fails_203 rfl ?_
            refine g_iconst dX1_fails_205 ?_
            refine g_cVI (As := [vI a7, vI 0]) (n := 2) (stk := [vR 1]) (ci := 0) (b := 0) (N := 21) (hX2_at a7 0 s8) (by decide +kernel) rfl rfl (lw_V q571 q572 q573 q164 q574) (by decide +kernel) rfl (by decide) hRf hRl (fun _ => (avc ra7 (avc (inR_z (Or.inl rfl)) avn))) (Nat.le_of_ble_eq_true rfl) rfl rfl dX1_fails_206 (fun v9 s10 rv9 => ?_)
            refine g_iload 2 dX1_fails_209 rfl ?_
            refine g_cVZ (As := [vI v9, vI a4]) (n := 2) (stk := []) (ci := 1) (b := 30) (N := 57) (hX1_equal v9 a4 s10) (by decide +kernel) rfl rfl (lw_V q918 q920 qs41 q163 q921) (by decide +kernel) rfl (by decide) hRf hRl (fun _ => (avc rv9 (avc ra4 avn))) (Nat.le_of_ble_eq_true rfl) rfl rfl dX1_fails_211 (fun v11 s12 zv11 => ?_)
            refine g_if_eq 237 dX1_fails_214 (by decide) (fun _ => (inR_z zv11)) (fun _ => ?_) (fun _ => ?_)
            · refine g_iinc 3 (loc' := fun v13 => [(5, vI v13), (0, vR 1), (3, vI a3), (4, vI a4), (7, vI a7)]) dX1_fails_237 rfl (by decide) (fun _ => rfl) (fun v13 rv13 => ?_)
              refine g_goto 90 dX1_fails_240 (by decide) ?_
              exact g_pick [1, 2, 3, 0] rfl (ih a3 a4 v13 s12 ra3 ra4 rv13)
            · refine g_aload_n 0 dX1_fails_217 rfl ?_
              refine g_aload_n 0 dX1_fails_218 rfl ?_
              refine g_get (v := vR 0) (ci := 1) (b := 30) (N := 57) 0 rfl rfl (by decide) in_X1 rfl rfl q308 dX1_fails_219 ?_
              refine g_iload 4 dX1_fails_222 rfl ?_
              refine g_iconst dX1_fails_224 ?_
              refine g_cVI (As := [vI a7, vI 1]) (n := 2) (stk := [vR 1]) (ci := 0) (b := 0) (N := 21) (hX2_at a7 1 s12) (by decide +kernel) rfl rfl (lw_V q571 q572 q573 q164 q574) (by decide +kernel) rfl (by decide) hRf hRl (fun _ => (avc ra7 (avc (inR_z (Or.inr rfl)) avn))) (Nat.le_of_ble_eq_true rfl) rfl rfl dX1_fails_225 (fun v14 s15 rv14 => ?_)
              refine g_iload_n 1 dX1_fails_228 rfl ?_
              refine g_cVZ (As := [vI v14, vI a3]) (n := 2) (stk := []) (ci := 1) (b := 30) (N := 57) (hX1_equal v14 a3 s15) (by decide +kernel) rfl rfl (lw_V q918 q920 qs41 q163 q921) (by decide +kernel) rfl (by decide) hRf hRl (fun _ => (avc rv14 (avc ra3 avn))) (Nat.le_of_ble_eq_true rfl) rfl rfl dX1_fails_229 (fun v16 s17 zv16 => ?_)
              refine g_if_eq 237 dX1_fails_232 (by decide) (fun _ => (inR_z zv16)) (fun _ => ?_) (fun _ => ?_)
              · refine g_iinc 3 (loc' := fun v18 => [(5, vI v18), (0, vR 1), (3, vI a3), (4, vI a4), (7, vI a7)]) dX1_fails_237 rfl (by decide) (fun _ => rfl) (fun v18 rv18 => ?_)
                refine g_goto 90 dX1_fails_240 (by decide) ?_
                exact g_pick [1, 2, 3, 0] rfl (ih a3 a4 v18 s17 ra3 ra4 rv18)
              · exact g_pick [] rfl (hx235 s17)
          · refine g_aload_n 1 dX1_fails_149 rfl ?_
            refine g_get (v := vR 0) (ci := 1) (b := 30) (N := 57) 0 rfl rfl (by decide) in_X1 rfl rfl q308 dX1_fails_150 ?_
            refine g_iload 0 dX1_fails_153 rfl ?_
            refine g_iconst dX1_fails_155 ?_
            refine g_cVI (As := [vI v2, vI 0]) (n := 2) (stk := []) (ci := 0) (b := 0) (N := 21) (hX2_at v2 0 s5) (by decide +kernel) rfl rfl (lw_V q571 q572 q573 q164 q574) (by decide +kernel) rfl (by decide) hRf hRl (fun _ => (avc rv2 (avc (inR_z (Or.inl rfl)) avn))) (Nat.le_of_ble_eq_true rfl) rfl rfl dX1_fails_156 (fun v19 s20 rv19 => ?_)
            refine g_istore (loc' := [(7, vI v19), (6, vI v2), (0, vR 1), (3, vI a3), (4, vI a4), (5, vI a5)]) dX1_fails_159 (by decide) rfl ?_
            refine g_aload_n 2 dX1_fails_161 rfl ?_
            refine g_aload_n 2 dX1_fails_162 rfl ?_
            refine g_get (v := vR 0) (ci := 1) (b := 30) (N := 57) 0 rfl rfl (by decide) in_X1 rfl rfl q308 dX1_fails_163 ?_
            refine g_iload 0 dX1_fails_166 rfl ?_
            refine g_iconst dX1_fails_168 ?_
            refine g_cVI (As := [vI v19, vI 0]) (n := 2) (stk := [vR 1]) (ci := 0) (b := 0) (N := 21) (hX2_at v19 0 s20) (by decide +kernel) rfl rfl (lw_V q571 q572 q573 q164 q574) (by decide +kernel) rfl (by decide) hRf hRl (fun _ => (avc rv19 (avc (inR_z (Or.inl rfl)) avn))) (Nat.le_of_ble_eq_true rfl) rfl rfl dX1_fails_169 (fun v21 s22 rv21 => ?_)
            refine g_iload_n 3 dX1_fails_172 rfl ?_
            refine g_cVZ (As := [vI v21, vI a3]) (n := 2) (stk := []) (ci := 1) (b := 30) (N := 57) (hX1_equal v21 a3 s22) (by decide +kernel) rfl rfl (lw_V q918 q920 qs41 q163 q921) (by decide +kernel) rfl (by decide) hRf hRl (fun _ => (avc rv21 (avc ra3 avn))) (Nat.le_of_ble_eq_true rfl) rfl rfl dX1_fails_173 (fun v23 s24 zv23 => ?_)
            refine g_if_eq 198 dX1_fails_176 (by decide) (fun _ => (inR_z zv23)) (fun _ => ?_) (fun _ => ?_)
            · exact g_pick [2, 3, 4, 5, 0] rfl (hj7 a3 a4 a5 v19 s24 ra3 ra4 ra5 rv19)
            · refine g_aload_n 2 dX1_fails_179 rfl ?_
              refine g_aload_n 2 dX1_fails_180 rfl ?_
              refine g_get (v := vR 0) (ci := 1) (b := 30) (N := 57) 0 rfl rfl (by decide) in_X1 rfl rfl q308 dX1_fails_181 ?_
              refine g_iload 0 dX1_fails_184 rfl ?_
              refine g_iconst dX1_fails_186 ?_
              refine g_cVI (As := [vI v19, vI 1]) (n := 2) (stk := [vR 1]) (ci := 0) (b := 0) (N := 21) (hX2_at v19 1 s24) (by decide +kernel) rfl rfl (lw_V q571 q572 q573 q164 q574) (by decide +kernel) rfl (by decide) hRf hRl (fun _ => (avc rv19 (avc (inR_z (Or.inr rfl)) avn))) (Nat.le_of_ble_eq_true rfl) rfl rfl dX1_fails_187 (fun v25 s26 rv25 => ?_)
              refine g_iload 4 dX1_fails_190 rfl ?_
              refine g_cVZ (As := [vI v25, vI a4]) (n := 2) (stk := []) (ci := 1) (b := 30) (N := 57) (hX1_equal v25 a4 s26) (by decide +kernel) rfl rfl (lw_V q918 q920 qs41 q163 q921) (by decide +kernel) rfl (by decide) hRf hRl (fun _ => (avc rv25 (avc ra4 avn))) (Nat.le_of_ble_eq_true rfl) rfl rfl dX1_fails_192 (fun v27 s28 zv27 => ?_)
              refine g_if_ne 235 dX1_fails_195 (by decide) (fun _ => (inR_z zv27)) (fun _ => ?_) (fun _ => ?_)
              · exact g_pick [2, 3, 4, 5, 0] rfl (hj7 a3 a4 a5 v19 s28 ra3 ra4 ra5 rv19)
              · exact g_pick [] rfl (hx235 s28)
        · refine g_goto 237 dX1_fails_146 (by decide) ?_
          refine g_iinc 4 (loc' := fun v29 => [(5, vI v29), (6, vI v2), (0, vR 1), (3, vI a3), (4, vI a4)]) dX1_fails_237 rfl (by decide) (fun _ => rfl) (fun v29 rv29 => ?_)
          refine g_goto 90 dX1_fails_240 (by decide) ?_
          exact g_pick [2, 3, 4, 0] rfl (ih a3 a4 v29 s5 ra3 ra4 rv29)
      · refine g_iinc 4 (loc' := fun v30 => [(5, vI v30), (6, vI v2), (0, vR 1), (3, vI a3), (4, vI a4)]) dX1_fails_237 rfl (by decide) (fun _ => rfl) (fun v30 rv30 => ?_)
        refine g_goto 90 dX1_fails_240 (by decide) ?_
        exact g_pick [2, 3, 4, 0] rfl (ih a3 a4 v30 u ra3 ra4 rv30)
    · exact g_pick [] rfl (hx243 u)
theorem wX1_fails_L328 (hd : 2 ≤ d) (hRf : d + 1 ≤ R.frames) (hRl : 40 * (d + 1) ≤ R.locals) (hX2_at : ∀ (a1 a2 : Int) (u : Sg), Ct l d FC clA yX2_at cX2_at 3 (some .int) DX2_at rvI [vR 0, vI a1, vI a2] u (call 98 [a1, a2] u)) (hX1_equal : ∀ (a1 a2 : Int) (u : Sg), Ct l d FC clA yX1_equal cX1_equal 3 (some .boolean) DX1_equal rvI [vR 1, vI a1, vI a2] u (call 59 [a1, a2] u)) (hX1_isSaid : ∀ (a1 a2 : Int) (u : Sg), Ct l d FC clA yX1_isSaid cX1_isSaid 5 (some .boolean) DX1_isSaid rvI [vR 1, vI a1, vI a2] u (call 69 [a1, a2] u)) (hX1_classHas : ∀ (a1 a2 : Int) (u : Sg), Ct l d FC clA yX1_classHas cX1_classHas 4 (some .boolean) DX1_classHas rvI [vR 1, vI a1, vI a2] u (call 63 [a1, a2] u)) (hX2_not : ∀ (a1 : Int) (u : Sg), Ct l d FC clA yX2_not cX2_not 2 (some .int) DX2_not rvI [vR 0, vI a1] u (call 102 [a1] u)) (hX1_holds : ∀ (a1 : Int) (u : Sg), Ct l d FC clA yX1_holds cX1_holds 3 (some .boolean) DX1_holds rvI [vR 1, vI a1] u (call 67 [a1] u)) (hX1_isKnownHere : ∀ (a1 : Int) (u : Sg), Ct l d FC clA yX1_isKnownHere cX1_isKnownHere 2 (some .boolean) DX1_isKnownHere rvI [vR 1, vI a1] u (call 66 [a1] u)) (x536 : Sg → Option (Int × Sg)) (x528 : Sg → Option (Int × Sg)) (hx536 : ∀ (u : Sg), WG p l e R s m args below meth c JX1_fails DX1_fails G clA A FC ad0 σ0 rvI (x536 u) u 536 [] []) (hx528 : ∀ (u : Sg), WG p l e R s m args below meth c JX1_fails DX1_fails G clA A FC ad0 σ0 rvI (x528 u) u 528 [] []) : ∀ (n : Nat) (a1 a3 : Int) (u : Sg), inR a1 → inR a3 → WG p l e R s m args below meth c JX1_fails DX1_fails G clA A FC ad0 σ0 rvI (bX1_fails_L328 call n a1 a3 u x536 x528) u 328 [(0, vR 1), (1, vI a1), (3, vI a3)] [] := by
  intro n
  induction n with
  | zero =>
    intro a1 a3 u ra1 ra3
    exact g_none
  | succ n ih =>
    intro a1 a3 u ra1 ra3
    rw [bX1_fails_L328]
    refine g_iload_n 2 dX1_fails_328 rfl ?_
    refine g_aload_n 0 dX1_fails_329 rfl ?_
    refine g_getI (ci := 1) (b := 30) (N := 57) 5 rfl rfl rfl (by decide) in_X1 rfl rfl q313 dX1_fails_330 (fun v1 rv1 => ?_)
    refine g_icmp_ge 536 dX1_fails_333 (by decide) (fun _ => ra3) (fun _ => rv1) (fun _ => ?_) (fun _ => ?_)
    · refine g_aload_n 0 dX1_fails_336 rfl ?_
      refine g_get (v := vR 44) (ci := 1) (b := 30) (N := 57) 4 rfl rfl (by decide) in_X1 rfl rfl q312 dX1_fails_337 ?_
      refine g_iload_n 2 dX1_fails_340 rfl ?_
      refine g_iald (id := 34) 12 rfl rfl dX1_fails_341 (fun v2 rv2 => ?_)
      refine g_istore (loc' := [(4, vI v2), (0, vR 1), (1, vI a1), (3, vI a3)]) dX1_fails_342 (by decide) rfl ?_
      refine g_aload_n 1 dX1_fails_344 rfl ?_
      refine g_get (v := vR 0) (ci := 1) (b := 30) (N := 57) 0 rfl rfl (by decide) in_X1 rfl rfl q308 dX1_fails_345 ?_
      refine g_get (v := vR 10) (ci := 0) (b := 0) (N := 21) 0 rfl rfl (by decide) in_X2 rfl rfl q232 dX1_fails_348 ?_
      refine g_iload 0 dX1_fails_351 rfl ?_
      refine g_iald (id := 0) 0 rfl rfl dX1_fails_353 (fun v3 rv3 => ?_)
      refine g_bipush (by decide +kernel) dX1_fails_354 ?_
      refine g_icmp_ne 530 dX1_fails_356 (by decide) (fun _ => rv3) (fun _ => (by decide : inR (16))) (fun _ => ?_) (fun _ => ?_)
      · refine g_aload_n 1 dX1_fails_359 rfl ?_
        refine g_get (v := vR 0) (ci := 1) (b := 30) (N := 57) 0 rfl rfl (by decide) in_X1 rfl rfl q308 dX1_fails_360 ?_
        refine g_get (v := vR 10) (ci := 0) (b := 0) (N := 21) 0 rfl rfl (by decide) in_X2 rfl rfl q232 dX1_fails_363 ?_
        refine g_aload_n 1 dX1_fails_366 rfl ?_
        refine g_get (v := vR 0) (ci := 1) (b := 30) (N := 57) 0 rfl rfl (by decide) in_X1 rfl rfl q308 dX1_fails_367 ?_
        refine g_iload 0 dX1_fails_370 rfl ?_
        refine g_iconst dX1_fails_372 ?_
        refine g_cVIk [0] (As := [vI v2, vI 0]) (n := 2) (stk := [vR 10]) (ci := 0) (b := 0) (N := 21) (hX2_at v2 0 u) (by decide +kernel) rfl rfl (lw_V q571 q572 q573 q164 q574) (by decide +kernel) rfl (by decide) hRf hRl (fun _ => (avc rv2 (avc (inR_z (Or.inl rfl)) avn))) (Nat.le_of_ble_eq_true rfl) rfl rfl dX1_fails_373 (fun v4 s5 rv4 => ?_)
        refine g_iald (id := 0) 0 rfl rfl dX1_fails_376 (fun v6 rv6 => ?_)
        refine g_bipush (by decide +kernel) dX1_fails_377 ?_
        refine g_icmp_eq 385 dX1_fails_379 (by decide) (fun _ => rv6) (fun _ => (by decide : inR (14))) (fun _ => ?_) (fun _ => ?_)
        · refine g_jn (fun j7 => ∀ (a1 a3 a5 t0 : Int) (s8 : Sg), inR a1 → inR a3 → inR a5 → (t0 = 0 ∨ t0 = 1) → WG p l e R s m args below meth c JX1_fails DX1_fails G clA A FC ad0 σ0 rvI (j7 a1 a3 a5 t0 s8) s8 473 [(0, vR 1), (1, vI a1), (3, vI a3), (5, vI a5)] [vI t0]) (fun a1 a3 a5 t0 s8 ra1 ra3 ra5 zt0 => ?_) (fun j7 hj7 => ?_)
          · refine g_istore (loc' := [(6, vI t0), (0, vR 1), (1, vI a1), (3, vI a3), (5, vI a5)]) dX1_fails_473 (by decide) rfl ?_
            refine g_aload_n 1 dX1_fails_475 rfl ?_
            refine g_get (v := vR 0) (ci := 1) (b := 30) (N := 57) 0 rfl rfl (by decide) in_X1 rfl rfl q308 dX1_fails_476 ?_
            refine g_get (v := vR 11) (ci := 0) (b := 0) (N := 21) 1 rfl rfl (by decide) in_X2 rfl rfl q234 dX1_fails_479 ?_
            refine g_iload 4 dX1_fails_482 rfl ?_
            refine g_iald (id := 1) 1 rfl rfl dX1_fails_484 (fun v9 rv9 => ?_)
            refine g_aload_n 1 dX1_fails_485 rfl ?_
            refine g_get (v := vR 0) (ci := 1) (b := 30) (N := 57) 0 rfl rfl (by decide) in_X1 rfl rfl q308 dX1_fails_486 ?_
            refine g_get (v := vR 11) (ci := 0) (b := 0) (N := 21) 1 rfl rfl (by decide) in_X2 rfl rfl q234 dX1_fails_489 ?_
            refine g_iload_n 2 dX1_fails_492 rfl ?_
            refine g_iald (id := 1) 1 rfl rfl dX1_fails_493 (fun v10 rv10 => ?_)
            refine g_icmp_ne 530 dX1_fails_494 (by decide) (fun _ => rv9) (fun _ => rv10) (fun _ => ?_) (fun _ => ?_)
            · refine g_iload 0 dX1_fails_497 rfl ?_
              refine g_if_eq 530 dX1_fails_499 (by decide) (fun _ => (inR_z zt0)) (fun _ => ?_) (fun _ => ?_)
              · refine g_iinc 3 (loc' := fun v11 => [(3, vI v11), (6, vI t0), (0, vR 1), (1, vI a1), (5, vI a5)]) dX1_fails_530 rfl (by decide) (fun _ => rfl) (fun v11 rv11 => ?_)
                refine g_goto 328 dX1_fails_533 (by decide) ?_
                exact g_pick [2, 3, 0] rfl (ih a1 v11 s8 ra1 rv11)
              · refine g_aload_n 1 dX1_fails_502 rfl ?_
                refine g_aload_n 1 dX1_fails_503 rfl ?_
                refine g_get (v := vR 0) (ci := 1) (b := 30) (N := 57) 0 rfl rfl (by decide) in_X1 rfl rfl q308 dX1_fails_504 ?_
                refine g_iload 4 dX1_fails_507 rfl ?_
                refine g_iconst dX1_fails_509 ?_
                refine g_cVI (As := [vI a5, vI 1]) (n := 2) (stk := [vR 1]) (ci := 0) (b := 0) (N := 21) (hX2_at a5 1 s8) (by decide +kernel) rfl rfl (lw_V q571 q572 q573 q164 q574) (by decide +kernel) rfl (by decide) hRf hRl (fun _ => (avc ra5 (avc (inR_z (Or.inr rfl)) avn))) (Nat.le_of_ble_eq_true rfl) rfl rfl dX1_fails_510 (fun v12 s13 rv12 => ?_)
                refine g_aload_n 1 dX1_fails_513 rfl ?_
                refine g_get (v := vR 0) (ci := 1) (b := 30) (N := 57) 0 rfl rfl (by decide) in_X1 rfl rfl q308 dX1_fails_514 ?_
                refine g_iload_n 2 dX1_fails_517 rfl ?_
                refine g_iconst dX1_fails_518 ?_
                refine g_cVI (As := [vI a1, vI 1]) (n := 2) (stk := [vI v12, vR 1]) (ci := 0) (b := 0) (N := 21) (hX2_at a1 1 s13) (by decide +kernel) rfl rfl (lw_V q571 q572 q573 q164 q574) (by decide +kernel) rfl (by decide) hRf hRl (fun _ => (avc ra1 (avc (inR_z (Or.inr rfl)) avn))) (Nat.le_of_ble_eq_true rfl) rfl rfl dX1_fails_519 (fun v14 s15 rv14 => ?_)
                refine g_cVZ (As := [vI v12, vI v14]) (n := 2) (stk := []) (ci := 1) (b := 30) (N := 57) (hX1_equal v12 v14 s15) (by decide +kernel) rfl rfl (lw_V q918 q920 qs41 q163 q921) (by decide +kernel) rfl (by decide) hRf hRl (fun _ => (avc rv12 (avc rv14 avn))) (Nat.le_of_ble_eq_true rfl) rfl rfl dX1_fails_522 (fun v16 s17 zv16 => ?_)
                refine g_if_eq 530 dX1_fails_525 (by decide) (fun _ => (inR_z zv16)) (fun _ => ?_) (fun _ => ?_)
                · refine g_iinc 3 (loc' := fun v18 => [(3, vI v18), (6, vI t0), (0, vR 1), (1, vI a1), (5, vI a5)]) dX1_fails_530 rfl (by decide) (fun _ => rfl) (fun v18 rv18 => ?_)
                  refine g_goto 328 dX1_fails_533 (by decide) ?_
                  exact g_pick [2, 3, 0] rfl (ih a1 v18 s17 ra1 rv18)
                · exact g_pick [] rfl (hx528 s17)
            · refine g_iinc 3 (loc' := fun v19 => [(3, vI v19), (6, vI t0), (0, vR 1), (1, vI a1), (5, vI a5)]) dX1_fails_530 rfl (by decide) (fun _ => rfl) (fun v19 rv19 => ?_)
              refine g_goto 328 dX1_fails_533 (by decide) ?_
              exact g_pick [2, 3, 0] rfl (ih a1 v19 s8 ra1 rv19)
          · refine g_aload_n 1 dX1_fails_385 rfl ?_
            refine g_get (v := vR 0) (ci := 1) (b := 30) (N := 57) 0 rfl rfl (by decide) in_X1 rfl rfl q308 dX1_fails_386 ?_
            refine g_iload 0 dX1_fails_389 rfl ?_
            refine g_iconst dX1_fails_391 ?_
            refine g_cVI (As := [vI v2, vI 0]) (n := 2) (stk := []) (ci := 0) (b := 0) (N := 21) (hX2_at v2 0 s5) (by decide +kernel) rfl rfl (lw_V q571 q572 q573 q164 q574) (by decide +kernel) rfl (by decide) hRf hRl (fun _ => (avc rv2 (avc (inR_z (Or.inl rfl)) avn))) (Nat.le_of_ble_eq_true rfl) rfl rfl dX1_fails_392 (fun v20 s21 rv20 => ?_)
            refine g_istore (loc' := [(5, vI v20), (4, vI v2), (0, vR 1), (1, vI a1), (3, vI a3)]) dX1_fails_395 (by decide) rfl ?_
            refine g_aload_n 2 dX1_fails_397 rfl ?_
            refine g_get (v := vR 0) (ci := 1) (b := 30) (N := 57) 0 rfl rfl (by decide) in_X1 rfl rfl q308 dX1_fails_398 ?_
            refine g_iload 0 dX1_fails_401 rfl ?_
            refine g_iconst dX1_fails_403 ?_
            refine g_cVI (As := [vI v20, vI 0]) (n := 2) (stk := []) (ci := 0) (b := 0) (N := 21) (hX2_at v20 0 s21) (by decide +kernel) rfl rfl (lw_V q571 q572 q573 q164 q574) (by decide +kernel) rfl (by decide) hRf hRl (fun _ => (avc rv20 (avc (inR_z (Or.inl rfl)) avn))) (Nat.le_of_ble_eq_true rfl) rfl rfl dX1_fails_404 (fun v22 s23 rv22 => ?_)
            refine g_if_ne 430 dX1_fails_407 (by decide) (fun _ => rv22) (fun _ => ?_) (fun _ => ?_)
            · refine g_aload_n 2 dX1_fails_410 rfl ?_
              refine g_get (v := vR 0) (ci := 1) (b := 30) (N := 57) 0 rfl rfl (by decide) in_X1 rfl rfl q308 dX1_fails_411 ?_
              refine g_iload_n 3 dX1_fails_414 rfl ?_
              refine g_iconst dX1_fails_415 ?_
              refine g_cVI (As := [vI a1, vI 0]) (n := 2) (stk := []) (ci := 0) (b := 0) (N := 21) (hX2_at a1 0 s23) (by decide +kernel) rfl rfl (lw_V q571 q572 q573 q164 q574) (by decide +kernel) rfl (by decide) hRf hRl (fun _ => (avc ra1 (avc (inR_z (Or.inl rfl)) avn))) (Nat.le_of_ble_eq_true rfl) rfl rfl dX1_fails_416 (fun v24 s25 rv24 => ?_)
              refine g_if_ne 426 dX1_fails_419 (by decide) (fun _ => rv24) (fun _ => ?_) (fun _ => ?_)
              · refine g_iconst dX1_fails_422 ?_
                refine g_goto 473 dX1_fails_423 (by decide) ?_
                exact g_pick [2, 3, 4, 0] rfl (hj7 a1 a3 v20 1 s25 ra1 ra3 rv20 (Or.inr rfl))
              · refine g_iconst dX1_fails_426 ?_
                refine g_goto 473 dX1_fails_427 (by decide) ?_
                exact g_pick [2, 3, 4, 0] rfl (hj7 a1 a3 v20 0 s25 ra1 ra3 rv20 (Or.inl rfl))
            · refine g_jn (fun j26 => ∀ (a1 a3 a5 : Int) (s27 : Sg), inR a1 → inR a3 → inR a5 → WG p l e R s m args below meth c JX1_fails DX1_fails G clA A FC ad0 σ0 rvI (j26 a1 a3 a5 s27) s27 472 [(0, vR 1), (1, vI a1), (3, vI a3), (5, vI a5)] []) (fun a1 a3 a5 s27 ra1 ra3 ra5 => ?_) (fun j26 hj26 => ?_)
              · refine g_iconst dX1_fails_472 ?_
                exact g_pick [0, 1, 2, 3] rfl (hj7 a1 a3 a5 0 s27 ra1 ra3 ra5 (Or.inl rfl))
              · refine g_aload_n 2 dX1_fails_430 rfl ?_
                refine g_get (v := vR 0) (ci := 1) (b := 30) (N := 57) 0 rfl rfl (by decide) in_X1 rfl rfl q308 dX1_fails_431 ?_
                refine g_iload_n 3 dX1_fails_434 rfl ?_
                refine g_iconst dX1_fails_435 ?_
                refine g_cVI (As := [vI a1, vI 0]) (n := 2) (stk := []) (ci := 0) (b := 0) (N := 21) (hX2_at a1 0 s23) (by decide +kernel) rfl rfl (lw_V q571 q572 q573 q164 q574) (by decide +kernel) rfl (by decide) hRf hRl (fun _ => (avc ra1 (avc (inR_z (Or.inl rfl)) avn))) (Nat.le_of_ble_eq_true rfl) rfl rfl dX1_fails_436 (fun v28 s29 rv28 => ?_)
                refine g_if_eq 472 dX1_fails_439 (by decide) (fun _ => rv28) (fun _ => ?_) (fun _ => ?_)
                · exact g_pick [2, 3, 4, 0] rfl (hj26 a1 a3 v20 s29 ra1 ra3 rv20)
                · refine g_aload_n 2 dX1_fails_442 rfl ?_
                  refine g_aload_n 2 dX1_fails_443 rfl ?_
                  refine g_get (v := vR 0) (ci := 1) (b := 30) (N := 57) 0 rfl rfl (by decide) in_X1 rfl rfl q308 dX1_fails_444 ?_
                  refine g_iload 0 dX1_fails_447 rfl ?_
                  refine g_iconst dX1_fails_449 ?_
                  refine g_cVI (As := [vI v20, vI 0]) (n := 2) (stk := [vR 1]) (ci := 0) (b := 0) (N := 21) (hX2_at v20 0 s29) (by decide +kernel) rfl rfl (lw_V q571 q572 q573 q164 q574) (by decide +kernel) rfl (by decide) hRf hRl (fun _ => (avc rv20 (avc (inR_z (Or.inl rfl)) avn))) (Nat.le_of_ble_eq_true rfl) rfl rfl dX1_fails_450 (fun v30 s31 rv30 => ?_)
                  refine g_aload_n 2 dX1_fails_453 rfl ?_
                  refine g_get (v := vR 0) (ci := 1) (b := 30) (N := 57) 0 rfl rfl (by decide) in_X1 rfl rfl q308 dX1_fails_454 ?_
                  refine g_iload_n 3 dX1_fails_457 rfl ?_
                  refine g_iconst dX1_fails_458 ?_
                  refine g_cVI (As := [vI a1, vI 0]) (n := 2) (stk := [vI v30, vR 1]) (ci := 0) (b := 0) (N := 21) (hX2_at a1 0 s31) (by decide +kernel) rfl rfl (lw_V q571 q572 q573 q164 q574) (by decide +kernel) rfl (by decide) hRf hRl (fun _ => (avc ra1 (avc (inR_z (Or.inl rfl)) avn))) (Nat.le_of_ble_eq_true rfl) rfl rfl dX1_fails_459 (fun v32 s33 rv32 => ?_)
                  refine g_cVZ (As := [vI v30, vI v32]) (n := 2) (stk := []) (ci := 1) (b := 30) (N := 57) (hX1_equal v30 v32 s33) (by decide +kernel) rfl rfl (lw_V q918 q920 qs41 q163 q921) (by decide +kernel) rfl (by decide) hRf hRl (fun _ => (avc rv30 (avc rv32 avn))) (Nat.le_of_ble_eq_true rfl) rfl rfl dX1_fails_462 (fun v34 s35 zv34 => ?_)
                  refine g_if_eq 472 dX1_fails_465 (by decide) (fun _ => (inR_z zv34)) (fun _ => ?_) (fun _ => ?_)
                  · exact g_pick [2, 3, 4, 0] rfl (hj26 a1 a3 v20 s35 ra1 ra3 rv20)
                  · refine g_iconst dX1_fails_468 ?_
                    refine g_goto 473 dX1_fails_469 (by decide) ?_
                    exact g_pick [2, 3, 4, 0] rfl (hj7 a1 a3 v20 1 s35 ra1 ra3 rv20 (Or.inr rfl))
        · refine g_goto 530 dX1_fails_382 (by decide) ?_
          refine g_iinc 3 (loc' := fun v36 => [(3, vI v36), (4, vI v2), (0, vR 1), (1, vI a1)]) dX1_fails_530 rfl (by decide) (fun _ => rfl) (fun v36 rv36 => ?_)
          refine g_goto 328 dX1_fails_533 (by decide) ?_
          exact g_pick [2, 3, 0] rfl (ih a1 v36 s5 ra1 rv36)
      · refine g_iinc 3 (loc' := fun v37 => [(3, vI v37), (4, vI v2), (0, vR 1), (1, vI a1)]) dX1_fails_530 rfl (by decide) (fun _ => rfl) (fun v37 rv37 => ?_)
        refine g_goto 328 dX1_fails_533 (by decide) ?_
        exact g_pick [2, 3, 0] rfl (ih a1 v37 u ra1 rv37)
    · exact g_pick [] rfl (hx536 u)
theorem wX1_fails_L274 (hd : 2 ≤ d) (hRf : d + 1 ≤ R.frames) (hRl : 40 * (d + 1) ≤ R.locals) (hX2_at : ∀ (a1 a2 : Int) (u : Sg), Ct l d FC clA yX2_at cX2_at 3 (some .int) DX2_at rvI [vR 0, vI a1, vI a2] u (call 98 [a1, a2] u)) (hX1_equal : ∀ (a1 a2 : Int) (u : Sg), Ct l d FC clA yX1_equal cX1_equal 3 (some .boolean) DX1_equal rvI [vR 1, vI a1, vI a2] u (call 59 [a1, a2] u)) (hX1_isSaid : ∀ (a1 a2 : Int) (u : Sg), Ct l d FC clA yX1_isSaid cX1_isSaid 5 (some .boolean) DX1_isSaid rvI [vR 1, vI a1, vI a2] u (call 69 [a1, a2] u)) (hX1_classHas : ∀ (a1 a2 : Int) (u : Sg), Ct l d FC clA yX1_classHas cX1_classHas 4 (some .boolean) DX1_classHas rvI [vR 1, vI a1, vI a2] u (call 63 [a1, a2] u)) (hX2_not : ∀ (a1 : Int) (u : Sg), Ct l d FC clA yX2_not cX2_not 2 (some .int) DX2_not rvI [vR 0, vI a1] u (call 102 [a1] u)) (hX1_holds : ∀ (a1 : Int) (u : Sg), Ct l d FC clA yX1_holds cX1_holds 3 (some .boolean) DX1_holds rvI [vR 1, vI a1] u (call 67 [a1] u)) (hX1_isKnownHere : ∀ (a1 : Int) (u : Sg), Ct l d FC clA yX1_isKnownHere cX1_isKnownHere 2 (some .boolean) DX1_isKnownHere rvI [vR 1, vI a1] u (call 66 [a1] u)) (x318 : Sg → Option (Int × Sg)) (x310 : Sg → Option (Int × Sg)) (hx318 : ∀ (u : Sg), WG p l e R s m args below meth c JX1_fails DX1_fails G clA A FC ad0 σ0 rvI (x318 u) u 318 [] []) (hx310 : ∀ (u : Sg), WG p l e R s m args below meth c JX1_fails DX1_fails G clA A FC ad0 σ0 rvI (x310 u) u 310 [] []) : ∀ (n : Nat) (a1 a3 : Int) (u : Sg), inR a1 → inR a3 → WG p l e R s m args below meth c JX1_fails DX1_fails G clA A FC ad0 σ0 rvI (bX1_fails_L274 call n a1 a3 u x318 x310) u 274 [(0, vR 1), (1, vI a1), (3, vI a3)] [] := by
  intro n
  induction n with
  | zero =>
    intro a1 a3 u ra1 ra3
    exact g_none
  | succ n ih =>
    intro a1 a3 u ra1 ra3
    rw [bX1_fails_L274]
    refine g_iload_n 2 dX1_fails_274 rfl ?_
    refine g_aload_n 0 dX1_fails_275 rfl ?_
    refine g_get (v := vR 0) (ci := 1) (b := 30) (N := 57) 0 rfl rfl (by decide) in_X1 rfl rfl q308 dX1_fails_276 ?_
    refine g_get (v := vR 13) (ci := 0) (b := 0) (N := 21) 3 rfl rfl (by decide) in_X2 rfl rfl q237 dX1_fails_279 ?_
    refine g_iload_n 1 dX1_fails_282 rfl ?_
    refine g_iald (id := 3) 3 rfl rfl dX1_fails_283 (fun v1 rv1 => ?_)
    refine g_icmp_ge 318 dX1_fails_284 (by decide) (fun _ => ra3) (fun _ => rv1) (fun _ => ?_) (fun _ => ?_)
    · refine g_aload_n 0 dX1_fails_287 rfl ?_
      refine g_aload_n 0 dX1_fails_288 rfl ?_
      refine g_get (v := vR 0) (ci := 1) (b := 30) (N := 57) 0 rfl rfl (by decide) in_X1 rfl rfl q308 dX1_fails_289 ?_
      refine g_aload_n 0 dX1_fails_292 rfl ?_
      refine g_get (v := vR 0) (ci := 1) (b := 30) (N := 57) 0 rfl rfl (by decide) in_X1 rfl rfl q308 dX1_fails_293 ?_
      refine g_iload_n 1 dX1_fails_296 rfl ?_
      refine g_iload_n 2 dX1_fails_297 rfl ?_
      refine g_cVI (As := [vI a1, vI a3]) (n := 2) (stk := [vR 0, vR 1]) (ci := 0) (b := 0) (N := 21) (hX2_at a1 a3 u) (by decide +kernel) rfl rfl (lw_V q571 q572 q573 q164 q574) (by decide +kernel) rfl (by decide) hRf hRl (fun _ => (avc ra1 (avc ra3 avn))) (Nat.le_of_ble_eq_true rfl) rfl rfl dX1_fails_298 (fun v2 s3 rv2 => ?_)
      refine g_cVI (As := [vI v2]) (n := 1) (stk := [vR 1]) (ci := 0) (b := 0) (N := 21) (hX2_not v2 s3) (by decide +kernel) rfl rfl (lw_V q719 q720 q721 q164 q722) (by decide +kernel) rfl (by decide) hRf hRl (fun _ => (avc rv2 avn)) (Nat.le_of_ble_eq_true rfl) rfl rfl dX1_fails_301 (fun v4 s5 rv4 => ?_)
      refine g_cVZ (As := [vI v4]) (n := 1) (stk := []) (ci := 1) (b := 30) (N := 57) (hX1_holds v4 s5) (by decide +kernel) rfl rfl (lw_V q950 q952 qs49 q163 q953) (by decide +kernel) rfl (by decide) hRf hRl (fun _ => (avc rv4 avn)) (Nat.le_of_ble_eq_true rfl) rfl rfl dX1_fails_304 (fun v6 s7 zv6 => ?_)
      refine g_if_eq 312 dX1_fails_307 (by decide) (fun _ => (inR_z zv6)) (fun _ => ?_) (fun _ => ?_)
      · refine g_iinc 2 (loc' := fun v8 => [(3, vI v8), (0, vR 1), (1, vI a1)]) dX1_fails_312 rfl (by decide) (fun _ => rfl) (fun v8 rv8 => ?_)
        refine g_goto 274 dX1_fails_315 (by decide) ?_
        exact g_pick [1, 2, 0] rfl (ih a1 v8 s7 ra1 rv8)
      · exact g_pick [] rfl (hx310 s7)
    · exact g_pick [] rfl (hx318 u)
theorem wX1_fails (hd : 2 ≤ d) (hRf : d + 1 ≤ R.frames) (hRl : 40 * (d + 1) ≤ R.locals) (hX2_at : ∀ (a1 a2 : Int) (u : Sg), Ct l d FC clA yX2_at cX2_at 3 (some .int) DX2_at rvI [vR 0, vI a1, vI a2] u (call 98 [a1, a2] u)) (hX1_equal : ∀ (a1 a2 : Int) (u : Sg), Ct l d FC clA yX1_equal cX1_equal 3 (some .boolean) DX1_equal rvI [vR 1, vI a1, vI a2] u (call 59 [a1, a2] u)) (hX1_isSaid : ∀ (a1 a2 : Int) (u : Sg), Ct l d FC clA yX1_isSaid cX1_isSaid 5 (some .boolean) DX1_isSaid rvI [vR 1, vI a1, vI a2] u (call 69 [a1, a2] u)) (hX1_classHas : ∀ (a1 a2 : Int) (u : Sg), Ct l d FC clA yX1_classHas cX1_classHas 4 (some .boolean) DX1_classHas rvI [vR 1, vI a1, vI a2] u (call 63 [a1, a2] u)) (hX2_not : ∀ (a1 : Int) (u : Sg), Ct l d FC clA yX2_not cX2_not 2 (some .int) DX2_not rvI [vR 0, vI a1] u (call 102 [a1] u)) (hX1_holds : ∀ (a1 : Int) (u : Sg), Ct l d FC clA yX1_holds cX1_holds 3 (some .boolean) DX1_holds rvI [vR 1, vI a1] u (call 67 [a1] u)) (hX1_isKnownHere : ∀ (a1 : Int) (u : Sg), Ct l d FC clA yX1_isKnownHere cX1_isKnownHere 2 (some .boolean) DX1_isKnownHere rvI [vR 1, vI a1] u (call 66 [a1] u)) (a1 a2 : Int) (u : Sg) (ra1 : inR a1) (ra2 : inR a2) : WG p l e R s m args below meth c JX1_fails DX1_fails G clA A FC ad0 σ0 rvI (bX1_fails call a1 a2 u) u 0 [(0, vR 1), (1, vI a1), (2, vI a2)] [] := by
  unfold bX1_fails
  refine g_aload_n 0 dX1_fails_0 rfl ?_
  refine g_get (v := vR 0) (ci := 1) (b := 30) (N := 57) 0 rfl rfl (by decide) in_X1 rfl rfl q308 dX1_fails_1 ?_
  refine g_get (v := vR 10) (ci := 0) (b := 0) (N := 21) 0 rfl rfl (by decide) in_X2 rfl rfl q232 dX1_fails_4 ?_
  refine g_iload_n 1 dX1_fails_7 rfl ?_
  refine g_iald (id := 0) 0 rfl rfl dX1_fails_8 (fun v1 rv1 => ?_)
  refine WG.byc (fun e0 => ?_) (fun n0 => ?_)
  · refine g_tswIn 64 9 dX1_fails_9 (by decide) rfl (by decide) e0 ?_
    refine g_iconst dX1_fails_64 ?_
    exact g_zret rfl rfl (fun _ => (Or.inl rfl)) dX1_fails_65
  · skip
    refine WG.byc (fun e1 => ?_) (fun n1 => ?_)
    · refine g_tswIn 66 10 dX1_fails_9 (by decide) rfl (by decide) e1 ?_
      refine g_aload_n 0 dX1_fails_66 rfl ?_
      refine g_get (v := vR 0) (ci := 1) (b := 30) (N := 57) 0 rfl rfl (by decide) in_X1 rfl rfl q308 dX1_fails_67 ?_
      refine g_iload_n 1 dX1_fails_70 rfl ?_
      refine g_iconst dX1_fails_71 ?_
      refine g_cVI (As := [vI a1, vI 0]) (n := 2) (stk := []) (ci := 0) (b := 0) (N := 21) (hX2_at a1 0 u) (by decide +kernel) rfl rfl (lw_V q571 q572 q573 q164 q574) (by decide +kernel) rfl (by decide) hRf hRl (fun _ => (avc ra1 (avc (inR_z (Or.inl rfl)) avn))) (Nat.le_of_ble_eq_true rfl) rfl rfl dX1_fails_72 (fun v2 s3 rv2 => ?_)
      refine g_istore_n (loc' := [(3, vI v2), (0, vR 1), (1, vI a1), (2, vI a2)]) dX1_fails_75 (by decide) rfl ?_
      refine g_aload_n 1 dX1_fails_76 rfl ?_
      refine g_get (v := vR 0) (ci := 1) (b := 30) (N := 57) 0 rfl rfl (by decide) in_X1 rfl rfl q308 dX1_fails_77 ?_
      refine g_iload_n 2 dX1_fails_80 rfl ?_
      refine g_iconst dX1_fails_81 ?_
      refine g_cVI (As := [vI a1, vI 1]) (n := 2) (stk := []) (ci := 0) (b := 0) (N := 21) (hX2_at a1 1 s3) (by decide +kernel) rfl rfl (lw_V q571 q572 q573 q164 q574) (by decide +kernel) rfl (by decide) hRf hRl (fun _ => (avc ra1 (avc (inR_z (Or.inr rfl)) avn))) (Nat.le_of_ble_eq_true rfl) rfl rfl dX1_fails_82 (fun v4 s5 rv4 => ?_)
      refine g_istore (loc' := [(4, vI v4), (3, vI v2), (0, vR 1), (1, vI a1), (2, vI a2)]) dX1_fails_85 (by decide) rfl ?_
      refine g_iconst dX1_fails_87 ?_
      refine g_istore (loc' := [(5, vI 0), (4, vI v4), (3, vI v2), (0, vR 1), (1, vI a1), (2, vI a2)]) dX1_fails_88 (by decide) rfl ?_
      refine g_pick [3, 2, 1, 0] rfl (wX1_fails_L90 hd hRf hRl hX2_at hX1_equal hX1_isSaid hX1_classHas hX2_not hX1_holds hX1_isKnownHere _ _ (fun s6 => ?_) (fun s7 => ?_) KF v2 v4 0 s5 rv2 rv4 (inR_z (Or.inl rfl)))
      · refine g_iconst dX1_fails_243 ?_
        exact g_zret rfl rfl (fun _ => (Or.inl rfl)) dX1_fails_244
      · refine g_iconst dX1_fails_235 ?_
        exact g_zret rfl rfl (fun _ => (Or.inr rfl)) dX1_fails_236
    · skip
      refine WG.byc (fun e2 => ?_) (fun n2 => ?_)
      · refine g_tswIn 538 11 dX1_fails_9 (by decide) rfl (by decide) e2 ?_
        refine g_aload_n 0 dX1_fails_538 rfl ?_
        refine g_iload_n 1 dX1_fails_539 rfl ?_
        refine g_iconst dX1_fails_540 ?_
        refine g_cVZ (As := [vI a1, vI 1]) (n := 2) (stk := []) (ci := 1) (b := 30) (N := 57) (hX1_isSaid a1 1 u) (by decide +kernel) rfl rfl (lw_V q958 q960 qs51 q163 q961) (by decide +kernel) rfl (by decide) hRf hRl (fun _ => (avc ra1 (avc (inR_z (Or.inr rfl)) avn))) (Nat.le_of_ble_eq_true rfl) rfl rfl dX1_fails_541 (fun v8 s9 zv8 => ?_)
        exact g_zret rfl rfl (fun _ => zv8) dX1_fails_544
      · skip
        refine WG.byc (fun e3 => ?_) (fun n3 => ?_)
        · refine g_tswIn 538 12 dX1_fails_9 (by decide) rfl (by decide) e3 ?_
          refine g_aload_n 0 dX1_fails_538 rfl ?_
          refine g_iload_n 1 dX1_fails_539 rfl ?_
          refine g_iconst dX1_fails_540 ?_
          refine g_cVZ (As := [vI a1, vI 1]) (n := 2) (stk := []) (ci := 1) (b := 30) (N := 57) (hX1_isSaid a1 1 u) (by decide +kernel) rfl rfl (lw_V q958 q960 qs51 q163 q961) (by decide +kernel) rfl (by decide) hRf hRl (fun _ => (avc ra1 (avc (inR_z (Or.inr rfl)) avn))) (Nat.le_of_ble_eq_true rfl) rfl rfl dX1_fails_541 (fun v10 s11 zv10 => ?_)
          exact g_zret rfl rfl (fun _ => zv10) dX1_fails_544
        · skip
          refine WG.byc (fun e4 => ?_) (fun n4 => ?_)
          · refine g_tswIn 245 13 dX1_fails_9 (by decide) rfl (by decide) e4 ?_
            refine g_aload_n 0 dX1_fails_245 rfl ?_
            refine g_aload_n 0 dX1_fails_246 rfl ?_
            refine g_get (v := vR 0) (ci := 1) (b := 30) (N := 57) 0 rfl rfl (by decide) in_X1 rfl rfl q308 dX1_fails_247 ?_
            refine g_iload_n 1 dX1_fails_250 rfl ?_
            refine g_iconst dX1_fails_251 ?_
            refine g_cVI (As := [vI a1, vI 0]) (n := 2) (stk := [vR 1]) (ci := 0) (b := 0) (N := 21) (hX2_at a1 0 u) (by decide +kernel) rfl rfl (lw_V q571 q572 q573 q164 q574) (by decide +kernel) rfl (by decide) hRf hRl (fun _ => (avc ra1 (avc (inR_z (Or.inl rfl)) avn))) (Nat.le_of_ble_eq_true rfl) rfl rfl dX1_fails_252 (fun v12 s13 rv12 => ?_)
            refine g_iconst dX1_fails_255 ?_
            refine g_aload_n 0 dX1_fails_256 rfl ?_
            refine g_get (v := vR 0) (ci := 1) (b := 30) (N := 57) 0 rfl rfl (by decide) in_X1 rfl rfl q308 dX1_fails_257 ?_
            refine g_get (v := vR 11) (ci := 0) (b := 0) (N := 21) 1 rfl rfl (by decide) in_X2 rfl rfl q234 dX1_fails_260 ?_
            refine g_iload_n 1 dX1_fails_263 rfl ?_
            refine g_iald (id := 1) 1 rfl rfl dX1_fails_264 (fun v14 rv14 => ?_)
            refine g_imul dX1_fails_265 (fun v15 rv15 => ?_)
            refine g_iconst dX1_fails_266 ?_
            refine g_iadd dX1_fails_267 (fun v16 rv16 => ?_)
            refine g_cVZ (As := [vI v12, vI v16]) (n := 2) (stk := []) (ci := 1) (b := 30) (N := 57) (hX1_classHas v12 v16 s13) (by decide +kernel) rfl rfl (lw_V q934 q936 qs45 q163 q937) (by decide +kernel) rfl (by decide) hRf hRl (fun _ => (avc rv12 (avc rv16 avn))) (Nat.le_of_ble_eq_true rfl) rfl rfl dX1_fails_268 (fun v17 s18 zv17 => ?_)
            exact g_zret rfl rfl (fun _ => zv17) dX1_fails_271
          · skip
            refine WG.byc (fun e5 => ?_) (fun n5 => ?_)
            · refine g_tswIn 326 14 dX1_fails_9 (by decide) rfl (by decide) e5 ?_
              refine g_iconst dX1_fails_326 ?_
              refine g_istore_n (loc' := [(3, vI 0), (0, vR 1), (1, vI a1), (2, vI a2)]) dX1_fails_327 (by decide) rfl ?_
              refine g_pick [1, 2, 0] rfl (wX1_fails_L328 hd hRf hRl hX2_at hX1_equal hX1_isSaid hX1_classHas hX2_not hX1_holds hX1_isKnownHere _ _ (fun s19 => ?_) (fun s20 => ?_) KF a1 0 u ra1 (inR_z (Or.inl rfl)))
              · refine g_iconst dX1_fails_536 ?_
                exact g_zret rfl rfl (fun _ => (Or.inl rfl)) dX1_fails_537
              · refine g_iconst dX1_fails_528 ?_
                exact g_zret rfl rfl (fun _ => (Or.inr rfl)) dX1_fails_529
            · skip
              refine WG.byc (fun e6 => ?_) (fun n6 => ?_)
              · refine g_tswIn 538 15 dX1_fails_9 (by decide) rfl (by decide) e6 ?_
                refine g_aload_n 0 dX1_fails_538 rfl ?_
                refine g_iload_n 1 dX1_fails_539 rfl ?_
                refine g_iconst dX1_fails_540 ?_
                refine g_cVZ (As := [vI a1, vI 1]) (n := 2) (stk := []) (ci := 1) (b := 30) (N := 57) (hX1_isSaid a1 1 u) (by decide +kernel) rfl rfl (lw_V q958 q960 qs51 q163 q961) (by decide +kernel) rfl (by decide) hRf hRl (fun _ => (avc ra1 (avc (inR_z (Or.inr rfl)) avn))) (Nat.le_of_ble_eq_true rfl) rfl rfl dX1_fails_541 (fun v21 s22 zv21 => ?_)
                exact g_zret rfl rfl (fun _ => zv21) dX1_fails_544
              · skip
                refine WG.byc (fun e7 => ?_) (fun n7 => ?_)
                · refine g_tswIn 538 16 dX1_fails_9 (by decide) rfl (by decide) e7 ?_
                  refine g_aload_n 0 dX1_fails_538 rfl ?_
                  refine g_iload_n 1 dX1_fails_539 rfl ?_
                  refine g_iconst dX1_fails_540 ?_
                  refine g_cVZ (As := [vI a1, vI 1]) (n := 2) (stk := []) (ci := 1) (b := 30) (N := 57) (hX1_isSaid a1 1 u) (by decide +kernel) rfl rfl (lw_V q958 q960 qs51 q163 q961) (by decide +kernel) rfl (by decide) hRf hRl (fun _ => (avc ra1 (avc (inR_z (Or.inr rfl)) avn))) (Nat.le_of_ble_eq_true rfl) rfl rfl dX1_fails_541 (fun v23 s24 zv23 => ?_)
                  exact g_zret rfl rfl (fun _ => zv23) dX1_fails_544
                · skip
                  refine WG.byc (fun e8 => ?_) (fun n8 => ?_)
                  · refine g_tswIn 272 17 dX1_fails_9 (by decide) rfl (by decide) e8 ?_
                    refine g_iconst dX1_fails_272 ?_
                    refine g_istore_n (loc' := [(3, vI 0), (0, vR 1), (1, vI a1), (2, vI a2)]) dX1_fails_273 (by decide) rfl ?_
                    refine g_pick [1, 2, 0] rfl (wX1_fails_L274 hd hRf hRl hX2_at hX1_equal hX1_isSaid hX1_classHas hX2_not hX1_holds hX1_isKnownHere _ _ (fun s25 => ?_) (fun s26 => ?_) KF a1 0 u ra1 (inR_z (Or.inl rfl)))
                    · refine g_iconst dX1_fails_318 ?_
                      exact g_zret rfl rfl (fun _ => (Or.inl rfl)) dX1_fails_319
                    · refine g_iconst dX1_fails_310 ?_
                      exact g_zret rfl rfl (fun _ => (Or.inr rfl)) dX1_fails_311
                  · skip
                    refine WG.byc (fun e9 => ?_) (fun n9 => ?_)
                    · refine g_tswIn 320 18 dX1_fails_9 (by decide) rfl (by decide) e9 ?_
                      refine g_aload_n 0 dX1_fails_320 rfl ?_
                      refine g_iload_n 2 dX1_fails_321 rfl ?_
                      refine g_cVZ (As := [vI a2]) (n := 1) (stk := []) (ci := 1) (b := 30) (N := 57) (hX1_isKnownHere a2 u) (by decide +kernel) rfl rfl (lw_V q946 q948 qs48 q163 q949) (by decide +kernel) rfl (by decide) hRf hRl (fun _ => (avc ra2 avn)) (Nat.le_of_ble_eq_true rfl) rfl rfl dX1_fails_322 (fun v27 s28 zv27 => ?_)
                      exact g_zret rfl rfl (fun _ => zv27) dX1_fails_325
                    · skip
                      refine g_tswOut 538 dX1_fails_9 (fun _ => rv1) (by omega) (by decide) ?_
                      refine g_aload_n 0 dX1_fails_538 rfl ?_
                      refine g_iload_n 1 dX1_fails_539 rfl ?_
                      refine g_iconst dX1_fails_540 ?_
                      refine g_cVZ (As := [vI a1, vI 1]) (n := 2) (stk := []) (ci := 1) (b := 30) (N := 57) (hX1_isSaid a1 1 u) (by decide +kernel) rfl rfl (lw_V q958 q960 qs51 q163 q961) (by decide +kernel) rfl (by decide) hRf hRl (fun _ => (avc ra1 (avc (inR_z (Or.inr rfl)) avn))) (Nat.le_of_ble_eq_true rfl) rfl rfl dX1_fails_541 (fun v29 s30 zv29 => ?_)
                      exact g_zret rfl rfl (fun _ => zv29) dX1_fails_544
end
section
variable {l : Launch} {d : Nat} {call : Nat → List Int → Sg → Option (Int × Sg)}
theorem ctX1_fails (p0 : Program) (e0 : Env) (s0 : State) (m0 : MethodId) (meth0 : Method) (c0 : Code) (G0 : Gm) (hd : 2 ≤ d) (hX2_at : ∀ (a1 a2 : Int) (u : Sg), Ct l d FC clA yX2_at cX2_at 3 (some .int) DX2_at rvI [vR 0, vI a1, vI a2] u (call 98 [a1, a2] u)) (hX1_equal : ∀ (a1 a2 : Int) (u : Sg), Ct l d FC clA yX1_equal cX1_equal 3 (some .boolean) DX1_equal rvI [vR 1, vI a1, vI a2] u (call 59 [a1, a2] u)) (hX1_isSaid : ∀ (a1 a2 : Int) (u : Sg), Ct l d FC clA yX1_isSaid cX1_isSaid 5 (some .boolean) DX1_isSaid rvI [vR 1, vI a1, vI a2] u (call 69 [a1, a2] u)) (hX1_classHas : ∀ (a1 a2 : Int) (u : Sg), Ct l d FC clA yX1_classHas cX1_classHas 4 (some .boolean) DX1_classHas rvI [vR 1, vI a1, vI a2] u (call 63 [a1, a2] u)) (hX2_not : ∀ (a1 : Int) (u : Sg), Ct l d FC clA yX2_not cX2_not 2 (some .int) DX2_not rvI [vR 0, vI a1] u (call 102 [a1] u)) (hX1_holds : ∀ (a1 : Int) (u : Sg), Ct l d FC clA yX1_holds cX1_holds 3 (some .boolean) DX1_holds rvI [vR 1, vI a1] u (call 67 [a1] u)) (hX1_isKnownHere : ∀ (a1 : Int) (u : Sg), Ct l d FC clA yX1_isKnownHere cX1_isKnownHere 2 (some .boolean) DX1_isKnownHere rvI [vR 1, vI a1] u (call 66 [a1] u)) (a1 a2 : Int) (u : Sg) : Ct l (d + 1) FC clA yX1_fails cX1_fails 8 (some .boolean) DX1_fails rvI [vR 1, vI a1, vI a2] u (bX1_fails call a1 a2 u) :=
  Ct_of (by decide) (Nat.le_of_ble_eq_true rfl) (fun p e R s1 m args below meth c G A ad hA hRf hRl => wX1_fails hd hRf hRl hX2_at hX1_equal hX1_isSaid hX1_classHas hX2_not hX1_holds hX1_isKnownHere a1 a2 u (hA _ (List.mem_cons_of_mem _ List.mem_cons_self)) (hA _ (List.mem_cons_of_mem _ (List.mem_cons_of_mem _ List.mem_cons_self)))) p0 e0 s0 m0 meth0 c0 G0
end
/-! RoundCheck.isSaid(IZ)Z -/
abbrev JX1_isSaid : Jm := (cX1_isSaid, RX1, 5, (some .boolean))
def bX1_isSaid_L2 (call : Nat → List Int → Sg → Option (Int × Sg)) : Nat → Int → Int → Int → Sg → (Sg → Option (Int × Sg)) → (Sg → Option (Int × Sg)) → Option (Int × Sg)
  | 0, _, _, _, _, _, _ => none
  | n + 1, a1, a2, a3, u, x80, x72 => un (gI u 35) fun v1 => if a3 < v1 then (jn (fun (a1 a2 a3 a4 t0 : Int) (s3 : Sg) => if t0 = a2 then (jn (fun (a1 a2 a3 t1 t2 : Int) (s5 : Sg) => cl (call 70 [t1, t2] s5) fun v6 s7 => if v6 = 0 then (ar (a3 + 1) fun v8 => bX1_isSaid_L2 call n a1 a2 v8 s7 x80 x72) else (x72 s7)) fun j4 => if a2 = 0 then (j4 a1 a2 a3 a1 a4 s3) else (cl (call 98 [a4, 0] s3) fun v9 s10 => j4 a1 a2 a3 a1 v9 s10)) else (ar (a3 + 1) fun v11 => bX1_isSaid_L2 call n a1 a2 v11 s3 x80 x72)) fun j2 => ld u 34 a3 fun v12 => ld u 0 v12 fun v13 => if v13 = 16 then (j2 a1 a2 a3 v12 1 u) else (j2 a1 a2 a3 v12 0 u)) else (x80 u)
def bX1_isSaid (call : Nat → List Int → Sg → Option (Int × Sg)) (a1 a2 : Int) (u : Sg) : Option (Int × Sg) := gd (a2 = 0 ∨ a2 = 1) (bX1_isSaid_L2 call KF a1 a2 0 u (fun s1 => some (0, s1)) (fun s2 => some (1, s2)))
section
variable {p : Program} {l : Launch} {e : Env} {R : Room} {s : State} {m : MethodId} {args : Array Value} {below : List Frame} {meth : Method} {c : Code} {G : Gm} {A : Nat → Prop} {ad0 : Nat → Nat} {σ0 : Sg} {d : Nat} {call : Nat → List Int → Sg → Option (Int × Sg)}
theorem wX1_isSaid_L2 (hd : 2 ≤ d) (hRf : d + 1 ≤ R.frames) (hRl : 40 * (d + 1) ≤ R.locals) (hX1_sameAtom : ∀ (a1 a2 : Int) (u : Sg), Ct l d FC clA yX1_sameAtom cX1_sameAtom 4 (some .boolean) DX1_sameAtom rvI [vR 1, vI a1, vI a2] u (call 70 [a1, a2] u)) (hX2_at : ∀ (a1 a2 : Int) (u : Sg), Ct l d FC clA yX2_at cX2_at 3 (some .int) DX2_at rvI [vR 0, vI a1, vI a2] u (call 98 [a1, a2] u)) (x80 : Sg → Option (Int × Sg)) (x72 : Sg → Option (Int × Sg)) (hx80 : ∀ (u : Sg), WG p l e R s m args below meth c JX1_isSaid DX1_isSaid G clA A FC ad0 σ0 rvI (x80 u) u 80 [] []) (hx72 : ∀ (u : Sg), WG p l e R s m args below meth c JX1_isSaid DX1_isSaid G clA A FC ad0 σ0 rvI (x72 u) u 72 [] []) : ∀ (n : Nat) (a1 a2 a3 : Int) (u : Sg), inR a1 → (a2 = 0 ∨ a2 = 1) → inR a3 → WG p l e R s m args below meth c JX1_isSaid DX1_isSaid G clA A FC ad0 σ0 rvI (bX1_isSaid_L2 call n a1 a2 a3 u x80 x72) u 2 [(0, vR 1), (1, vI a1), (2, vI a2), (3, vI a3)] [] := by
  intro n
  induction n with
  | zero =>
    intro a1 a2 a3 u ra1 za2 ra3
    exact g_none
  | succ n ih =>
    intro a1 a2 a3 u ra1 za2 ra3
    rw [bX1_isSaid_L2]
    refine g_iload_n 3 dX1_isSaid_2 rfl ?_
    refine g_aload_n 0 dX1_isSaid_3 rfl ?_
    refine g_getI (ci := 1) (b := 30) (N := 57) 5 rfl rfl rfl (by decide) in_X1 rfl rfl q313 dX1_isSaid_4 (fun v1 rv1 => ?_)
    refine g_icmp_ge 80 dX1_isSaid_7 (by decide) (fun _ => ra3) (fun _ => rv1) (fun _ => ?_) (fun _ => ?_)
    · refine g_jn (fun j2 => ∀ (a1 a2 a3 a4 t0 : Int) (s3 : Sg), inR a1 → (a2 = 0 ∨ a2 = 1) → inR a3 → inR a4 → (t0 = 0 ∨ t0 = 1) → WG p l e R s m args below meth c JX1_isSaid DX1_isSaid G clA A FC ad0 σ0 rvI (j2 a1 a2 a3 a4 t0 s3) s3 38 [(0, vR 1), (1, vI a1), (2, vI a2), (3, vI a3), (4, vI a4)] [vI t0]) (fun a1 a2 a3 a4 t0 s3 ra1 za2 ra3 ra4 zt0 => ?_) (fun j2 hj2 => ?_)
      · refine g_iload_n 2 dX1_isSaid_38 rfl ?_
        refine g_icmp_eq 45 dX1_isSaid_39 (by decide) (fun _ => (inR_z zt0)) (fun _ => (inR_z za2)) (fun _ => ?_) (fun _ => ?_)
        · refine g_jn (fun j4 => ∀ (a1 a2 a3 t1 t2 : Int) (s5 : Sg), inR a1 → (a2 = 0 ∨ a2 = 1) → inR a3 → inR t1 → inR t2 → WG p l e R s m args below meth c JX1_isSaid DX1_isSaid G clA A FC ad0 σ0 rvI (j4 a1 a2 a3 t1 t2 s5) s5 66 [(0, vR 1), (1, vI a1), (2, vI a2), (3, vI a3)] [vI t2, vI t1, vR 1]) (fun a1 a2 a3 t1 t2 s5 ra1 za2 ra3 rt1 rt2 => ?_) (fun j4 hj4 => ?_)
          · refine g_cVZ (As := [vI t1, vI t2]) (n := 2) (stk := []) (ci := 1) (b := 30) (N := 57) (hX1_sameAtom t1 t2 s5) (by decide +kernel) rfl rfl (lw_V q962 q964 qs52 q163 q965) (by decide +kernel) rfl (by decide) hRf hRl (fun _ => (avc rt1 (avc rt2 avn))) (Nat.le_of_ble_eq_true rfl) rfl rfl dX1_isSaid_66 (fun v6 s7 zv6 => ?_)
            refine g_if_eq 74 dX1_isSaid_69 (by decide) (fun _ => (inR_z zv6)) (fun _ => ?_) (fun _ => ?_)
            · refine g_iinc 3 (loc' := fun v8 => [(3, vI v8), (0, vR 1), (1, vI a1), (2, vI a2)]) dX1_isSaid_74 rfl (by decide) (fun _ => rfl) (fun v8 rv8 => ?_)
              refine g_goto 2 dX1_isSaid_77 (by decide) ?_
              exact g_pick [1, 2, 3, 0] rfl (ih a1 a2 v8 s7 ra1 za2 rv8)
            · exact g_pick [] rfl (hx72 s7)
          · refine g_aload_n 0 dX1_isSaid_45 rfl ?_
            refine g_iload_n 1 dX1_isSaid_46 rfl ?_
            refine g_iload_n 2 dX1_isSaid_47 rfl ?_
            refine g_if_eq 64 dX1_isSaid_48 (by decide) (fun _ => (inR_z za2)) (fun _ => ?_) (fun _ => ?_)
            · refine g_iload 4 dX1_isSaid_64 rfl ?_
              exact g_pick [0, 1, 2, 3] rfl (hj4 a1 a2 a3 a1 a4 s3 ra1 za2 ra3 ra1 ra4)
            · refine g_aload_n 0 dX1_isSaid_51 rfl ?_
              refine g_get (v := vR 0) (ci := 1) (b := 30) (N := 57) 0 rfl rfl (by decide) in_X1 rfl rfl q308 dX1_isSaid_52 ?_
              refine g_iload 4 dX1_isSaid_55 rfl ?_
              refine g_iconst dX1_isSaid_57 ?_
              refine g_cVI (As := [vI a4, vI 0]) (n := 2) (stk := [vI a1, vR 1]) (ci := 0) (b := 0) (N := 21) (hX2_at a4 0 s3) (by decide +kernel) rfl rfl (lw_V q571 q572 q573 q164 q574) (by decide +kernel) rfl (by decide) hRf hRl (fun _ => (avc ra4 (avc (inR_z (Or.inl rfl)) avn))) (Nat.le_of_ble_eq_true rfl) rfl rfl dX1_isSaid_58 (fun v9 s10 rv9 => ?_)
              refine g_goto 66 dX1_isSaid_61 (by decide) ?_
              exact g_pick [0, 1, 2, 3] rfl (hj4 a1 a2 a3 a1 v9 s10 ra1 za2 ra3 ra1 rv9)
        · refine g_goto 74 dX1_isSaid_42 (by decide) ?_
          refine g_iinc 3 (loc' := fun v11 => [(3, vI v11), (0, vR 1), (1, vI a1), (2, vI a2), (4, vI a4)]) dX1_isSaid_74 rfl (by decide) (fun _ => rfl) (fun v11 rv11 => ?_)
          refine g_goto 2 dX1_isSaid_77 (by decide) ?_
          exact g_pick [1, 2, 3, 0] rfl (ih a1 a2 v11 s3 ra1 za2 rv11)
      · refine g_aload_n 0 dX1_isSaid_10 rfl ?_
        refine g_get (v := vR 44) (ci := 1) (b := 30) (N := 57) 4 rfl rfl (by decide) in_X1 rfl rfl q312 dX1_isSaid_11 ?_
        refine g_iload_n 3 dX1_isSaid_14 rfl ?_
        refine g_iald (id := 34) 12 rfl rfl dX1_isSaid_15 (fun v12 rv12 => ?_)
        refine g_istore (loc' := [(4, vI v12), (0, vR 1), (1, vI a1), (2, vI a2), (3, vI a3)]) dX1_isSaid_16 (by decide) rfl ?_
        refine g_aload_n 1 dX1_isSaid_18 rfl ?_
        refine g_get (v := vR 0) (ci := 1) (b := 30) (N := 57) 0 rfl rfl (by decide) in_X1 rfl rfl q308 dX1_isSaid_19 ?_
        refine g_get (v := vR 10) (ci := 0) (b := 0) (N := 21) 0 rfl rfl (by decide) in_X2 rfl rfl q232 dX1_isSaid_22 ?_
        refine g_iload 0 dX1_isSaid_25 rfl ?_
        refine g_iald (id := 0) 0 rfl rfl dX1_isSaid_27 (fun v13 rv13 => ?_)
        refine g_bipush (by decide +kernel) dX1_isSaid_28 ?_
        refine g_icmp_ne 37 dX1_isSaid_30 (by decide) (fun _ => rv13) (fun _ => (by decide : inR (16))) (fun _ => ?_) (fun _ => ?_)
        · refine g_iconst dX1_isSaid_33 ?_
          refine g_goto 38 dX1_isSaid_34 (by decide) ?_
          exact g_pick [1, 2, 3, 4, 0] rfl (hj2 a1 a2 a3 v12 1 u ra1 za2 ra3 rv12 (Or.inr rfl))
        · refine g_iconst dX1_isSaid_37 ?_
          exact g_pick [1, 2, 3, 4, 0] rfl (hj2 a1 a2 a3 v12 0 u ra1 za2 ra3 rv12 (Or.inl rfl))
    · exact g_pick [] rfl (hx80 u)
theorem wX1_isSaid (hd : 2 ≤ d) (hRf : d + 1 ≤ R.frames) (hRl : 40 * (d + 1) ≤ R.locals) (hX1_sameAtom : ∀ (a1 a2 : Int) (u : Sg), Ct l d FC clA yX1_sameAtom cX1_sameAtom 4 (some .boolean) DX1_sameAtom rvI [vR 1, vI a1, vI a2] u (call 70 [a1, a2] u)) (hX2_at : ∀ (a1 a2 : Int) (u : Sg), Ct l d FC clA yX2_at cX2_at 3 (some .int) DX2_at rvI [vR 0, vI a1, vI a2] u (call 98 [a1, a2] u)) (a1 a2 : Int) (u : Sg) (ra1 : inR a1) (ra2 : inR a2) : WG p l e R s m args below meth c JX1_isSaid DX1_isSaid G clA A FC ad0 σ0 rvI (bX1_isSaid call a1 a2 u) u 0 [(0, vR 1), (1, vI a1), (2, vI a2)] [] := by
  unfold bX1_isSaid
  refine g_gd (fun za2 => ?_)
  refine g_iconst dX1_isSaid_0 ?_
  refine g_istore_n (loc' := [(3, vI 0), (0, vR 1), (1, vI a1), (2, vI a2)]) dX1_isSaid_1 (by decide) rfl ?_
  refine g_pick [1, 2, 3, 0] rfl (wX1_isSaid_L2 hd hRf hRl hX1_sameAtom hX2_at _ _ (fun s1 => ?_) (fun s2 => ?_) KF a1 a2 0 u ra1 za2 (inR_z (Or.inl rfl)))
  · refine g_iconst dX1_isSaid_80 ?_
    exact g_zret rfl rfl (fun _ => (Or.inl rfl)) dX1_isSaid_81
  · refine g_iconst dX1_isSaid_72 ?_
    exact g_zret rfl rfl (fun _ => (Or.inr rfl)) dX1_isSaid_73
end
section
variable {l : Launch} {d : Nat} {call : Nat → List Int → Sg → Option (Int × Sg)}
theorem ctX1_isSaid (p0 : Program) (e0 : Env) (s0 : State) (m0 : MethodId) (meth0 : Method) (c0 : Code) (G0 : Gm) (hd : 2 ≤ d) (hX1_sameAtom : ∀ (a1 a2 : Int) (u : Sg), Ct l d FC clA yX1_sameAtom cX1_sameAtom 4 (some .boolean) DX1_sameAtom rvI [vR 1, vI a1, vI a2] u (call 70 [a1, a2] u)) (hX2_at : ∀ (a1 a2 : Int) (u : Sg), Ct l d FC clA yX2_at cX2_at 3 (some .int) DX2_at rvI [vR 0, vI a1, vI a2] u (call 98 [a1, a2] u)) (a1 a2 : Int) (u : Sg) : Ct l (d + 1) FC clA yX1_isSaid cX1_isSaid 5 (some .boolean) DX1_isSaid rvI [vR 1, vI a1, vI a2] u (bX1_isSaid call a1 a2 u) :=
  Ct_of (by decide) (Nat.le_of_ble_eq_true rfl) (fun p e R s1 m args below meth c G A ad hA hRf hRl => wX1_isSaid hd hRf hRl hX1_sameAtom hX2_at a1 a2 u (hA _ (List.mem_cons_of_mem _ List.mem_cons_self)) (hA _ (List.mem_cons_of_mem _ (List.mem_cons_of_mem _ List.mem_cons_self)))) p0 e0 s0 m0 meth0 c0 G0
end
/-! RoundCheck.sameAtom(II)Z -/
abbrev JX1_sameAtom : Jm := (cX1_sameAtom, RX1, 4, (some .boolean))
def bX1_sameAtom_L67 (call : Nat → List Int → Sg → Option (Int × Sg)) : Nat → Int → Int → Int → Sg → (Sg → Option (Int × Sg)) → (Sg → Option (Int × Sg)) → Option (Int × Sg)
  | 0, _, _, _, _, _, _ => none
  | n + 1, a1, a2, a3, u, x113, x105 => ld u 3 a1 fun v1 => if a3 < v1 then (cl (call 98 [a1, a3] u) fun v2 s3 => cl (call 98 [a2, a3] s3) fun v4 s5 => cl (call 59 [v2, v4] s5) fun v6 s7 => if v6 = 0 then (x105 s7) else (ar (a3 + 1) fun v8 => bX1_sameAtom_L67 call n a1 a2 v8 s7 x113 x105)) else (x113 u)
def bX1_sameAtom (call : Nat → List Int → Sg → Option (Int × Sg)) (a1 a2 : Int) (u : Sg) : Option (Int × Sg) := ld u 0 a1 fun v1 => ld u 0 a2 fun v2 => if v1 = v2 then (ld u 1 a1 fun v3 => ld u 1 a2 fun v4 => if v3 = v4 then (ld u 3 a1 fun v5 => ld u 3 a2 fun v6 => if v5 = v6 then (bX1_sameAtom_L67 call KF a1 a2 0 u (fun s7 => some (1, s7)) (fun s8 => some (0, s8))) else (some (0, u))) else (some (0, u))) else (some (0, u))
section
variable {p : Program} {l : Launch} {e : Env} {R : Room} {s : State} {m : MethodId} {args : Array Value} {below : List Frame} {meth : Method} {c : Code} {G : Gm} {A : Nat → Prop} {ad0 : Nat → Nat} {σ0 : Sg} {d : Nat} {call : Nat → List Int → Sg → Option (Int × Sg)}
theorem wX1_sameAtom_L67 (hd : 2 ≤ d) (hRf : d + 1 ≤ R.frames) (hRl : 40 * (d + 1) ≤ R.locals) (hX2_at : ∀ (a1 a2 : Int) (u : Sg), Ct l d FC clA yX2_at cX2_at 3 (some .int) DX2_at rvI [vR 0, vI a1, vI a2] u (call 98 [a1, a2] u)) (hX1_equal : ∀ (a1 a2 : Int) (u : Sg), Ct l d FC clA yX1_equal cX1_equal 3 (some .boolean) DX1_equal rvI [vR 1, vI a1, vI a2] u (call 59 [a1, a2] u)) (x113 : Sg → Option (Int × Sg)) (x105 : Sg → Option (Int × Sg)) (hx113 : ∀ (u : Sg), WG p l e R s m args below meth c JX1_sameAtom DX1_sameAtom G clA A FC ad0 σ0 rvI (x113 u) u 113 [] []) (hx105 : ∀ (u : Sg), WG p l e R s m args below meth c JX1_sameAtom DX1_sameAtom G clA A FC ad0 σ0 rvI (x105 u) u 105 [] []) : ∀ (n : Nat) (a1 a2 a3 : Int) (u : Sg), inR a1 → inR a2 → inR a3 → WG p l e R s m args below meth c JX1_sameAtom DX1_sameAtom G clA A FC ad0 σ0 rvI (bX1_sameAtom_L67 call n a1 a2 a3 u x113 x105) u 67 [(0, vR 1), (1, vI a1), (2, vI a2), (3, vI a3)] [] := by
  intro n
  induction n with
  | zero =>
    intro a1 a2 a3 u ra1 ra2 ra3
    exact g_none
  | succ n ih =>
    intro a1 a2 a3 u ra1 ra2 ra3
    rw [bX1_sameAtom_L67]
    refine g_iload_n 3 dX1_sameAtom_67 rfl ?_
    refine g_aload_n 0 dX1_sameAtom_68 rfl ?_
    refine g_get (v := vR 0) (ci := 1) (b := 30) (N := 57) 0 rfl rfl (by decide) in_X1 rfl rfl q308 dX1_sameAtom_69 ?_
    refine g_get (v := vR 13) (ci := 0) (b := 0) (N := 21) 3 rfl rfl (by decide) in_X2 rfl rfl q237 dX1_sameAtom_72 ?_
    refine g_iload_n 1 dX1_sameAtom_75 rfl ?_
    refine g_iald (id := 3) 3 rfl rfl dX1_sameAtom_76 (fun v1 rv1 => ?_)
    refine g_icmp_ge 113 dX1_sameAtom_77 (by decide) (fun _ => ra3) (fun _ => rv1) (fun _ => ?_) (fun _ => ?_)
    · refine g_aload_n 0 dX1_sameAtom_80 rfl ?_
      refine g_aload_n 0 dX1_sameAtom_81 rfl ?_
      refine g_get (v := vR 0) (ci := 1) (b := 30) (N := 57) 0 rfl rfl (by decide) in_X1 rfl rfl q308 dX1_sameAtom_82 ?_
      refine g_iload_n 1 dX1_sameAtom_85 rfl ?_
      refine g_iload_n 3 dX1_sameAtom_86 rfl ?_
      refine g_cVI (As := [vI a1, vI a3]) (n := 2) (stk := [vR 1]) (ci := 0) (b := 0) (N := 21) (hX2_at a1 a3 u) (by decide +kernel) rfl rfl (lw_V q571 q572 q573 q164 q574) (by decide +kernel) rfl (by decide) hRf hRl (fun _ => (avc ra1 (avc ra3 avn))) (Nat.le_of_ble_eq_true rfl) rfl rfl dX1_sameAtom_87 (fun v2 s3 rv2 => ?_)
      refine g_aload_n 0 dX1_sameAtom_90 rfl ?_
      refine g_get (v := vR 0) (ci := 1) (b := 30) (N := 57) 0 rfl rfl (by decide) in_X1 rfl rfl q308 dX1_sameAtom_91 ?_
      refine g_iload_n 2 dX1_sameAtom_94 rfl ?_
      refine g_iload_n 3 dX1_sameAtom_95 rfl ?_
      refine g_cVI (As := [vI a2, vI a3]) (n := 2) (stk := [vI v2, vR 1]) (ci := 0) (b := 0) (N := 21) (hX2_at a2 a3 s3) (by decide +kernel) rfl rfl (lw_V q571 q572 q573 q164 q574) (by decide +kernel) rfl (by decide) hRf hRl (fun _ => (avc ra2 (avc ra3 avn))) (Nat.le_of_ble_eq_true rfl) rfl rfl dX1_sameAtom_96 (fun v4 s5 rv4 => ?_)
      refine g_cVZ (As := [vI v2, vI v4]) (n := 2) (stk := []) (ci := 1) (b := 30) (N := 57) (hX1_equal v2 v4 s5) (by decide +kernel) rfl rfl (lw_V q918 q920 qs41 q163 q921) (by decide +kernel) rfl (by decide) hRf hRl (fun _ => (avc rv2 (avc rv4 avn))) (Nat.le_of_ble_eq_true rfl) rfl rfl dX1_sameAtom_99 (fun v6 s7 zv6 => ?_)
      refine g_if_ne 107 dX1_sameAtom_102 (by decide) (fun _ => (inR_z zv6)) (fun _ => ?_) (fun _ => ?_)
      · exact g_pick [] rfl (hx105 s7)
      · refine g_iinc 3 (loc' := fun v8 => [(3, vI v8), (0, vR 1), (1, vI a1), (2, vI a2)]) dX1_sameAtom_107 rfl (by decide) (fun _ => rfl) (fun v8 rv8 => ?_)
        refine g_goto 67 dX1_sameAtom_110 (by decide) ?_
        exact g_pick [1, 2, 3, 0] rfl (ih a1 a2 v8 s7 ra1 ra2 rv8)
    · exact g_pick [] rfl (hx113 u)
theorem wX1_sameAtom (hd : 2 ≤ d) (hRf : d + 1 ≤ R.frames) (hRl : 40 * (d + 1) ≤ R.locals) (hX2_at : ∀ (a1 a2 : Int) (u : Sg), Ct l d FC clA yX2_at cX2_at 3 (some .int) DX2_at rvI [vR 0, vI a1, vI a2] u (call 98 [a1, a2] u)) (hX1_equal : ∀ (a1 a2 : Int) (u : Sg), Ct l d FC clA yX1_equal cX1_equal 3 (some .boolean) DX1_equal rvI [vR 1, vI a1, vI a2] u (call 59 [a1, a2] u)) (a1 a2 : Int) (u : Sg) (ra1 : inR a1) (ra2 : inR a2) : WG p l e R s m args below meth c JX1_sameAtom DX1_sameAtom G clA A FC ad0 σ0 rvI (bX1_sameAtom call a1 a2 u) u 0 [(0, vR 1), (1, vI a1), (2, vI a2)] [] := by
  unfold bX1_sameAtom
  refine g_aload_n 0 dX1_sameAtom_0 rfl ?_
  refine g_get (v := vR 0) (ci := 1) (b := 30) (N := 57) 0 rfl rfl (by decide) in_X1 rfl rfl q308 dX1_sameAtom_1 ?_
  refine g_get (v := vR 10) (ci := 0) (b := 0) (N := 21) 0 rfl rfl (by decide) in_X2 rfl rfl q232 dX1_sameAtom_4 ?_
  refine g_iload_n 1 dX1_sameAtom_7 rfl ?_
  refine g_iald (id := 0) 0 rfl rfl dX1_sameAtom_8 (fun v1 rv1 => ?_)
  refine g_aload_n 0 dX1_sameAtom_9 rfl ?_
  refine g_get (v := vR 0) (ci := 1) (b := 30) (N := 57) 0 rfl rfl (by decide) in_X1 rfl rfl q308 dX1_sameAtom_10 ?_
  refine g_get (v := vR 10) (ci := 0) (b := 0) (N := 21) 0 rfl rfl (by decide) in_X2 rfl rfl q232 dX1_sameAtom_13 ?_
  refine g_iload_n 2 dX1_sameAtom_16 rfl ?_
  refine g_iald (id := 0) 0 rfl rfl dX1_sameAtom_17 (fun v2 rv2 => ?_)
  refine g_icmp_ne 63 dX1_sameAtom_18 (by decide) (fun _ => rv1) (fun _ => rv2) (fun _ => ?_) (fun _ => ?_)
  · refine g_aload_n 0 dX1_sameAtom_21 rfl ?_
    refine g_get (v := vR 0) (ci := 1) (b := 30) (N := 57) 0 rfl rfl (by decide) in_X1 rfl rfl q308 dX1_sameAtom_22 ?_
    refine g_get (v := vR 11) (ci := 0) (b := 0) (N := 21) 1 rfl rfl (by decide) in_X2 rfl rfl q234 dX1_sameAtom_25 ?_
    refine g_iload_n 1 dX1_sameAtom_28 rfl ?_
    refine g_iald (id := 1) 1 rfl rfl dX1_sameAtom_29 (fun v3 rv3 => ?_)
    refine g_aload_n 0 dX1_sameAtom_30 rfl ?_
    refine g_get (v := vR 0) (ci := 1) (b := 30) (N := 57) 0 rfl rfl (by decide) in_X1 rfl rfl q308 dX1_sameAtom_31 ?_
    refine g_get (v := vR 11) (ci := 0) (b := 0) (N := 21) 1 rfl rfl (by decide) in_X2 rfl rfl q234 dX1_sameAtom_34 ?_
    refine g_iload_n 2 dX1_sameAtom_37 rfl ?_
    refine g_iald (id := 1) 1 rfl rfl dX1_sameAtom_38 (fun v4 rv4 => ?_)
    refine g_icmp_ne 63 dX1_sameAtom_39 (by decide) (fun _ => rv3) (fun _ => rv4) (fun _ => ?_) (fun _ => ?_)
    · refine g_aload_n 0 dX1_sameAtom_42 rfl ?_
      refine g_get (v := vR 0) (ci := 1) (b := 30) (N := 57) 0 rfl rfl (by decide) in_X1 rfl rfl q308 dX1_sameAtom_43 ?_
      refine g_get (v := vR 13) (ci := 0) (b := 0) (N := 21) 3 rfl rfl (by decide) in_X2 rfl rfl q237 dX1_sameAtom_46 ?_
      refine g_iload_n 1 dX1_sameAtom_49 rfl ?_
      refine g_iald (id := 3) 3 rfl rfl dX1_sameAtom_50 (fun v5 rv5 => ?_)
      refine g_aload_n 0 dX1_sameAtom_51 rfl ?_
      refine g_get (v := vR 0) (ci := 1) (b := 30) (N := 57) 0 rfl rfl (by decide) in_X1 rfl rfl q308 dX1_sameAtom_52 ?_
      refine g_get (v := vR 13) (ci := 0) (b := 0) (N := 21) 3 rfl rfl (by decide) in_X2 rfl rfl q237 dX1_sameAtom_55 ?_
      refine g_iload_n 2 dX1_sameAtom_58 rfl ?_
      refine g_iald (id := 3) 3 rfl rfl dX1_sameAtom_59 (fun v6 rv6 => ?_)
      refine g_icmp_eq 65 dX1_sameAtom_60 (by decide) (fun _ => rv5) (fun _ => rv6) (fun _ => ?_) (fun _ => ?_)
      · refine g_iconst dX1_sameAtom_65 ?_
        refine g_istore_n (loc' := [(3, vI 0), (0, vR 1), (1, vI a1), (2, vI a2)]) dX1_sameAtom_66 (by decide) rfl ?_
        refine g_pick [1, 2, 3, 0] rfl (wX1_sameAtom_L67 hd hRf hRl hX2_at hX1_equal _ _ (fun s7 => ?_) (fun s8 => ?_) KF a1 a2 0 u ra1 ra2 (inR_z (Or.inl rfl)))
        · refine g_iconst dX1_sameAtom_113 ?_
          exact g_zret rfl rfl (fun _ => (Or.inr rfl)) dX1_sameAtom_114
        · refine g_iconst dX1_sameAtom_105 ?_
          exact g_zret rfl rfl (fun _ => (Or.inl rfl)) dX1_sameAtom_106
      · refine g_iconst dX1_sameAtom_63 ?_
        exact g_zret rfl rfl (fun _ => (Or.inl rfl)) dX1_sameAtom_64
    · refine g_iconst dX1_sameAtom_63 ?_
      exact g_zret rfl rfl (fun _ => (Or.inl rfl)) dX1_sameAtom_64
  · refine g_iconst dX1_sameAtom_63 ?_
    exact g_zret rfl rfl (fun _ => (Or.inl rfl)) dX1_sameAtom_64
end
section
variable {l : Launch} {d : Nat} {call : Nat → List Int → Sg → Option (Int × Sg)}
theorem ctX1_sameAtom (p0 : Program) (e0 : Env) (s0 : State) (m0 : MethodId) (meth0 : Method) (c0 : Code) (G0 : Gm) (hd : 2 ≤ d) (hX2_at : ∀ (a1 a2 : Int) (u : Sg), Ct l d FC clA yX2_at cX2_at 3 (some .int) DX2_at rvI [vR 0, vI a1, vI a2] u (call 98 [a1, a2] u)) (hX1_equal : ∀ (a1 a2 : Int) (u : Sg), Ct l d FC clA yX1_equal cX1_equal 3 (some .boolean) DX1_equal rvI [vR 1, vI a1, vI a2] u (call 59 [a1, a2] u)) (a1 a2 : Int) (u : Sg) : Ct l (d + 1) FC clA yX1_sameAtom cX1_sameAtom 4 (some .boolean) DX1_sameAtom rvI [vR 1, vI a1, vI a2] u (bX1_sameAtom call a1 a2 u) :=
  Ct_of (by decide) (Nat.le_of_ble_eq_true rfl) (fun p e R s1 m args below meth c G A ad hA hRf hRl => wX1_sameAtom hd hRf hRl hX2_at hX1_equal a1 a2 u (hA _ (List.mem_cons_of_mem _ List.mem_cons_self)) (hA _ (List.mem_cons_of_mem _ (List.mem_cons_of_mem _ List.mem_cons_self)))) p0 e0 s0 m0 meth0 c0 G0
end
/-! RoundCheck.round()Z -/
abbrev JX1_round : Jm := (cX1_round, RX1, 8, (some .boolean))
def bX1_round_L40 (call : Nat → List Int → Sg → Option (Int × Sg)) : Nat → Int → Int → Int → Int → Sg → (Int → Int → Sg → Option (Int × Sg)) → Option (Int × Sg)
  | 0, _, _, _, _, _, _ => none
  | n + 1, a1, a2, a3, a5, u, x74 => ld u 3 a3 fun v1 => if a5 < v1 then (cl (call 98 [a3, a5] u) fun v2 s3 => cl (call 72 [v2] s3) fun v4 s5 => ar (a5 + 1) fun v6 => bX1_round_L40 call n a1 a2 a3 v6 s5 x74) else (x74 a1 a2 u)
def bX1_round_L87 (call : Nat → List Int → Sg → Option (Int × Sg)) : Nat → Int → Int → Int → Int → Sg → (Int → Int → Sg → Option (Int × Sg)) → Option (Int × Sg)
  | 0, _, _, _, _, _, _ => none
  | n + 1, a1, a2, a3, a5, u, x227 => un (gI u 43) fun v1 => if a5 < v1 then (un (gI u 45) fun v2 => if v2 = 0 then (jn (fun (a1 a2 a3 a5 a6 : Int) (s4 : Sg) => cl (call 98 [a3, 0] s4) fun v5 s6 => cl (call 61 [a6, v5] s6) fun v7 s8 => if v7 = 0 then (ar (a5 + 1) fun v9 => bX1_round_L87 call n a1 a2 a3 v9 s8 x227) else (jn (fun (a1 a2 a3 a5 a6 : Int) (s11 : Sg) => cl (call 98 [a3, 1] s11) fun v12 s13 => cl (call 110 [v12, a6] s13) fun v14 s15 => cl (call 72 [v14] s15) fun v16 s17 => ar (a5 + 1) fun v18 => bX1_round_L87 call n a1 a2 a3 v18 s17 x227) fun j10 => un (sI s8 58 0) fun s19 => un (sI s19 59 0) fun s20 => cl (call 98 [a3, 1] s20) fun v21 s22 => cl (call 74 [v21, a6, 0] s22) fun v23 s24 => un (gI s24 59) fun v25 => if v25 = 0 then (j10 a1 a2 a3 a5 a6 s24) else (un (gI s24 58) fun v26 => if v26 = 0 then (ar (a5 + 1) fun v27 => bX1_round_L87 call n a1 a2 a3 v27 s24 x227) else (j10 a1 a2 a3 a5 a6 s24)))) fun j3 => ld u 40 a5 fun v28 => un (gI u 44) fun v29 => if a5 < v29 then (j3 a1 a2 a3 a5 v28 u) else (cl (call 73 [v28] u) fun v30 s31 => if v30 = 0 then (ar (a5 + 1) fun v32 => bX1_round_L87 call n a1 a2 a3 v32 s31 x227) else (j3 a1 a2 a3 a5 v28 s31))) else (x227 a1 a2 u)) else (x227 a1 a2 u)
def bX1_round_L7 (call : Nat → List Int → Sg → Option (Int × Sg)) : Nat → Int → Int → Sg → (Sg → Option (Int × Sg)) → (Sg → Option (Int × Sg)) → Option (Int × Sg)
  | 0, _, _, _, _, _ => none
  | n + 1, a1, a2, u, x389, x381 => if a2 < a1 then (jn (fun (a1 a2 : Int) (s2 : Sg) => un (gI s2 45) fun v3 => if v3 = 0 then (ar (a2 + 1) fun v4 => bX1_round_L7 call n a1 v4 s2 x389 x381) else (x381 s2)) fun j1 => ld u 34 a2 fun v5 => ld u 0 v5 fun v6 => if v6 = 17 then (bX1_round_L40 call KF a1 a2 v5 0 u (fun v8 v9 s7 => j1 v8 v9 s7)) else (if v6 = 18 then (bX1_round_L87 call KF a1 a2 v5 0 u (fun v11 v12 s10 => j1 v11 v12 s10)) else (if v6 = 16 then (cl (call 98 [v5, 0] u) fun v13 s14 => ld s14 0 v13 fun v15 => if v15 = 17 then (cl (call 77 [v13] s14) fun v16 s17 => j1 a1 a2 s17) else (ld s14 0 v13 fun v18 => if v18 = 18 then (cl (call 43 [v5] s14) fun v19 s20 => ld s20 38 v5 fun v21 => un (gI s20 36) fun v22 => if v21 = v22 then (ar (a2 + 1) fun v23 => bX1_round_L7 call n a1 v23 s20 x389 x381) else (un (gI s20 36) fun v24 => stA s20 38 v5 v24 fun s25 => cl (call 98 [v13, 0] s25) fun v26 s27 => cl (call 19 [v26] s27) fun v28 s29 => cl (call 78 [v28] s29) fun v30 s31 => cl (call 98 [v13, 1] s31) fun v32 s33 => cl (call 110 [v32, v28] s33) fun v34 s35 => cl (call 102 [v34] s35) fun v36 s37 => cl (call 72 [v36] s37) fun v38 s39 => j1 a1 a2 s39)) else (j1 a1 a2 s14))) else (j1 a1 a2 u)))) else (x389 u)
def bX1_round_L404 (call : Nat → List Int → Sg → Option (Int × Sg)) : Nat → Int → Int → Sg → (Int → Sg → Option (Int × Sg)) → Option (Int × Sg)
  | 0, _, _, _, _ => none
  | n + 1, a2, a3, u, x428 => un (gI u 54) fun v1 => if a3 < v1 then (ld u 53 a3 fun v2 => cl (call 42 [v2] u) fun v3 s4 => ar (a3 + 1) fun v5 => bX1_round_L404 call n a2 v5 s4 x428) else (x428 a2 u)
def bX1_round (call : Nat → List Int → Sg → Option (Int × Sg)) (u : Sg) : Option (Int × Sg) := un (gI u 35) fun v1 => bX1_round_L7 call KF v1 0 u (fun s2 => jn (fun (t0 : Int) (s4 : Sg) => bX1_round_L404 call KF t0 0 s4 (fun v6 s5 => some (v6, s5))) fun j3 => un (gI s2 54) fun v7 => if v7 ≤ 0 then (j3 0 s2) else (j3 1 s2)) (fun s8 => some (1, s8))
section
variable {p : Program} {l : Launch} {e : Env} {R : Room} {s : State} {m : MethodId} {args : Array Value} {below : List Frame} {meth : Method} {c : Code} {G : Gm} {A : Nat → Prop} {ad0 : Nat → Nat} {σ0 : Sg} {d : Nat} {call : Nat → List Int → Sg → Option (Int × Sg)}
theorem wX1_round_L40 (hd : 2 ≤ d) (hRf : d + 1 ≤ R.frames) (hRl : 40 * (d + 1) ≤ R.locals) (hX2_at : ∀ (a1 a2 : Int) (u : Sg), Ct l d FC clA yX2_at cX2_at 3 (some .int) DX2_at rvI [vR 0, vI a1, vI a2] u (call 98 [a1, a2] u)) (hX1_come : ∀ (a1 : Int) (u : Sg), Ct l d FC clA yX1_come cX1_come 3 none DX1_come rvV [vR 1, vI a1] u (call 72 [a1] u)) (hX1_classFits : ∀ (a1 a2 : Int) (u : Sg), Ct l d FC clA yX1_classFits cX1_classFits 4 (some .boolean) DX1_classFits rvI [vR 1, vI a1, vI a2] u (call 61 [a1, a2] u)) (hX2_put : ∀ (a1 a2 : Int) (u : Sg), Ct l d FC clA yX2_put cX2_put 3 (some .int) DX2_put rvI [vR 0, vI a1, vI a2] u (call 110 [a1, a2] u)) (hX1_placed : ∀ (a1 a2 a3 : Int) (u : Sg), Ct l d FC clA yX1_placed cX1_placed 12 (some .int) DX1_placed rvI [vR 1, vI a1, vI a2, vI a3] u (call 74 [a1, a2, a3] u)) (hX1_isNew : ∀ (a1 : Int) (u : Sg), Ct l d FC clA yX1_isNew cX1_isNew 2 (some .boolean) DX1_isNew rvI [vR 1, vI a1] u (call 73 [a1] u)) (hX1_oneLeft : ∀ (a1 : Int) (u : Sg), Ct l d FC clA yX1_oneLeft cX1_oneLeft 5 none DX1_oneLeft rvV [vR 1, vI a1] u (call 77 [a1] u)) (hX1_room_2 : ∀ (a1 : Int) (u : Sg), Ct l d FC clA yX1_room_2 cX1_room_2 3 none DX1_room_2 rvV [vR 1, vI a1] u (call 43 [a1] u)) (hX1_newOne : ∀ (a1 : Int) (u : Sg), Ct l d FC clA yX1_newOne cX1_newOne 2 (some .int) DX1_newOne rvI [vR 1, vI a1] u (call 19 [a1] u)) (hX1_newConstant : ∀ (a1 : Int) (u : Sg), Ct l d FC clA yX1_newConstant cX1_newConstant 2 none DX1_newConstant rvV [vR 1, vI a1] u (call 78 [a1] u)) (hX2_not : ∀ (a1 : Int) (u : Sg), Ct l d FC clA yX2_not cX2_not 2 (some .int) DX2_not rvI [vR 0, vI a1] u (call 102 [a1] u)) (hX1_know : ∀ (a1 : Int) (u : Sg), Ct l d FC clA yX1_know cX1_know 2 none DX1_know rvV [vR 1, vI a1] u (call 42 [a1] u)) (x74 : Int → Int → Sg → Option (Int × Sg)) (hx74 : ∀ (a1 a2 : Int) (u : Sg), inR a1 → inR a2 → WG p l e R s m args below meth c JX1_round DX1_round G clA A FC ad0 σ0 rvI (x74 a1 a2 u) u 74 [(0, vR 1), (1, vI a1), (2, vI a2)] []) : ∀ (n : Nat) (a1 a2 a3 a5 : Int) (u : Sg), inR a1 → inR a2 → inR a3 → inR a5 → WG p l e R s m args below meth c JX1_round DX1_round G clA A FC ad0 σ0 rvI (bX1_round_L40 call n a1 a2 a3 a5 u x74) u 40 [(0, vR 1), (1, vI a1), (2, vI a2), (3, vI a3), (5, vI a5)] [] := by
  intro n
  induction n with
  | zero =>
    intro a1 a2 a3 a5 u ra1 ra2 ra3 ra5
    exact g_none
  | succ n ih =>
    intro a1 a2 a3 a5 u ra1 ra2 ra3 ra5
    rw [bX1_round_L40]
    refine g_iload 4 dX1_round_40 rfl ?_
    refine g_aload_n 0 dX1_round_42 rfl ?_
    refine g_get (v := vR 0) (ci := 1) (b := 30) (N := 57) 0 rfl rfl (by decide) in_X1 rfl rfl q308 dX1_round_43 ?_
    refine g_get (v := vR 13) (ci := 0) (b := 0) (N := 21) 3 rfl rfl (by decide) in_X2 rfl rfl q237 dX1_round_46 ?_
    refine g_iload_n 3 dX1_round_49 rfl ?_
    refine g_iald (id := 3) 3 rfl rfl dX1_round_50 (fun v1 rv1 => ?_)
    refine g_icmp_ge 74 dX1_round_51 (by decide) (fun _ => ra5) (fun _ => rv1) (fun _ => ?_) (fun _ => ?_)
    · refine g_aload_n 0 dX1_round_54 rfl ?_
      refine g_aload_n 0 dX1_round_55 rfl ?_
      refine g_get (v := vR 0) (ci := 1) (b := 30) (N := 57) 0 rfl rfl (by decide) in_X1 rfl rfl q308 dX1_round_56 ?_
      refine g_iload_n 3 dX1_round_59 rfl ?_
      refine g_iload 4 dX1_round_60 rfl ?_
      refine g_cVI (As := [vI a3, vI a5]) (n := 2) (stk := [vR 1]) (ci := 0) (b := 0) (N := 21) (hX2_at a3 a5 u) (by decide +kernel) rfl rfl (lw_V q571 q572 q573 q164 q574) (by decide +kernel) rfl (by decide) hRf hRl (fun _ => (avc ra3 (avc ra5 avn))) (Nat.le_of_ble_eq_true rfl) rfl rfl dX1_round_62 (fun v2 s3 rv2 => ?_)
      refine g_cVV (As := [vI v2]) (n := 1) (stk := []) (ci := 1) (b := 30) (N := 57) (hX1_come v2 s3) (by decide +kernel) rfl rfl (lw_V q970 q972 qs54 q163 q973) (by decide +kernel) rfl (by decide) hRf hRl (fun _ => (avc rv2 avn)) (Nat.le_of_ble_eq_true rfl) rfl rfl dX1_round_65 (fun v4 s5 => ?_)
      refine g_iinc 4 (loc' := fun v6 => [(5, vI v6), (0, vR 1), (1, vI a1), (2, vI a2), (3, vI a3)]) dX1_round_68 rfl (by decide) (fun _ => rfl) (fun v6 rv6 => ?_)
      refine g_goto 40 dX1_round_71 (by decide) ?_
      exact g_pick [1, 2, 3, 4, 0] rfl (ih a1 a2 a3 v6 s5 ra1 ra2 ra3 rv6)
    · exact g_pick [0, 1, 2] rfl (hx74 a1 a2 u ra1 ra2)
theorem wX1_round_L87 (hd : 2 ≤ d) (hRf : d + 1 ≤ R.frames) (hRl : 40 * (d + 1) ≤ R.locals) (hX2_at : ∀ (a1 a2 : Int) (u : Sg), Ct l d FC clA yX2_at cX2_at 3 (some .int) DX2_at rvI [vR 0, vI a1, vI a2] u (call 98 [a1, a2] u)) (hX1_come : ∀ (a1 : Int) (u : Sg), Ct l d FC clA yX1_come cX1_come 3 none DX1_come rvV [vR 1, vI a1] u (call 72 [a1] u)) (hX1_classFits : ∀ (a1 a2 : Int) (u : Sg), Ct l d FC clA yX1_classFits cX1_classFits 4 (some .boolean) DX1_classFits rvI [vR 1, vI a1, vI a2] u (call 61 [a1, a2] u)) (hX2_put : ∀ (a1 a2 : Int) (u : Sg), Ct l d FC clA yX2_put cX2_put 3 (some .int) DX2_put rvI [vR 0, vI a1, vI a2] u (call 110 [a1, a2] u)) (hX1_placed : ∀ (a1 a2 a3 : Int) (u : Sg), Ct l d FC clA yX1_placed cX1_placed 12 (some .int) DX1_placed rvI [vR 1, vI a1, vI a2, vI a3] u (call 74 [a1, a2, a3] u)) (hX1_isNew : ∀ (a1 : Int) (u : Sg), Ct l d FC clA yX1_isNew cX1_isNew 2 (some .boolean) DX1_isNew rvI [vR 1, vI a1] u (call 73 [a1] u)) (hX1_oneLeft : ∀ (a1 : Int) (u : Sg), Ct l d FC clA yX1_oneLeft cX1_oneLeft 5 none DX1_oneLeft rvV [vR 1, vI a1] u (call 77 [a1] u)) (hX1_room_2 : ∀ (a1 : Int) (u : Sg), Ct l d FC clA yX1_room_2 cX1_room_2 3 none DX1_room_2 rvV [vR 1, vI a1] u (call 43 [a1] u)) (hX1_newOne : ∀ (a1 : Int) (u : Sg), Ct l d FC clA yX1_newOne cX1_newOne 2 (some .int) DX1_newOne rvI [vR 1, vI a1] u (call 19 [a1] u)) (hX1_newConstant : ∀ (a1 : Int) (u : Sg), Ct l d FC clA yX1_newConstant cX1_newConstant 2 none DX1_newConstant rvV [vR 1, vI a1] u (call 78 [a1] u)) (hX2_not : ∀ (a1 : Int) (u : Sg), Ct l d FC clA yX2_not cX2_not 2 (some .int) DX2_not rvI [vR 0, vI a1] u (call 102 [a1] u)) (hX1_know : ∀ (a1 : Int) (u : Sg), Ct l d FC clA yX1_know cX1_know 2 none DX1_know rvV [vR 1, vI a1] u (call 42 [a1] u)) (x227 : Int → Int → Sg → Option (Int × Sg)) (hx227 : ∀ (a1 a2 : Int) (u : Sg), inR a1 → inR a2 → WG p l e R s m args below meth c JX1_round DX1_round G clA A FC ad0 σ0 rvI (x227 a1 a2 u) u 227 [(0, vR 1), (1, vI a1), (2, vI a2)] []) : ∀ (n : Nat) (a1 a2 a3 a5 : Int) (u : Sg), inR a1 → inR a2 → inR a3 → inR a5 → WG p l e R s m args below meth c JX1_round DX1_round G clA A FC ad0 σ0 rvI (bX1_round_L87 call n a1 a2 a3 a5 u x227) u 87 [(0, vR 1), (1, vI a1), (2, vI a2), (3, vI a3), (5, vI a5)] [] := by
  intro n
  induction n with
  | zero =>
    intro a1 a2 a3 a5 u ra1 ra2 ra3 ra5
    exact g_none
  | succ n ih =>
    intro a1 a2 a3 a5 u ra1 ra2 ra3 ra5
    rw [bX1_round_L87]
    refine g_iload 4 dX1_round_87 rfl ?_
    refine g_aload_n 0 dX1_round_89 rfl ?_
    refine g_getI (ci := 1) (b := 30) (N := 57) 13 rfl rfl rfl (by decide) in_X1 rfl rfl q321 dX1_round_90 (fun v1 rv1 => ?_)
    refine g_icmp_ge 227 dX1_round_93 (by decide) (fun _ => ra5) (fun _ => rv1) (fun _ => ?_) (fun _ => ?_)
    · refine g_aload_n 0 dX1_round_96 rfl ?_
      refine g_getZ (ci := 1) (b := 30) (N := 57) 15 rfl rfl rfl (by decide) in_X1 rfl rfl q323 dX1_round_97 (fun v2 zv2 => ?_)
      refine g_if_ne 227 dX1_round_100 (by decide) (fun _ => (inR_z zv2)) (fun _ => ?_) (fun _ => ?_)
      · refine g_jn (fun j3 => ∀ (a1 a2 a3 a5 a6 : Int) (s4 : Sg), inR a1 → inR a2 → inR a3 → inR a5 → inR a6 → WG p l e R s m args below meth c JX1_round DX1_round G clA A FC ad0 σ0 rvI (j3 a1 a2 a3 a5 a6 s4) s4 130 [(0, vR 1), (1, vI a1), (2, vI a2), (3, vI a3), (5, vI a5), (6, vI a6)] []) (fun a1 a2 a3 a5 a6 s4 ra1 ra2 ra3 ra5 ra6 => ?_) (fun j3 hj3 => ?_)
        · refine g_aload_n 0 dX1_round_130 rfl ?_
          refine g_iload 5 dX1_round_131 rfl ?_
          refine g_aload_n 0 dX1_round_133 rfl ?_
          refine g_get (v := vR 0) (ci := 1) (b := 30) (N := 57) 0 rfl rfl (by decide) in_X1 rfl rfl q308 dX1_round_134 ?_
          refine g_iload_n 3 dX1_round_137 rfl ?_
          refine g_iconst dX1_round_138 ?_
          refine g_cVI (As := [vI a3, vI 0]) (n := 2) (stk := [vI a6, vR 1]) (ci := 0) (b := 0) (N := 21) (hX2_at a3 0 s4) (by decide +kernel) rfl rfl (lw_V q571 q572 q573 q164 q574) (by decide +kernel) rfl (by decide) hRf hRl (fun _ => (avc ra3 (avc (inR_z (Or.inl rfl)) avn))) (Nat.le_of_ble_eq_true rfl) rfl rfl dX1_round_139 (fun v5 s6 rv5 => ?_)
          refine g_cVZ (As := [vI a6, vI v5]) (n := 2) (stk := []) (ci := 1) (b := 30) (N := 57) (hX1_classFits a6 v5 s6) (by decide +kernel) rfl rfl (lw_V q926 q928 qs43 q163 q929) (by decide +kernel) rfl (by decide) hRf hRl (fun _ => (avc ra6 (avc rv5 avn))) (Nat.le_of_ble_eq_true rfl) rfl rfl dX1_round_142 (fun v7 s8 zv7 => ?_)
          refine g_if_ne 151 dX1_round_145 (by decide) (fun _ => (inR_z zv7)) (fun _ => ?_) (fun _ => ?_)
          · refine g_goto 221 dX1_round_148 (by decide) ?_
            refine g_iinc 4 (loc' := fun v9 => [(5, vI v9), (0, vR 1), (1, vI a1), (2, vI a2), (3, vI a3), (6, vI a6)]) dX1_round_221 rfl (by decide) (fun _ => rfl) (fun v9 rv9 => ?_)
            refine g_goto 87 dX1_round_224 (by decide) ?_
            exact g_pick [1, 2, 3, 4, 0] rfl (ih a1 a2 a3 v9 s8 ra1 ra2 ra3 rv9)
          · refine g_jn (fun j10 => ∀ (a1 a2 a3 a5 a6 : Int) (s11 : Sg), inR a1 → inR a2 → inR a3 → inR a5 → inR a6 → WG p l e R s m args below meth c JX1_round DX1_round G clA A FC ad0 σ0 rvI (j10 a1 a2 a3 a5 a6 s11) s11 195 [(0, vR 1), (1, vI a1), (2, vI a2), (3, vI a3), (5, vI a5), (6, vI a6)] []) (fun a1 a2 a3 a5 a6 s11 ra1 ra2 ra3 ra5 ra6 => ?_) (fun j10 hj10 => ?_)
            · refine g_aload_n 0 dX1_round_195 rfl ?_
              refine g_get (v := vR 0) (ci := 1) (b := 30) (N := 57) 0 rfl rfl (by decide) in_X1 rfl rfl q308 dX1_round_196 ?_
              refine g_aload_n 0 dX1_round_199 rfl ?_
              refine g_get (v := vR 0) (ci := 1) (b := 30) (N := 57) 0 rfl rfl (by decide) in_X1 rfl rfl q308 dX1_round_200 ?_
              refine g_iload_n 3 dX1_round_203 rfl ?_
              refine g_iconst dX1_round_204 ?_
              refine g_cVI (As := [vI a3, vI 1]) (n := 2) (stk := [vR 0]) (ci := 0) (b := 0) (N := 21) (hX2_at a3 1 s11) (by decide +kernel) rfl rfl (lw_V q571 q572 q573 q164 q574) (by decide +kernel) rfl (by decide) hRf hRl (fun _ => (avc ra3 (avc (inR_z (Or.inr rfl)) avn))) (Nat.le_of_ble_eq_true rfl) rfl rfl dX1_round_205 (fun v12 s13 rv12 => ?_)
              refine g_iload 5 dX1_round_208 rfl ?_
              refine g_cVI (As := [vI v12, vI a6]) (n := 2) (stk := []) (ci := 0) (b := 0) (N := 21) (hX2_put v12 a6 s13) (by decide +kernel) rfl rfl (lw_V q824 q825 q826 q164 q827) (by decide +kernel) rfl (by decide) hRf hRl (fun _ => (avc rv12 (avc ra6 avn))) (Nat.le_of_ble_eq_true rfl) rfl rfl dX1_round_210 (fun v14 s15 rv14 => ?_)
              refine g_istore (loc' := [(7, vI v14), (0, vR 1), (1, vI a1), (2, vI a2), (3, vI a3), (5, vI a5), (6, vI a6)]) dX1_round_213 (by decide) rfl ?_
              refine g_aload_n 1 dX1_round_215 rfl ?_
              refine g_iload 0 dX1_round_216 rfl ?_
              refine g_cVV (As := [vI v14]) (n := 1) (stk := []) (ci := 1) (b := 30) (N := 57) (hX1_come v14 s15) (by decide +kernel) rfl rfl (lw_V q970 q972 qs54 q163 q973) (by decide +kernel) rfl (by decide) hRf hRl (fun _ => (avc rv14 avn)) (Nat.le_of_ble_eq_true rfl) rfl rfl dX1_round_218 (fun v16 s17 => ?_)
              refine g_iinc 5 (loc' := fun v18 => [(5, vI v18), (7, vI v14), (0, vR 1), (1, vI a1), (2, vI a2), (3, vI a3), (6, vI a6)]) dX1_round_221 rfl (by decide) (fun _ => rfl) (fun v18 rv18 => ?_)
              refine g_goto 87 dX1_round_224 (by decide) ?_
              exact g_pick [2, 3, 4, 5, 0] rfl (ih a1 a2 a3 v18 s17 ra1 ra2 ra3 rv18)
            · refine g_aload_n 0 dX1_round_151 rfl ?_
              refine g_iconst dX1_round_152 ?_
              refine g_sZU (ci := 1) (b := 30) (N := 57) FC_ok 28 rfl rfl rfl (by decide) in_X1 tyX1 tyX1_ok nmX1 rfl rfl rfl rfl (by decide +kernel) (Or.inl rfl) q336 dX1_round_153 (fun s19 => ?_)
              refine g_aload_n 0 dX1_round_156 rfl ?_
              refine g_iconst dX1_round_157 ?_
              refine g_sZU (ci := 1) (b := 30) (N := 57) FC_ok 29 rfl rfl rfl (by decide) in_X1 tyX1 tyX1_ok nmX1 rfl rfl rfl rfl (by decide +kernel) (Or.inl rfl) q337 dX1_round_158 (fun s20 => ?_)
              refine g_aload_n 0 dX1_round_161 rfl ?_
              refine g_aload_n 0 dX1_round_162 rfl ?_
              refine g_get (v := vR 0) (ci := 1) (b := 30) (N := 57) 0 rfl rfl (by decide) in_X1 rfl rfl q308 dX1_round_163 ?_
              refine g_iload_n 3 dX1_round_166 rfl ?_
              refine g_iconst dX1_round_167 ?_
              refine g_cVI (As := [vI a3, vI 1]) (n := 2) (stk := [vR 1]) (ci := 0) (b := 0) (N := 21) (hX2_at a3 1 s20) (by decide +kernel) rfl rfl (lw_V q571 q572 q573 q164 q574) (by decide +kernel) rfl (by decide) hRf hRl (fun _ => (avc ra3 (avc (inR_z (Or.inr rfl)) avn))) (Nat.le_of_ble_eq_true rfl) rfl rfl dX1_round_168 (fun v21 s22 rv21 => ?_)
              refine g_iload 5 dX1_round_171 rfl ?_
              refine g_iconst dX1_round_173 ?_
              refine g_cVI (As := [vI v21, vI a6, vI 0]) (n := 3) (stk := []) (ci := 1) (b := 30) (N := 57) (hX1_placed v21 a6 0 s22) (by decide +kernel) rfl rfl (lw_V q978 q980 qs56 q163 q981) (by decide +kernel) rfl (by decide) hRf hRl (fun _ => (avc rv21 (avc ra6 (avc (inR_z (Or.inl rfl)) avn)))) (Nat.le_of_ble_eq_true rfl) rfl rfl dX1_round_174 (fun v23 s24 rv23 => ?_)
              refine g_pop rfl dX1_round_177 ?_
              refine g_aload_n 0 dX1_round_178 rfl ?_
              refine g_getZ (ci := 1) (b := 30) (N := 57) 29 rfl rfl rfl (by decide) in_X1 rfl rfl q337 dX1_round_179 (fun v25 zv25 => ?_)
              refine g_if_eq 195 dX1_round_182 (by decide) (fun _ => (inR_z zv25)) (fun _ => ?_) (fun _ => ?_)
              · exact g_pick [0, 1, 2, 3, 4, 5] rfl (hj10 a1 a2 a3 a5 a6 s24 ra1 ra2 ra3 ra5 ra6)
              · refine g_aload_n 0 dX1_round_185 rfl ?_
                refine g_getZ (ci := 1) (b := 30) (N := 57) 28 rfl rfl rfl (by decide) in_X1 rfl rfl q336 dX1_round_186 (fun v26 zv26 => ?_)
                refine g_if_ne 195 dX1_round_189 (by decide) (fun _ => (inR_z zv26)) (fun _ => ?_) (fun _ => ?_)
                · refine g_goto 221 dX1_round_192 (by decide) ?_
                  refine g_iinc 4 (loc' := fun v27 => [(5, vI v27), (0, vR 1), (1, vI a1), (2, vI a2), (3, vI a3), (6, vI a6)]) dX1_round_221 rfl (by decide) (fun _ => rfl) (fun v27 rv27 => ?_)
                  refine g_goto 87 dX1_round_224 (by decide) ?_
                  exact g_pick [1, 2, 3, 4, 0] rfl (ih a1 a2 a3 v27 s24 ra1 ra2 ra3 rv27)
                · exact g_pick [0, 1, 2, 3, 4, 5] rfl (hj10 a1 a2 a3 a5 a6 s24 ra1 ra2 ra3 ra5 ra6)
        · refine g_aload_n 0 dX1_round_103 rfl ?_
          refine g_get (v := vR 50) (ci := 1) (b := 30) (N := 57) 10 rfl rfl (by decide) in_X1 rfl rfl q318 dX1_round_104 ?_
          refine g_iload 4 dX1_round_107 rfl ?_
          refine g_iald (id := 40) 16 rfl rfl dX1_round_109 (fun v28 rv28 => ?_)
          refine g_istore (loc' := [(6, vI v28), (0, vR 1), (1, vI a1), (2, vI a2), (3, vI a3), (5, vI a5)]) dX1_round_110 (by decide) rfl ?_
          refine g_iload 5 dX1_round_112 rfl ?_
          refine g_aload_n 1 dX1_round_114 rfl ?_
          refine g_getI (ci := 1) (b := 30) (N := 57) 14 rfl rfl rfl (by decide) in_X1 rfl rfl q322 dX1_round_115 (fun v29 rv29 => ?_)
          refine g_icmp_lt 130 dX1_round_118 (by decide) (fun _ => ra5) (fun _ => rv29) (fun _ => ?_) (fun _ => ?_)
          · exact g_pick [1, 2, 3, 4, 5, 0] rfl (hj3 a1 a2 a3 a5 v28 u ra1 ra2 ra3 ra5 rv28)
          · refine g_aload_n 1 dX1_round_121 rfl ?_
            refine g_iload 0 dX1_round_122 rfl ?_
            refine g_cVZ (As := [vI v28]) (n := 1) (stk := []) (ci := 1) (b := 30) (N := 57) (hX1_isNew v28 u) (by decide +kernel) rfl rfl (lw_V q974 q976 qs55 q163 q977) (by decide +kernel) rfl (by decide) hRf hRl (fun _ => (avc rv28 avn)) (Nat.le_of_ble_eq_true rfl) rfl rfl dX1_round_124 (fun v30 s31 zv30 => ?_)
            refine g_if_eq 221 dX1_round_127 (by decide) (fun _ => (inR_z zv30)) (fun _ => ?_) (fun _ => ?_)
            · refine g_iinc 5 (loc' := fun v32 => [(5, vI v32), (6, vI v28), (0, vR 1), (1, vI a1), (2, vI a2), (3, vI a3)]) dX1_round_221 rfl (by decide) (fun _ => rfl) (fun v32 rv32 => ?_)
              refine g_goto 87 dX1_round_224 (by decide) ?_
              exact g_pick [2, 3, 4, 5, 0] rfl (ih a1 a2 a3 v32 s31 ra1 ra2 ra3 rv32)
            · exact g_pick [1, 2, 3, 4, 5, 0] rfl (hj3 a1 a2 a3 a5 v28 s31 ra1 ra2 ra3 ra5 rv28)
      · exact g_pick [0, 1, 2] rfl (hx227 a1 a2 u ra1 ra2)
    · exact g_pick [0, 1, 2] rfl (hx227 a1 a2 u ra1 ra2)
theorem wX1_round_L7 (hd : 2 ≤ d) (hRf : d + 1 ≤ R.frames) (hRl : 40 * (d + 1) ≤ R.locals) (hX2_at : ∀ (a1 a2 : Int) (u : Sg), Ct l d FC clA yX2_at cX2_at 3 (some .int) DX2_at rvI [vR 0, vI a1, vI a2] u (call 98 [a1, a2] u)) (hX1_come : ∀ (a1 : Int) (u : Sg), Ct l d FC clA yX1_come cX1_come 3 none DX1_come rvV [vR 1, vI a1] u (call 72 [a1] u)) (hX1_classFits : ∀ (a1 a2 : Int) (u : Sg), Ct l d FC clA yX1_classFits cX1_classFits 4 (some .boolean) DX1_classFits rvI [vR 1, vI a1, vI a2] u (call 61 [a1, a2] u)) (hX2_put : ∀ (a1 a2 : Int) (u : Sg), Ct l d FC clA yX2_put cX2_put 3 (some .int) DX2_put rvI [vR 0, vI a1, vI a2] u (call 110 [a1, a2] u)) (hX1_placed : ∀ (a1 a2 a3 : Int) (u : Sg), Ct l d FC clA yX1_placed cX1_placed 12 (some .int) DX1_placed rvI [vR 1, vI a1, vI a2, vI a3] u (call 74 [a1, a2, a3] u)) (hX1_isNew : ∀ (a1 : Int) (u : Sg), Ct l d FC clA yX1_isNew cX1_isNew 2 (some .boolean) DX1_isNew rvI [vR 1, vI a1] u (call 73 [a1] u)) (hX1_oneLeft : ∀ (a1 : Int) (u : Sg), Ct l d FC clA yX1_oneLeft cX1_oneLeft 5 none DX1_oneLeft rvV [vR 1, vI a1] u (call 77 [a1] u)) (hX1_room_2 : ∀ (a1 : Int) (u : Sg), Ct l d FC clA yX1_room_2 cX1_room_2 3 none DX1_room_2 rvV [vR 1, vI a1] u (call 43 [a1] u)) (hX1_newOne : ∀ (a1 : Int) (u : Sg), Ct l d FC clA yX1_newOne cX1_newOne 2 (some .int) DX1_newOne rvI [vR 1, vI a1] u (call 19 [a1] u)) (hX1_newConstant : ∀ (a1 : Int) (u : Sg), Ct l d FC clA yX1_newConstant cX1_newConstant 2 none DX1_newConstant rvV [vR 1, vI a1] u (call 78 [a1] u)) (hX2_not : ∀ (a1 : Int) (u : Sg), Ct l d FC clA yX2_not cX2_not 2 (some .int) DX2_not rvI [vR 0, vI a1] u (call 102 [a1] u)) (hX1_know : ∀ (a1 : Int) (u : Sg), Ct l d FC clA yX1_know cX1_know 2 none DX1_know rvV [vR 1, vI a1] u (call 42 [a1] u)) (x389 : Sg → Option (Int × Sg)) (x381 : Sg → Option (Int × Sg)) (hx389 : ∀ (u : Sg), WG p l e R s m args below meth c JX1_round DX1_round G clA A FC ad0 σ0 rvI (x389 u) u 389 [(0, vR 1)] []) (hx381 : ∀ (u : Sg), WG p l e R s m args below meth c JX1_round DX1_round G clA A FC ad0 σ0 rvI (x381 u) u 381 [] []) : ∀ (n : Nat) (a1 a2 : Int) (u : Sg), inR a1 → inR a2 → WG p l e R s m args below meth c JX1_round DX1_round G clA A FC ad0 σ0 rvI (bX1_round_L7 call n a1 a2 u x389 x381) u 7 [(0, vR 1), (1, vI a1), (2, vI a2)] [] := by
  intro n
  induction n with
  | zero =>
    intro a1 a2 u ra1 ra2
    exact g_none
  | succ n ih =>
    intro a1 a2 u ra1 ra2
    rw [bX1_round_L7]
    refine g_iload_n 2 dX1_round_7 rfl ?_
    refine g_iload_n 1 dX1_round_8 rfl ?_
    refine g_icmp_ge 389 dX1_round_9 (by decide) (fun _ => ra2) (fun _ => ra1) (fun _ => ?_) (fun _ => ?_)
    · refine g_jn (fun j1 => ∀ (a1 a2 : Int) (s2 : Sg), inR a1 → inR a2 → WG p l e R s m args below meth c JX1_round DX1_round G clA A FC ad0 σ0 rvI (j1 a1 a2 s2) s2 374 [(0, vR 1), (1, vI a1), (2, vI a2)] []) (fun a1 a2 s2 ra1 ra2 => ?_) (fun j1 hj1 => ?_)
      · refine g_aload_n 0 dX1_round_374 rfl ?_
        refine g_getZ (ci := 1) (b := 30) (N := 57) 15 rfl rfl rfl (by decide) in_X1 rfl rfl q323 dX1_round_375 (fun v3 zv3 => ?_)
        refine g_if_eq 383 dX1_round_378 (by decide) (fun _ => (inR_z zv3)) (fun _ => ?_) (fun _ => ?_)
        · refine g_iinc 2 (loc' := fun v4 => [(2, vI v4), (0, vR 1), (1, vI a1)]) dX1_round_383 rfl (by decide) (fun _ => rfl) (fun v4 rv4 => ?_)
          refine g_goto 7 dX1_round_386 (by decide) ?_
          exact g_pick [1, 2, 0] rfl (ih a1 v4 s2 ra1 rv4)
        · exact g_pick [] rfl (hx381 s2)
      · refine g_aload_n 0 dX1_round_12 rfl ?_
        refine g_get (v := vR 44) (ci := 1) (b := 30) (N := 57) 4 rfl rfl (by decide) in_X1 rfl rfl q312 dX1_round_13 ?_
        refine g_iload_n 2 dX1_round_16 rfl ?_
        refine g_iald (id := 34) 12 rfl rfl dX1_round_17 (fun v5 rv5 => ?_)
        refine g_istore_n (loc' := [(3, vI v5), (0, vR 1), (1, vI a1), (2, vI a2)]) dX1_round_18 (by decide) rfl ?_
        refine g_aload_n 1 dX1_round_19 rfl ?_
        refine g_get (v := vR 0) (ci := 1) (b := 30) (N := 57) 0 rfl rfl (by decide) in_X1 rfl rfl q308 dX1_round_20 ?_
        refine g_get (v := vR 10) (ci := 0) (b := 0) (N := 21) 0 rfl rfl (by decide) in_X2 rfl rfl q232 dX1_round_23 ?_
        refine g_iload_n 0 dX1_round_26 rfl ?_
        refine g_iald (id := 0) 0 rfl rfl dX1_round_27 (fun v6 rv6 => ?_)
        refine g_istore (loc' := [(4, vI v6), (3, vI v5), (0, vR 1), (1, vI a1), (2, vI a2)]) dX1_round_28 (by decide) rfl ?_
        refine g_iload 0 dX1_round_30 rfl ?_
        refine g_bipush (by decide +kernel) dX1_round_32 ?_
        refine g_icmp_ne 77 dX1_round_34 (by decide) (fun _ => rv6) (fun _ => (by decide : inR (17))) (fun _ => ?_) (fun _ => ?_)
        · refine g_iconst dX1_round_37 ?_
          refine g_istore (loc' := [(5, vI 0), (4, vI v6), (3, vI v5), (0, vR 1), (1, vI a1), (2, vI a2)]) dX1_round_38 (by decide) rfl ?_
          refine g_pick [3, 4, 5, 2, 0] rfl (wX1_round_L40 hd hRf hRl hX2_at hX1_come hX1_classFits hX2_put hX1_placed hX1_isNew hX1_oneLeft hX1_room_2 hX1_newOne hX1_newConstant hX2_not hX1_know _ (fun v8 v9 s7 rv8 rv9 => ?_) KF a1 a2 v5 0 u ra1 ra2 rv5 (inR_z (Or.inl rfl)))
          · refine g_goto 374 dX1_round_74 (by decide) ?_
            exact g_pick [0, 1, 2] rfl (hj1 v8 v9 s7 rv8 rv9)
        · refine g_iload 0 dX1_round_77 rfl ?_
          refine g_bipush (by decide +kernel) dX1_round_79 ?_
          refine g_icmp_ne 230 dX1_round_81 (by decide) (fun _ => rv6) (fun _ => (by decide : inR (18))) (fun _ => ?_) (fun _ => ?_)
          · refine g_iconst dX1_round_84 ?_
            refine g_istore (loc' := [(5, vI 0), (4, vI v6), (3, vI v5), (0, vR 1), (1, vI a1), (2, vI a2)]) dX1_round_85 (by decide) rfl ?_
            refine g_pick [3, 4, 5, 2, 0] rfl (wX1_round_L87 hd hRf hRl hX2_at hX1_come hX1_classFits hX2_put hX1_placed hX1_isNew hX1_oneLeft hX1_room_2 hX1_newOne hX1_newConstant hX2_not hX1_know _ (fun v11 v12 s10 rv11 rv12 => ?_) KF a1 a2 v5 0 u ra1 ra2 rv5 (inR_z (Or.inl rfl)))
            · refine g_goto 374 dX1_round_227 (by decide) ?_
              exact g_pick [0, 1, 2] rfl (hj1 v11 v12 s10 rv11 rv12)
          · refine g_iload 0 dX1_round_230 rfl ?_
            refine g_bipush (by decide +kernel) dX1_round_232 ?_
            refine g_icmp_ne 374 dX1_round_234 (by decide) (fun _ => rv6) (fun _ => (by decide : inR (16))) (fun _ => ?_) (fun _ => ?_)
            · refine g_aload_n 2 dX1_round_237 rfl ?_
              refine g_get (v := vR 0) (ci := 1) (b := 30) (N := 57) 0 rfl rfl (by decide) in_X1 rfl rfl q308 dX1_round_238 ?_
              refine g_iload_n 1 dX1_round_241 rfl ?_
              refine g_iconst dX1_round_242 ?_
              refine g_cVI (As := [vI v5, vI 0]) (n := 2) (stk := []) (ci := 0) (b := 0) (N := 21) (hX2_at v5 0 u) (by decide +kernel) rfl rfl (lw_V q571 q572 q573 q164 q574) (by decide +kernel) rfl (by decide) hRf hRl (fun _ => (avc rv5 (avc (inR_z (Or.inl rfl)) avn))) (Nat.le_of_ble_eq_true rfl) rfl rfl dX1_round_243 (fun v13 s14 rv13 => ?_)
              refine g_istore (loc' := [(5, vI v13), (4, vI v6), (3, vI v5), (0, vR 1), (1, vI a1), (2, vI a2)]) dX1_round_246 (by decide) rfl ?_
              refine g_aload_n 3 dX1_round_248 rfl ?_
              refine g_get (v := vR 0) (ci := 1) (b := 30) (N := 57) 0 rfl rfl (by decide) in_X1 rfl rfl q308 dX1_round_249 ?_
              refine g_get (v := vR 10) (ci := 0) (b := 0) (N := 21) 0 rfl rfl (by decide) in_X2 rfl rfl q232 dX1_round_252 ?_
              refine g_iload 0 dX1_round_255 rfl ?_
              refine g_iald (id := 0) 0 rfl rfl dX1_round_257 (fun v15 rv15 => ?_)
              refine g_bipush (by decide +kernel) dX1_round_258 ?_
              refine g_icmp_ne 272 dX1_round_260 (by decide) (fun _ => rv15) (fun _ => (by decide : inR (17))) (fun _ => ?_) (fun _ => ?_)
              · refine g_aload_n 3 dX1_round_263 rfl ?_
                refine g_iload 0 dX1_round_264 rfl ?_
                refine g_cVV (As := [vI v13]) (n := 1) (stk := []) (ci := 1) (b := 30) (N := 57) (hX1_oneLeft v13 s14) (by decide +kernel) rfl rfl (lw_V q994 q996 qs59 q163 q997) (by decide +kernel) rfl (by decide) hRf hRl (fun _ => (avc rv13 avn)) (Nat.le_of_ble_eq_true rfl) rfl rfl dX1_round_266 (fun v16 s17 => ?_)
                refine g_goto 374 dX1_round_269 (by decide) ?_
                exact g_pick [3, 4, 5] rfl (hj1 a1 a2 s17 ra1 ra2)
              · refine g_aload_n 3 dX1_round_272 rfl ?_
                refine g_get (v := vR 0) (ci := 1) (b := 30) (N := 57) 0 rfl rfl (by decide) in_X1 rfl rfl q308 dX1_round_273 ?_
                refine g_get (v := vR 10) (ci := 0) (b := 0) (N := 21) 0 rfl rfl (by decide) in_X2 rfl rfl q232 dX1_round_276 ?_
                refine g_iload 0 dX1_round_279 rfl ?_
                refine g_iald (id := 0) 0 rfl rfl dX1_round_281 (fun v18 rv18 => ?_)
                refine g_bipush (by decide +kernel) dX1_round_282 ?_
                refine g_icmp_ne 374 dX1_round_284 (by decide) (fun _ => rv18) (fun _ => (by decide : inR (18))) (fun _ => ?_) (fun _ => ?_)
                · refine g_aload_n 3 dX1_round_287 rfl ?_
                  refine g_iload_n 2 dX1_round_288 rfl ?_
                  refine g_cVV (As := [vI v5]) (n := 1) (stk := []) (ci := 1) (b := 30) (N := 57) (hX1_room_2 v5 s14) (by decide +kernel) rfl rfl (lw_V q844 q846 qs25 q163 q847) (by decide +kernel) rfl (by decide) hRf hRl (fun _ => (avc rv5 avn)) (Nat.le_of_ble_eq_true rfl) rfl rfl dX1_round_289 (fun v19 s20 => ?_)
                  refine g_aload_n 3 dX1_round_292 rfl ?_
                  refine g_get (v := vR 48) (ci := 1) (b := 30) (N := 57) 8 rfl rfl (by decide) in_X1 rfl rfl q316 dX1_round_293 ?_
                  refine g_iload_n 2 dX1_round_296 rfl ?_
                  refine g_iald (id := 38) 14 rfl rfl dX1_round_297 (fun v21 rv21 => ?_)
                  refine g_aload_n 3 dX1_round_298 rfl ?_
                  refine g_getI (ci := 1) (b := 30) (N := 57) 6 rfl rfl rfl (by decide) in_X1 rfl rfl q314 dX1_round_299 (fun v22 rv22 => ?_)
                  refine g_icmp_ne 308 dX1_round_302 (by decide) (fun _ => rv21) (fun _ => rv22) (fun _ => ?_) (fun _ => ?_)
                  · refine g_goto 383 dX1_round_305 (by decide) ?_
                    refine g_iinc 5 (loc' := fun v23 => [(2, vI v23), (5, vI v13), (4, vI v6), (3, vI v5), (0, vR 1), (1, vI a1)]) dX1_round_383 rfl (by decide) (fun _ => rfl) (fun v23 rv23 => ?_)
                    refine g_goto 7 dX1_round_386 (by decide) ?_
                    exact g_pick [4, 5, 0] rfl (ih a1 v23 s20 ra1 rv23)
                  · refine g_aload_n 3 dX1_round_308 rfl ?_
                    refine g_get (v := vR 48) (ci := 1) (b := 30) (N := 57) 8 rfl rfl (by decide) in_X1 rfl rfl q316 dX1_round_309 ?_
                    refine g_iload_n 2 dX1_round_312 rfl ?_
                    refine g_aload_n 3 dX1_round_313 rfl ?_
                    refine g_getI (ci := 1) (b := 30) (N := 57) 6 rfl rfl rfl (by decide) in_X1 rfl rfl q314 dX1_round_314 (fun v24 rv24 => ?_)
                    refine g_iastU (id := 38) FC_ok 14 rfl rfl (by decide +kernel) rv24 dX1_round_317 (fun s25 => ?_)
                    refine g_aload_n 3 dX1_round_318 rfl ?_
                    refine g_aload_n 3 dX1_round_319 rfl ?_
                    refine g_get (v := vR 0) (ci := 1) (b := 30) (N := 57) 0 rfl rfl (by decide) in_X1 rfl rfl q308 dX1_round_320 ?_
                    refine g_iload 0 dX1_round_323 rfl ?_
                    refine g_iconst dX1_round_325 ?_
                    refine g_cVI (As := [vI v13, vI 0]) (n := 2) (stk := [vR 1]) (ci := 0) (b := 0) (N := 21) (hX2_at v13 0 s25) (by decide +kernel) rfl rfl (lw_V q571 q572 q573 q164 q574) (by decide +kernel) rfl (by decide) hRf hRl (fun _ => (avc rv13 (avc (inR_z (Or.inl rfl)) avn))) (Nat.le_of_ble_eq_true rfl) rfl rfl dX1_round_326 (fun v26 s27 rv26 => ?_)
                    refine g_cVI (As := [vI v26]) (n := 1) (stk := []) (ci := 1) (b := 30) (N := 57) (hX1_newOne v26 s27) (by decide +kernel) rfl rfl (lw_V q662 q664 qs11 q163 q665) (by decide +kernel) rfl (by decide) hRf hRl (fun _ => (avc rv26 avn)) (Nat.le_of_ble_eq_true rfl) rfl rfl dX1_round_329 (fun v28 s29 rv28 => ?_)
                    refine g_istore (loc' := [(6, vI v28), (5, vI v13), (4, vI v6), (3, vI v5), (0, vR 1), (1, vI a1), (2, vI a2)]) dX1_round_332 (by decide) rfl ?_
                    refine g_aload_n 4 dX1_round_334 rfl ?_
                    refine g_iload 0 dX1_round_335 rfl ?_
                    refine g_cVV (As := [vI v28]) (n := 1) (stk := []) (ci := 1) (b := 30) (N := 57) (hX1_newConstant v28 s29) (by decide +kernel) rfl rfl (lw_V q998 q1000 qs60 q163 q1001) (by decide +kernel) rfl (by decide) hRf hRl (fun _ => (avc rv28 avn)) (Nat.le_of_ble_eq_true rfl) rfl rfl dX1_round_337 (fun v30 s31 => ?_)
                    refine g_aload_n 4 dX1_round_340 rfl ?_
                    refine g_get (v := vR 0) (ci := 1) (b := 30) (N := 57) 0 rfl rfl (by decide) in_X1 rfl rfl q308 dX1_round_341 ?_
                    refine g_aload_n 4 dX1_round_344 rfl ?_
                    refine g_get (v := vR 0) (ci := 1) (b := 30) (N := 57) 0 rfl rfl (by decide) in_X1 rfl rfl q308 dX1_round_345 ?_
                    refine g_iload 1 dX1_round_348 rfl ?_
                    refine g_iconst dX1_round_350 ?_
                    refine g_cVI (As := [vI v13, vI 1]) (n := 2) (stk := [vR 0]) (ci := 0) (b := 0) (N := 21) (hX2_at v13 1 s31) (by decide +kernel) rfl rfl (lw_V q571 q572 q573 q164 q574) (by decide +kernel) rfl (by decide) hRf hRl (fun _ => (avc rv13 (avc (inR_z (Or.inr rfl)) avn))) (Nat.le_of_ble_eq_true rfl) rfl rfl dX1_round_351 (fun v32 s33 rv32 => ?_)
                    refine g_iload 0 dX1_round_354 rfl ?_
                    refine g_cVI (As := [vI v32, vI v28]) (n := 2) (stk := []) (ci := 0) (b := 0) (N := 21) (hX2_put v32 v28 s33) (by decide +kernel) rfl rfl (lw_V q824 q825 q826 q164 q827) (by decide +kernel) rfl (by decide) hRf hRl (fun _ => (avc rv32 (avc rv28 avn))) (Nat.le_of_ble_eq_true rfl) rfl rfl dX1_round_356 (fun v34 s35 rv34 => ?_)
                    refine g_istore (loc' := [(7, vI v34), (6, vI v28), (5, vI v13), (4, vI v6), (3, vI v5), (0, vR 1), (1, vI a1), (2, vI a2)]) dX1_round_359 (by decide) rfl ?_
                    refine g_aload_n 5 dX1_round_361 rfl ?_
                    refine g_aload_n 5 dX1_round_362 rfl ?_
                    refine g_get (v := vR 0) (ci := 1) (b := 30) (N := 57) 0 rfl rfl (by decide) in_X1 rfl rfl q308 dX1_round_363 ?_
                    refine g_iload 0 dX1_round_366 rfl ?_
                    refine g_cVI (As := [vI v34]) (n := 1) (stk := [vR 1]) (ci := 0) (b := 0) (N := 21) (hX2_not v34 s35) (by decide +kernel) rfl rfl (lw_V q719 q720 q721 q164 q722) (by decide +kernel) rfl (by decide) hRf hRl (fun _ => (avc rv34 avn)) (Nat.le_of_ble_eq_true rfl) rfl rfl dX1_round_368 (fun v36 s37 rv36 => ?_)
                    refine g_cVV (As := [vI v36]) (n := 1) (stk := []) (ci := 1) (b := 30) (N := 57) (hX1_come v36 s37) (by decide +kernel) rfl rfl (lw_V q970 q972 qs54 q163 q973) (by decide +kernel) rfl (by decide) hRf hRl (fun _ => (avc rv36 avn)) (Nat.le_of_ble_eq_true rfl) rfl rfl dX1_round_371 (fun v38 s39 => ?_)
                    exact g_pick [5, 6, 7] rfl (hj1 a1 a2 s39 ra1 ra2)
                · exact g_pick [3, 4, 5] rfl (hj1 a1 a2 s14 ra1 ra2)
            · exact g_pick [2, 3, 4] rfl (hj1 a1 a2 u ra1 ra2)
    · exact g_pick [0] rfl (hx389 u)
theorem wX1_round_L404 (hd : 2 ≤ d) (hRf : d + 1 ≤ R.frames) (hRl : 40 * (d + 1) ≤ R.locals) (hX2_at : ∀ (a1 a2 : Int) (u : Sg), Ct l d FC clA yX2_at cX2_at 3 (some .int) DX2_at rvI [vR 0, vI a1, vI a2] u (call 98 [a1, a2] u)) (hX1_come : ∀ (a1 : Int) (u : Sg), Ct l d FC clA yX1_come cX1_come 3 none DX1_come rvV [vR 1, vI a1] u (call 72 [a1] u)) (hX1_classFits : ∀ (a1 a2 : Int) (u : Sg), Ct l d FC clA yX1_classFits cX1_classFits 4 (some .boolean) DX1_classFits rvI [vR 1, vI a1, vI a2] u (call 61 [a1, a2] u)) (hX2_put : ∀ (a1 a2 : Int) (u : Sg), Ct l d FC clA yX2_put cX2_put 3 (some .int) DX2_put rvI [vR 0, vI a1, vI a2] u (call 110 [a1, a2] u)) (hX1_placed : ∀ (a1 a2 a3 : Int) (u : Sg), Ct l d FC clA yX1_placed cX1_placed 12 (some .int) DX1_placed rvI [vR 1, vI a1, vI a2, vI a3] u (call 74 [a1, a2, a3] u)) (hX1_isNew : ∀ (a1 : Int) (u : Sg), Ct l d FC clA yX1_isNew cX1_isNew 2 (some .boolean) DX1_isNew rvI [vR 1, vI a1] u (call 73 [a1] u)) (hX1_oneLeft : ∀ (a1 : Int) (u : Sg), Ct l d FC clA yX1_oneLeft cX1_oneLeft 5 none DX1_oneLeft rvV [vR 1, vI a1] u (call 77 [a1] u)) (hX1_room_2 : ∀ (a1 : Int) (u : Sg), Ct l d FC clA yX1_room_2 cX1_room_2 3 none DX1_room_2 rvV [vR 1, vI a1] u (call 43 [a1] u)) (hX1_newOne : ∀ (a1 : Int) (u : Sg), Ct l d FC clA yX1_newOne cX1_newOne 2 (some .int) DX1_newOne rvI [vR 1, vI a1] u (call 19 [a1] u)) (hX1_newConstant : ∀ (a1 : Int) (u : Sg), Ct l d FC clA yX1_newConstant cX1_newConstant 2 none DX1_newConstant rvV [vR 1, vI a1] u (call 78 [a1] u)) (hX2_not : ∀ (a1 : Int) (u : Sg), Ct l d FC clA yX2_not cX2_not 2 (some .int) DX2_not rvI [vR 0, vI a1] u (call 102 [a1] u)) (hX1_know : ∀ (a1 : Int) (u : Sg), Ct l d FC clA yX1_know cX1_know 2 none DX1_know rvV [vR 1, vI a1] u (call 42 [a1] u)) (x428 : Int → Sg → Option (Int × Sg)) (hx428 : ∀ (a2 : Int) (u : Sg), (a2 = 0 ∨ a2 = 1) → WG p l e R s m args below meth c JX1_round DX1_round G clA A FC ad0 σ0 rvI (x428 a2 u) u 428 [(2, vI a2)] []) : ∀ (n : Nat) (a2 a3 : Int) (u : Sg), (a2 = 0 ∨ a2 = 1) → inR a3 → WG p l e R s m args below meth c JX1_round DX1_round G clA A FC ad0 σ0 rvI (bX1_round_L404 call n a2 a3 u x428) u 404 [(0, vR 1), (2, vI a2), (3, vI a3)] [] := by
  intro n
  induction n with
  | zero =>
    intro a2 a3 u za2 ra3
    exact g_none
  | succ n ih =>
    intro a2 a3 u za2 ra3
    rw [bX1_round_L404]
    refine g_iload_n 2 dX1_round_404 rfl ?_
    refine g_aload_n 0 dX1_round_405 rfl ?_
    refine g_getI (ci := 1) (b := 30) (N := 57) 24 rfl rfl rfl (by decide) in_X1 rfl rfl q332 dX1_round_406 (fun v1 rv1 => ?_)
    refine g_icmp_ge 428 dX1_round_409 (by decide) (fun _ => ra3) (fun _ => rv1) (fun _ => ?_) (fun _ => ?_)
    · refine g_aload_n 0 dX1_round_412 rfl ?_
      refine g_aload_n 0 dX1_round_413 rfl ?_
      refine g_get (v := vR 63) (ci := 1) (b := 30) (N := 57) 23 rfl rfl (by decide) in_X1 rfl rfl q331 dX1_round_414 ?_
      refine g_iload_n 2 dX1_round_417 rfl ?_
      refine g_iald (id := 53) 24 rfl rfl dX1_round_418 (fun v2 rv2 => ?_)
      refine g_cVV (As := [vI v2]) (n := 1) (stk := []) (ci := 1) (b := 30) (N := 57) (hX1_know v2 u) (by decide +kernel) rfl rfl (lw_V q840 q842 qs24 q163 q843) (by decide +kernel) rfl (by decide) hRf hRl (fun _ => (avc rv2 avn)) (Nat.le_of_ble_eq_true rfl) rfl rfl dX1_round_419 (fun v3 s4 => ?_)
      refine g_iinc 2 (loc' := fun v5 => [(3, vI v5), (0, vR 1), (2, vI a2)]) dX1_round_422 rfl (by decide) (fun _ => rfl) (fun v5 rv5 => ?_)
      refine g_goto 404 dX1_round_425 (by decide) ?_
      exact g_pick [1, 2, 0] rfl (ih a2 v5 s4 za2 rv5)
    · exact g_pick [1] rfl (hx428 a2 u za2)
theorem wX1_round (hd : 2 ≤ d) (hRf : d + 1 ≤ R.frames) (hRl : 40 * (d + 1) ≤ R.locals) (hX2_at : ∀ (a1 a2 : Int) (u : Sg), Ct l d FC clA yX2_at cX2_at 3 (some .int) DX2_at rvI [vR 0, vI a1, vI a2] u (call 98 [a1, a2] u)) (hX1_come : ∀ (a1 : Int) (u : Sg), Ct l d FC clA yX1_come cX1_come 3 none DX1_come rvV [vR 1, vI a1] u (call 72 [a1] u)) (hX1_classFits : ∀ (a1 a2 : Int) (u : Sg), Ct l d FC clA yX1_classFits cX1_classFits 4 (some .boolean) DX1_classFits rvI [vR 1, vI a1, vI a2] u (call 61 [a1, a2] u)) (hX2_put : ∀ (a1 a2 : Int) (u : Sg), Ct l d FC clA yX2_put cX2_put 3 (some .int) DX2_put rvI [vR 0, vI a1, vI a2] u (call 110 [a1, a2] u)) (hX1_placed : ∀ (a1 a2 a3 : Int) (u : Sg), Ct l d FC clA yX1_placed cX1_placed 12 (some .int) DX1_placed rvI [vR 1, vI a1, vI a2, vI a3] u (call 74 [a1, a2, a3] u)) (hX1_isNew : ∀ (a1 : Int) (u : Sg), Ct l d FC clA yX1_isNew cX1_isNew 2 (some .boolean) DX1_isNew rvI [vR 1, vI a1] u (call 73 [a1] u)) (hX1_oneLeft : ∀ (a1 : Int) (u : Sg), Ct l d FC clA yX1_oneLeft cX1_oneLeft 5 none DX1_oneLeft rvV [vR 1, vI a1] u (call 77 [a1] u)) (hX1_room_2 : ∀ (a1 : Int) (u : Sg), Ct l d FC clA yX1_room_2 cX1_room_2 3 none DX1_room_2 rvV [vR 1, vI a1] u (call 43 [a1] u)) (hX1_newOne : ∀ (a1 : Int) (u : Sg), Ct l d FC clA yX1_newOne cX1_newOne 2 (some .int) DX1_newOne rvI [vR 1, vI a1] u (call 19 [a1] u)) (hX1_newConstant : ∀ (a1 : Int) (u : Sg), Ct l d FC clA yX1_newConstant cX1_newConstant 2 none DX1_newConstant rvV [vR 1, vI a1] u (call 78 [a1] u)) (hX2_not : ∀ (a1 : Int) (u : Sg), Ct l d FC clA yX2_not cX2_not 2 (some .int) DX2_not rvI [vR 0, vI a1] u (call 102 [a1] u)) (hX1_know : ∀ (a1 : Int) (u : Sg), Ct l d FC clA yX1_know cX1_know 2 none DX1_know rvV [vR 1, vI a1] u (call 42 [a1] u)) (u : Sg) : WG p l e R s m args below meth c JX1_round DX1_round G clA A FC ad0 σ0 rvI (bX1_round call u) u 0 [(0, vR 1)] [] := by
  unfold bX1_round
  refine g_aload_n 0 dX1_round_0 rfl ?_
  refine g_getI (ci := 1) (b := 30) (N := 57) 5 rfl rfl rfl (by decide) in_X1 rfl rfl q313 dX1_round_1 (fun v1 rv1 => ?_)
  refine g_istore_n (loc' := [(1, vI v1), (0, vR 1)]) dX1_round_4 (by decide) rfl ?_
  refine g_iconst dX1_round_5 ?_
  refine g_istore_n (loc' := [(2, vI 0), (1, vI v1), (0, vR 1)]) dX1_round_6 (by decide) rfl ?_
  refine g_pick [2, 1, 0] rfl (wX1_round_L7 hd hRf hRl hX2_at hX1_come hX1_classFits hX2_put hX1_placed hX1_isNew hX1_oneLeft hX1_room_2 hX1_newOne hX1_newConstant hX2_not hX1_know _ _ (fun s2 => ?_) (fun s8 => ?_) KF v1 0 u rv1 (inR_z (Or.inl rfl)))
  · refine g_jn (fun j3 => ∀ (t0 : Int) (s4 : Sg), (t0 = 0 ∨ t0 = 1) → WG p l e R s m args below meth c JX1_round DX1_round G clA A FC ad0 σ0 rvI (j3 t0 s4) s4 401 [(0, vR 1)] [vI t0]) (fun t0 s4 zt0 => ?_) (fun j3 hj3 => ?_)
    · refine g_istore_n (loc' := [(2, vI t0), (0, vR 1)]) dX1_round_401 (by decide) rfl ?_
      refine g_iconst dX1_round_402 ?_
      refine g_istore_n (loc' := [(3, vI 0), (2, vI t0), (0, vR 1)]) dX1_round_403 (by decide) rfl ?_
      refine g_pick [2, 1, 0] rfl (wX1_round_L404 hd hRf hRl hX2_at hX1_come hX1_classFits hX2_put hX1_placed hX1_isNew hX1_oneLeft hX1_room_2 hX1_newOne hX1_newConstant hX2_not hX1_know _ (fun v6 s5 zv6 => ?_) KF t0 0 s4 zt0 (inR_z (Or.inl rfl)))
      · refine g_iload_n 0 dX1_round_428 rfl ?_
        exact g_zret rfl rfl (fun _ => zv6) dX1_round_429
    · refine g_aload_n 0 dX1_round_389 rfl ?_
      refine g_getI (ci := 1) (b := 30) (N := 57) 24 rfl rfl rfl (by decide) in_X1 rfl rfl q332 dX1_round_390 (fun v7 rv7 => ?_)
      refine g_if_le 400 dX1_round_393 (by decide) (fun _ => rv7) (fun _ => ?_) (fun _ => ?_)
      · refine g_iconst dX1_round_400 ?_
        exact g_pick [0] rfl (hj3 0 s2 (Or.inl rfl))
      · refine g_iconst dX1_round_396 ?_
        refine g_goto 401 dX1_round_397 (by decide) ?_
        exact g_pick [0] rfl (hj3 1 s2 (Or.inr rfl))
  · refine g_iconst dX1_round_381 ?_
    exact g_zret rfl rfl (fun _ => (Or.inr rfl)) dX1_round_382
end
section
variable {l : Launch} {d : Nat} {call : Nat → List Int → Sg → Option (Int × Sg)}
theorem ctX1_round (p0 : Program) (e0 : Env) (s0 : State) (m0 : MethodId) (meth0 : Method) (c0 : Code) (G0 : Gm) (hd : 2 ≤ d) (hX2_at : ∀ (a1 a2 : Int) (u : Sg), Ct l d FC clA yX2_at cX2_at 3 (some .int) DX2_at rvI [vR 0, vI a1, vI a2] u (call 98 [a1, a2] u)) (hX1_come : ∀ (a1 : Int) (u : Sg), Ct l d FC clA yX1_come cX1_come 3 none DX1_come rvV [vR 1, vI a1] u (call 72 [a1] u)) (hX1_classFits : ∀ (a1 a2 : Int) (u : Sg), Ct l d FC clA yX1_classFits cX1_classFits 4 (some .boolean) DX1_classFits rvI [vR 1, vI a1, vI a2] u (call 61 [a1, a2] u)) (hX2_put : ∀ (a1 a2 : Int) (u : Sg), Ct l d FC clA yX2_put cX2_put 3 (some .int) DX2_put rvI [vR 0, vI a1, vI a2] u (call 110 [a1, a2] u)) (hX1_placed : ∀ (a1 a2 a3 : Int) (u : Sg), Ct l d FC clA yX1_placed cX1_placed 12 (some .int) DX1_placed rvI [vR 1, vI a1, vI a2, vI a3] u (call 74 [a1, a2, a3] u)) (hX1_isNew : ∀ (a1 : Int) (u : Sg), Ct l d FC clA yX1_isNew cX1_isNew 2 (some .boolean) DX1_isNew rvI [vR 1, vI a1] u (call 73 [a1] u)) (hX1_oneLeft : ∀ (a1 : Int) (u : Sg), Ct l d FC clA yX1_oneLeft cX1_oneLeft 5 none DX1_oneLeft rvV [vR 1, vI a1] u (call 77 [a1] u)) (hX1_room_2 : ∀ (a1 : Int) (u : Sg), Ct l d FC clA yX1_room_2 cX1_room_2 3 none DX1_room_2 rvV [vR 1, vI a1] u (call 43 [a1] u)) (hX1_newOne : ∀ (a1 : Int) (u : Sg), Ct l d FC clA yX1_newOne cX1_newOne 2 (some .int) DX1_newOne rvI [vR 1, vI a1] u (call 19 [a1] u)) (hX1_newConstant : ∀ (a1 : Int) (u : Sg), Ct l d FC clA yX1_newConstant cX1_newConstant 2 none DX1_newConstant rvV [vR 1, vI a1] u (call 78 [a1] u)) (hX2_not : ∀ (a1 : Int) (u : Sg), Ct l d FC clA yX2_not cX2_not 2 (some .int) DX2_not rvI [vR 0, vI a1] u (call 102 [a1] u)) (hX1_know : ∀ (a1 : Int) (u : Sg), Ct l d FC clA yX1_know cX1_know 2 none DX1_know rvV [vR 1, vI a1] u (call 42 [a1] u)) (u : Sg) : Ct l (d + 1) FC clA yX1_round cX1_round 8 (some .boolean) DX1_round rvI [vR 1] u (bX1_round call u) :=
  Ct_of (by decide) (Nat.le_of_ble_eq_true rfl) (fun p e R s1 m args below meth c G A ad hA hRf hRl => wX1_round hd hRf hRl hX2_at hX1_come hX1_classFits hX2_put hX1_placed hX1_isNew hX1_oneLeft hX1_room_2 hX1_newOne hX1_newConstant hX2_not hX1_know u) p0 e0 s0 m0 meth0 c0 G0
end
/-! RoundCheck.come(I)V -/
abbrev JX1_come : Jm := (cX1_come, RX1, 3, none)
def bX1_come_L11 (call : Nat → List Int → Sg → Option (Int × Sg)) : Nat → Int → Int → Sg → (Int → Sg → Option (Int × Sg)) → (Sg → Option (Int × Sg)) → Option (Int × Sg)
  | 0, _, _, _, _, _ => none
  | n + 1, a1, a2, u, x36, x29 => un (gI u 54) fun v1 => if a2 < v1 then (ld u 53 a2 fun v2 => if v2 = a1 then (x29 u) else (ar (a2 + 1) fun v3 => bX1_come_L11 call n a1 v3 u x36 x29)) else (x36 a1 u)
def bX1_come (call : Nat → List Int → Sg → Option (Int × Sg)) (a1 : Int) (u : Sg) : Option (Int × Sg) := cl (call 66 [a1] u) fun v1 s2 => if v1 = 0 then (bX1_come_L11 call KF a1 0 s2 (fun v4 s3 => un (gI s3 35) fun v5 => un (gI s3 54) fun v6 => ar (v5 + v6) fun v7 => if v7 < 400 then (jn (fun (a1 : Int) (s9 : Sg) => un (gI s9 54) fun v10 => stA s9 53 v10 a1 fun s11 => un (gI s11 54) fun v12 => ar (v12 + 1) fun v13 => un (sI s11 54 v13) fun s14 => some (0, s14)) fun j8 => un (gI s3 54) fun v15 => un (gL s3 53 : Int) fun v16 => if v15 = v16 then (un (gI s3 54) fun v17 => ar (2 * v17) fun v18 => cpy s3 53 v18 fun s19 => j8 v4 s19) else (j8 v4 s3)) else (un (sI s3 45 1) fun s20 => some (0, s20))) (fun s21 => some (0, s21))) else (some (0, s2))
section
variable {p : Program} {l : Launch} {e : Env} {R : Room} {s : State} {m : MethodId} {args : Array Value} {below : List Frame} {meth : Method} {c : Code} {G : Gm} {A : Nat → Prop} {ad0 : Nat → Nat} {σ0 : Sg} {d : Nat} {call : Nat → List Int → Sg → Option (Int × Sg)}
theorem wX1_come_L11 (hd : 2 ≤ d) (hRf : d + 1 ≤ R.frames) (hRl : 40 * (d + 1) ≤ R.locals) (hX1_isKnownHere : ∀ (a1 : Int) (u : Sg), Ct l d FC clA yX1_isKnownHere cX1_isKnownHere 2 (some .boolean) DX1_isKnownHere rvI [vR 1, vI a1] u (call 66 [a1] u)) (x36 : Int → Sg → Option (Int × Sg)) (x29 : Sg → Option (Int × Sg)) (hx36 : ∀ (a1 : Int) (u : Sg), inR a1 → WG p l e R s m args below meth c JX1_come DX1_come G clA A FC ad0 σ0 rvV (x36 a1 u) u 36 [(0, vR 1), (1, vI a1)] []) (hx29 : ∀ (u : Sg), WG p l e R s m args below meth c JX1_come DX1_come G clA A FC ad0 σ0 rvV (x29 u) u 29 [] []) : ∀ (n : Nat) (a1 a2 : Int) (u : Sg), inR a1 → inR a2 → WG p l e R s m args below meth c JX1_come DX1_come G clA A FC ad0 σ0 rvV (bX1_come_L11 call n a1 a2 u x36 x29) u 11 [(0, vR 1), (1, vI a1), (2, vI a2)] [] := by
  intro n
  induction n with
  | zero =>
    intro a1 a2 u ra1 ra2
    exact g_none
  | succ n ih =>
    intro a1 a2 u ra1 ra2
    rw [bX1_come_L11]
    refine g_iload_n 2 dX1_come_11 rfl ?_
    refine g_aload_n 0 dX1_come_12 rfl ?_
    refine g_getI (ci := 1) (b := 30) (N := 57) 24 rfl rfl rfl (by decide) in_X1 rfl rfl q332 dX1_come_13 (fun v1 rv1 => ?_)
    refine g_icmp_ge 36 dX1_come_16 (by decide) (fun _ => ra2) (fun _ => rv1) (fun _ => ?_) (fun _ => ?_)
    · refine g_aload_n 0 dX1_come_19 rfl ?_
      refine g_get (v := vR 63) (ci := 1) (b := 30) (N := 57) 23 rfl rfl (by decide) in_X1 rfl rfl q331 dX1_come_20 ?_
      refine g_iload_n 2 dX1_come_23 rfl ?_
      refine g_iald (id := 53) 24 rfl rfl dX1_come_24 (fun v2 rv2 => ?_)
      refine g_iload_n 1 dX1_come_25 rfl ?_
      refine g_icmp_ne 30 dX1_come_26 (by decide) (fun _ => rv2) (fun _ => ra1) (fun _ => ?_) (fun _ => ?_)
      · exact g_pick [] rfl (hx29 u)
      · refine g_iinc 2 (loc' := fun v3 => [(2, vI v3), (0, vR 1), (1, vI a1)]) dX1_come_30 rfl (by decide) (fun _ => rfl) (fun v3 rv3 => ?_)
        refine g_goto 11 dX1_come_33 (by decide) ?_
        exact g_pick [1, 2, 0] rfl (ih a1 v3 u ra1 rv3)
    · exact g_pick [0, 1] rfl (hx36 a1 u ra1)
theorem wX1_come (hd : 2 ≤ d) (hRf : d + 1 ≤ R.frames) (hRl : 40 * (d + 1) ≤ R.locals) (hX1_isKnownHere : ∀ (a1 : Int) (u : Sg), Ct l d FC clA yX1_isKnownHere cX1_isKnownHere 2 (some .boolean) DX1_isKnownHere rvI [vR 1, vI a1] u (call 66 [a1] u)) (a1 : Int) (u : Sg) (ra1 : inR a1) : WG p l e R s m args below meth c JX1_come DX1_come G clA A FC ad0 σ0 rvV (bX1_come call a1 u) u 0 [(0, vR 1), (1, vI a1)] [] := by
  unfold bX1_come
  refine g_aload_n 0 dX1_come_0 rfl ?_
  refine g_iload_n 1 dX1_come_1 rfl ?_
  refine g_cVZ (As := [vI a1]) (n := 1) (stk := []) (ci := 1) (b := 30) (N := 57) (hX1_isKnownHere a1 u) (by decide +kernel) rfl rfl (lw_V q946 q948 qs48 q163 q949) (by decide +kernel) rfl (by decide) hRf hRl (fun _ => (avc ra1 avn)) (Nat.le_of_ble_eq_true rfl) rfl rfl dX1_come_2 (fun v1 s2 zv1 => ?_)
  refine g_if_eq 9 dX1_come_5 (by decide) (fun _ => (inR_z zv1)) (fun _ => ?_) (fun _ => ?_)
  · refine g_iconst dX1_come_9 ?_
    refine g_istore_n (loc' := [(2, vI 0), (0, vR 1), (1, vI a1)]) dX1_come_10 (by decide) rfl ?_
    refine g_pick [1, 2, 0] rfl (wX1_come_L11 hd hRf hRl hX1_isKnownHere _ _ (fun v4 s3 rv4 => ?_) (fun s21 => ?_) KF a1 0 s2 ra1 (inR_z (Or.inl rfl)))
    · refine g_aload_n 0 dX1_come_36 rfl ?_
      refine g_getI (ci := 1) (b := 30) (N := 57) 5 rfl rfl rfl (by decide) in_X1 rfl rfl q313 dX1_come_37 (fun v5 rv5 => ?_)
      refine g_aload_n 0 dX1_come_40 rfl ?_
      refine g_getI (ci := 1) (b := 30) (N := 57) 24 rfl rfl rfl (by decide) in_X1 rfl rfl q332 dX1_come_41 (fun v6 rv6 => ?_)
      refine g_iadd dX1_come_44 (fun v7 rv7 => ?_)
      refine g_sipush (by decide +kernel) dX1_come_45 ?_
      refine g_icmp_lt 57 dX1_come_48 (by decide) (fun _ => rv7) (fun _ => (by decide : inR (400))) (fun _ => ?_) (fun _ => ?_)
      · refine g_jn (fun j8 => ∀ (a1 : Int) (s9 : Sg), inR a1 → WG p l e R s m args below meth c JX1_come DX1_come G clA A FC ad0 σ0 rvV (j8 a1 s9) s9 86 [(0, vR 1), (1, vI a1)] []) (fun a1 s9 ra1 => ?_) (fun j8 hj8 => ?_)
        · refine g_aload_n 0 dX1_come_86 rfl ?_
          refine g_get (v := vR 63) (ci := 1) (b := 30) (N := 57) 23 rfl rfl (by decide) in_X1 rfl rfl q331 dX1_come_87 ?_
          refine g_aload_n 0 dX1_come_90 rfl ?_
          refine g_getI (ci := 1) (b := 30) (N := 57) 24 rfl rfl rfl (by decide) in_X1 rfl rfl q332 dX1_come_91 (fun v10 rv10 => ?_)
          refine g_iload_n 1 dX1_come_94 rfl ?_
          refine g_iastU (id := 53) FC_ok 24 rfl rfl (by decide +kernel) ra1 dX1_come_95 (fun s11 => ?_)
          refine g_aload_n 0 dX1_come_96 rfl ?_
          refine g_dup rfl dX1_come_97 ?_
          refine g_getI (ci := 1) (b := 30) (N := 57) 24 rfl rfl rfl (by decide) in_X1 rfl rfl q332 dX1_come_98 (fun v12 rv12 => ?_)
          refine g_iconst dX1_come_101 ?_
          refine g_iadd dX1_come_102 (fun v13 rv13 => ?_)
          refine g_sIU (ci := 1) (b := 30) (N := 57) FC_ok 24 rfl rfl rfl (by decide) in_X1 tyX1 tyX1_ok nmX1 rfl rfl rfl rfl (by decide +kernel) rv13 q332 dX1_come_103 (fun s14 => ?_)
          exact g_vret rfl rfl dX1_come_106
        · refine g_aload_n 0 dX1_come_57 rfl ?_
          refine g_getI (ci := 1) (b := 30) (N := 57) 24 rfl rfl rfl (by decide) in_X1 rfl rfl q332 dX1_come_58 (fun v15 rv15 => ?_)
          refine g_aload_n 0 dX1_come_61 rfl ?_
          refine g_get (v := vR 63) (ci := 1) (b := 30) (N := 57) 23 rfl rfl (by decide) in_X1 rfl rfl q331 dX1_come_62 ?_
          refine g_alenU (id := 53) 24 rfl (Or.inl rfl) dX1_come_65 (fun v16 rv16 => ?_)
          refine g_icmp_ne 86 dX1_come_66 (by decide) (fun _ => rv15) (fun _ => rv16) (fun _ => ?_) (fun _ => ?_)
          · refine g_aload_n 0 dX1_come_69 rfl ?_
            refine g_aload_n 0 dX1_come_70 rfl ?_
            refine g_get (v := vR 63) (ci := 1) (b := 30) (N := 57) 23 rfl rfl (by decide) in_X1 rfl rfl q331 dX1_come_71 ?_
            refine g_iconst dX1_come_74 ?_
            refine g_aload_n 0 dX1_come_75 rfl ?_
            refine g_getI (ci := 1) (b := 30) (N := 57) 24 rfl rfl rfl (by decide) in_X1 rfl rfl q332 dX1_come_76 (fun v17 rv17 => ?_)
            refine g_imul dX1_come_79 (fun v18 rv18 => ?_)
            refine g_cpy (ci := 1) (b := 30) (N := 57) FC_ok FC_10 rfl 23 24 rfl rfl rfl rfl (by decide) in_X1 tyX1 tyX1_ok nmX1 rfl rfl rfl rfl (by decide +kernel) q666 q331 hRf hRl (Nat.le_of_succ_le hd) (Nat.le_of_ble_eq_true rfl) rfl rfl dX1_come_80 dX1_come_83 (fun s19 => ?_)
            exact g_pick [0, 1] rfl (hj8 v4 s19 rv4)
          · exact g_pick [0, 1] rfl (hj8 v4 s3 rv4)
      · refine g_aload_n 0 dX1_come_51 rfl ?_
        refine g_iconst dX1_come_52 ?_
        refine g_sZU (ci := 1) (b := 30) (N := 57) FC_ok 15 rfl rfl rfl (by decide) in_X1 tyX1 tyX1_ok nmX1 rfl rfl rfl rfl (by decide +kernel) (Or.inr rfl) q323 dX1_come_53 (fun s20 => ?_)
        exact g_vret rfl rfl dX1_come_56
    · exact g_vret rfl rfl dX1_come_29
  · exact g_vret rfl rfl dX1_come_8
end
section
variable {l : Launch} {d : Nat} {call : Nat → List Int → Sg → Option (Int × Sg)}
theorem ctX1_come (p0 : Program) (e0 : Env) (s0 : State) (m0 : MethodId) (meth0 : Method) (c0 : Code) (G0 : Gm) (hd : 2 ≤ d) (hX1_isKnownHere : ∀ (a1 : Int) (u : Sg), Ct l d FC clA yX1_isKnownHere cX1_isKnownHere 2 (some .boolean) DX1_isKnownHere rvI [vR 1, vI a1] u (call 66 [a1] u)) (a1 : Int) (u : Sg) : Ct l (d + 1) FC clA yX1_come cX1_come 3 none DX1_come rvV [vR 1, vI a1] u (bX1_come call a1 u) :=
  Ct_of (by decide) (Nat.le_of_ble_eq_true rfl) (fun p e R s1 m args below meth c G A ad hA hRf hRl => wX1_come hd hRf hRl hX1_isKnownHere a1 u (hA _ (List.mem_cons_of_mem _ List.mem_cons_self))) p0 e0 s0 m0 meth0 c0 G0
end
/-! RoundCheck.isNew(I)Z -/
abbrev JX1_isNew : Jm := (cX1_isNew, RX1, 2, (some .boolean))
def bX1_isNew (call : Nat → List Int → Sg → Option (Int × Sg)) (a1 : Int) (u : Sg) : Option (Int × Sg) := jn (fun (s2 : Sg) => some (0, s2)) fun j1 => ld u 0 a1 fun v3 => if v3 = 1 then (ld u 1 a1 fun v4 => un (gI u 57) fun v5 => if v4 < v5 then (j1 u) else (some (1, u))) else (j1 u)
section
variable {p : Program} {l : Launch} {e : Env} {R : Room} {s : State} {m : MethodId} {args : Array Value} {below : List Frame} {meth : Method} {c : Code} {G : Gm} {A : Nat → Prop} {ad0 : Nat → Nat} {σ0 : Sg} {d : Nat} {call : Nat → List Int → Sg → Option (Int × Sg)}
theorem wX1_isNew (hd : 2 ≤ d) (hRf : d + 1 ≤ R.frames) (hRl : 40 * (d + 1) ≤ R.locals) (a1 : Int) (u : Sg) (ra1 : inR a1) : WG p l e R s m args below meth c JX1_isNew DX1_isNew G clA A FC ad0 σ0 rvI (bX1_isNew call a1 u) u 0 [(0, vR 1), (1, vI a1)] [] := by
  unfold bX1_isNew
  refine g_jn (fun j1 => ∀ (s2 : Sg), WG p l e R s m args below meth c JX1_isNew DX1_isNew G clA A FC ad0 σ0 rvI (j1 s2) s2 33 [] []) (fun s2 => ?_) (fun j1 hj1 => ?_)
  · refine g_iconst dX1_isNew_33 ?_
    exact g_zret rfl rfl (fun _ => (Or.inl rfl)) dX1_isNew_34
  · refine g_aload_n 0 dX1_isNew_0 rfl ?_
    refine g_get (v := vR 0) (ci := 1) (b := 30) (N := 57) 0 rfl rfl (by decide) in_X1 rfl rfl q308 dX1_isNew_1 ?_
    refine g_get (v := vR 10) (ci := 0) (b := 0) (N := 21) 0 rfl rfl (by decide) in_X2 rfl rfl q232 dX1_isNew_4 ?_
    refine g_iload_n 1 dX1_isNew_7 rfl ?_
    refine g_iald (id := 0) 0 rfl rfl dX1_isNew_8 (fun v3 rv3 => ?_)
    refine g_iconst dX1_isNew_9 ?_
    refine g_icmp_ne 33 dX1_isNew_10 (by decide) (fun _ => rv3) (fun _ => (inR_z (Or.inr rfl))) (fun _ => ?_) (fun _ => ?_)
    · refine g_aload_n 0 dX1_isNew_13 rfl ?_
      refine g_get (v := vR 0) (ci := 1) (b := 30) (N := 57) 0 rfl rfl (by decide) in_X1 rfl rfl q308 dX1_isNew_14 ?_
      refine g_get (v := vR 11) (ci := 0) (b := 0) (N := 21) 1 rfl rfl (by decide) in_X2 rfl rfl q234 dX1_isNew_17 ?_
      refine g_iload_n 1 dX1_isNew_20 rfl ?_
      refine g_iald (id := 1) 1 rfl rfl dX1_isNew_21 (fun v4 rv4 => ?_)
      refine g_aload_n 0 dX1_isNew_22 rfl ?_
      refine g_getI (ci := 1) (b := 30) (N := 57) 27 rfl rfl rfl (by decide) in_X1 rfl rfl q335 dX1_isNew_23 (fun v5 rv5 => ?_)
      refine g_icmp_lt 33 dX1_isNew_26 (by decide) (fun _ => rv4) (fun _ => rv5) (fun _ => ?_) (fun _ => ?_)
      · exact g_pick [] rfl (hj1 u)
      · refine g_iconst dX1_isNew_29 ?_
        refine g_goto 34 dX1_isNew_30 (by decide) ?_
        exact g_zret rfl rfl (fun _ => (Or.inr rfl)) dX1_isNew_34
    · exact g_pick [] rfl (hj1 u)
end
section
variable {l : Launch} {d : Nat} {call : Nat → List Int → Sg → Option (Int × Sg)}
theorem ctX1_isNew (p0 : Program) (e0 : Env) (s0 : State) (m0 : MethodId) (meth0 : Method) (c0 : Code) (G0 : Gm) (hd : 2 ≤ d) (a1 : Int) (u : Sg) : Ct l (d + 1) FC clA yX1_isNew cX1_isNew 2 (some .boolean) DX1_isNew rvI [vR 1, vI a1] u (bX1_isNew call a1 u) :=
  Ct_of (by decide) (Nat.le_of_ble_eq_true rfl) (fun p e R s1 m args below meth c G A ad hA hRf hRl => wX1_isNew hd hRf hRl a1 u (hA _ (List.mem_cons_of_mem _ List.mem_cons_self))) p0 e0 s0 m0 meth0 c0 G0
end
