/-! RoundCheck.adjectivesOf0(I)I -/
abbrev JX1_adjectivesOf0 : Jm := (cX1_adjectivesOf0, RX1, 10, (some .int))
def bX1_adjectivesOf0_L54 (call : Nat → List Int → Sg → Option (Int × Sg)) : Nat → Int → Int → Int → Int → Int → Sg → (Int → Int → Int → Int → Sg → Option (Int × Sg)) → Option (Int × Sg)
  | 0, _, _, _, _, _, _, _ => none
  | n + 1, a1, a2, a3, a4, a5, u, x92 => ld u 3 a4 fun v1 => if a5 < v1 then (cl (call 98 [a4, a5] u) fun v2 s3 => cl (call 85 [a2, v2] s3) fun v4 s5 => ar (a5 + 1) fun v6 => bX1_adjectivesOf0_L54 call n a1 a2 a3 a4 v6 s5 x92) else (x92 a1 a2 a3 a4 u)
def bX1_adjectivesOf0_L46 (call : Nat → List Int → Sg → Option (Int × Sg)) : Nat → Int → Int → Int → Int → Sg → (Int → Int → Int → Sg → Option (Int × Sg)) → Option (Int × Sg)
  | 0, _, _, _, _, _, _ => none
  | n + 1, a1, a2, a3, a4, u, x103 => if a4 = 0 then (x103 a1 a2 a3 u) else (bX1_adjectivesOf0_L54 call KF a1 a2 a3 a4 1 u (fun v2 v3 v4 v5 s1 => cl (call 51 [v5] s1) fun v6 s7 => bX1_adjectivesOf0_L46 call n v2 v3 v4 v6 s7 x103))
def bX1_adjectivesOf0_L400 (call : Nat → List Int → Sg → Option (Int × Sg)) : Nat → Int → Int → Int → Int → Int → Int → Int → Sg → (Int → Int → Int → Int → Int → Int → Sg → Option (Int × Sg)) → Option (Int × Sg)
  | 0, _, _, _, _, _, _, _, _, _ => none
  | n + 1, a1, a2, a3, a4, a5, a6, a7, u, x454 => ld u 77 a5 fun v1 => ld u 3 v1 fun v2 => if a7 < v2 then (if a6 = 0 then (x454 a1 a2 a3 a4 a5 a6 u) else (ld u 77 a5 fun v3 => cl (call 98 [v3, a7] u) fun v4 s5 => cl (call 86 [a2, v4] s5) fun v6 s7 => ar (a7 + 1) fun v8 => bX1_adjectivesOf0_L400 call n a1 a2 a3 a4 a5 v6 v8 s7 x454)) else (x454 a1 a2 a3 a4 a5 a6 u)
def bX1_adjectivesOf0_L479 (call : Nat → List Int → Sg → Option (Int × Sg)) : Nat → Int → Int → Int → Int → Int → Int → Int → Sg → (Int → Int → Int → Int → Int → Sg → Option (Int × Sg)) → Option (Int × Sg)
  | 0, _, _, _, _, _, _, _, _, _ => none
  | n + 1, a1, a2, a3, a4, a5, a6, a7, u, x537 => if a6 = 0 then (x537 a1 a2 a3 a4 a5 u) else (ld u 80 a5 fun v1 => ld u 3 v1 fun v2 => if a7 < v2 then (ld u 80 a5 fun v3 => cl (call 98 [v3, a7] u) fun v4 s5 => cl (call 85 [a2, v4] s5) fun v6 s7 => if v6 = 0 then (ar (a7 + 1) fun v8 => bX1_adjectivesOf0_L479 call n a1 a2 a3 a4 a5 a6 v8 s7 x537) else (ar (a7 + 1) fun v9 => bX1_adjectivesOf0_L479 call n a1 a2 a3 1 a5 a6 v9 s7 x537)) else (x537 a1 a2 a3 a4 a5 u))
def bX1_adjectivesOf0_L372 (call : Nat → List Int → Sg → Option (Int × Sg)) : Nat → Int → Int → Int → Int → Int → Sg → (Int → Int → Int → Int → Sg → Option (Int × Sg)) → Option (Int × Sg)
  | 0, _, _, _, _, _, _, _ => none
  | n + 1, a1, a2, a3, a4, a5, u, x543 => un (gI u 81) fun v1 => if a5 < v1 then (ld u 76 a5 fun v2 => if v2 = 0 then (bX1_adjectivesOf0_L400 call KF a1 a2 a3 a4 a5 1 1 u (fun v4 v5 v6 v7 v8 v9 s3 => jn (fun (a1 a2 a3 a4 a5 t0 : Int) (s11 : Sg) => bX1_adjectivesOf0_L479 call KF a1 a2 a3 a4 a5 t0 1 s11 (fun v13 v14 v15 v16 v17 s12 => ar (v17 + 1) fun v18 => bX1_adjectivesOf0_L372 call n v13 v14 v15 v16 v18 s12 x543)) fun j10 => jn (fun (a1 a2 a3 a4 a5 : Int) (s20 : Sg) => j10 a1 a2 a3 a4 a5 0 s20) fun j19 => if v9 = 0 then (j19 v4 v5 v6 v7 v8 s3) else (cl (call 87 [v6, v8] s3) fun v21 s22 => if v21 = 0 then (j19 v4 v5 v6 v7 v8 s22) else (j10 v4 v5 v6 v7 v8 1 s22)))) else (ar (a5 + 1) fun v23 => bX1_adjectivesOf0_L372 call n a1 a2 a3 a4 v23 u x543)) else (x543 a1 a2 a3 a4 u)
def bX1_adjectivesOf0_L361 (call : Nat → List Int → Sg → Option (Int × Sg)) : Nat → Int → Int → Int → Int → Sg → (Int → Int → Sg → Option (Int × Sg)) → Option (Int × Sg)
  | 0, _, _, _, _, _, _ => none
  | n + 1, a1, a2, a3, a4, u, x546 => if a4 = 0 then (x546 a1 a2 u) else (bX1_adjectivesOf0_L372 call KF a1 a2 a3 0 0 u (fun v2 v3 v4 v5 s1 => bX1_adjectivesOf0_L361 call n v2 v3 v4 v5 s1 x546))
def bX1_adjectivesOf0_L299 (call : Nat → List Int → Sg → Option (Int × Sg)) : Nat → Int → Int → Int → Int → Int → Int → Int → Sg → (Int → Int → Int → Int → Int → Sg → Option (Int × Sg)) → Option (Int × Sg)
  | 0, _, _, _, _, _, _, _, _, _ => none
  | n + 1, a1, a2, a3, a4, a5, a8, a9, u, x352 => if a8 = 0 then (x352 a1 a2 a3 a4 a5 u) else (ld u 80 a5 fun v1 => ld u 3 v1 fun v2 => if a9 < v2 then (ld u 80 a5 fun v3 => cl (call 98 [v3, a9] u) fun v4 s5 => cl (call 85 [a2, v4] s5) fun v6 s7 => ar (a9 + 1) fun v8 => bX1_adjectivesOf0_L299 call n a1 a2 a3 a4 a5 a8 v8 s7 x352) else (x352 a1 a2 a3 a4 a5 u))
def bX1_adjectivesOf0_L130 (call : Nat → List Int → Sg → Option (Int × Sg)) : Nat → Int → Int → Int → Int → Int → Sg → (Int → Int → Int → Sg → Option (Int × Sg)) → Option (Int × Sg)
  | 0, _, _, _, _, _, _, _ => none
  | n + 1, a1, a2, a3, a4, a5, u, x358 => un (gI u 81) fun v1 => if a5 < v1 then (ld u 76 a5 fun v2 => if v2 = 1 then (ld u 77 a5 fun v3 => ld u 1 a1 fun v4 => if v3 = v4 then (jn (fun (a1 a2 a3 a4 a5 t0 : Int) (s6 : Sg) => jn (fun (a1 a2 a3 a4 a5 a6 t0 : Int) (s8 : Sg) => jn (fun (a1 a2 a3 a4 a5 t0 : Int) (s10 : Sg) => bX1_adjectivesOf0_L299 call KF a1 a2 a3 a4 a5 t0 1 s10 (fun v12 v13 v14 v15 v16 s11 => ar (v16 + 1) fun v17 => bX1_adjectivesOf0_L130 call n v12 v13 v14 v15 v17 s11 x358)) fun j9 => jn (fun (a1 a2 a3 a4 a5 : Int) (s19 : Sg) => j9 a1 a2 a3 a4 a5 0 s19) fun j18 => jn (fun (a1 a2 a3 a4 a5 a6 a7 : Int) (s21 : Sg) => jn (fun (a1 a2 a3 a4 a5 : Int) (s23 : Sg) => j9 a1 a2 a3 a4 a5 1 s23) fun j22 => ld s21 79 a5 fun v24 => if v24 = 0 then (j22 a1 a2 a3 a4 a5 s21) else (ld s21 79 a5 fun v25 => cl (call 111 [v25, a6, a7, 0] s21) fun v26 s27 => cl (call 81 [a7, v26] s27) fun v28 s29 => if v28 = 0 then (j18 a1 a2 a3 a4 a5 s29) else (j22 a1 a2 a3 a4 a5 s29))) fun j20 => ld s8 78 a5 fun v30 => if v30 = 0 then (j20 a1 a2 a3 a4 a5 a6 t0 s8) else (ld s8 78 a5 fun v31 => cl (call 111 [v31, a6, t0, 0] s8) fun v32 s33 => cl (call 81 [a6, v32] s33) fun v34 s35 => if v34 = 0 then (j18 a1 a2 a3 a4 a5 s35) else (j20 a1 a2 a3 a4 a5 a6 t0 s35))) fun j7 => if a4 ≤ 1 then (j7 a1 a2 a3 a4 a5 t0 0 s6) else (cl (call 98 [a1, 1] s6) fun v36 s37 => j7 a1 a2 a3 a4 a5 t0 v36 s37)) fun j5 => if a4 ≤ 0 then (j5 a1 a2 a3 a4 a5 0 u) else (cl (call 98 [a1, 0] u) fun v38 s39 => j5 a1 a2 a3 a4 a5 v38 s39)) else (ar (a5 + 1) fun v40 => bX1_adjectivesOf0_L130 call n a1 a2 a3 a4 v40 u x358)) else (ar (a5 + 1) fun v41 => bX1_adjectivesOf0_L130 call n a1 a2 a3 a4 v41 u x358)) else (x358 a1 a2 a3 u)
def bX1_adjectivesOf0 (call : Nat → List Int → Sg → Option (Int × Sg)) (a1 : Int) (u : Sg) : Option (Int × Sg) := jn (fun (a1 : Int) (s2 : Sg) => un (gI s2 12) fun v3 => cl (call 47 [a1] s2) fun v4 s5 => bX1_adjectivesOf0_L46 call KF a1 v3 v4 v4 s5 (fun v7 v8 v9 s6 => jn (fun (a1 a2 a3 : Int) (s11 : Sg) => bX1_adjectivesOf0_L361 call KF a1 a2 a3 1 s11 (fun v13 v14 s12 => jn (fun (a1 a5 : Int) (s16 : Sg) => stA s16 31 a1 a5 fun s17 => un (gI s17 33) fun v18 => stA s17 32 a1 v18 fun s19 => some (a5, s19)) fun j15 => cl (call 15 [0, 0, v14] s12) fun v20 s21 => un (gL s21 31 : Int) fun v22 => if v13 < v22 then (j15 v13 v20 s21) else (ar (v13 + 1) fun v23 => un (gL s21 31 : Int) fun v24 => un (gL s21 31 : Int) fun v25 => gd (2 ≠ 0) (ar (Int.tdiv v25 2) fun v26 => ar (v24 + v26) fun v27 => un (if v23 < v27 then v27 else v23) fun v28 => cpy s21 31 v28 fun s29 => cpy s29 32 v28 fun s30 => j15 v13 v20 s30)))) fun j10 => ld s6 0 v7 fun v31 => if v31 = 4 then (ld s6 3 v7 fun v32 => bX1_adjectivesOf0_L130 call KF v7 v8 v9 v32 0 s6 (fun v34 v35 v36 s33 => j10 v34 v35 v36 s33)) else (j10 v7 v8 v9 s6))) fun j1 => un (gL u 31 : Int) fun v37 => if a1 < v37 then (ld u 32 a1 fun v38 => un (gI u 33) fun v39 => if v38 = v39 then (ld u 31 a1 fun v40 => some (v40, u)) else (j1 a1 u)) else (j1 a1 u)
section
variable {p : Program} {l : Launch} {e : Env} {R : Room} {s : State} {m : MethodId} {args : Array Value} {below : List Frame} {meth : Method} {c : Code} {G : Gm} {A : Nat → Prop} {ad0 : Nat → Nat} {σ0 : Sg} {d : Nat} {call : Nat → List Int → Sg → Option (Int × Sg)}
theorem wX1_adjectivesOf0_L54 (hd : 2 ≤ d) (hRf : d + 1 ≤ R.frames) (hRl : 40 * (d + 1) ≤ R.locals) (hX1_typeOf : ∀ (a1 : Int) (u : Sg), Ct l d FC clA yX1_typeOf cX1_typeOf 3 (some .int) DX1_typeOf rvI [vR 1, vI a1] u (call 47 [a1] u)) (hX2_at : ∀ (a1 a2 : Int) (u : Sg), Ct l d FC clA yX2_at cX2_at 3 (some .int) DX2_at rvI [vR 0, vI a1, vI a2] u (call 98 [a1, a2] u)) (hX1_addAdjective : ∀ (a1 a2 : Int) (u : Sg), Ct l d FC clA yX1_addAdjective cX1_addAdjective 4 (some .boolean) DX1_addAdjective rvI [vR 1, vI a1, vI a2] u (call 85 [a1, a2] u)) (hX1_parent : ∀ (a1 : Int) (u : Sg), Ct l d FC clA yX1_parent cX1_parent 2 (some .int) DX1_parent rvI [vR 1, vI a1] u (call 51 [a1] u)) (hX1_inRow : ∀ (a1 a2 : Int) (u : Sg), Ct l d FC clA yX1_inRow cX1_inRow 4 (some .boolean) DX1_inRow rvI [vR 1, vI a1, vI a2] u (call 86 [a1, a2] u)) (hX1_ofMode : ∀ (a1 a2 : Int) (u : Sg), Ct l d FC clA yX1_ofMode cX1_ofMode 5 (some .boolean) DX1_ofMode rvI [vR 1, vI a1, vI a2] u (call 87 [a1, a2] u)) (hX1_typed : ∀ (a1 a2 a3 : Int) (u : Sg), Ct l d FC clA yX1_typed cX1_typed 8 (some .int) DX1_typed rvI [vR 1, vI a1, vI a2, vI a3] u (call 15 [a1, a2, a3] u)) (hX2_loci : ∀ (a1 a2 a3 a4 : Int) (u : Sg), Ct l d FC clA yX2_loci cX2_loci 5 (some .int) DX2_loci rvI [vR 0, vI a1, vI a2, vI a3, vI a4] u (call 111 [a1, a2, a3, a4] u)) (hX1_fits0 : ∀ (a1 a2 : Int) (u : Sg), Ct l d FC clA yX1_fits0 cX1_fits0 3 (some .boolean) DX1_fits0 rvI [vR 1, vI a1, vI a2] u (call 81 [a1, a2] u)) (x92 : Int → Int → Int → Int → Sg → Option (Int × Sg)) (hx92 : ∀ (a1 a2 a3 a4 : Int) (u : Sg), inR a1 → inR a2 → inR a3 → inR a4 → WG p l e R s m args below meth c JX1_adjectivesOf0 DX1_adjectivesOf0 G clA A FC ad0 σ0 rvI (x92 a1 a2 a3 a4 u) u 92 [(0, vR 1), (1, vI a1), (2, vI a2), (3, vI a3), (4, vI a4)] []) : ∀ (n : Nat) (a1 a2 a3 a4 a5 : Int) (u : Sg), inR a1 → inR a2 → inR a3 → inR a4 → inR a5 → WG p l e R s m args below meth c JX1_adjectivesOf0 DX1_adjectivesOf0 G clA A FC ad0 σ0 rvI (bX1_adjectivesOf0_L54 call n a1 a2 a3 a4 a5 u x92) u 54 [(0, vR 1), (1, vI a1), (2, vI a2), (3, vI a3), (4, vI a4), (5, vI a5)] [] := by
  intro n
  induction n with
  | zero =>
    intro a1 a2 a3 a4 a5 u ra1 ra2 ra3 ra4 ra5
    exact g_none
  | succ n ih =>
    intro a1 a2 a3 a4 a5 u ra1 ra2 ra3 ra4 ra5
    rw [bX1_adjectivesOf0_L54]
    refine g_iload 5 dX1_adjectivesOf0_54 rfl ?_
    refine g_aload_n 0 dX1_adjectivesOf0_56 rfl ?_
    refine g_get (v := vR 0) (ci := 1) (b := 30) (N := 57) 0 rfl rfl (by decide) in_X1 rfl rfl q308 dX1_adjectivesOf0_57 ?_
    refine g_get (v := vR 13) (ci := 0) (b := 0) (N := 21) 3 rfl rfl (by decide) in_X2 rfl rfl q237 dX1_adjectivesOf0_60 ?_
    refine g_iload 4 dX1_adjectivesOf0_63 rfl ?_
    refine g_iald (id := 3) 3 rfl rfl dX1_adjectivesOf0_65 (fun v1 rv1 => ?_)
    refine g_icmp_ge 92 dX1_adjectivesOf0_66 (by decide) (fun _ => ra5) (fun _ => rv1) (fun _ => ?_) (fun _ => ?_)
    · refine g_aload_n 0 dX1_adjectivesOf0_69 rfl ?_
      refine g_iload_n 2 dX1_adjectivesOf0_70 rfl ?_
      refine g_aload_n 0 dX1_adjectivesOf0_71 rfl ?_
      refine g_get (v := vR 0) (ci := 1) (b := 30) (N := 57) 0 rfl rfl (by decide) in_X1 rfl rfl q308 dX1_adjectivesOf0_72 ?_
      refine g_iload 4 dX1_adjectivesOf0_75 rfl ?_
      refine g_iload 5 dX1_adjectivesOf0_77 rfl ?_
      refine g_cVI (As := [vI a4, vI a5]) (n := 2) (stk := [vI a2, vR 1]) (ci := 0) (b := 0) (N := 21) (hX2_at a4 a5 u) (by decide +kernel) rfl rfl (lw_V q571 q572 q573 q164 q574) (by decide +kernel) rfl (by decide) hRf hRl (fun _ => (avc ra4 (avc ra5 avn))) (Nat.le_of_ble_eq_true rfl) rfl rfl dX1_adjectivesOf0_79 (fun v2 s3 rv2 => ?_)
      refine g_cVZ (As := [vI a2, vI v2]) (n := 2) (stk := []) (ci := 1) (b := 30) (N := 57) (hX1_addAdjective a2 v2 s3) (by decide +kernel) rfl rfl (lw_V q1029 q1031 qs66 q163 q1032) (by decide +kernel) rfl (by decide) hRf hRl (fun _ => (avc ra2 (avc rv2 avn))) (Nat.le_of_ble_eq_true rfl) rfl rfl dX1_adjectivesOf0_82 (fun v4 s5 zv4 => ?_)
      refine g_pop rfl dX1_adjectivesOf0_85 ?_
      refine g_iinc 5 (loc' := fun v6 => [(5, vI v6), (0, vR 1), (1, vI a1), (2, vI a2), (3, vI a3), (4, vI a4)]) dX1_adjectivesOf0_86 rfl (by decide) (fun _ => rfl) (fun v6 rv6 => ?_)
      refine g_goto 54 dX1_adjectivesOf0_89 (by decide) ?_
      exact g_pick [1, 2, 3, 4, 5, 0] rfl (ih a1 a2 a3 a4 v6 s5 ra1 ra2 ra3 ra4 rv6)
    · exact g_pick [0, 1, 2, 3, 4] rfl (hx92 a1 a2 a3 a4 u ra1 ra2 ra3 ra4)
theorem wX1_adjectivesOf0_L46 (hd : 2 ≤ d) (hRf : d + 1 ≤ R.frames) (hRl : 40 * (d + 1) ≤ R.locals) (hX1_typeOf : ∀ (a1 : Int) (u : Sg), Ct l d FC clA yX1_typeOf cX1_typeOf 3 (some .int) DX1_typeOf rvI [vR 1, vI a1] u (call 47 [a1] u)) (hX2_at : ∀ (a1 a2 : Int) (u : Sg), Ct l d FC clA yX2_at cX2_at 3 (some .int) DX2_at rvI [vR 0, vI a1, vI a2] u (call 98 [a1, a2] u)) (hX1_addAdjective : ∀ (a1 a2 : Int) (u : Sg), Ct l d FC clA yX1_addAdjective cX1_addAdjective 4 (some .boolean) DX1_addAdjective rvI [vR 1, vI a1, vI a2] u (call 85 [a1, a2] u)) (hX1_parent : ∀ (a1 : Int) (u : Sg), Ct l d FC clA yX1_parent cX1_parent 2 (some .int) DX1_parent rvI [vR 1, vI a1] u (call 51 [a1] u)) (hX1_inRow : ∀ (a1 a2 : Int) (u : Sg), Ct l d FC clA yX1_inRow cX1_inRow 4 (some .boolean) DX1_inRow rvI [vR 1, vI a1, vI a2] u (call 86 [a1, a2] u)) (hX1_ofMode : ∀ (a1 a2 : Int) (u : Sg), Ct l d FC clA yX1_ofMode cX1_ofMode 5 (some .boolean) DX1_ofMode rvI [vR 1, vI a1, vI a2] u (call 87 [a1, a2] u)) (hX1_typed : ∀ (a1 a2 a3 : Int) (u : Sg), Ct l d FC clA yX1_typed cX1_typed 8 (some .int) DX1_typed rvI [vR 1, vI a1, vI a2, vI a3] u (call 15 [a1, a2, a3] u)) (hX2_loci : ∀ (a1 a2 a3 a4 : Int) (u : Sg), Ct l d FC clA yX2_loci cX2_loci 5 (some .int) DX2_loci rvI [vR 0, vI a1, vI a2, vI a3, vI a4] u (call 111 [a1, a2, a3, a4] u)) (hX1_fits0 : ∀ (a1 a2 : Int) (u : Sg), Ct l d FC clA yX1_fits0 cX1_fits0 3 (some .boolean) DX1_fits0 rvI [vR 1, vI a1, vI a2] u (call 81 [a1, a2] u)) (x103 : Int → Int → Int → Sg → Option (Int × Sg)) (hx103 : ∀ (a1 a2 a3 : Int) (u : Sg), inR a1 → inR a2 → inR a3 → WG p l e R s m args below meth c JX1_adjectivesOf0 DX1_adjectivesOf0 G clA A FC ad0 σ0 rvI (x103 a1 a2 a3 u) u 103 [(0, vR 1), (1, vI a1), (2, vI a2), (3, vI a3)] []) : ∀ (n : Nat) (a1 a2 a3 a4 : Int) (u : Sg), inR a1 → inR a2 → inR a3 → inR a4 → WG p l e R s m args below meth c JX1_adjectivesOf0 DX1_adjectivesOf0 G clA A FC ad0 σ0 rvI (bX1_adjectivesOf0_L46 call n a1 a2 a3 a4 u x103) u 46 [(0, vR 1), (1, vI a1), (2, vI a2), (3, vI a3), (4, vI a4)] [] := by
  intro n
  induction n with
  | zero =>
    intro a1 a2 a3 a4 u ra1 ra2 ra3 ra4
    exact g_none
  | succ n ih =>
    intro a1 a2 a3 a4 u ra1 ra2 ra3 ra4
    rw [bX1_adjectivesOf0_L46]
    refine g_iload 4 dX1_adjectivesOf0_46 rfl ?_
    refine g_if_eq 103 dX1_adjectivesOf0_48 (by decide) (fun _ => ra4) (fun _ => ?_) (fun _ => ?_)
    · exact g_pick [0, 1, 2, 3] rfl (hx103 a1 a2 a3 u ra1 ra2 ra3)
    · refine g_iconst dX1_adjectivesOf0_51 ?_
      refine g_istore (loc' := [(5, vI 1), (0, vR 1), (1, vI a1), (2, vI a2), (3, vI a3), (4, vI a4)]) dX1_adjectivesOf0_52 (by decide) rfl ?_
      refine g_pick [1, 2, 3, 4, 5, 0] rfl (wX1_adjectivesOf0_L54 hd hRf hRl hX1_typeOf hX2_at hX1_addAdjective hX1_parent hX1_inRow hX1_ofMode hX1_typed hX2_loci hX1_fits0 _ (fun v2 v3 v4 v5 s1 rv2 rv3 rv4 rv5 => ?_) KF a1 a2 a3 a4 1 u ra1 ra2 ra3 ra4 (inR_z (Or.inr rfl)))
      · refine g_aload_n 0 dX1_adjectivesOf0_92 rfl ?_
        refine g_iload 4 dX1_adjectivesOf0_93 rfl ?_
        refine g_cVI (As := [vI v5]) (n := 1) (stk := []) (ci := 1) (b := 30) (N := 57) (hX1_parent v5 s1) (by decide +kernel) rfl rfl (lw_V q880 q882 qs33 q163 q883) (by decide +kernel) rfl (by decide) hRf hRl (fun _ => (avc rv5 avn)) (Nat.le_of_ble_eq_true rfl) rfl rfl dX1_adjectivesOf0_95 (fun v6 s7 rv6 => ?_)
        refine g_istore (loc' := [(4, vI v6), (0, vR 1), (1, vI v2), (2, vI v3), (3, vI v4)]) dX1_adjectivesOf0_98 (by decide) rfl ?_
        refine g_goto 46 dX1_adjectivesOf0_100 (by decide) ?_
        exact g_pick [1, 2, 3, 4, 0] rfl (ih v2 v3 v4 v6 s7 rv2 rv3 rv4 rv6)
theorem wX1_adjectivesOf0_L400 (hd : 2 ≤ d) (hRf : d + 1 ≤ R.frames) (hRl : 40 * (d + 1) ≤ R.locals) (hX1_typeOf : ∀ (a1 : Int) (u : Sg), Ct l d FC clA yX1_typeOf cX1_typeOf 3 (some .int) DX1_typeOf rvI [vR 1, vI a1] u (call 47 [a1] u)) (hX2_at : ∀ (a1 a2 : Int) (u : Sg), Ct l d FC clA yX2_at cX2_at 3 (some .int) DX2_at rvI [vR 0, vI a1, vI a2] u (call 98 [a1, a2] u)) (hX1_addAdjective : ∀ (a1 a2 : Int) (u : Sg), Ct l d FC clA yX1_addAdjective cX1_addAdjective 4 (some .boolean) DX1_addAdjective rvI [vR 1, vI a1, vI a2] u (call 85 [a1, a2] u)) (hX1_parent : ∀ (a1 : Int) (u : Sg), Ct l d FC clA yX1_parent cX1_parent 2 (some .int) DX1_parent rvI [vR 1, vI a1] u (call 51 [a1] u)) (hX1_inRow : ∀ (a1 a2 : Int) (u : Sg), Ct l d FC clA yX1_inRow cX1_inRow 4 (some .boolean) DX1_inRow rvI [vR 1, vI a1, vI a2] u (call 86 [a1, a2] u)) (hX1_ofMode : ∀ (a1 a2 : Int) (u : Sg), Ct l d FC clA yX1_ofMode cX1_ofMode 5 (some .boolean) DX1_ofMode rvI [vR 1, vI a1, vI a2] u (call 87 [a1, a2] u)) (hX1_typed : ∀ (a1 a2 a3 : Int) (u : Sg), Ct l d FC clA yX1_typed cX1_typed 8 (some .int) DX1_typed rvI [vR 1, vI a1, vI a2, vI a3] u (call 15 [a1, a2, a3] u)) (hX2_loci : ∀ (a1 a2 a3 a4 : Int) (u : Sg), Ct l d FC clA yX2_loci cX2_loci 5 (some .int) DX2_loci rvI [vR 0, vI a1, vI a2, vI a3, vI a4] u (call 111 [a1, a2, a3, a4] u)) (hX1_fits0 : ∀ (a1 a2 : Int) (u : Sg), Ct l d FC clA yX1_fits0 cX1_fits0 3 (some .boolean) DX1_fits0 rvI [vR 1, vI a1, vI a2] u (call 81 [a1, a2] u)) (x454 : Int → Int → Int → Int → Int → Int → Sg → Option (Int × Sg)) (hx454 : ∀ (a1 a2 a3 a4 a5 a6 : Int) (u : Sg), inR a1 → inR a2 → inR a3 → (a4 = 0 ∨ a4 = 1) → inR a5 → (a6 = 0 ∨ a6 = 1) → WG p l e R s m args below meth c JX1_adjectivesOf0 DX1_adjectivesOf0 G clA A FC ad0 σ0 rvI (x454 a1 a2 a3 a4 a5 a6 u) u 454 [(0, vR 1), (1, vI a1), (2, vI a2), (3, vI a3), (4, vI a4), (5, vI a5), (6, vI a6)] []) : ∀ (n : Nat) (a1 a2 a3 a4 a5 a6 a7 : Int) (u : Sg), inR a1 → inR a2 → inR a3 → (a4 = 0 ∨ a4 = 1) → inR a5 → (a6 = 0 ∨ a6 = 1) → inR a7 → WG p l e R s m args below meth c JX1_adjectivesOf0 DX1_adjectivesOf0 G clA A FC ad0 σ0 rvI (bX1_adjectivesOf0_L400 call n a1 a2 a3 a4 a5 a6 a7 u x454) u 400 [(0, vR 1), (1, vI a1), (2, vI a2), (3, vI a3), (4, vI a4), (5, vI a5), (6, vI a6), (7, vI a7)] [] := by
  intro n
  induction n with
  | zero =>
    intro a1 a2 a3 a4 a5 a6 a7 u ra1 ra2 ra3 za4 ra5 za6 ra7
    exact g_none
  | succ n ih =>
    intro a1 a2 a3 a4 a5 a6 a7 u ra1 ra2 ra3 za4 ra5 za6 ra7
    rw [bX1_adjectivesOf0_L400]
    refine g_iload 7 dX1_adjectivesOf0_400 rfl ?_
    refine g_aload_n 0 dX1_adjectivesOf0_402 rfl ?_
    refine g_get (v := vR 0) (ci := 1) (b := 30) (N := 57) 0 rfl rfl (by decide) in_X1 rfl rfl q308 dX1_adjectivesOf0_403 ?_
    refine g_get (v := vR 13) (ci := 0) (b := 0) (N := 21) 3 rfl rfl (by decide) in_X2 rfl rfl q237 dX1_adjectivesOf0_406 ?_
    refine g_aload_n 0 dX1_adjectivesOf0_409 rfl ?_
    refine g_get (v := vR 87) (ci := 1) (b := 30) (N := 57) 47 rfl rfl (by decide) in_X1 rfl rfl q355 dX1_adjectivesOf0_410 ?_
    refine g_iload 5 dX1_adjectivesOf0_413 rfl ?_
    refine g_iald (id := 77) 36 rfl rfl dX1_adjectivesOf0_415 (fun v1 rv1 => ?_)
    refine g_iald (id := 3) 3 rfl rfl dX1_adjectivesOf0_416 (fun v2 rv2 => ?_)
    refine g_icmp_ge 454 dX1_adjectivesOf0_417 (by decide) (fun _ => ra7) (fun _ => rv2) (fun _ => ?_) (fun _ => ?_)
    · refine g_iload 6 dX1_adjectivesOf0_420 rfl ?_
      refine g_if_eq 454 dX1_adjectivesOf0_422 (by decide) (fun _ => (inR_z za6)) (fun _ => ?_) (fun _ => ?_)
      · exact g_pick [0, 1, 2, 3, 4, 5, 6] rfl (hx454 a1 a2 a3 a4 a5 a6 u ra1 ra2 ra3 za4 ra5 za6)
      · refine g_aload_n 0 dX1_adjectivesOf0_425 rfl ?_
        refine g_iload_n 2 dX1_adjectivesOf0_426 rfl ?_
        refine g_aload_n 0 dX1_adjectivesOf0_427 rfl ?_
        refine g_get (v := vR 0) (ci := 1) (b := 30) (N := 57) 0 rfl rfl (by decide) in_X1 rfl rfl q308 dX1_adjectivesOf0_428 ?_
        refine g_aload_n 0 dX1_adjectivesOf0_431 rfl ?_
        refine g_get (v := vR 87) (ci := 1) (b := 30) (N := 57) 47 rfl rfl (by decide) in_X1 rfl rfl q355 dX1_adjectivesOf0_432 ?_
        refine g_iload 5 dX1_adjectivesOf0_435 rfl ?_
        refine g_iald (id := 77) 36 rfl rfl dX1_adjectivesOf0_437 (fun v3 rv3 => ?_)
        refine g_iload 7 dX1_adjectivesOf0_438 rfl ?_
        refine g_cVI (As := [vI v3, vI a7]) (n := 2) (stk := [vI a2, vR 1]) (ci := 0) (b := 0) (N := 21) (hX2_at v3 a7 u) (by decide +kernel) rfl rfl (lw_V q571 q572 q573 q164 q574) (by decide +kernel) rfl (by decide) hRf hRl (fun _ => (avc rv3 (avc ra7 avn))) (Nat.le_of_ble_eq_true rfl) rfl rfl dX1_adjectivesOf0_440 (fun v4 s5 rv4 => ?_)
        refine g_cVZ (As := [vI a2, vI v4]) (n := 2) (stk := []) (ci := 1) (b := 30) (N := 57) (hX1_inRow a2 v4 s5) (by decide +kernel) rfl rfl (lw_V q1033 q1035 qs67 q163 q1036) (by decide +kernel) rfl (by decide) hRf hRl (fun _ => (avc ra2 (avc rv4 avn))) (Nat.le_of_ble_eq_true rfl) rfl rfl dX1_adjectivesOf0_443 (fun v6 s7 zv6 => ?_)
        refine g_istore (loc' := [(6, vI v6), (0, vR 1), (1, vI a1), (2, vI a2), (3, vI a3), (4, vI a4), (5, vI a5), (7, vI a7)]) dX1_adjectivesOf0_446 (by decide) rfl ?_
        refine g_iinc 7 (loc' := fun v8 => [(7, vI v8), (6, vI v6), (0, vR 1), (1, vI a1), (2, vI a2), (3, vI a3), (4, vI a4), (5, vI a5)]) dX1_adjectivesOf0_448 rfl (by decide) (fun _ => rfl) (fun v8 rv8 => ?_)
        refine g_goto 400 dX1_adjectivesOf0_451 (by decide) ?_
        exact g_pick [2, 3, 4, 5, 6, 7, 1, 0] rfl (ih a1 a2 a3 a4 a5 v6 v8 s7 ra1 ra2 ra3 za4 ra5 zv6 rv8)
    · exact g_pick [0, 1, 2, 3, 4, 5, 6] rfl (hx454 a1 a2 a3 a4 a5 a6 u ra1 ra2 ra3 za4 ra5 za6)
theorem wX1_adjectivesOf0_L479 (hd : 2 ≤ d) (hRf : d + 1 ≤ R.frames) (hRl : 40 * (d + 1) ≤ R.locals) (hX1_typeOf : ∀ (a1 : Int) (u : Sg), Ct l d FC clA yX1_typeOf cX1_typeOf 3 (some .int) DX1_typeOf rvI [vR 1, vI a1] u (call 47 [a1] u)) (hX2_at : ∀ (a1 a2 : Int) (u : Sg), Ct l d FC clA yX2_at cX2_at 3 (some .int) DX2_at rvI [vR 0, vI a1, vI a2] u (call 98 [a1, a2] u)) (hX1_addAdjective : ∀ (a1 a2 : Int) (u : Sg), Ct l d FC clA yX1_addAdjective cX1_addAdjective 4 (some .boolean) DX1_addAdjective rvI [vR 1, vI a1, vI a2] u (call 85 [a1, a2] u)) (hX1_parent : ∀ (a1 : Int) (u : Sg), Ct l d FC clA yX1_parent cX1_parent 2 (some .int) DX1_parent rvI [vR 1, vI a1] u (call 51 [a1] u)) (hX1_inRow : ∀ (a1 a2 : Int) (u : Sg), Ct l d FC clA yX1_inRow cX1_inRow 4 (some .boolean) DX1_inRow rvI [vR 1, vI a1, vI a2] u (call 86 [a1, a2] u)) (hX1_ofMode : ∀ (a1 a2 : Int) (u : Sg), Ct l d FC clA yX1_ofMode cX1_ofMode 5 (some .boolean) DX1_ofMode rvI [vR 1, vI a1, vI a2] u (call 87 [a1, a2] u)) (hX1_typed : ∀ (a1 a2 a3 : Int) (u : Sg), Ct l d FC clA yX1_typed cX1_typed 8 (some .int) DX1_typed rvI [vR 1, vI a1, vI a2, vI a3] u (call 15 [a1, a2, a3] u)) (hX2_loci : ∀ (a1 a2 a3 a4 : Int) (u : Sg), Ct l d FC clA yX2_loci cX2_loci 5 (some .int) DX2_loci rvI [vR 0, vI a1, vI a2, vI a3, vI a4] u (call 111 [a1, a2, a3, a4] u)) (hX1_fits0 : ∀ (a1 a2 : Int) (u : Sg), Ct l d FC clA yX1_fits0 cX1_fits0 3 (some .boolean) DX1_fits0 rvI [vR 1, vI a1, vI a2] u (call 81 [a1, a2] u)) (x537 : Int → Int → Int → Int → Int → Sg → Option (Int × Sg)) (hx537 : ∀ (a1 a2 a3 a4 a5 : Int) (u : Sg), inR a1 → inR a2 → inR a3 → (a4 = 0 ∨ a4 = 1) → inR a5 → WG p l e R s m args below meth c JX1_adjectivesOf0 DX1_adjectivesOf0 G clA A FC ad0 σ0 rvI (x537 a1 a2 a3 a4 a5 u) u 537 [(0, vR 1), (1, vI a1), (2, vI a2), (3, vI a3), (4, vI a4), (5, vI a5)] []) : ∀ (n : Nat) (a1 a2 a3 a4 a5 a6 a7 : Int) (u : Sg), inR a1 → inR a2 → inR a3 → (a4 = 0 ∨ a4 = 1) → inR a5 → (a6 = 0 ∨ a6 = 1) → inR a7 → WG p l e R s m args below meth c JX1_adjectivesOf0 DX1_adjectivesOf0 G clA A FC ad0 σ0 rvI (bX1_adjectivesOf0_L479 call n a1 a2 a3 a4 a5 a6 a7 u x537) u 479 [(0, vR 1), (1, vI a1), (2, vI a2), (3, vI a3), (4, vI a4), (5, vI a5), (6, vI a6), (7, vI a7)] [] := by
  intro n
  induction n with
  | zero =>
    intro a1 a2 a3 a4 a5 a6 a7 u ra1 ra2 ra3 za4 ra5 za6 ra7
    exact g_none
  | succ n ih =>
    intro a1 a2 a3 a4 a5 a6 a7 u ra1 ra2 ra3 za4 ra5 za6 ra7
    rw [bX1_adjectivesOf0_L479]
    refine g_iload 6 dX1_adjectivesOf0_479 rfl ?_
    refine g_if_eq 537 dX1_adjectivesOf0_481 (by decide) (fun _ => (inR_z za6)) (fun _ => ?_) (fun _ => ?_)
    · exact g_pick [0, 1, 2, 3, 4, 5] rfl (hx537 a1 a2 a3 a4 a5 u ra1 ra2 ra3 za4 ra5)
    · refine g_iload 7 dX1_adjectivesOf0_484 rfl ?_
      refine g_aload_n 0 dX1_adjectivesOf0_486 rfl ?_
      refine g_get (v := vR 0) (ci := 1) (b := 30) (N := 57) 0 rfl rfl (by decide) in_X1 rfl rfl q308 dX1_adjectivesOf0_487 ?_
      refine g_get (v := vR 13) (ci := 0) (b := 0) (N := 21) 3 rfl rfl (by decide) in_X2 rfl rfl q237 dX1_adjectivesOf0_490 ?_
      refine g_aload_n 0 dX1_adjectivesOf0_493 rfl ?_
      refine g_get (v := vR 90) (ci := 1) (b := 30) (N := 57) 50 rfl rfl (by decide) in_X1 rfl rfl q358 dX1_adjectivesOf0_494 ?_
      refine g_iload 5 dX1_adjectivesOf0_497 rfl ?_
      refine g_iald (id := 80) 39 rfl rfl dX1_adjectivesOf0_499 (fun v1 rv1 => ?_)
      refine g_iald (id := 3) 3 rfl rfl dX1_adjectivesOf0_500 (fun v2 rv2 => ?_)
      refine g_icmp_ge 537 dX1_adjectivesOf0_501 (by decide) (fun _ => ra7) (fun _ => rv2) (fun _ => ?_) (fun _ => ?_)
      · refine g_aload_n 0 dX1_adjectivesOf0_504 rfl ?_
        refine g_iload_n 2 dX1_adjectivesOf0_505 rfl ?_
        refine g_aload_n 0 dX1_adjectivesOf0_506 rfl ?_
        refine g_get (v := vR 0) (ci := 1) (b := 30) (N := 57) 0 rfl rfl (by decide) in_X1 rfl rfl q308 dX1_adjectivesOf0_507 ?_
        refine g_aload_n 0 dX1_adjectivesOf0_510 rfl ?_
        refine g_get (v := vR 90) (ci := 1) (b := 30) (N := 57) 50 rfl rfl (by decide) in_X1 rfl rfl q358 dX1_adjectivesOf0_511 ?_
        refine g_iload 5 dX1_adjectivesOf0_514 rfl ?_
        refine g_iald (id := 80) 39 rfl rfl dX1_adjectivesOf0_516 (fun v3 rv3 => ?_)
        refine g_iload 7 dX1_adjectivesOf0_517 rfl ?_
        refine g_cVI (As := [vI v3, vI a7]) (n := 2) (stk := [vI a2, vR 1]) (ci := 0) (b := 0) (N := 21) (hX2_at v3 a7 u) (by decide +kernel) rfl rfl (lw_V q571 q572 q573 q164 q574) (by decide +kernel) rfl (by decide) hRf hRl (fun _ => (avc rv3 (avc ra7 avn))) (Nat.le_of_ble_eq_true rfl) rfl rfl dX1_adjectivesOf0_519 (fun v4 s5 rv4 => ?_)
        refine g_cVZ (As := [vI a2, vI v4]) (n := 2) (stk := []) (ci := 1) (b := 30) (N := 57) (hX1_addAdjective a2 v4 s5) (by decide +kernel) rfl rfl (lw_V q1029 q1031 qs66 q163 q1032) (by decide +kernel) rfl (by decide) hRf hRl (fun _ => (avc ra2 (avc rv4 avn))) (Nat.le_of_ble_eq_true rfl) rfl rfl dX1_adjectivesOf0_522 (fun v6 s7 zv6 => ?_)
        refine g_if_eq 531 dX1_adjectivesOf0_525 (by decide) (fun _ => (inR_z zv6)) (fun _ => ?_) (fun _ => ?_)
        · refine g_iinc 7 (loc' := fun v8 => [(7, vI v8), (0, vR 1), (1, vI a1), (2, vI a2), (3, vI a3), (4, vI a4), (5, vI a5), (6, vI a6)]) dX1_adjectivesOf0_531 rfl (by decide) (fun _ => rfl) (fun v8 rv8 => ?_)
          refine g_goto 479 dX1_adjectivesOf0_534 (by decide) ?_
          exact g_pick [1, 2, 3, 4, 5, 6, 7, 0] rfl (ih a1 a2 a3 a4 a5 a6 v8 s7 ra1 ra2 ra3 za4 ra5 za6 rv8)
        · refine g_iconst dX1_adjectivesOf0_528 ?_
          refine g_istore (loc' := [(4, vI 1), (0, vR 1), (1, vI a1), (2, vI a2), (3, vI a3), (5, vI a5), (6, vI a6), (7, vI a7)]) dX1_adjectivesOf0_529 (by decide) rfl ?_
          refine g_iinc 7 (loc' := fun v9 => [(7, vI v9), (4, vI 1), (0, vR 1), (1, vI a1), (2, vI a2), (3, vI a3), (5, vI a5), (6, vI a6)]) dX1_adjectivesOf0_531 rfl (by decide) (fun _ => rfl) (fun v9 rv9 => ?_)
          refine g_goto 479 dX1_adjectivesOf0_534 (by decide) ?_
          exact g_pick [2, 3, 4, 5, 1, 6, 7, 0] rfl (ih a1 a2 a3 1 a5 a6 v9 s7 ra1 ra2 ra3 (Or.inr rfl) ra5 za6 rv9)
      · exact g_pick [0, 1, 2, 3, 4, 5] rfl (hx537 a1 a2 a3 a4 a5 u ra1 ra2 ra3 za4 ra5)
theorem wX1_adjectivesOf0_L372 (hd : 2 ≤ d) (hRf : d + 1 ≤ R.frames) (hRl : 40 * (d + 1) ≤ R.locals) (hX1_typeOf : ∀ (a1 : Int) (u : Sg), Ct l d FC clA yX1_typeOf cX1_typeOf 3 (some .int) DX1_typeOf rvI [vR 1, vI a1] u (call 47 [a1] u)) (hX2_at : ∀ (a1 a2 : Int) (u : Sg), Ct l d FC clA yX2_at cX2_at 3 (some .int) DX2_at rvI [vR 0, vI a1, vI a2] u (call 98 [a1, a2] u)) (hX1_addAdjective : ∀ (a1 a2 : Int) (u : Sg), Ct l d FC clA yX1_addAdjective cX1_addAdjective 4 (some .boolean) DX1_addAdjective rvI [vR 1, vI a1, vI a2] u (call 85 [a1, a2] u)) (hX1_parent : ∀ (a1 : Int) (u : Sg), Ct l d FC clA yX1_parent cX1_parent 2 (some .int) DX1_parent rvI [vR 1, vI a1] u (call 51 [a1] u)) (hX1_inRow : ∀ (a1 a2 : Int) (u : Sg), Ct l d FC clA yX1_inRow cX1_inRow 4 (some .boolean) DX1_inRow rvI [vR 1, vI a1, vI a2] u (call 86 [a1, a2] u)) (hX1_ofMode : ∀ (a1 a2 : Int) (u : Sg), Ct l d FC clA yX1_ofMode cX1_ofMode 5 (some .boolean) DX1_ofMode rvI [vR 1, vI a1, vI a2] u (call 87 [a1, a2] u)) (hX1_typed : ∀ (a1 a2 a3 : Int) (u : Sg), Ct l d FC clA yX1_typed cX1_typed 8 (some .int) DX1_typed rvI [vR 1, vI a1, vI a2, vI a3] u (call 15 [a1, a2, a3] u)) (hX2_loci : ∀ (a1 a2 a3 a4 : Int) (u : Sg), Ct l d FC clA yX2_loci cX2_loci 5 (some .int) DX2_loci rvI [vR 0, vI a1, vI a2, vI a3, vI a4] u (call 111 [a1, a2, a3, a4] u)) (hX1_fits0 : ∀ (a1 a2 : Int) (u : Sg), Ct l d FC clA yX1_fits0 cX1_fits0 3 (some .boolean) DX1_fits0 rvI [vR 1, vI a1, vI a2] u (call 81 [a1, a2] u)) (x543 : Int → Int → Int → Int → Sg → Option (Int × Sg)) (hx543 : ∀ (a1 a2 a3 a4 : Int) (u : Sg), inR a1 → inR a2 → inR a3 → (a4 = 0 ∨ a4 = 1) → WG p l e R s m args below meth c JX1_adjectivesOf0 DX1_adjectivesOf0 G clA A FC ad0 σ0 rvI (x543 a1 a2 a3 a4 u) u 543 [(0, vR 1), (1, vI a1), (2, vI a2), (3, vI a3), (4, vI a4)] []) : ∀ (n : Nat) (a1 a2 a3 a4 a5 : Int) (u : Sg), inR a1 → inR a2 → inR a3 → (a4 = 0 ∨ a4 = 1) → inR a5 → WG p l e R s m args below meth c JX1_adjectivesOf0 DX1_adjectivesOf0 G clA A FC ad0 σ0 rvI (bX1_adjectivesOf0_L372 call n a1 a2 a3 a4 a5 u x543) u 372 [(0, vR 1), (1, vI a1), (2, vI a2), (3, vI a3), (4, vI a4), (5, vI a5)] [] := by
  intro n
  induction n with
  | zero =>
    intro a1 a2 a3 a4 a5 u ra1 ra2 ra3 za4 ra5
    exact g_none
  | succ n ih =>
    intro a1 a2 a3 a4 a5 u ra1 ra2 ra3 za4 ra5
    rw [bX1_adjectivesOf0_L372]
    refine g_iload 5 dX1_adjectivesOf0_372 rfl ?_
    refine g_aload_n 0 dX1_adjectivesOf0_374 rfl ?_
    refine g_getI (ci := 1) (b := 30) (N := 57) 51 rfl rfl rfl (by decide) in_X1 rfl rfl q359 dX1_adjectivesOf0_375 (fun v1 rv1 => ?_)
    refine g_icmp_ge 543 dX1_adjectivesOf0_378 (by decide) (fun _ => ra5) (fun _ => rv1) (fun _ => ?_) (fun _ => ?_)
    · refine g_aload_n 0 dX1_adjectivesOf0_381 rfl ?_
      refine g_get (v := vR 86) (ci := 1) (b := 30) (N := 57) 46 rfl rfl (by decide) in_X1 rfl rfl q354 dX1_adjectivesOf0_382 ?_
      refine g_iload 5 dX1_adjectivesOf0_385 rfl ?_
      refine g_iald (id := 76) 35 rfl rfl dX1_adjectivesOf0_387 (fun v2 rv2 => ?_)
      refine g_if_eq 394 dX1_adjectivesOf0_388 (by decide) (fun _ => rv2) (fun _ => ?_) (fun _ => ?_)
      · refine g_iconst dX1_adjectivesOf0_394 ?_
        refine g_istore (loc' := [(6, vI 1), (0, vR 1), (1, vI a1), (2, vI a2), (3, vI a3), (4, vI a4), (5, vI a5)]) dX1_adjectivesOf0_395 (by decide) rfl ?_
        refine g_iconst dX1_adjectivesOf0_397 ?_
        refine g_istore (loc' := [(7, vI 1), (6, vI 1), (0, vR 1), (1, vI a1), (2, vI a2), (3, vI a3), (4, vI a4), (5, vI a5)]) dX1_adjectivesOf0_398 (by decide) rfl ?_
        refine g_pick [2, 3, 4, 5, 6, 7, 1, 0] rfl (wX1_adjectivesOf0_L400 hd hRf hRl hX1_typeOf hX2_at hX1_addAdjective hX1_parent hX1_inRow hX1_ofMode hX1_typed hX2_loci hX1_fits0 _ (fun v4 v5 v6 v7 v8 v9 s3 rv4 rv5 rv6 zv7 rv8 zv9 => ?_) KF a1 a2 a3 a4 a5 1 1 u ra1 ra2 ra3 za4 ra5 (Or.inr rfl) (inR_z (Or.inr rfl)))
        · refine g_jn (fun j10 => ∀ (a1 a2 a3 a4 a5 t0 : Int) (s11 : Sg), inR a1 → inR a2 → inR a3 → (a4 = 0 ∨ a4 = 1) → inR a5 → (t0 = 0 ∨ t0 = 1) → WG p l e R s m args below meth c JX1_adjectivesOf0 DX1_adjectivesOf0 G clA A FC ad0 σ0 rvI (j10 a1 a2 a3 a4 a5 t0 s11) s11 474 [(0, vR 1), (1, vI a1), (2, vI a2), (3, vI a3), (4, vI a4), (5, vI a5)] [vI t0]) (fun a1 a2 a3 a4 a5 t0 s11 ra1 ra2 ra3 za4 ra5 zt0 => ?_) (fun j10 hj10 => ?_)
          · refine g_istore (loc' := [(6, vI t0), (0, vR 1), (1, vI a1), (2, vI a2), (3, vI a3), (4, vI a4), (5, vI a5)]) dX1_adjectivesOf0_474 (by decide) rfl ?_
            refine g_iconst dX1_adjectivesOf0_476 ?_
            refine g_istore (loc' := [(7, vI 1), (6, vI t0), (0, vR 1), (1, vI a1), (2, vI a2), (3, vI a3), (4, vI a4), (5, vI a5)]) dX1_adjectivesOf0_477 (by decide) rfl ?_
            refine g_pick [2, 3, 4, 5, 6, 7, 1, 0] rfl (wX1_adjectivesOf0_L479 hd hRf hRl hX1_typeOf hX2_at hX1_addAdjective hX1_parent hX1_inRow hX1_ofMode hX1_typed hX2_loci hX1_fits0 _ (fun v13 v14 v15 v16 v17 s12 rv13 rv14 rv15 zv16 rv17 => ?_) KF a1 a2 a3 a4 a5 t0 1 s11 ra1 ra2 ra3 za4 ra5 zt0 (inR_z (Or.inr rfl)))
            · refine g_iinc 5 (loc' := fun v18 => [(5, vI v18), (0, vR 1), (1, vI v13), (2, vI v14), (3, vI v15), (4, vI v16)]) dX1_adjectivesOf0_537 rfl (by decide) (fun _ => rfl) (fun v18 rv18 => ?_)
              refine g_goto 372 dX1_adjectivesOf0_540 (by decide) ?_
              exact g_pick [1, 2, 3, 4, 5, 0] rfl (ih v13 v14 v15 v16 v18 s12 rv13 rv14 rv15 zv16 rv18)
          · refine g_jn (fun j19 => ∀ (a1 a2 a3 a4 a5 : Int) (s20 : Sg), inR a1 → inR a2 → inR a3 → (a4 = 0 ∨ a4 = 1) → inR a5 → WG p l e R s m args below meth c JX1_adjectivesOf0 DX1_adjectivesOf0 G clA A FC ad0 σ0 rvI (j19 a1 a2 a3 a4 a5 s20) s20 473 [(0, vR 1), (1, vI a1), (2, vI a2), (3, vI a3), (4, vI a4), (5, vI a5)] []) (fun a1 a2 a3 a4 a5 s20 ra1 ra2 ra3 za4 ra5 => ?_) (fun j19 hj19 => ?_)
            · refine g_iconst dX1_adjectivesOf0_473 ?_
              exact g_pick [0, 1, 2, 3, 4, 5] rfl (hj10 a1 a2 a3 a4 a5 0 s20 ra1 ra2 ra3 za4 ra5 (Or.inl rfl))
            · refine g_iload 6 dX1_adjectivesOf0_454 rfl ?_
              refine g_if_eq 473 dX1_adjectivesOf0_456 (by decide) (fun _ => (inR_z zv9)) (fun _ => ?_) (fun _ => ?_)
              · exact g_pick [0, 1, 2, 3, 4, 5] rfl (hj19 v4 v5 v6 v7 v8 s3 rv4 rv5 rv6 zv7 rv8)
              · refine g_aload_n 0 dX1_adjectivesOf0_459 rfl ?_
                refine g_iload_n 3 dX1_adjectivesOf0_460 rfl ?_
                refine g_iload 5 dX1_adjectivesOf0_461 rfl ?_
                refine g_cVZ (As := [vI v6, vI v8]) (n := 2) (stk := []) (ci := 1) (b := 30) (N := 57) (hX1_ofMode v6 v8 s3) (by decide +kernel) rfl rfl (lw_V q1037 q1039 qs68 q163 q1040) (by decide +kernel) rfl (by decide) hRf hRl (fun _ => (avc rv6 (avc rv8 avn))) (Nat.le_of_ble_eq_true rfl) rfl rfl dX1_adjectivesOf0_463 (fun v21 s22 zv21 => ?_)
                refine g_if_eq 473 dX1_adjectivesOf0_466 (by decide) (fun _ => (inR_z zv21)) (fun _ => ?_) (fun _ => ?_)
                · exact g_pick [0, 1, 2, 3, 4, 5] rfl (hj19 v4 v5 v6 v7 v8 s22 rv4 rv5 rv6 zv7 rv8)
                · refine g_iconst dX1_adjectivesOf0_469 ?_
                  refine g_goto 474 dX1_adjectivesOf0_470 (by decide) ?_
                  exact g_pick [0, 1, 2, 3, 4, 5] rfl (hj10 v4 v5 v6 v7 v8 1 s22 rv4 rv5 rv6 zv7 rv8 (Or.inr rfl))
      · refine g_goto 537 dX1_adjectivesOf0_391 (by decide) ?_
        refine g_iinc 5 (loc' := fun v23 => [(5, vI v23), (0, vR 1), (1, vI a1), (2, vI a2), (3, vI a3), (4, vI a4)]) dX1_adjectivesOf0_537 rfl (by decide) (fun _ => rfl) (fun v23 rv23 => ?_)
        refine g_goto 372 dX1_adjectivesOf0_540 (by decide) ?_
        exact g_pick [1, 2, 3, 4, 5, 0] rfl (ih a1 a2 a3 a4 v23 u ra1 ra2 ra3 za4 rv23)
    · exact g_pick [0, 1, 2, 3, 4] rfl (hx543 a1 a2 a3 a4 u ra1 ra2 ra3 za4)
theorem wX1_adjectivesOf0_L361 (hd : 2 ≤ d) (hRf : d + 1 ≤ R.frames) (hRl : 40 * (d + 1) ≤ R.locals) (hX1_typeOf : ∀ (a1 : Int) (u : Sg), Ct l d FC clA yX1_typeOf cX1_typeOf 3 (some .int) DX1_typeOf rvI [vR 1, vI a1] u (call 47 [a1] u)) (hX2_at : ∀ (a1 a2 : Int) (u : Sg), Ct l d FC clA yX2_at cX2_at 3 (some .int) DX2_at rvI [vR 0, vI a1, vI a2] u (call 98 [a1, a2] u)) (hX1_addAdjective : ∀ (a1 a2 : Int) (u : Sg), Ct l d FC clA yX1_addAdjective cX1_addAdjective 4 (some .boolean) DX1_addAdjective rvI [vR 1, vI a1, vI a2] u (call 85 [a1, a2] u)) (hX1_parent : ∀ (a1 : Int) (u : Sg), Ct l d FC clA yX1_parent cX1_parent 2 (some .int) DX1_parent rvI [vR 1, vI a1] u (call 51 [a1] u)) (hX1_inRow : ∀ (a1 a2 : Int) (u : Sg), Ct l d FC clA yX1_inRow cX1_inRow 4 (some .boolean) DX1_inRow rvI [vR 1, vI a1, vI a2] u (call 86 [a1, a2] u)) (hX1_ofMode : ∀ (a1 a2 : Int) (u : Sg), Ct l d FC clA yX1_ofMode cX1_ofMode 5 (some .boolean) DX1_ofMode rvI [vR 1, vI a1, vI a2] u (call 87 [a1, a2] u)) (hX1_typed : ∀ (a1 a2 a3 : Int) (u : Sg), Ct l d FC clA yX1_typed cX1_typed 8 (some .int) DX1_typed rvI [vR 1, vI a1, vI a2, vI a3] u (call 15 [a1, a2, a3] u)) (hX2_loci : ∀ (a1 a2 a3 a4 : Int) (u : Sg), Ct l d FC clA yX2_loci cX2_loci 5 (some .int) DX2_loci rvI [vR 0, vI a1, vI a2, vI a3, vI a4] u (call 111 [a1, a2, a3, a4] u)) (hX1_fits0 : ∀ (a1 a2 : Int) (u : Sg), Ct l d FC clA yX1_fits0 cX1_fits0 3 (some .boolean) DX1_fits0 rvI [vR 1, vI a1, vI a2] u (call 81 [a1, a2] u)) (x546 : Int → Int → Sg → Option (Int × Sg)) (hx546 : ∀ (a1 a2 : Int) (u : Sg), inR a1 → inR a2 → WG p l e R s m args below meth c JX1_adjectivesOf0 DX1_adjectivesOf0 G clA A FC ad0 σ0 rvI (x546 a1 a2 u) u 546 [(0, vR 1), (1, vI a1), (2, vI a2)] []) : ∀ (n : Nat) (a1 a2 a3 a4 : Int) (u : Sg), inR a1 → inR a2 → inR a3 → (a4 = 0 ∨ a4 = 1) → WG p l e R s m args below meth c JX1_adjectivesOf0 DX1_adjectivesOf0 G clA A FC ad0 σ0 rvI (bX1_adjectivesOf0_L361 call n a1 a2 a3 a4 u x546) u 361 [(0, vR 1), (1, vI a1), (2, vI a2), (3, vI a3), (4, vI a4)] [] := by
  intro n
  induction n with
  | zero =>
    intro a1 a2 a3 a4 u ra1 ra2 ra3 za4
    exact g_none
  | succ n ih =>
    intro a1 a2 a3 a4 u ra1 ra2 ra3 za4
    rw [bX1_adjectivesOf0_L361]
    refine g_iload 4 dX1_adjectivesOf0_361 rfl ?_
    refine g_if_eq 546 dX1_adjectivesOf0_363 (by decide) (fun _ => (inR_z za4)) (fun _ => ?_) (fun _ => ?_)
    · exact g_pick [0, 1, 2] rfl (hx546 a1 a2 u ra1 ra2)
    · refine g_iconst dX1_adjectivesOf0_366 ?_
      refine g_istore (loc' := [(4, vI 0), (0, vR 1), (1, vI a1), (2, vI a2), (3, vI a3)]) dX1_adjectivesOf0_367 (by decide) rfl ?_
      refine g_iconst dX1_adjectivesOf0_369 ?_
      refine g_istore (loc' := [(5, vI 0), (4, vI 0), (0, vR 1), (1, vI a1), (2, vI a2), (3, vI a3)]) dX1_adjectivesOf0_370 (by decide) rfl ?_
      refine g_pick [2, 3, 4, 5, 1, 0] rfl (wX1_adjectivesOf0_L372 hd hRf hRl hX1_typeOf hX2_at hX1_addAdjective hX1_parent hX1_inRow hX1_ofMode hX1_typed hX2_loci hX1_fits0 _ (fun v2 v3 v4 v5 s1 rv2 rv3 rv4 zv5 => ?_) KF a1 a2 a3 0 0 u ra1 ra2 ra3 (Or.inl rfl) (inR_z (Or.inl rfl)))
      · refine g_goto 361 dX1_adjectivesOf0_543 (by decide) ?_
        exact g_pick [0, 1, 2, 3, 4] rfl (ih v2 v3 v4 v5 s1 rv2 rv3 rv4 zv5)
theorem wX1_adjectivesOf0_L299 (hd : 2 ≤ d) (hRf : d + 1 ≤ R.frames) (hRl : 40 * (d + 1) ≤ R.locals) (hX1_typeOf : ∀ (a1 : Int) (u : Sg), Ct l d FC clA yX1_typeOf cX1_typeOf 3 (some .int) DX1_typeOf rvI [vR 1, vI a1] u (call 47 [a1] u)) (hX2_at : ∀ (a1 a2 : Int) (u : Sg), Ct l d FC clA yX2_at cX2_at 3 (some .int) DX2_at rvI [vR 0, vI a1, vI a2] u (call 98 [a1, a2] u)) (hX1_addAdjective : ∀ (a1 a2 : Int) (u : Sg), Ct l d FC clA yX1_addAdjective cX1_addAdjective 4 (some .boolean) DX1_addAdjective rvI [vR 1, vI a1, vI a2] u (call 85 [a1, a2] u)) (hX1_parent : ∀ (a1 : Int) (u : Sg), Ct l d FC clA yX1_parent cX1_parent 2 (some .int) DX1_parent rvI [vR 1, vI a1] u (call 51 [a1] u)) (hX1_inRow : ∀ (a1 a2 : Int) (u : Sg), Ct l d FC clA yX1_inRow cX1_inRow 4 (some .boolean) DX1_inRow rvI [vR 1, vI a1, vI a2] u (call 86 [a1, a2] u)) (hX1_ofMode : ∀ (a1 a2 : Int) (u : Sg), Ct l d FC clA yX1_ofMode cX1_ofMode 5 (some .boolean) DX1_ofMode rvI [vR 1, vI a1, vI a2] u (call 87 [a1, a2] u)) (hX1_typed : ∀ (a1 a2 a3 : Int) (u : Sg), Ct l d FC clA yX1_typed cX1_typed 8 (some .int) DX1_typed rvI [vR 1, vI a1, vI a2, vI a3] u (call 15 [a1, a2, a3] u)) (hX2_loci : ∀ (a1 a2 a3 a4 : Int) (u : Sg), Ct l d FC clA yX2_loci cX2_loci 5 (some .int) DX2_loci rvI [vR 0, vI a1, vI a2, vI a3, vI a4] u (call 111 [a1, a2, a3, a4] u)) (hX1_fits0 : ∀ (a1 a2 : Int) (u : Sg), Ct l d FC clA yX1_fits0 cX1_fits0 3 (some .boolean) DX1_fits0 rvI [vR 1, vI a1, vI a2] u (call 81 [a1, a2] u)) (x352 : Int → Int → Int → Int → Int → Sg → Option (Int × Sg)) (hx352 : ∀ (a1 a2 a3 a4 a5 : Int) (u : Sg), inR a1 → inR a2 → inR a3 → inR a4 → inR a5 → WG p l e R s m args below meth c JX1_adjectivesOf0 DX1_adjectivesOf0 G clA A FC ad0 σ0 rvI (x352 a1 a2 a3 a4 a5 u) u 352 [(0, vR 1), (1, vI a1), (2, vI a2), (3, vI a3), (4, vI a4), (5, vI a5)] []) : ∀ (n : Nat) (a1 a2 a3 a4 a5 a8 a9 : Int) (u : Sg), inR a1 → inR a2 → inR a3 → inR a4 → inR a5 → (a8 = 0 ∨ a8 = 1) → inR a9 → WG p l e R s m args below meth c JX1_adjectivesOf0 DX1_adjectivesOf0 G clA A FC ad0 σ0 rvI (bX1_adjectivesOf0_L299 call n a1 a2 a3 a4 a5 a8 a9 u x352) u 299 [(0, vR 1), (1, vI a1), (2, vI a2), (3, vI a3), (4, vI a4), (5, vI a5), (8, vI a8), (9, vI a9)] [] := by
  intro n
  induction n with
  | zero =>
    intro a1 a2 a3 a4 a5 a8 a9 u ra1 ra2 ra3 ra4 ra5 za8 ra9
    exact g_none
  | succ n ih =>
    intro a1 a2 a3 a4 a5 a8 a9 u ra1 ra2 ra3 ra4 ra5 za8 ra9
    rw [bX1_adjectivesOf0_L299]
    refine g_iload 6 dX1_adjectivesOf0_299 rfl ?_
    refine g_if_eq 352 dX1_adjectivesOf0_301 (by decide) (fun _ => (inR_z za8)) (fun _ => ?_) (fun _ => ?_)
    · exact g_pick [0, 1, 2, 3, 4, 5] rfl (hx352 a1 a2 a3 a4 a5 u ra1 ra2 ra3 ra4 ra5)
    · refine g_iload 7 dX1_adjectivesOf0_304 rfl ?_
      refine g_aload_n 0 dX1_adjectivesOf0_306 rfl ?_
      refine g_get (v := vR 0) (ci := 1) (b := 30) (N := 57) 0 rfl rfl (by decide) in_X1 rfl rfl q308 dX1_adjectivesOf0_307 ?_
      refine g_get (v := vR 13) (ci := 0) (b := 0) (N := 21) 3 rfl rfl (by decide) in_X2 rfl rfl q237 dX1_adjectivesOf0_310 ?_
      refine g_aload_n 0 dX1_adjectivesOf0_313 rfl ?_
      refine g_get (v := vR 90) (ci := 1) (b := 30) (N := 57) 50 rfl rfl (by decide) in_X1 rfl rfl q358 dX1_adjectivesOf0_314 ?_
      refine g_iload 5 dX1_adjectivesOf0_317 rfl ?_
      refine g_iald (id := 80) 39 rfl rfl dX1_adjectivesOf0_319 (fun v1 rv1 => ?_)
      refine g_iald (id := 3) 3 rfl rfl dX1_adjectivesOf0_320 (fun v2 rv2 => ?_)
      refine g_icmp_ge 352 dX1_adjectivesOf0_321 (by decide) (fun _ => ra9) (fun _ => rv2) (fun _ => ?_) (fun _ => ?_)
      · refine g_aload_n 0 dX1_adjectivesOf0_324 rfl ?_
        refine g_iload_n 2 dX1_adjectivesOf0_325 rfl ?_
        refine g_aload_n 0 dX1_adjectivesOf0_326 rfl ?_
        refine g_get (v := vR 0) (ci := 1) (b := 30) (N := 57) 0 rfl rfl (by decide) in_X1 rfl rfl q308 dX1_adjectivesOf0_327 ?_
        refine g_aload_n 0 dX1_adjectivesOf0_330 rfl ?_
        refine g_get (v := vR 90) (ci := 1) (b := 30) (N := 57) 50 rfl rfl (by decide) in_X1 rfl rfl q358 dX1_adjectivesOf0_331 ?_
        refine g_iload 5 dX1_adjectivesOf0_334 rfl ?_
        refine g_iald (id := 80) 39 rfl rfl dX1_adjectivesOf0_336 (fun v3 rv3 => ?_)
        refine g_iload 7 dX1_adjectivesOf0_337 rfl ?_
        refine g_cVI (As := [vI v3, vI a9]) (n := 2) (stk := [vI a2, vR 1]) (ci := 0) (b := 0) (N := 21) (hX2_at v3 a9 u) (by decide +kernel) rfl rfl (lw_V q571 q572 q573 q164 q574) (by decide +kernel) rfl (by decide) hRf hRl (fun _ => (avc rv3 (avc ra9 avn))) (Nat.le_of_ble_eq_true rfl) rfl rfl dX1_adjectivesOf0_339 (fun v4 s5 rv4 => ?_)
        refine g_cVZ (As := [vI a2, vI v4]) (n := 2) (stk := []) (ci := 1) (b := 30) (N := 57) (hX1_addAdjective a2 v4 s5) (by decide +kernel) rfl rfl (lw_V q1029 q1031 qs66 q163 q1032) (by decide +kernel) rfl (by decide) hRf hRl (fun _ => (avc ra2 (avc rv4 avn))) (Nat.le_of_ble_eq_true rfl) rfl rfl dX1_adjectivesOf0_342 (fun v6 s7 zv6 => ?_)
        refine g_pop rfl dX1_adjectivesOf0_345 ?_
        refine g_iinc 7 (loc' := fun v8 => [(9, vI v8), (0, vR 1), (1, vI a1), (2, vI a2), (3, vI a3), (4, vI a4), (5, vI a5), (8, vI a8)]) dX1_adjectivesOf0_346 rfl (by decide) (fun _ => rfl) (fun v8 rv8 => ?_)
        refine g_goto 299 dX1_adjectivesOf0_349 (by decide) ?_
        exact g_pick [1, 2, 3, 4, 5, 6, 7, 0] rfl (ih a1 a2 a3 a4 a5 a8 v8 s7 ra1 ra2 ra3 ra4 ra5 za8 rv8)
      · exact g_pick [0, 1, 2, 3, 4, 5] rfl (hx352 a1 a2 a3 a4 a5 u ra1 ra2 ra3 ra4 ra5)
theorem wX1_adjectivesOf0_L130 (hd : 2 ≤ d) (hRf : d + 1 ≤ R.frames) (hRl : 40 * (d + 1) ≤ R.locals) (hX1_typeOf : ∀ (a1 : Int) (u : Sg), Ct l d FC clA yX1_typeOf cX1_typeOf 3 (some .int) DX1_typeOf rvI [vR 1, vI a1] u (call 47 [a1] u)) (hX2_at : ∀ (a1 a2 : Int) (u : Sg), Ct l d FC clA yX2_at cX2_at 3 (some .int) DX2_at rvI [vR 0, vI a1, vI a2] u (call 98 [a1, a2] u)) (hX1_addAdjective : ∀ (a1 a2 : Int) (u : Sg), Ct l d FC clA yX1_addAdjective cX1_addAdjective 4 (some .boolean) DX1_addAdjective rvI [vR 1, vI a1, vI a2] u (call 85 [a1, a2] u)) (hX1_parent : ∀ (a1 : Int) (u : Sg), Ct l d FC clA yX1_parent cX1_parent 2 (some .int) DX1_parent rvI [vR 1, vI a1] u (call 51 [a1] u)) (hX1_inRow : ∀ (a1 a2 : Int) (u : Sg), Ct l d FC clA yX1_inRow cX1_inRow 4 (some .boolean) DX1_inRow rvI [vR 1, vI a1, vI a2] u (call 86 [a1, a2] u)) (hX1_ofMode : ∀ (a1 a2 : Int) (u : Sg), Ct l d FC clA yX1_ofMode cX1_ofMode 5 (some .boolean) DX1_ofMode rvI [vR 1, vI a1, vI a2] u (call 87 [a1, a2] u)) (hX1_typed : ∀ (a1 a2 a3 : Int) (u : Sg), Ct l d FC clA yX1_typed cX1_typed 8 (some .int) DX1_typed rvI [vR 1, vI a1, vI a2, vI a3] u (call 15 [a1, a2, a3] u)) (hX2_loci : ∀ (a1 a2 a3 a4 : Int) (u : Sg), Ct l d FC clA yX2_loci cX2_loci 5 (some .int) DX2_loci rvI [vR 0, vI a1, vI a2, vI a3, vI a4] u (call 111 [a1, a2, a3, a4] u)) (hX1_fits0 : ∀ (a1 a2 : Int) (u : Sg), Ct l d FC clA yX1_fits0 cX1_fits0 3 (some .boolean) DX1_fits0 rvI [vR 1, vI a1, vI a2] u (call 81 [a1, a2] u)) (x358 : Int → Int → Int → Sg → Option (Int × Sg)) (hx358 : ∀ (a1 a2 a3 : Int) (u : Sg), inR a1 → inR a2 → inR a3 → WG p l e R s m args below meth c JX1_adjectivesOf0 DX1_adjectivesOf0 G clA A FC ad0 σ0 rvI (x358 a1 a2 a3 u) u 358 [(0, vR 1), (1, vI a1), (2, vI a2), (3, vI a3)] []) : ∀ (n : Nat) (a1 a2 a3 a4 a5 : Int) (u : Sg), inR a1 → inR a2 → inR a3 → inR a4 → inR a5 → WG p l e R s m args below meth c JX1_adjectivesOf0 DX1_adjectivesOf0 G clA A FC ad0 σ0 rvI (bX1_adjectivesOf0_L130 call n a1 a2 a3 a4 a5 u x358) u 130 [(0, vR 1), (1, vI a1), (2, vI a2), (3, vI a3), (4, vI a4), (5, vI a5)] [] := by
  intro n
  induction n with
  | zero =>
    intro a1 a2 a3 a4 a5 u ra1 ra2 ra3 ra4 ra5
    exact g_none
  | succ n ih =>
    intro a1 a2 a3 a4 a5 u ra1 ra2 ra3 ra4 ra5
    rw [bX1_adjectivesOf0_L130]
    refine g_iload 5 dX1_adjectivesOf0_130 rfl ?_
    refine g_aload_n 0 dX1_adjectivesOf0_132 rfl ?_
    refine g_getI (ci := 1) (b := 30) (N := 57) 51 rfl rfl rfl (by decide) in_X1 rfl rfl q359 dX1_adjectivesOf0_133 (fun v1 rv1 => ?_)
    refine g_icmp_ge 358 dX1_adjectivesOf0_136 (by decide) (fun _ => ra5) (fun _ => rv1) (fun _ => ?_) (fun _ => ?_)
    · refine g_aload_n 0 dX1_adjectivesOf0_139 rfl ?_
      refine g_get (v := vR 86) (ci := 1) (b := 30) (N := 57) 46 rfl rfl (by decide) in_X1 rfl rfl q354 dX1_adjectivesOf0_140 ?_
      refine g_iload 5 dX1_adjectivesOf0_143 rfl ?_
      refine g_iald (id := 76) 35 rfl rfl dX1_adjectivesOf0_145 (fun v2 rv2 => ?_)
      refine g_iconst dX1_adjectivesOf0_146 ?_
      refine g_icmp_ne 352 dX1_adjectivesOf0_147 (by decide) (fun _ => rv2) (fun _ => (inR_z (Or.inr rfl))) (fun _ => ?_) (fun _ => ?_)
      · refine g_aload_n 0 dX1_adjectivesOf0_150 rfl ?_
        refine g_get (v := vR 87) (ci := 1) (b := 30) (N := 57) 47 rfl rfl (by decide) in_X1 rfl rfl q355 dX1_adjectivesOf0_151 ?_
        refine g_iload 5 dX1_adjectivesOf0_154 rfl ?_
        refine g_iald (id := 77) 36 rfl rfl dX1_adjectivesOf0_156 (fun v3 rv3 => ?_)
        refine g_aload_n 0 dX1_adjectivesOf0_157 rfl ?_
        refine g_get (v := vR 0) (ci := 1) (b := 30) (N := 57) 0 rfl rfl (by decide) in_X1 rfl rfl q308 dX1_adjectivesOf0_158 ?_
        refine g_get (v := vR 11) (ci := 0) (b := 0) (N := 21) 1 rfl rfl (by decide) in_X2 rfl rfl q234 dX1_adjectivesOf0_161 ?_
        refine g_iload_n 1 dX1_adjectivesOf0_164 rfl ?_
        refine g_iald (id := 1) 1 rfl rfl dX1_adjectivesOf0_165 (fun v4 rv4 => ?_)
        refine g_icmp_eq 172 dX1_adjectivesOf0_166 (by decide) (fun _ => rv3) (fun _ => rv4) (fun _ => ?_) (fun _ => ?_)
        · refine g_jn (fun j5 => ∀ (a1 a2 a3 a4 a5 t0 : Int) (s6 : Sg), inR a1 → inR a2 → inR a3 → inR a4 → inR a5 → inR t0 → WG p l e R s m args below meth c JX1_adjectivesOf0 DX1_adjectivesOf0 G clA A FC ad0 σ0 rvI (j5 a1 a2 a3 a4 a5 t0 s6) s6 190 [(0, vR 1), (1, vI a1), (2, vI a2), (3, vI a3), (4, vI a4), (5, vI a5)] [vI t0]) (fun a1 a2 a3 a4 a5 t0 s6 ra1 ra2 ra3 ra4 ra5 rt0 => ?_) (fun j5 hj5 => ?_)
          · refine g_jn (fun j7 => ∀ (a1 a2 a3 a4 a5 a6 t0 : Int) (s8 : Sg), inR a1 → inR a2 → inR a3 → inR a4 → inR a5 → inR a6 → inR t0 → WG p l e R s m args below meth c JX1_adjectivesOf0 DX1_adjectivesOf0 G clA A FC ad0 σ0 rvI (j7 a1 a2 a3 a4 a5 a6 t0 s8) s8 211 [(0, vR 1), (1, vI a1), (2, vI a2), (3, vI a3), (4, vI a4), (5, vI a5), (6, vI a6)] [vI t0]) (fun a1 a2 a3 a4 a5 a6 t0 s8 ra1 ra2 ra3 ra4 ra5 ra6 rt0 => ?_) (fun j7 hj7 => ?_)
            · refine g_jn (fun j9 => ∀ (a1 a2 a3 a4 a5 t0 : Int) (s10 : Sg), inR a1 → inR a2 → inR a3 → inR a4 → inR a5 → (t0 = 0 ∨ t0 = 1) → WG p l e R s m args below meth c JX1_adjectivesOf0 DX1_adjectivesOf0 G clA A FC ad0 σ0 rvI (j9 a1 a2 a3 a4 a5 t0 s10) s10 294 [(0, vR 1), (1, vI a1), (2, vI a2), (3, vI a3), (4, vI a4), (5, vI a5)] [vI t0]) (fun a1 a2 a3 a4 a5 t0 s10 ra1 ra2 ra3 ra4 ra5 zt0 => ?_) (fun j9 hj9 => ?_)
              · refine g_istore (loc' := [(8, vI t0), (0, vR 1), (1, vI a1), (2, vI a2), (3, vI a3), (4, vI a4), (5, vI a5)]) dX1_adjectivesOf0_294 (by decide) rfl ?_
                refine g_iconst dX1_adjectivesOf0_296 ?_
                refine g_istore (loc' := [(9, vI 1), (8, vI t0), (0, vR 1), (1, vI a1), (2, vI a2), (3, vI a3), (4, vI a4), (5, vI a5)]) dX1_adjectivesOf0_297 (by decide) rfl ?_
                refine g_pick [2, 3, 4, 5, 6, 7, 1, 0] rfl (wX1_adjectivesOf0_L299 hd hRf hRl hX1_typeOf hX2_at hX1_addAdjective hX1_parent hX1_inRow hX1_ofMode hX1_typed hX2_loci hX1_fits0 _ (fun v12 v13 v14 v15 v16 s11 rv12 rv13 rv14 rv15 rv16 => ?_) KF a1 a2 a3 a4 a5 t0 1 s10 ra1 ra2 ra3 ra4 ra5 zt0 (inR_z (Or.inr rfl)))
                · refine g_iinc 5 (loc' := fun v17 => [(5, vI v17), (0, vR 1), (1, vI v12), (2, vI v13), (3, vI v14), (4, vI v15)]) dX1_adjectivesOf0_352 rfl (by decide) (fun _ => rfl) (fun v17 rv17 => ?_)
                  refine g_goto 130 dX1_adjectivesOf0_355 (by decide) ?_
                  exact g_pick [1, 2, 3, 4, 5, 0] rfl (ih v12 v13 v14 v15 v17 s11 rv12 rv13 rv14 rv15 rv17)
              · refine g_jn (fun j18 => ∀ (a1 a2 a3 a4 a5 : Int) (s19 : Sg), inR a1 → inR a2 → inR a3 → inR a4 → inR a5 → WG p l e R s m args below meth c JX1_adjectivesOf0 DX1_adjectivesOf0 G clA A FC ad0 σ0 rvI (j18 a1 a2 a3 a4 a5 s19) s19 293 [(0, vR 1), (1, vI a1), (2, vI a2), (3, vI a3), (4, vI a4), (5, vI a5)] []) (fun a1 a2 a3 a4 a5 s19 ra1 ra2 ra3 ra4 ra5 => ?_) (fun j18 hj18 => ?_)
                · refine g_iconst dX1_adjectivesOf0_293 ?_
                  exact g_pick [0, 1, 2, 3, 4, 5] rfl (hj9 a1 a2 a3 a4 a5 0 s19 ra1 ra2 ra3 ra4 ra5 (Or.inl rfl))
                · refine g_jn (fun j20 => ∀ (a1 a2 a3 a4 a5 a6 a7 : Int) (s21 : Sg), inR a1 → inR a2 → inR a3 → inR a4 → inR a5 → inR a6 → inR a7 → WG p l e R s m args below meth c JX1_adjectivesOf0 DX1_adjectivesOf0 G clA A FC ad0 σ0 rvI (j20 a1 a2 a3 a4 a5 a6 a7 s21) s21 251 [(0, vR 1), (1, vI a1), (2, vI a2), (3, vI a3), (4, vI a4), (5, vI a5), (6, vI a6), (7, vI a7)] []) (fun a1 a2 a3 a4 a5 a6 a7 s21 ra1 ra2 ra3 ra4 ra5 ra6 ra7 => ?_) (fun j20 hj20 => ?_)
                  · refine g_jn (fun j22 => ∀ (a1 a2 a3 a4 a5 : Int) (s23 : Sg), inR a1 → inR a2 → inR a3 → inR a4 → inR a5 → WG p l e R s m args below meth c JX1_adjectivesOf0 DX1_adjectivesOf0 G clA A FC ad0 σ0 rvI (j22 a1 a2 a3 a4 a5 s23) s23 289 [(0, vR 1), (1, vI a1), (2, vI a2), (3, vI a3), (4, vI a4), (5, vI a5)] []) (fun a1 a2 a3 a4 a5 s23 ra1 ra2 ra3 ra4 ra5 => ?_) (fun j22 hj22 => ?_)
                    · refine g_iconst dX1_adjectivesOf0_289 ?_
                      refine g_goto 294 dX1_adjectivesOf0_290 (by decide) ?_
                      exact g_pick [0, 1, 2, 3, 4, 5] rfl (hj9 a1 a2 a3 a4 a5 1 s23 ra1 ra2 ra3 ra4 ra5 (Or.inr rfl))
                    · refine g_aload_n 0 dX1_adjectivesOf0_251 rfl ?_
                      refine g_get (v := vR 89) (ci := 1) (b := 30) (N := 57) 49 rfl rfl (by decide) in_X1 rfl rfl q357 dX1_adjectivesOf0_252 ?_
                      refine g_iload 5 dX1_adjectivesOf0_255 rfl ?_
                      refine g_iald (id := 79) 38 rfl rfl dX1_adjectivesOf0_257 (fun v24 rv24 => ?_)
                      refine g_if_eq 289 dX1_adjectivesOf0_258 (by decide) (fun _ => rv24) (fun _ => ?_) (fun _ => ?_)
                      · exact g_pick [0, 1, 2, 3, 4, 5] rfl (hj22 a1 a2 a3 a4 a5 s21 ra1 ra2 ra3 ra4 ra5)
                      · refine g_aload_n 0 dX1_adjectivesOf0_261 rfl ?_
                        refine g_iload 7 dX1_adjectivesOf0_262 rfl ?_
                        refine g_aload_n 0 dX1_adjectivesOf0_264 rfl ?_
                        refine g_get (v := vR 0) (ci := 1) (b := 30) (N := 57) 0 rfl rfl (by decide) in_X1 rfl rfl q308 dX1_adjectivesOf0_265 ?_
                        refine g_aload_n 0 dX1_adjectivesOf0_268 rfl ?_
                        refine g_get (v := vR 89) (ci := 1) (b := 30) (N := 57) 49 rfl rfl (by decide) in_X1 rfl rfl q357 dX1_adjectivesOf0_269 ?_
                        refine g_iload 5 dX1_adjectivesOf0_272 rfl ?_
                        refine g_iald (id := 79) 38 rfl rfl dX1_adjectivesOf0_274 (fun v25 rv25 => ?_)
                        refine g_iload 6 dX1_adjectivesOf0_275 rfl ?_
                        refine g_iload 7 dX1_adjectivesOf0_277 rfl ?_
                        refine g_iconst dX1_adjectivesOf0_279 ?_
                        refine g_cVI (As := [vI v25, vI a6, vI a7, vI 0]) (n := 4) (stk := [vI a7, vR 1]) (ci := 0) (b := 0) (N := 21) (hX2_loci v25 a6 a7 0 s21) (by decide +kernel) rfl rfl (lw_V q864 q865 q866 q164 q867) (by decide +kernel) rfl (by decide) hRf hRl (fun _ => (avc rv25 (avc ra6 (avc ra7 (avc (inR_z (Or.inl rfl)) avn))))) (Nat.le_of_ble_eq_true rfl) rfl rfl dX1_adjectivesOf0_280 (fun v26 s27 rv26 => ?_)
                        refine g_cVZ (As := [vI a7, vI v26]) (n := 2) (stk := []) (ci := 1) (b := 30) (N := 57) (hX1_fits0 a7 v26 s27) (by decide +kernel) rfl rfl (lw_V q1013 q1015 qs62 q163 q1016) (by decide +kernel) rfl (by decide) hRf hRl (fun _ => (avc ra7 (avc rv26 avn))) (Nat.le_of_ble_eq_true rfl) rfl rfl dX1_adjectivesOf0_283 (fun v28 s29 zv28 => ?_)
                        refine g_if_eq 293 dX1_adjectivesOf0_286 (by decide) (fun _ => (inR_z zv28)) (fun _ => ?_) (fun _ => ?_)
                        · exact g_pick [0, 1, 2, 3, 4, 5] rfl (hj18 a1 a2 a3 a4 a5 s29 ra1 ra2 ra3 ra4 ra5)
                        · exact g_pick [0, 1, 2, 3, 4, 5] rfl (hj22 a1 a2 a3 a4 a5 s29 ra1 ra2 ra3 ra4 ra5)
                  · refine g_istore (loc' := [(7, vI t0), (0, vR 1), (1, vI a1), (2, vI a2), (3, vI a3), (4, vI a4), (5, vI a5), (6, vI a6)]) dX1_adjectivesOf0_211 (by decide) rfl ?_
                    refine g_aload_n 1 dX1_adjectivesOf0_213 rfl ?_
                    refine g_get (v := vR 88) (ci := 1) (b := 30) (N := 57) 48 rfl rfl (by decide) in_X1 rfl rfl q356 dX1_adjectivesOf0_214 ?_
                    refine g_iload 6 dX1_adjectivesOf0_217 rfl ?_
                    refine g_iald (id := 78) 37 rfl rfl dX1_adjectivesOf0_219 (fun v30 rv30 => ?_)
                    refine g_if_eq 251 dX1_adjectivesOf0_220 (by decide) (fun _ => rv30) (fun _ => ?_) (fun _ => ?_)
                    · exact g_pick [1, 2, 3, 4, 5, 6, 7, 0] rfl (hj20 a1 a2 a3 a4 a5 a6 t0 s8 ra1 ra2 ra3 ra4 ra5 ra6 rt0)
                    · refine g_aload_n 1 dX1_adjectivesOf0_223 rfl ?_
                      refine g_iload 7 dX1_adjectivesOf0_224 rfl ?_
                      refine g_aload_n 1 dX1_adjectivesOf0_226 rfl ?_
                      refine g_get (v := vR 0) (ci := 1) (b := 30) (N := 57) 0 rfl rfl (by decide) in_X1 rfl rfl q308 dX1_adjectivesOf0_227 ?_
                      refine g_aload_n 1 dX1_adjectivesOf0_230 rfl ?_
                      refine g_get (v := vR 88) (ci := 1) (b := 30) (N := 57) 48 rfl rfl (by decide) in_X1 rfl rfl q356 dX1_adjectivesOf0_231 ?_
                      refine g_iload 6 dX1_adjectivesOf0_234 rfl ?_
                      refine g_iald (id := 78) 37 rfl rfl dX1_adjectivesOf0_236 (fun v31 rv31 => ?_)
                      refine g_iload 7 dX1_adjectivesOf0_237 rfl ?_
                      refine g_iload 0 dX1_adjectivesOf0_239 rfl ?_
                      refine g_iconst dX1_adjectivesOf0_241 ?_
                      refine g_cVI (As := [vI v31, vI a6, vI t0, vI 0]) (n := 4) (stk := [vI a6, vR 1]) (ci := 0) (b := 0) (N := 21) (hX2_loci v31 a6 t0 0 s8) (by decide +kernel) rfl rfl (lw_V q864 q865 q866 q164 q867) (by decide +kernel) rfl (by decide) hRf hRl (fun _ => (avc rv31 (avc ra6 (avc rt0 (avc (inR_z (Or.inl rfl)) avn))))) (Nat.le_of_ble_eq_true rfl) rfl rfl dX1_adjectivesOf0_242 (fun v32 s33 rv32 => ?_)
                      refine g_cVZ (As := [vI a6, vI v32]) (n := 2) (stk := []) (ci := 1) (b := 30) (N := 57) (hX1_fits0 a6 v32 s33) (by decide +kernel) rfl rfl (lw_V q1013 q1015 qs62 q163 q1016) (by decide +kernel) rfl (by decide) hRf hRl (fun _ => (avc ra6 (avc rv32 avn))) (Nat.le_of_ble_eq_true rfl) rfl rfl dX1_adjectivesOf0_245 (fun v34 s35 zv34 => ?_)
                      refine g_if_eq 293 dX1_adjectivesOf0_248 (by decide) (fun _ => (inR_z zv34)) (fun _ => ?_) (fun _ => ?_)
                      · exact g_pick [1, 2, 3, 4, 5, 6] rfl (hj18 a1 a2 a3 a4 a5 s35 ra1 ra2 ra3 ra4 ra5)
                      · exact g_pick [1, 2, 3, 4, 5, 6, 7, 0] rfl (hj20 a1 a2 a3 a4 a5 a6 t0 s35 ra1 ra2 ra3 ra4 ra5 ra6 rt0)
            · refine g_istore (loc' := [(6, vI t0), (0, vR 1), (1, vI a1), (2, vI a2), (3, vI a3), (4, vI a4), (5, vI a5)]) dX1_adjectivesOf0_190 (by decide) rfl ?_
              refine g_iload 5 dX1_adjectivesOf0_192 rfl ?_
              refine g_iconst dX1_adjectivesOf0_194 ?_
              refine g_icmp_le 210 dX1_adjectivesOf0_195 (by decide) (fun _ => ra4) (fun _ => (inR_z (Or.inr rfl))) (fun _ => ?_) (fun _ => ?_)
              · refine g_iconst dX1_adjectivesOf0_210 ?_
                exact g_pick [1, 2, 3, 4, 5, 6, 0] rfl (hj7 a1 a2 a3 a4 a5 t0 0 s6 ra1 ra2 ra3 ra4 ra5 rt0 (inR_z (Or.inl rfl)))
              · refine g_aload_n 1 dX1_adjectivesOf0_198 rfl ?_
                refine g_get (v := vR 0) (ci := 1) (b := 30) (N := 57) 0 rfl rfl (by decide) in_X1 rfl rfl q308 dX1_adjectivesOf0_199 ?_
                refine g_iload_n 2 dX1_adjectivesOf0_202 rfl ?_
                refine g_iconst dX1_adjectivesOf0_203 ?_
                refine g_cVI (As := [vI a1, vI 1]) (n := 2) (stk := []) (ci := 0) (b := 0) (N := 21) (hX2_at a1 1 s6) (by decide +kernel) rfl rfl (lw_V q571 q572 q573 q164 q574) (by decide +kernel) rfl (by decide) hRf hRl (fun _ => (avc ra1 (avc (inR_z (Or.inr rfl)) avn))) (Nat.le_of_ble_eq_true rfl) rfl rfl dX1_adjectivesOf0_204 (fun v36 s37 rv36 => ?_)
                refine g_goto 211 dX1_adjectivesOf0_207 (by decide) ?_
                exact g_pick [1, 2, 3, 4, 5, 6, 0] rfl (hj7 a1 a2 a3 a4 a5 t0 v36 s37 ra1 ra2 ra3 ra4 ra5 rt0 rv36)
          · refine g_iload 4 dX1_adjectivesOf0_172 rfl ?_
            refine g_if_le 189 dX1_adjectivesOf0_174 (by decide) (fun _ => ra4) (fun _ => ?_) (fun _ => ?_)
            · refine g_iconst dX1_adjectivesOf0_189 ?_
              exact g_pick [0, 1, 2, 3, 4, 5] rfl (hj5 a1 a2 a3 a4 a5 0 u ra1 ra2 ra3 ra4 ra5 (inR_z (Or.inl rfl)))
            · refine g_aload_n 0 dX1_adjectivesOf0_177 rfl ?_
              refine g_get (v := vR 0) (ci := 1) (b := 30) (N := 57) 0 rfl rfl (by decide) in_X1 rfl rfl q308 dX1_adjectivesOf0_178 ?_
              refine g_iload_n 1 dX1_adjectivesOf0_181 rfl ?_
              refine g_iconst dX1_adjectivesOf0_182 ?_
              refine g_cVI (As := [vI a1, vI 0]) (n := 2) (stk := []) (ci := 0) (b := 0) (N := 21) (hX2_at a1 0 u) (by decide +kernel) rfl rfl (lw_V q571 q572 q573 q164 q574) (by decide +kernel) rfl (by decide) hRf hRl (fun _ => (avc ra1 (avc (inR_z (Or.inl rfl)) avn))) (Nat.le_of_ble_eq_true rfl) rfl rfl dX1_adjectivesOf0_183 (fun v38 s39 rv38 => ?_)
              refine g_goto 190 dX1_adjectivesOf0_186 (by decide) ?_
              exact g_pick [0, 1, 2, 3, 4, 5] rfl (hj5 a1 a2 a3 a4 a5 v38 s39 ra1 ra2 ra3 ra4 ra5 rv38)
        · refine g_goto 352 dX1_adjectivesOf0_169 (by decide) ?_
          refine g_iinc 5 (loc' := fun v40 => [(5, vI v40), (0, vR 1), (1, vI a1), (2, vI a2), (3, vI a3), (4, vI a4)]) dX1_adjectivesOf0_352 rfl (by decide) (fun _ => rfl) (fun v40 rv40 => ?_)
          refine g_goto 130 dX1_adjectivesOf0_355 (by decide) ?_
          exact g_pick [1, 2, 3, 4, 5, 0] rfl (ih a1 a2 a3 a4 v40 u ra1 ra2 ra3 ra4 rv40)
      · refine g_iinc 5 (loc' := fun v41 => [(5, vI v41), (0, vR 1), (1, vI a1), (2, vI a2), (3, vI a3), (4, vI a4)]) dX1_adjectivesOf0_352 rfl (by decide) (fun _ => rfl) (fun v41 rv41 => ?_)
        refine g_goto 130 dX1_adjectivesOf0_355 (by decide) ?_
        exact g_pick [1, 2, 3, 4, 5, 0] rfl (ih a1 a2 a3 a4 v41 u ra1 ra2 ra3 ra4 rv41)
    · exact g_pick [0, 1, 2, 3] rfl (hx358 a1 a2 a3 u ra1 ra2 ra3)
theorem wX1_adjectivesOf0 (hd : 2 ≤ d) (hRf : d + 1 ≤ R.frames) (hRl : 40 * (d + 1) ≤ R.locals) (hX1_typeOf : ∀ (a1 : Int) (u : Sg), Ct l d FC clA yX1_typeOf cX1_typeOf 3 (some .int) DX1_typeOf rvI [vR 1, vI a1] u (call 47 [a1] u)) (hX2_at : ∀ (a1 a2 : Int) (u : Sg), Ct l d FC clA yX2_at cX2_at 3 (some .int) DX2_at rvI [vR 0, vI a1, vI a2] u (call 98 [a1, a2] u)) (hX1_addAdjective : ∀ (a1 a2 : Int) (u : Sg), Ct l d FC clA yX1_addAdjective cX1_addAdjective 4 (some .boolean) DX1_addAdjective rvI [vR 1, vI a1, vI a2] u (call 85 [a1, a2] u)) (hX1_parent : ∀ (a1 : Int) (u : Sg), Ct l d FC clA yX1_parent cX1_parent 2 (some .int) DX1_parent rvI [vR 1, vI a1] u (call 51 [a1] u)) (hX1_inRow : ∀ (a1 a2 : Int) (u : Sg), Ct l d FC clA yX1_inRow cX1_inRow 4 (some .boolean) DX1_inRow rvI [vR 1, vI a1, vI a2] u (call 86 [a1, a2] u)) (hX1_ofMode : ∀ (a1 a2 : Int) (u : Sg), Ct l d FC clA yX1_ofMode cX1_ofMode 5 (some .boolean) DX1_ofMode rvI [vR 1, vI a1, vI a2] u (call 87 [a1, a2] u)) (hX1_typed : ∀ (a1 a2 a3 : Int) (u : Sg), Ct l d FC clA yX1_typed cX1_typed 8 (some .int) DX1_typed rvI [vR 1, vI a1, vI a2, vI a3] u (call 15 [a1, a2, a3] u)) (hX2_loci : ∀ (a1 a2 a3 a4 : Int) (u : Sg), Ct l d FC clA yX2_loci cX2_loci 5 (some .int) DX2_loci rvI [vR 0, vI a1, vI a2, vI a3, vI a4] u (call 111 [a1, a2, a3, a4] u)) (hX1_fits0 : ∀ (a1 a2 : Int) (u : Sg), Ct l d FC clA yX1_fits0 cX1_fits0 3 (some .boolean) DX1_fits0 rvI [vR 1, vI a1, vI a2] u (call 81 [a1, a2] u)) (a1 : Int) (u : Sg) (ra1 : inR a1) : WG p l e R s m args below meth c JX1_adjectivesOf0 DX1_adjectivesOf0 G clA A FC ad0 σ0 rvI (bX1_adjectivesOf0 call a1 u) u 0 [(0, vR 1), (1, vI a1)] [] := by
  unfold bX1_adjectivesOf0
  refine g_jn (fun j1 => ∀ (a1 : Int) (s2 : Sg), inR a1 → WG p l e R s m args below meth c JX1_adjectivesOf0 DX1_adjectivesOf0 G clA A FC ad0 σ0 rvI (j1 a1 s2) s2 29 [(0, vR 1), (1, vI a1)] []) (fun a1 s2 ra1 => ?_) (fun j1 hj1 => ?_)
  · refine g_aload_n 0 dX1_adjectivesOf0_29 rfl ?_
    refine g_get (v := vR 0) (ci := 1) (b := 30) (N := 57) 0 rfl rfl (by decide) in_X1 rfl rfl q308 dX1_adjectivesOf0_30 ?_
    refine g_getI (ci := 0) (b := 0) (N := 21) 12 rfl rfl rfl (by decide) in_X2 rfl rfl q251 dX1_adjectivesOf0_33 (fun v3 rv3 => ?_)
    refine g_istore_n (loc' := [(2, vI v3), (0, vR 1), (1, vI a1)]) dX1_adjectivesOf0_36 (by decide) rfl ?_
    refine g_aload_n 1 dX1_adjectivesOf0_37 rfl ?_
    refine g_iload_n 2 dX1_adjectivesOf0_38 rfl ?_
    refine g_cVI (As := [vI a1]) (n := 1) (stk := []) (ci := 1) (b := 30) (N := 57) (hX1_typeOf a1 s2) (by decide +kernel) rfl rfl (lw_V q860 q862 qs29 q163 q863) (by decide +kernel) rfl (by decide) hRf hRl (fun _ => (avc ra1 avn)) (Nat.le_of_ble_eq_true rfl) rfl rfl dX1_adjectivesOf0_39 (fun v4 s5 rv4 => ?_)
    refine g_istore_n (loc' := [(3, vI v4), (2, vI v3), (0, vR 1), (1, vI a1)]) dX1_adjectivesOf0_42 (by decide) rfl ?_
    refine g_iload_n 0 dX1_adjectivesOf0_43 rfl ?_
    refine g_istore (loc' := [(4, vI v4), (3, vI v4), (2, vI v3), (0, vR 1), (1, vI a1)]) dX1_adjectivesOf0_44 (by decide) rfl ?_
    refine g_pick [3, 4, 2, 1, 0] rfl (wX1_adjectivesOf0_L46 hd hRf hRl hX1_typeOf hX2_at hX1_addAdjective hX1_parent hX1_inRow hX1_ofMode hX1_typed hX2_loci hX1_fits0 _ (fun v7 v8 v9 s6 rv7 rv8 rv9 => ?_) KF a1 v3 v4 v4 s5 ra1 rv3 rv4 rv4)
    · refine g_jn (fun j10 => ∀ (a1 a2 a3 : Int) (s11 : Sg), inR a1 → inR a2 → inR a3 → WG p l e R s m args below meth c JX1_adjectivesOf0 DX1_adjectivesOf0 G clA A FC ad0 σ0 rvI (j10 a1 a2 a3 s11) s11 358 [(0, vR 1), (1, vI a1), (2, vI a2), (3, vI a3)] []) (fun a1 a2 a3 s11 ra1 ra2 ra3 => ?_) (fun j10 hj10 => ?_)
      · refine g_iconst dX1_adjectivesOf0_358 ?_
        refine g_istore (loc' := [(4, vI 1), (0, vR 1), (1, vI a1), (2, vI a2), (3, vI a3)]) dX1_adjectivesOf0_359 (by decide) rfl ?_
        refine g_pick [1, 2, 3, 4, 0] rfl (wX1_adjectivesOf0_L361 hd hRf hRl hX1_typeOf hX2_at hX1_addAdjective hX1_parent hX1_inRow hX1_ofMode hX1_typed hX2_loci hX1_fits0 _ (fun v13 v14 s12 rv13 rv14 => ?_) KF a1 a2 a3 1 s11 ra1 ra2 ra3 (Or.inr rfl))
        · refine g_jn (fun j15 => ∀ (a1 a5 : Int) (s16 : Sg), inR a1 → inR a5 → WG p l e R s m args below meth c JX1_adjectivesOf0 DX1_adjectivesOf0 G clA A FC ad0 σ0 rvI (j15 a1 a5 s16) s16 611 [(0, vR 1), (1, vI a1), (5, vI a5)] []) (fun a1 a5 s16 ra1 ra5 => ?_) (fun j15 hj15 => ?_)
          · refine g_aload_n 0 dX1_adjectivesOf0_611 rfl ?_
            refine g_get (v := vR 41) (ci := 1) (b := 30) (N := 57) 1 rfl rfl (by decide) in_X1 rfl rfl q309 dX1_adjectivesOf0_612 ?_
            refine g_iload_n 1 dX1_adjectivesOf0_615 rfl ?_
            refine g_iload 2 dX1_adjectivesOf0_616 rfl ?_
            refine g_iastU (id := 31) FC_ok 10 rfl rfl (by decide +kernel) ra5 dX1_adjectivesOf0_618 (fun s17 => ?_)
            refine g_aload_n 0 dX1_adjectivesOf0_619 rfl ?_
            refine g_get (v := vR 42) (ci := 1) (b := 30) (N := 57) 2 rfl rfl (by decide) in_X1 rfl rfl q310 dX1_adjectivesOf0_620 ?_
            refine g_iload_n 1 dX1_adjectivesOf0_623 rfl ?_
            refine g_aload_n 0 dX1_adjectivesOf0_624 rfl ?_
            refine g_getI (ci := 1) (b := 30) (N := 57) 3 rfl rfl rfl (by decide) in_X1 rfl rfl q311 dX1_adjectivesOf0_625 (fun v18 rv18 => ?_)
            refine g_iastU (id := 32) FC_ok 11 rfl rfl (by decide +kernel) rv18 dX1_adjectivesOf0_628 (fun s19 => ?_)
            refine g_iload 2 dX1_adjectivesOf0_629 rfl ?_
            exact g_iret rfl rfl (fun _ => ra5) dX1_adjectivesOf0_631
          · refine g_aload_n 0 dX1_adjectivesOf0_546 rfl ?_
            refine g_iconst dX1_adjectivesOf0_547 ?_
            refine g_iconst dX1_adjectivesOf0_548 ?_
            refine g_iload_n 2 dX1_adjectivesOf0_549 rfl ?_
            refine g_cVI (As := [vI 0, vI 0, vI v14]) (n := 3) (stk := []) (ci := 1) (b := 30) (N := 57) (hX1_typed 0 0 v14 s12) (by decide +kernel) rfl rfl (lw_V q638 q640 qs8 q163 q641) (by decide +kernel) rfl (by decide) hRf hRl (fun _ => (avc (inR_z (Or.inl rfl)) (avc (inR_z (Or.inl rfl)) (avc rv14 avn)))) (Nat.le_of_ble_eq_true rfl) rfl rfl dX1_adjectivesOf0_550 (fun v20 s21 rv20 => ?_)
            refine g_istore (loc' := [(5, vI v20), (0, vR 1), (1, vI v13), (2, vI v14)]) dX1_adjectivesOf0_553 (by decide) rfl ?_
            refine g_iload_n 2 dX1_adjectivesOf0_555 rfl ?_
            refine g_aload_n 1 dX1_adjectivesOf0_556 rfl ?_
            refine g_get (v := vR 41) (ci := 1) (b := 30) (N := 57) 1 rfl rfl (by decide) in_X1 rfl rfl q309 dX1_adjectivesOf0_557 ?_
            refine g_alenU (id := 31) 10 rfl (Or.inl rfl) dX1_adjectivesOf0_560 (fun v22 rv22 => ?_)
            refine g_icmp_lt 611 dX1_adjectivesOf0_561 (by decide) (fun _ => rv13) (fun _ => rv22) (fun _ => ?_) (fun _ => ?_)
            · exact g_pick [1, 2, 0] rfl (hj15 v13 v20 s21 rv13 rv20)
            · refine g_iload_n 2 dX1_adjectivesOf0_564 rfl ?_
              refine g_iconst dX1_adjectivesOf0_565 ?_
              refine g_iadd dX1_adjectivesOf0_566 (fun v23 rv23 => ?_)
              refine g_aload_n 1 dX1_adjectivesOf0_567 rfl ?_
              refine g_get (v := vR 41) (ci := 1) (b := 30) (N := 57) 1 rfl rfl (by decide) in_X1 rfl rfl q309 dX1_adjectivesOf0_568 ?_
              refine g_alenU (id := 31) 10 rfl (Or.inl rfl) dX1_adjectivesOf0_571 (fun v24 rv24 => ?_)
              refine g_aload_n 1 dX1_adjectivesOf0_572 rfl ?_
              refine g_get (v := vR 41) (ci := 1) (b := 30) (N := 57) 1 rfl rfl (by decide) in_X1 rfl rfl q309 dX1_adjectivesOf0_573 ?_
              refine g_alenU (id := 31) 10 rfl (Or.inl rfl) dX1_adjectivesOf0_576 (fun v25 rv25 => ?_)
              refine g_iconst dX1_adjectivesOf0_577 ?_
              refine g_idiv rv25 (by decide : inR (2)) dX1_adjectivesOf0_578 (fun v26 rv26 => ?_)
              refine g_iadd dX1_adjectivesOf0_579 (fun v27 rv27 => ?_)
              refine g_mmax rv23 rv27 (Nat.le_trans (Nat.succ_le_succ (Nat.zero_le _)) hRf) (Nat.le_trans (Nat.mul_le_mul_left 40 (Nat.succ_le_succ (Nat.zero_le d))) hRl) (Nat.le_of_ble_eq_true rfl) q575 q217 q166 q218 dX1_adjectivesOf0_580 (fun v28 rv28 => ?_)
              refine g_istore (loc' := [(6, vI v28), (5, vI v20), (0, vR 1), (1, vI v13), (2, vI v14)]) dX1_adjectivesOf0_583 (by decide) rfl ?_
              refine g_aload_n 2 dX1_adjectivesOf0_585 rfl ?_
              refine g_aload_n 2 dX1_adjectivesOf0_586 rfl ?_
              refine g_get (v := vR 41) (ci := 1) (b := 30) (N := 57) 1 rfl rfl (by decide) in_X1 rfl rfl q309 dX1_adjectivesOf0_587 ?_
              refine g_iload 0 dX1_adjectivesOf0_590 rfl ?_
              refine g_cpy (ci := 1) (b := 30) (N := 57) FC_ok FC_10 rfl 1 10 rfl rfl rfl rfl (by decide) in_X1 tyX1 tyX1_ok nmX1 rfl rfl rfl rfl (by decide +kernel) q666 q309 hRf hRl (Nat.le_of_succ_le hd) (Nat.le_of_ble_eq_true rfl) rfl rfl dX1_adjectivesOf0_592 dX1_adjectivesOf0_595 (fun s29 => ?_)
              refine g_aload_n 2 dX1_adjectivesOf0_598 rfl ?_
              refine g_aload_n 2 dX1_adjectivesOf0_599 rfl ?_
              refine g_get (v := vR 42) (ci := 1) (b := 30) (N := 57) 2 rfl rfl (by decide) in_X1 rfl rfl q310 dX1_adjectivesOf0_600 ?_
              refine g_iload 0 dX1_adjectivesOf0_603 rfl ?_
              refine g_cpy (ci := 1) (b := 30) (N := 57) FC_ok FC_10 rfl 2 11 rfl rfl rfl rfl (by decide) in_X1 tyX1 tyX1_ok nmX1 rfl rfl rfl rfl (by decide +kernel) q666 q310 hRf hRl (Nat.le_of_succ_le hd) (Nat.le_of_ble_eq_true rfl) rfl rfl dX1_adjectivesOf0_605 dX1_adjectivesOf0_608 (fun s30 => ?_)
              exact g_pick [2, 3, 1] rfl (hj15 v13 v20 s30 rv13 rv20)
      · refine g_aload_n 0 dX1_adjectivesOf0_103 rfl ?_
        refine g_get (v := vR 0) (ci := 1) (b := 30) (N := 57) 0 rfl rfl (by decide) in_X1 rfl rfl q308 dX1_adjectivesOf0_104 ?_
        refine g_get (v := vR 10) (ci := 0) (b := 0) (N := 21) 0 rfl rfl (by decide) in_X2 rfl rfl q232 dX1_adjectivesOf0_107 ?_
        refine g_iload_n 1 dX1_adjectivesOf0_110 rfl ?_
        refine g_iald (id := 0) 0 rfl rfl dX1_adjectivesOf0_111 (fun v31 rv31 => ?_)
        refine g_iconst dX1_adjectivesOf0_112 ?_
        refine g_icmp_ne 358 dX1_adjectivesOf0_113 (by decide) (fun _ => rv31) (fun _ => (by decide : inR (4))) (fun _ => ?_) (fun _ => ?_)
        · refine g_aload_n 0 dX1_adjectivesOf0_116 rfl ?_
          refine g_get (v := vR 0) (ci := 1) (b := 30) (N := 57) 0 rfl rfl (by decide) in_X1 rfl rfl q308 dX1_adjectivesOf0_117 ?_
          refine g_get (v := vR 13) (ci := 0) (b := 0) (N := 21) 3 rfl rfl (by decide) in_X2 rfl rfl q237 dX1_adjectivesOf0_120 ?_
          refine g_iload_n 1 dX1_adjectivesOf0_123 rfl ?_
          refine g_iald (id := 3) 3 rfl rfl dX1_adjectivesOf0_124 (fun v32 rv32 => ?_)
          refine g_istore (loc' := [(4, vI v32), (0, vR 1), (1, vI v7), (2, vI v8), (3, vI v9)]) dX1_adjectivesOf0_125 (by decide) rfl ?_
          refine g_iconst dX1_adjectivesOf0_127 ?_
          refine g_istore (loc' := [(5, vI 0), (4, vI v32), (0, vR 1), (1, vI v7), (2, vI v8), (3, vI v9)]) dX1_adjectivesOf0_128 (by decide) rfl ?_
          refine g_pick [2, 3, 4, 5, 1, 0] rfl (wX1_adjectivesOf0_L130 hd hRf hRl hX1_typeOf hX2_at hX1_addAdjective hX1_parent hX1_inRow hX1_ofMode hX1_typed hX2_loci hX1_fits0 _ (fun v34 v35 v36 s33 rv34 rv35 rv36 => ?_) KF v7 v8 v9 v32 0 s6 rv7 rv8 rv9 rv32 (inR_z (Or.inl rfl)))
          · exact g_pick [0, 1, 2, 3] rfl (hj10 v34 v35 v36 s33 rv34 rv35 rv36)
        · exact g_pick [0, 1, 2, 3] rfl (hj10 v7 v8 v9 s6 rv7 rv8 rv9)
  · refine g_iload_n 1 dX1_adjectivesOf0_0 rfl ?_
    refine g_aload_n 0 dX1_adjectivesOf0_1 rfl ?_
    refine g_get (v := vR 41) (ci := 1) (b := 30) (N := 57) 1 rfl rfl (by decide) in_X1 rfl rfl q309 dX1_adjectivesOf0_2 ?_
    refine g_alenU (id := 31) 10 rfl (Or.inl rfl) dX1_adjectivesOf0_5 (fun v37 rv37 => ?_)
    refine g_icmp_ge 29 dX1_adjectivesOf0_6 (by decide) (fun _ => ra1) (fun _ => rv37) (fun _ => ?_) (fun _ => ?_)
    · refine g_aload_n 0 dX1_adjectivesOf0_9 rfl ?_
      refine g_get (v := vR 42) (ci := 1) (b := 30) (N := 57) 2 rfl rfl (by decide) in_X1 rfl rfl q310 dX1_adjectivesOf0_10 ?_
      refine g_iload_n 1 dX1_adjectivesOf0_13 rfl ?_
      refine g_iald (id := 32) 11 rfl rfl dX1_adjectivesOf0_14 (fun v38 rv38 => ?_)
      refine g_aload_n 0 dX1_adjectivesOf0_15 rfl ?_
      refine g_getI (ci := 1) (b := 30) (N := 57) 3 rfl rfl rfl (by decide) in_X1 rfl rfl q311 dX1_adjectivesOf0_16 (fun v39 rv39 => ?_)
      refine g_icmp_ne 29 dX1_adjectivesOf0_19 (by decide) (fun _ => rv38) (fun _ => rv39) (fun _ => ?_) (fun _ => ?_)
      · refine g_aload_n 0 dX1_adjectivesOf0_22 rfl ?_
        refine g_get (v := vR 41) (ci := 1) (b := 30) (N := 57) 1 rfl rfl (by decide) in_X1 rfl rfl q309 dX1_adjectivesOf0_23 ?_
        refine g_iload_n 1 dX1_adjectivesOf0_26 rfl ?_
        refine g_iald (id := 31) 10 rfl rfl dX1_adjectivesOf0_27 (fun v40 rv40 => ?_)
        exact g_iret rfl rfl (fun _ => rv40) dX1_adjectivesOf0_28
      · exact g_pick [0, 1] rfl (hj1 a1 u ra1)
    · exact g_pick [0, 1] rfl (hj1 a1 u ra1)
end
section
variable {l : Launch} {d : Nat} {call : Nat → List Int → Sg → Option (Int × Sg)}
theorem ctX1_adjectivesOf0 (p0 : Program) (e0 : Env) (s0 : State) (m0 : MethodId) (meth0 : Method) (c0 : Code) (G0 : Gm) (hd : 2 ≤ d) (hX1_typeOf : ∀ (a1 : Int) (u : Sg), Ct l d FC clA yX1_typeOf cX1_typeOf 3 (some .int) DX1_typeOf rvI [vR 1, vI a1] u (call 47 [a1] u)) (hX2_at : ∀ (a1 a2 : Int) (u : Sg), Ct l d FC clA yX2_at cX2_at 3 (some .int) DX2_at rvI [vR 0, vI a1, vI a2] u (call 98 [a1, a2] u)) (hX1_addAdjective : ∀ (a1 a2 : Int) (u : Sg), Ct l d FC clA yX1_addAdjective cX1_addAdjective 4 (some .boolean) DX1_addAdjective rvI [vR 1, vI a1, vI a2] u (call 85 [a1, a2] u)) (hX1_parent : ∀ (a1 : Int) (u : Sg), Ct l d FC clA yX1_parent cX1_parent 2 (some .int) DX1_parent rvI [vR 1, vI a1] u (call 51 [a1] u)) (hX1_inRow : ∀ (a1 a2 : Int) (u : Sg), Ct l d FC clA yX1_inRow cX1_inRow 4 (some .boolean) DX1_inRow rvI [vR 1, vI a1, vI a2] u (call 86 [a1, a2] u)) (hX1_ofMode : ∀ (a1 a2 : Int) (u : Sg), Ct l d FC clA yX1_ofMode cX1_ofMode 5 (some .boolean) DX1_ofMode rvI [vR 1, vI a1, vI a2] u (call 87 [a1, a2] u)) (hX1_typed : ∀ (a1 a2 a3 : Int) (u : Sg), Ct l d FC clA yX1_typed cX1_typed 8 (some .int) DX1_typed rvI [vR 1, vI a1, vI a2, vI a3] u (call 15 [a1, a2, a3] u)) (hX2_loci : ∀ (a1 a2 a3 a4 : Int) (u : Sg), Ct l d FC clA yX2_loci cX2_loci 5 (some .int) DX2_loci rvI [vR 0, vI a1, vI a2, vI a3, vI a4] u (call 111 [a1, a2, a3, a4] u)) (hX1_fits0 : ∀ (a1 a2 : Int) (u : Sg), Ct l d FC clA yX1_fits0 cX1_fits0 3 (some .boolean) DX1_fits0 rvI [vR 1, vI a1, vI a2] u (call 81 [a1, a2] u)) (a1 : Int) (u : Sg) : Ct l (d + 1) FC clA yX1_adjectivesOf0 cX1_adjectivesOf0 10 (some .int) DX1_adjectivesOf0 rvI [vR 1, vI a1] u (bX1_adjectivesOf0 call a1 u) :=
  Ct_of (by decide) (Nat.le_of_ble_eq_true rfl) (fun p e R s1 m args below meth c G A ad hA hRf hRl => wX1_adjectivesOf0 hd hRf hRl hX1_typeOf hX2_at hX1_addAdjective hX1_parent hX1_inRow hX1_ofMode hX1_typed hX2_loci hX1_fits0 a1 u (hA _ (List.mem_cons_of_mem _ List.mem_cons_self))) p0 e0 s0 m0 meth0 c0 G0
end
/-! RoundCheck.addAdjective(II)Z -/
abbrev JX1_addAdjective : Jm := (cX1_addAdjective, RX1, 4, (some .boolean))
def bX1_addAdjective_L2 (call : Nat → List Int → Sg → Option (Int × Sg)) : Nat → Int → Int → Sg → (Int → Sg → Option (Int × Sg)) → (Sg → Option (Int × Sg)) → Option (Int × Sg)
  | 0, _, _, _, _, _ => none
  | n + 1, a2, a3, u, x34, x26 => un (gI u 12) fun v1 => if a3 < v1 then (ld u 11 a3 fun v2 => if v2 = a2 then (x26 u) else (ar (a3 + 1) fun v3 => bX1_addAdjective_L2 call n a2 v3 u x34 x26)) else (x34 a2 u)
def bX1_addAdjective (call : Nat → List Int → Sg → Option (Int × Sg)) (a1 a2 : Int) (u : Sg) : Option (Int × Sg) := bX1_addAdjective_L2 call KF a2 a1 u (fun v2 s1 => cl (call 97 [v2] s1) fun v3 s4 => some (1, s4)) (fun s5 => some (0, s5))
section
variable {p : Program} {l : Launch} {e : Env} {R : Room} {s : State} {m : MethodId} {args : Array Value} {below : List Frame} {meth : Method} {c : Code} {G : Gm} {A : Nat → Prop} {ad0 : Nat → Nat} {σ0 : Sg} {d : Nat} {call : Nat → List Int → Sg → Option (Int × Sg)}
theorem wX1_addAdjective_L2 (hd : 2 ≤ d) (hRf : d + 1 ≤ R.frames) (hRl : 40 * (d + 1) ≤ R.locals) (hX2_push : ∀ (a1 : Int) (u : Sg), Ct l d FC clA yX2_push cX2_push 2 none DX2_push rvV [vR 0, vI a1] u (call 97 [a1] u)) (x34 : Int → Sg → Option (Int × Sg)) (x26 : Sg → Option (Int × Sg)) (hx34 : ∀ (a2 : Int) (u : Sg), inR a2 → WG p l e R s m args below meth c JX1_addAdjective DX1_addAdjective G clA A FC ad0 σ0 rvI (x34 a2 u) u 34 [(0, vR 1), (2, vI a2)] []) (hx26 : ∀ (u : Sg), WG p l e R s m args below meth c JX1_addAdjective DX1_addAdjective G clA A FC ad0 σ0 rvI (x26 u) u 26 [] []) : ∀ (n : Nat) (a2 a3 : Int) (u : Sg), inR a2 → inR a3 → WG p l e R s m args below meth c JX1_addAdjective DX1_addAdjective G clA A FC ad0 σ0 rvI (bX1_addAdjective_L2 call n a2 a3 u x34 x26) u 2 [(0, vR 1), (2, vI a2), (3, vI a3)] [] := by
  intro n
  induction n with
  | zero =>
    intro a2 a3 u ra2 ra3
    exact g_none
  | succ n ih =>
    intro a2 a3 u ra2 ra3
    rw [bX1_addAdjective_L2]
    refine g_iload_n 2 dX1_addAdjective_2 rfl ?_
    refine g_aload_n 0 dX1_addAdjective_3 rfl ?_
    refine g_get (v := vR 0) (ci := 1) (b := 30) (N := 57) 0 rfl rfl (by decide) in_X1 rfl rfl q308 dX1_addAdjective_4 ?_
    refine g_getI (ci := 0) (b := 0) (N := 21) 12 rfl rfl rfl (by decide) in_X2 rfl rfl q251 dX1_addAdjective_7 (fun v1 rv1 => ?_)
    refine g_icmp_ge 34 dX1_addAdjective_10 (by decide) (fun _ => ra3) (fun _ => rv1) (fun _ => ?_) (fun _ => ?_)
    · refine g_aload_n 0 dX1_addAdjective_13 rfl ?_
      refine g_get (v := vR 0) (ci := 1) (b := 30) (N := 57) 0 rfl rfl (by decide) in_X1 rfl rfl q308 dX1_addAdjective_14 ?_
      refine g_get (v := vR 21) (ci := 0) (b := 0) (N := 21) 11 rfl rfl (by decide) in_X2 rfl rfl q249 dX1_addAdjective_17 ?_
      refine g_iload_n 2 dX1_addAdjective_20 rfl ?_
      refine g_iald (id := 11) 9 rfl rfl dX1_addAdjective_21 (fun v2 rv2 => ?_)
      refine g_iload_n 1 dX1_addAdjective_22 rfl ?_
      refine g_icmp_ne 28 dX1_addAdjective_23 (by decide) (fun _ => rv2) (fun _ => ra2) (fun _ => ?_) (fun _ => ?_)
      · exact g_pick [] rfl (hx26 u)
      · refine g_iinc 2 (loc' := fun v3 => [(3, vI v3), (0, vR 1), (2, vI a2)]) dX1_addAdjective_28 rfl (by decide) (fun _ => rfl) (fun v3 rv3 => ?_)
        refine g_goto 2 dX1_addAdjective_31 (by decide) ?_
        exact g_pick [1, 2, 0] rfl (ih a2 v3 u ra2 rv3)
    · exact g_pick [0, 1] rfl (hx34 a2 u ra2)
theorem wX1_addAdjective (hd : 2 ≤ d) (hRf : d + 1 ≤ R.frames) (hRl : 40 * (d + 1) ≤ R.locals) (hX2_push : ∀ (a1 : Int) (u : Sg), Ct l d FC clA yX2_push cX2_push 2 none DX2_push rvV [vR 0, vI a1] u (call 97 [a1] u)) (a1 a2 : Int) (u : Sg) (ra1 : inR a1) (ra2 : inR a2) : WG p l e R s m args below meth c JX1_addAdjective DX1_addAdjective G clA A FC ad0 σ0 rvI (bX1_addAdjective call a1 a2 u) u 0 [(0, vR 1), (1, vI a1), (2, vI a2)] [] := by
  unfold bX1_addAdjective
  refine g_iload_n 1 dX1_addAdjective_0 rfl ?_
  refine g_istore_n (loc' := [(3, vI a1), (0, vR 1), (1, vI a1), (2, vI a2)]) dX1_addAdjective_1 (by decide) rfl ?_
  refine g_pick [1, 3, 0] rfl (wX1_addAdjective_L2 hd hRf hRl hX2_push _ _ (fun v2 s1 rv2 => ?_) (fun s5 => ?_) KF a2 a1 u ra2 ra1)
  · refine g_aload_n 0 dX1_addAdjective_34 rfl ?_
    refine g_get (v := vR 0) (ci := 1) (b := 30) (N := 57) 0 rfl rfl (by decide) in_X1 rfl rfl q308 dX1_addAdjective_35 ?_
    refine g_iload_n 1 dX1_addAdjective_38 rfl ?_
    refine g_cVV (As := [vI v2]) (n := 1) (stk := []) (ci := 0) (b := 0) (N := 21) (hX2_push v2 s1) (by decide +kernel) rfl rfl (lw_V q637 q228 q229 q164 q230) (by decide +kernel) rfl (by decide) hRf hRl (fun _ => (avc rv2 avn)) (Nat.le_of_ble_eq_true rfl) rfl rfl dX1_addAdjective_39 (fun v3 s4 => ?_)
    refine g_iconst dX1_addAdjective_42 ?_
    exact g_zret rfl rfl (fun _ => (Or.inr rfl)) dX1_addAdjective_43
  · refine g_iconst dX1_addAdjective_26 ?_
    exact g_zret rfl rfl (fun _ => (Or.inl rfl)) dX1_addAdjective_27
end
section
variable {l : Launch} {d : Nat} {call : Nat → List Int → Sg → Option (Int × Sg)}
theorem ctX1_addAdjective (p0 : Program) (e0 : Env) (s0 : State) (m0 : MethodId) (meth0 : Method) (c0 : Code) (G0 : Gm) (hd : 2 ≤ d) (hX2_push : ∀ (a1 : Int) (u : Sg), Ct l d FC clA yX2_push cX2_push 2 none DX2_push rvV [vR 0, vI a1] u (call 97 [a1] u)) (a1 a2 : Int) (u : Sg) : Ct l (d + 1) FC clA yX1_addAdjective cX1_addAdjective 4 (some .boolean) DX1_addAdjective rvI [vR 1, vI a1, vI a2] u (bX1_addAdjective call a1 a2 u) :=
  Ct_of (by decide) (Nat.le_of_ble_eq_true rfl) (fun p e R s1 m args below meth c G A ad hA hRf hRl => wX1_addAdjective hd hRf hRl hX2_push a1 a2 u (hA _ (List.mem_cons_of_mem _ List.mem_cons_self)) (hA _ (List.mem_cons_of_mem _ (List.mem_cons_of_mem _ List.mem_cons_self)))) p0 e0 s0 m0 meth0 c0 G0
end
/-! RoundCheck.inRow(II)Z -/
abbrev JX1_inRow : Jm := (cX1_inRow, RX1, 4, (some .boolean))
def bX1_inRow_L2 (call : Nat → List Int → Sg → Option (Int × Sg)) : Nat → Int → Int → Sg → (Sg → Option (Int × Sg)) → (Sg → Option (Int × Sg)) → Option (Int × Sg)
  | 0, _, _, _, _, _ => none
  | n + 1, a2, a3, u, x34, x26 => un (gI u 12) fun v1 => if a3 < v1 then (ld u 11 a3 fun v2 => if v2 = a2 then (x26 u) else (ar (a3 + 1) fun v3 => bX1_inRow_L2 call n a2 v3 u x34 x26)) else (x34 u)
def bX1_inRow (call : Nat → List Int → Sg → Option (Int × Sg)) (a1 a2 : Int) (u : Sg) : Option (Int × Sg) := bX1_inRow_L2 call KF a2 a1 u (fun s1 => some (0, s1)) (fun s2 => some (1, s2))
section
variable {p : Program} {l : Launch} {e : Env} {R : Room} {s : State} {m : MethodId} {args : Array Value} {below : List Frame} {meth : Method} {c : Code} {G : Gm} {A : Nat → Prop} {ad0 : Nat → Nat} {σ0 : Sg} {d : Nat} {call : Nat → List Int → Sg → Option (Int × Sg)}
theorem wX1_inRow_L2 (hd : 2 ≤ d) (hRf : d + 1 ≤ R.frames) (hRl : 40 * (d + 1) ≤ R.locals) (x34 : Sg → Option (Int × Sg)) (x26 : Sg → Option (Int × Sg)) (hx34 : ∀ (u : Sg), WG p l e R s m args below meth c JX1_inRow DX1_inRow G clA A FC ad0 σ0 rvI (x34 u) u 34 [] []) (hx26 : ∀ (u : Sg), WG p l e R s m args below meth c JX1_inRow DX1_inRow G clA A FC ad0 σ0 rvI (x26 u) u 26 [] []) : ∀ (n : Nat) (a2 a3 : Int) (u : Sg), inR a2 → inR a3 → WG p l e R s m args below meth c JX1_inRow DX1_inRow G clA A FC ad0 σ0 rvI (bX1_inRow_L2 call n a2 a3 u x34 x26) u 2 [(0, vR 1), (2, vI a2), (3, vI a3)] [] := by
  intro n
  induction n with
  | zero =>
    intro a2 a3 u ra2 ra3
    exact g_none
  | succ n ih =>
    intro a2 a3 u ra2 ra3
    rw [bX1_inRow_L2]
    refine g_iload_n 2 dX1_inRow_2 rfl ?_
    refine g_aload_n 0 dX1_inRow_3 rfl ?_
    refine g_get (v := vR 0) (ci := 1) (b := 30) (N := 57) 0 rfl rfl (by decide) in_X1 rfl rfl q308 dX1_inRow_4 ?_
    refine g_getI (ci := 0) (b := 0) (N := 21) 12 rfl rfl rfl (by decide) in_X2 rfl rfl q251 dX1_inRow_7 (fun v1 rv1 => ?_)
    refine g_icmp_ge 34 dX1_inRow_10 (by decide) (fun _ => ra3) (fun _ => rv1) (fun _ => ?_) (fun _ => ?_)
    · refine g_aload_n 0 dX1_inRow_13 rfl ?_
      refine g_get (v := vR 0) (ci := 1) (b := 30) (N := 57) 0 rfl rfl (by decide) in_X1 rfl rfl q308 dX1_inRow_14 ?_
      refine g_get (v := vR 21) (ci := 0) (b := 0) (N := 21) 11 rfl rfl (by decide) in_X2 rfl rfl q249 dX1_inRow_17 ?_
      refine g_iload_n 2 dX1_inRow_20 rfl ?_
      refine g_iald (id := 11) 9 rfl rfl dX1_inRow_21 (fun v2 rv2 => ?_)
      refine g_iload_n 1 dX1_inRow_22 rfl ?_
      refine g_icmp_ne 28 dX1_inRow_23 (by decide) (fun _ => rv2) (fun _ => ra2) (fun _ => ?_) (fun _ => ?_)
      · exact g_pick [] rfl (hx26 u)
      · refine g_iinc 2 (loc' := fun v3 => [(3, vI v3), (0, vR 1), (2, vI a2)]) dX1_inRow_28 rfl (by decide) (fun _ => rfl) (fun v3 rv3 => ?_)
        refine g_goto 2 dX1_inRow_31 (by decide) ?_
        exact g_pick [1, 2, 0] rfl (ih a2 v3 u ra2 rv3)
    · exact g_pick [] rfl (hx34 u)
theorem wX1_inRow (hd : 2 ≤ d) (hRf : d + 1 ≤ R.frames) (hRl : 40 * (d + 1) ≤ R.locals) (a1 a2 : Int) (u : Sg) (ra1 : inR a1) (ra2 : inR a2) : WG p l e R s m args below meth c JX1_inRow DX1_inRow G clA A FC ad0 σ0 rvI (bX1_inRow call a1 a2 u) u 0 [(0, vR 1), (1, vI a1), (2, vI a2)] [] := by
  unfold bX1_inRow
  refine g_iload_n 1 dX1_inRow_0 rfl ?_
  refine g_istore_n (loc' := [(3, vI a1), (0, vR 1), (1, vI a1), (2, vI a2)]) dX1_inRow_1 (by decide) rfl ?_
  refine g_pick [1, 3, 0] rfl (wX1_inRow_L2 hd hRf hRl _ _ (fun s1 => ?_) (fun s2 => ?_) KF a2 a1 u ra2 ra1)
  · refine g_iconst dX1_inRow_34 ?_
    exact g_zret rfl rfl (fun _ => (Or.inl rfl)) dX1_inRow_35
  · refine g_iconst dX1_inRow_26 ?_
    exact g_zret rfl rfl (fun _ => (Or.inr rfl)) dX1_inRow_27
end
section
variable {l : Launch} {d : Nat} {call : Nat → List Int → Sg → Option (Int × Sg)}
theorem ctX1_inRow (p0 : Program) (e0 : Env) (s0 : State) (m0 : MethodId) (meth0 : Method) (c0 : Code) (G0 : Gm) (hd : 2 ≤ d) (a1 a2 : Int) (u : Sg) : Ct l (d + 1) FC clA yX1_inRow cX1_inRow 4 (some .boolean) DX1_inRow rvI [vR 1, vI a1, vI a2] u (bX1_inRow call a1 a2 u) :=
  Ct_of (by decide) (Nat.le_of_ble_eq_true rfl) (fun p e R s1 m args below meth c G A ad hA hRf hRl => wX1_inRow hd hRf hRl a1 a2 u (hA _ (List.mem_cons_of_mem _ List.mem_cons_self)) (hA _ (List.mem_cons_of_mem _ (List.mem_cons_of_mem _ List.mem_cons_self)))) p0 e0 s0 m0 meth0 c0 G0
end
/-! RoundCheck.ofMode(II)Z -/
abbrev JX1_ofMode : Jm := (cX1_ofMode, RX1, 5, (some .boolean))
def bX1_ofMode_L10 (call : Nat → List Int → Sg → Option (Int × Sg)) : Nat → Int → Int → Int → Sg → (Sg → Option (Int × Sg)) → (Int → Sg → Option (Int × Sg)) → (Sg → Option (Int × Sg)) → Option (Int × Sg)
  | 0, _, _, _, _, _, _, _ => none
  | n + 1, a2, a3, a4, u, x126, x48, x113 => if a4 = 0 then (x126 u) else (jn (fun (a2 a3 a4 : Int) (s2 : Sg) => cl (call 51 [a4] s2) fun v3 s4 => bX1_ofMode_L10 call n a2 a3 v3 s4 x126 x48 x113) fun j1 => ld u 1 a4 fun v5 => ld u 1 a3 fun v6 => if v5 = v6 then (cl (call 30 [a3] u) fun v7 s8 => if v7 = 0 then (x48 a4 s8) else (cl (call 30 [a4] s8) fun v9 s10 => if v9 = 0 then (j1 a2 a3 a4 s10) else (cl (call 30 [a4] s10) fun v11 s12 => cl (call 47 [v11] s12) fun v13 s14 => ld s14 78 a2 fun v15 => ld s14 1 v15 fun v16 => ld s14 78 a2 fun v17 => cl (call 30 [v17] s14) fun v18 s19 => cl (call 82 [v13, v16, v18] s19) fun v20 s21 => if v20 = 0 then (j1 a2 a3 a4 s21) else (x113 s21)))) else (j1 a2 a3 a4 u))
def bX1_ofMode (call : Nat → List Int → Sg → Option (Int × Sg)) (a1 a2 : Int) (u : Sg) : Option (Int × Sg) := ld u 77 a2 fun v1 => bX1_ofMode_L10 call KF a2 v1 a1 u (fun s2 => some (0, s2)) (fun v4 s3 => cl (call 30 [v4] s3) fun v5 s6 => if v5 = 0 then (some (1, s6)) else (some (0, s6))) (fun s7 => some (1, s7))
section
variable {p : Program} {l : Launch} {e : Env} {R : Room} {s : State} {m : MethodId} {args : Array Value} {below : List Frame} {meth : Method} {c : Code} {G : Gm} {A : Nat → Prop} {ad0 : Nat → Nat} {σ0 : Sg} {d : Nat} {call : Nat → List Int → Sg → Option (Int × Sg)}
theorem wX1_ofMode_L10 (hd : 2 ≤ d) (hRf : d + 1 ≤ R.frames) (hRl : 40 * (d + 1) ≤ R.locals) (hX1_parent : ∀ (a1 : Int) (u : Sg), Ct l d FC clA yX1_parent cX1_parent 2 (some .int) DX1_parent rvI [vR 1, vI a1] u (call 51 [a1] u)) (hX1_argOf : ∀ (a1 : Int) (u : Sg), Ct l d FC clA yX1_argOf cX1_argOf 2 (some .int) DX1_argOf rvI [vR 1, vI a1] u (call 30 [a1] u)) (hX1_typeOf : ∀ (a1 : Int) (u : Sg), Ct l d FC clA yX1_typeOf cX1_typeOf 3 (some .int) DX1_typeOf rvI [vR 1, vI a1] u (call 47 [a1] u)) (hX1_hasMode : ∀ (a1 a2 a3 : Int) (u : Sg), Ct l d FC clA yX1_hasMode cX1_hasMode 5 (some .boolean) DX1_hasMode rvI [vR 1, vI a1, vI a2, vI a3] u (call 82 [a1, a2, a3] u)) (x126 : Sg → Option (Int × Sg)) (x48 : Int → Sg → Option (Int × Sg)) (x113 : Sg → Option (Int × Sg)) (hx126 : ∀ (u : Sg), WG p l e R s m args below meth c JX1_ofMode DX1_ofMode G clA A FC ad0 σ0 rvI (x126 u) u 126 [] []) (hx48 : ∀ (a4 : Int) (u : Sg), inR a4 → WG p l e R s m args below meth c JX1_ofMode DX1_ofMode G clA A FC ad0 σ0 rvI (x48 a4 u) u 48 [(0, vR 1), (4, vI a4)] []) (hx113 : ∀ (u : Sg), WG p l e R s m args below meth c JX1_ofMode DX1_ofMode G clA A FC ad0 σ0 rvI (x113 u) u 113 [] []) : ∀ (n : Nat) (a2 a3 a4 : Int) (u : Sg), inR a2 → inR a3 → inR a4 → WG p l e R s m args below meth c JX1_ofMode DX1_ofMode G clA A FC ad0 σ0 rvI (bX1_ofMode_L10 call n a2 a3 a4 u x126 x48 x113) u 10 [(0, vR 1), (2, vI a2), (3, vI a3), (4, vI a4)] [] := by
  intro n
  induction n with
  | zero =>
    intro a2 a3 a4 u ra2 ra3 ra4
    exact g_none
  | succ n ih =>
    intro a2 a3 a4 u ra2 ra3 ra4
    rw [bX1_ofMode_L10]
    refine g_iload 3 dX1_ofMode_10 rfl ?_
    refine g_if_eq 126 dX1_ofMode_12 (by decide) (fun _ => ra4) (fun _ => ?_) (fun _ => ?_)
    · exact g_pick [] rfl (hx126 u)
    · refine g_jn (fun j1 => ∀ (a2 a3 a4 : Int) (s2 : Sg), inR a2 → inR a3 → inR a4 → WG p l e R s m args below meth c JX1_ofMode DX1_ofMode G clA A FC ad0 σ0 rvI (j1 a2 a3 a4 s2) s2 115 [(0, vR 1), (2, vI a2), (3, vI a3), (4, vI a4)] []) (fun a2 a3 a4 s2 ra2 ra3 ra4 => ?_) (fun j1 hj1 => ?_)
      · refine g_aload_n 0 dX1_ofMode_115 rfl ?_
        refine g_iload 3 dX1_ofMode_116 rfl ?_
        refine g_cVI (As := [vI a4]) (n := 1) (stk := []) (ci := 1) (b := 30) (N := 57) (hX1_parent a4 s2) (by decide +kernel) rfl rfl (lw_V q880 q882 qs33 q163 q883) (by decide +kernel) rfl (by decide) hRf hRl (fun _ => (avc ra4 avn)) (Nat.le_of_ble_eq_true rfl) rfl rfl dX1_ofMode_118 (fun v3 s4 rv3 => ?_)
        refine g_istore (loc' := [(4, vI v3), (0, vR 1), (2, vI a2), (3, vI a3)]) dX1_ofMode_121 (by decide) rfl ?_
        refine g_goto 10 dX1_ofMode_123 (by decide) ?_
        exact g_pick [1, 2, 3, 0] rfl (ih a2 a3 v3 s4 ra2 ra3 rv3)
      · refine g_aload_n 0 dX1_ofMode_15 rfl ?_
        refine g_get (v := vR 0) (ci := 1) (b := 30) (N := 57) 0 rfl rfl (by decide) in_X1 rfl rfl q308 dX1_ofMode_16 ?_
        refine g_get (v := vR 11) (ci := 0) (b := 0) (N := 21) 1 rfl rfl (by decide) in_X2 rfl rfl q234 dX1_ofMode_19 ?_
        refine g_iload 3 dX1_ofMode_22 rfl ?_
        refine g_iald (id := 1) 1 rfl rfl dX1_ofMode_24 (fun v5 rv5 => ?_)
        refine g_aload_n 0 dX1_ofMode_25 rfl ?_
        refine g_get (v := vR 0) (ci := 1) (b := 30) (N := 57) 0 rfl rfl (by decide) in_X1 rfl rfl q308 dX1_ofMode_26 ?_
        refine g_get (v := vR 11) (ci := 0) (b := 0) (N := 21) 1 rfl rfl (by decide) in_X2 rfl rfl q234 dX1_ofMode_29 ?_
        refine g_iload_n 2 dX1_ofMode_32 rfl ?_
        refine g_iald (id := 1) 1 rfl rfl dX1_ofMode_33 (fun v6 rv6 => ?_)
        refine g_icmp_eq 40 dX1_ofMode_34 (by decide) (fun _ => rv5) (fun _ => rv6) (fun _ => ?_) (fun _ => ?_)
        · refine g_aload_n 0 dX1_ofMode_40 rfl ?_
          refine g_iload_n 2 dX1_ofMode_41 rfl ?_
          refine g_cVI (As := [vI a3]) (n := 1) (stk := []) (ci := 1) (b := 30) (N := 57) (hX1_argOf a3 u) (by decide +kernel) rfl rfl (lw_V q773 q775 qs16 q163 q776) (by decide +kernel) rfl (by decide) hRf hRl (fun _ => (avc ra3 avn)) (Nat.le_of_ble_eq_true rfl) rfl rfl dX1_ofMode_42 (fun v7 s8 rv7 => ?_)
          refine g_if_ne 63 dX1_ofMode_45 (by decide) (fun _ => rv7) (fun _ => ?_) (fun _ => ?_)
          · exact g_pick [0, 3] rfl (hx48 a4 s8 ra4)
          · refine g_aload_n 0 dX1_ofMode_63 rfl ?_
            refine g_iload 3 dX1_ofMode_64 rfl ?_
            refine g_cVI (As := [vI a4]) (n := 1) (stk := []) (ci := 1) (b := 30) (N := 57) (hX1_argOf a4 s8) (by decide +kernel) rfl rfl (lw_V q773 q775 qs16 q163 q776) (by decide +kernel) rfl (by decide) hRf hRl (fun _ => (avc ra4 avn)) (Nat.le_of_ble_eq_true rfl) rfl rfl dX1_ofMode_66 (fun v9 s10 rv9 => ?_)
            refine g_if_eq 115 dX1_ofMode_69 (by decide) (fun _ => rv9) (fun _ => ?_) (fun _ => ?_)
            · exact g_pick [0, 1, 2, 3] rfl (hj1 a2 a3 a4 s10 ra2 ra3 ra4)
            · refine g_aload_n 0 dX1_ofMode_72 rfl ?_
              refine g_aload_n 0 dX1_ofMode_73 rfl ?_
              refine g_aload_n 0 dX1_ofMode_74 rfl ?_
              refine g_iload 3 dX1_ofMode_75 rfl ?_
              refine g_cVI (As := [vI a4]) (n := 1) (stk := [vR 1, vR 1]) (ci := 1) (b := 30) (N := 57) (hX1_argOf a4 s10) (by decide +kernel) rfl rfl (lw_V q773 q775 qs16 q163 q776) (by decide +kernel) rfl (by decide) hRf hRl (fun _ => (avc ra4 avn)) (Nat.le_of_ble_eq_true rfl) rfl rfl dX1_ofMode_77 (fun v11 s12 rv11 => ?_)
              refine g_cVI (As := [vI v11]) (n := 1) (stk := [vR 1]) (ci := 1) (b := 30) (N := 57) (hX1_typeOf v11 s12) (by decide +kernel) rfl rfl (lw_V q860 q862 qs29 q163 q863) (by decide +kernel) rfl (by decide) hRf hRl (fun _ => (avc rv11 avn)) (Nat.le_of_ble_eq_true rfl) rfl rfl dX1_ofMode_80 (fun v13 s14 rv13 => ?_)
              refine g_aload_n 0 dX1_ofMode_83 rfl ?_
              refine g_get (v := vR 0) (ci := 1) (b := 30) (N := 57) 0 rfl rfl (by decide) in_X1 rfl rfl q308 dX1_ofMode_84 ?_
              refine g_get (v := vR 11) (ci := 0) (b := 0) (N := 21) 1 rfl rfl (by decide) in_X2 rfl rfl q234 dX1_ofMode_87 ?_
              refine g_aload_n 0 dX1_ofMode_90 rfl ?_
              refine g_get (v := vR 88) (ci := 1) (b := 30) (N := 57) 48 rfl rfl (by decide) in_X1 rfl rfl q356 dX1_ofMode_91 ?_
              refine g_iload_n 1 dX1_ofMode_94 rfl ?_
              refine g_iald (id := 78) 37 rfl rfl dX1_ofMode_95 (fun v15 rv15 => ?_)
              refine g_iald (id := 1) 1 rfl rfl dX1_ofMode_96 (fun v16 rv16 => ?_)
              refine g_aload_n 0 dX1_ofMode_97 rfl ?_
              refine g_aload_n 0 dX1_ofMode_98 rfl ?_
              refine g_get (v := vR 88) (ci := 1) (b := 30) (N := 57) 48 rfl rfl (by decide) in_X1 rfl rfl q356 dX1_ofMode_99 ?_
              refine g_iload_n 1 dX1_ofMode_102 rfl ?_
              refine g_iald (id := 78) 37 rfl rfl dX1_ofMode_103 (fun v17 rv17 => ?_)
              refine g_cVI (As := [vI v17]) (n := 1) (stk := [vI v16, vI v13, vR 1]) (ci := 1) (b := 30) (N := 57) (hX1_argOf v17 s14) (by decide +kernel) rfl rfl (lw_V q773 q775 qs16 q163 q776) (by decide +kernel) rfl (by decide) hRf hRl (fun _ => (avc rv17 avn)) (Nat.le_of_ble_eq_true rfl) rfl rfl dX1_ofMode_104 (fun v18 s19 rv18 => ?_)
              refine g_cVZ (As := [vI v13, vI v16, vI v18]) (n := 3) (stk := []) (ci := 1) (b := 30) (N := 57) (hX1_hasMode v13 v16 v18 s19) (by decide +kernel) rfl rfl (lw_V q1017 q1019 qs63 q163 q1020) (by decide +kernel) rfl (by decide) hRf hRl (fun _ => (avc rv13 (avc rv16 (avc rv18 avn)))) (Nat.le_of_ble_eq_true rfl) rfl rfl dX1_ofMode_107 (fun v20 s21 zv20 => ?_)
              refine g_if_eq 115 dX1_ofMode_110 (by decide) (fun _ => (inR_z zv20)) (fun _ => ?_) (fun _ => ?_)
              · exact g_pick [0, 1, 2, 3] rfl (hj1 a2 a3 a4 s21 ra2 ra3 ra4)
              · exact g_pick [] rfl (hx113 s21)
        · refine g_goto 115 dX1_ofMode_37 (by decide) ?_
          exact g_pick [0, 1, 2, 3] rfl (hj1 a2 a3 a4 u ra2 ra3 ra4)
theorem wX1_ofMode (hd : 2 ≤ d) (hRf : d + 1 ≤ R.frames) (hRl : 40 * (d + 1) ≤ R.locals) (hX1_parent : ∀ (a1 : Int) (u : Sg), Ct l d FC clA yX1_parent cX1_parent 2 (some .int) DX1_parent rvI [vR 1, vI a1] u (call 51 [a1] u)) (hX1_argOf : ∀ (a1 : Int) (u : Sg), Ct l d FC clA yX1_argOf cX1_argOf 2 (some .int) DX1_argOf rvI [vR 1, vI a1] u (call 30 [a1] u)) (hX1_typeOf : ∀ (a1 : Int) (u : Sg), Ct l d FC clA yX1_typeOf cX1_typeOf 3 (some .int) DX1_typeOf rvI [vR 1, vI a1] u (call 47 [a1] u)) (hX1_hasMode : ∀ (a1 a2 a3 : Int) (u : Sg), Ct l d FC clA yX1_hasMode cX1_hasMode 5 (some .boolean) DX1_hasMode rvI [vR 1, vI a1, vI a2, vI a3] u (call 82 [a1, a2, a3] u)) (a1 a2 : Int) (u : Sg) (ra1 : inR a1) (ra2 : inR a2) : WG p l e R s m args below meth c JX1_ofMode DX1_ofMode G clA A FC ad0 σ0 rvI (bX1_ofMode call a1 a2 u) u 0 [(0, vR 1), (1, vI a1), (2, vI a2)] [] := by
  unfold bX1_ofMode
  refine g_aload_n 0 dX1_ofMode_0 rfl ?_
  refine g_get (v := vR 87) (ci := 1) (b := 30) (N := 57) 47 rfl rfl (by decide) in_X1 rfl rfl q355 dX1_ofMode_1 ?_
  refine g_iload_n 2 dX1_ofMode_4 rfl ?_
  refine g_iald (id := 77) 36 rfl rfl dX1_ofMode_5 (fun v1 rv1 => ?_)
  refine g_istore_n (loc' := [(3, vI v1), (0, vR 1), (1, vI a1), (2, vI a2)]) dX1_ofMode_6 (by decide) rfl ?_
  refine g_iload_n 2 dX1_ofMode_7 rfl ?_
  refine g_istore (loc' := [(4, vI a1), (3, vI v1), (0, vR 1), (1, vI a1), (2, vI a2)]) dX1_ofMode_8 (by decide) rfl ?_
  refine g_pick [2, 4, 1, 0] rfl (wX1_ofMode_L10 hd hRf hRl hX1_parent hX1_argOf hX1_typeOf hX1_hasMode _ _ _ (fun s2 => ?_) (fun v4 s3 rv4 => ?_) (fun s7 => ?_) KF a2 v1 a1 u ra2 rv1 ra1)
  · refine g_iconst dX1_ofMode_126 ?_
    exact g_zret rfl rfl (fun _ => (Or.inl rfl)) dX1_ofMode_127
  · refine g_aload_n 0 dX1_ofMode_48 rfl ?_
    refine g_iload 1 dX1_ofMode_49 rfl ?_
    refine g_cVI (As := [vI v4]) (n := 1) (stk := []) (ci := 1) (b := 30) (N := 57) (hX1_argOf v4 s3) (by decide +kernel) rfl rfl (lw_V q773 q775 qs16 q163 q776) (by decide +kernel) rfl (by decide) hRf hRl (fun _ => (avc rv4 avn)) (Nat.le_of_ble_eq_true rfl) rfl rfl dX1_ofMode_51 (fun v5 s6 rv5 => ?_)
    refine g_if_ne 61 dX1_ofMode_54 (by decide) (fun _ => rv5) (fun _ => ?_) (fun _ => ?_)
    · refine g_iconst dX1_ofMode_57 ?_
      refine g_goto 62 dX1_ofMode_58 (by decide) ?_
      exact g_zret rfl rfl (fun _ => (Or.inr rfl)) dX1_ofMode_62
    · refine g_iconst dX1_ofMode_61 ?_
      exact g_zret rfl rfl (fun _ => (Or.inl rfl)) dX1_ofMode_62
  · refine g_iconst dX1_ofMode_113 ?_
    exact g_zret rfl rfl (fun _ => (Or.inr rfl)) dX1_ofMode_114
end
section
variable {l : Launch} {d : Nat} {call : Nat → List Int → Sg → Option (Int × Sg)}
theorem ctX1_ofMode (p0 : Program) (e0 : Env) (s0 : State) (m0 : MethodId) (meth0 : Method) (c0 : Code) (G0 : Gm) (hd : 2 ≤ d) (hX1_parent : ∀ (a1 : Int) (u : Sg), Ct l d FC clA yX1_parent cX1_parent 2 (some .int) DX1_parent rvI [vR 1, vI a1] u (call 51 [a1] u)) (hX1_argOf : ∀ (a1 : Int) (u : Sg), Ct l d FC clA yX1_argOf cX1_argOf 2 (some .int) DX1_argOf rvI [vR 1, vI a1] u (call 30 [a1] u)) (hX1_typeOf : ∀ (a1 : Int) (u : Sg), Ct l d FC clA yX1_typeOf cX1_typeOf 3 (some .int) DX1_typeOf rvI [vR 1, vI a1] u (call 47 [a1] u)) (hX1_hasMode : ∀ (a1 a2 a3 : Int) (u : Sg), Ct l d FC clA yX1_hasMode cX1_hasMode 5 (some .boolean) DX1_hasMode rvI [vR 1, vI a1, vI a2, vI a3] u (call 82 [a1, a2, a3] u)) (a1 a2 : Int) (u : Sg) : Ct l (d + 1) FC clA yX1_ofMode cX1_ofMode 5 (some .boolean) DX1_ofMode rvI [vR 1, vI a1, vI a2] u (bX1_ofMode call a1 a2 u) :=
  Ct_of (by decide) (Nat.le_of_ble_eq_true rfl) (fun p e R s1 m args below meth c G A ad hA hRf hRl => wX1_ofMode hd hRf hRl hX1_parent hX1_argOf hX1_typeOf hX1_hasMode a1 a2 u (hA _ (List.mem_cons_of_mem _ List.mem_cons_self)) (hA _ (List.mem_cons_of_mem _ (List.mem_cons_of_mem _ List.mem_cons_self)))) p0 e0 s0 m0 meth0 c0 G0
end
/-! RoundCheck.within(II)Z -/
abbrev JX1_within : Jm := (cX1_within, RX1, 4, (some .boolean))
def bX1_within_L2 (call : Nat → List Int → Sg → Option (Int × Sg)) : Nat → Int → Int → Int → Sg → (Sg → Option (Int × Sg)) → (Sg → Option (Int × Sg)) → Option (Int × Sg)
  | 0, _, _, _, _, _, _ => none
  | n + 1, a1, a2, a3, u, x40, x32 => ld u 3 a1 fun v1 => if a3 < v1 then (cl (call 98 [a1, a3] u) fun v2 s3 => cl (call 89 [a2, v2] s3) fun v4 s5 => if v4 = 0 then (x32 s5) else (ar (a3 + 1) fun v6 => bX1_within_L2 call n a1 a2 v6 s5 x40 x32)) else (x40 u)
def bX1_within (call : Nat → List Int → Sg → Option (Int × Sg)) (a1 a2 : Int) (u : Sg) : Option (Int × Sg) := bX1_within_L2 call KF a1 a2 1 u (fun s1 => some (1, s1)) (fun s2 => some (0, s2))
section
variable {p : Program} {l : Launch} {e : Env} {R : Room} {s : State} {m : MethodId} {args : Array Value} {below : List Frame} {meth : Method} {c : Code} {G : Gm} {A : Nat → Prop} {ad0 : Nat → Nat} {σ0 : Sg} {d : Nat} {call : Nat → List Int → Sg → Option (Int × Sg)}
theorem wX1_within_L2 (hd : 2 ≤ d) (hRf : d + 1 ≤ R.frames) (hRl : 40 * (d + 1) ≤ R.locals) (hX2_at : ∀ (a1 a2 : Int) (u : Sg), Ct l d FC clA yX2_at cX2_at 3 (some .int) DX2_at rvI [vR 0, vI a1, vI a2] u (call 98 [a1, a2] u)) (hX1_hasAdjective : ∀ (a1 a2 : Int) (u : Sg), Ct l d FC clA yX1_hasAdjective cX1_hasAdjective 4 (some .boolean) DX1_hasAdjective rvI [vR 1, vI a1, vI a2] u (call 89 [a1, a2] u)) (x40 : Sg → Option (Int × Sg)) (x32 : Sg → Option (Int × Sg)) (hx40 : ∀ (u : Sg), WG p l e R s m args below meth c JX1_within DX1_within G clA A FC ad0 σ0 rvI (x40 u) u 40 [] []) (hx32 : ∀ (u : Sg), WG p l e R s m args below meth c JX1_within DX1_within G clA A FC ad0 σ0 rvI (x32 u) u 32 [] []) : ∀ (n : Nat) (a1 a2 a3 : Int) (u : Sg), inR a1 → inR a2 → inR a3 → WG p l e R s m args below meth c JX1_within DX1_within G clA A FC ad0 σ0 rvI (bX1_within_L2 call n a1 a2 a3 u x40 x32) u 2 [(0, vR 1), (1, vI a1), (2, vI a2), (3, vI a3)] [] := by
  intro n
  induction n with
  | zero =>
    intro a1 a2 a3 u ra1 ra2 ra3
    exact g_none
  | succ n ih =>
    intro a1 a2 a3 u ra1 ra2 ra3
    rw [bX1_within_L2]
    refine g_iload_n 3 dX1_within_2 rfl ?_
    refine g_aload_n 0 dX1_within_3 rfl ?_
    refine g_get (v := vR 0) (ci := 1) (b := 30) (N := 57) 0 rfl rfl (by decide) in_X1 rfl rfl q308 dX1_within_4 ?_
    refine g_get (v := vR 13) (ci := 0) (b := 0) (N := 21) 3 rfl rfl (by decide) in_X2 rfl rfl q237 dX1_within_7 ?_
    refine g_iload_n 1 dX1_within_10 rfl ?_
    refine g_iald (id := 3) 3 rfl rfl dX1_within_11 (fun v1 rv1 => ?_)
    refine g_icmp_ge 40 dX1_within_12 (by decide) (fun _ => ra3) (fun _ => rv1) (fun _ => ?_) (fun _ => ?_)
    · refine g_aload_n 0 dX1_within_15 rfl ?_
      refine g_iload_n 2 dX1_within_16 rfl ?_
      refine g_aload_n 0 dX1_within_17 rfl ?_
      refine g_get (v := vR 0) (ci := 1) (b := 30) (N := 57) 0 rfl rfl (by decide) in_X1 rfl rfl q308 dX1_within_18 ?_
      refine g_iload_n 1 dX1_within_21 rfl ?_
      refine g_iload_n 3 dX1_within_22 rfl ?_
      refine g_cVI (As := [vI a1, vI a3]) (n := 2) (stk := [vI a2, vR 1]) (ci := 0) (b := 0) (N := 21) (hX2_at a1 a3 u) (by decide +kernel) rfl rfl (lw_V q571 q572 q573 q164 q574) (by decide +kernel) rfl (by decide) hRf hRl (fun _ => (avc ra1 (avc ra3 avn))) (Nat.le_of_ble_eq_true rfl) rfl rfl dX1_within_23 (fun v2 s3 rv2 => ?_)
      refine g_cVZ (As := [vI a2, vI v2]) (n := 2) (stk := []) (ci := 1) (b := 30) (N := 57) (hX1_hasAdjective a2 v2 s3) (by decide +kernel) rfl rfl (lw_V q1045 q1047 qs70 q163 q1048) (by decide +kernel) rfl (by decide) hRf hRl (fun _ => (avc ra2 (avc rv2 avn))) (Nat.le_of_ble_eq_true rfl) rfl rfl dX1_within_26 (fun v4 s5 zv4 => ?_)
      refine g_if_ne 34 dX1_within_29 (by decide) (fun _ => (inR_z zv4)) (fun _ => ?_) (fun _ => ?_)
      · exact g_pick [] rfl (hx32 s5)
      · refine g_iinc 3 (loc' := fun v6 => [(3, vI v6), (0, vR 1), (1, vI a1), (2, vI a2)]) dX1_within_34 rfl (by decide) (fun _ => rfl) (fun v6 rv6 => ?_)
        refine g_goto 2 dX1_within_37 (by decide) ?_
        exact g_pick [1, 2, 3, 0] rfl (ih a1 a2 v6 s5 ra1 ra2 rv6)
    · exact g_pick [] rfl (hx40 u)
theorem wX1_within (hd : 2 ≤ d) (hRf : d + 1 ≤ R.frames) (hRl : 40 * (d + 1) ≤ R.locals) (hX2_at : ∀ (a1 a2 : Int) (u : Sg), Ct l d FC clA yX2_at cX2_at 3 (some .int) DX2_at rvI [vR 0, vI a1, vI a2] u (call 98 [a1, a2] u)) (hX1_hasAdjective : ∀ (a1 a2 : Int) (u : Sg), Ct l d FC clA yX1_hasAdjective cX1_hasAdjective 4 (some .boolean) DX1_hasAdjective rvI [vR 1, vI a1, vI a2] u (call 89 [a1, a2] u)) (a1 a2 : Int) (u : Sg) (ra1 : inR a1) (ra2 : inR a2) : WG p l e R s m args below meth c JX1_within DX1_within G clA A FC ad0 σ0 rvI (bX1_within call a1 a2 u) u 0 [(0, vR 1), (1, vI a1), (2, vI a2)] [] := by
  unfold bX1_within
  refine g_iconst dX1_within_0 ?_
  refine g_istore_n (loc' := [(3, vI 1), (0, vR 1), (1, vI a1), (2, vI a2)]) dX1_within_1 (by decide) rfl ?_
  refine g_pick [1, 2, 3, 0] rfl (wX1_within_L2 hd hRf hRl hX2_at hX1_hasAdjective _ _ (fun s1 => ?_) (fun s2 => ?_) KF a1 a2 1 u ra1 ra2 (inR_z (Or.inr rfl)))
  · refine g_iconst dX1_within_40 ?_
    exact g_zret rfl rfl (fun _ => (Or.inr rfl)) dX1_within_41
  · refine g_iconst dX1_within_32 ?_
    exact g_zret rfl rfl (fun _ => (Or.inl rfl)) dX1_within_33
end
section
variable {l : Launch} {d : Nat} {call : Nat → List Int → Sg → Option (Int × Sg)}
theorem ctX1_within (p0 : Program) (e0 : Env) (s0 : State) (m0 : MethodId) (meth0 : Method) (c0 : Code) (G0 : Gm) (hd : 2 ≤ d) (hX2_at : ∀ (a1 a2 : Int) (u : Sg), Ct l d FC clA yX2_at cX2_at 3 (some .int) DX2_at rvI [vR 0, vI a1, vI a2] u (call 98 [a1, a2] u)) (hX1_hasAdjective : ∀ (a1 a2 : Int) (u : Sg), Ct l d FC clA yX1_hasAdjective cX1_hasAdjective 4 (some .boolean) DX1_hasAdjective rvI [vR 1, vI a1, vI a2] u (call 89 [a1, a2] u)) (a1 a2 : Int) (u : Sg) : Ct l (d + 1) FC clA yX1_within cX1_within 4 (some .boolean) DX1_within rvI [vR 1, vI a1, vI a2] u (bX1_within call a1 a2 u) :=
  Ct_of (by decide) (Nat.le_of_ble_eq_true rfl) (fun p e R s1 m args below meth c G A ad hA hRf hRl => wX1_within hd hRf hRl hX2_at hX1_hasAdjective a1 a2 u (hA _ (List.mem_cons_of_mem _ List.mem_cons_self)) (hA _ (List.mem_cons_of_mem _ (List.mem_cons_of_mem _ List.mem_cons_self)))) p0 e0 s0 m0 meth0 c0 G0
end
/-! RoundCheck.hasAdjective(II)Z -/
abbrev JX1_hasAdjective : Jm := (cX1_hasAdjective, RX1, 4, (some .boolean))
def bX1_hasAdjective_L2 (call : Nat → List Int → Sg → Option (Int × Sg)) : Nat → Int → Int → Int → Sg → (Sg → Option (Int × Sg)) → (Sg → Option (Int × Sg)) → Option (Int × Sg)
  | 0, _, _, _, _, _, _ => none
  | n + 1, a1, a2, a3, u, x36, x28 => ld u 3 a1 fun v1 => if a3 < v1 then (cl (call 98 [a1, a3] u) fun v2 s3 => if v2 = a2 then (x28 s3) else (ar (a3 + 1) fun v4 => bX1_hasAdjective_L2 call n a1 a2 v4 s3 x36 x28)) else (x36 u)
def bX1_hasAdjective (call : Nat → List Int → Sg → Option (Int × Sg)) (a1 a2 : Int) (u : Sg) : Option (Int × Sg) := bX1_hasAdjective_L2 call KF a1 a2 1 u (fun s1 => some (0, s1)) (fun s2 => some (1, s2))
section
variable {p : Program} {l : Launch} {e : Env} {R : Room} {s : State} {m : MethodId} {args : Array Value} {below : List Frame} {meth : Method} {c : Code} {G : Gm} {A : Nat → Prop} {ad0 : Nat → Nat} {σ0 : Sg} {d : Nat} {call : Nat → List Int → Sg → Option (Int × Sg)}
theorem wX1_hasAdjective_L2 (hd : 2 ≤ d) (hRf : d + 1 ≤ R.frames) (hRl : 40 * (d + 1) ≤ R.locals) (hX2_at : ∀ (a1 a2 : Int) (u : Sg), Ct l d FC clA yX2_at cX2_at 3 (some .int) DX2_at rvI [vR 0, vI a1, vI a2] u (call 98 [a1, a2] u)) (x36 : Sg → Option (Int × Sg)) (x28 : Sg → Option (Int × Sg)) (hx36 : ∀ (u : Sg), WG p l e R s m args below meth c JX1_hasAdjective DX1_hasAdjective G clA A FC ad0 σ0 rvI (x36 u) u 36 [] []) (hx28 : ∀ (u : Sg), WG p l e R s m args below meth c JX1_hasAdjective DX1_hasAdjective G clA A FC ad0 σ0 rvI (x28 u) u 28 [] []) : ∀ (n : Nat) (a1 a2 a3 : Int) (u : Sg), inR a1 → inR a2 → inR a3 → WG p l e R s m args below meth c JX1_hasAdjective DX1_hasAdjective G clA A FC ad0 σ0 rvI (bX1_hasAdjective_L2 call n a1 a2 a3 u x36 x28) u 2 [(0, vR 1), (1, vI a1), (2, vI a2), (3, vI a3)] [] := by
  intro n
  induction n with
  | zero =>
    intro a1 a2 a3 u ra1 ra2 ra3
    exact g_none
  | succ n ih =>
    intro a1 a2 a3 u ra1 ra2 ra3
    rw [bX1_hasAdjective_L2]
    refine g_iload_n 3 dX1_hasAdjective_2 rfl ?_
    refine g_aload_n 0 dX1_hasAdjective_3 rfl ?_
    refine g_get (v := vR 0) (ci := 1) (b := 30) (N := 57) 0 rfl rfl (by decide) in_X1 rfl rfl q308 dX1_hasAdjective_4 ?_
    refine g_get (v := vR 13) (ci := 0) (b := 0) (N := 21) 3 rfl rfl (by decide) in_X2 rfl rfl q237 dX1_hasAdjective_7 ?_
    refine g_iload_n 1 dX1_hasAdjective_10 rfl ?_
    refine g_iald (id := 3) 3 rfl rfl dX1_hasAdjective_11 (fun v1 rv1 => ?_)
    refine g_icmp_ge 36 dX1_hasAdjective_12 (by decide) (fun _ => ra3) (fun _ => rv1) (fun _ => ?_) (fun _ => ?_)
    · refine g_aload_n 0 dX1_hasAdjective_15 rfl ?_
      refine g_get (v := vR 0) (ci := 1) (b := 30) (N := 57) 0 rfl rfl (by decide) in_X1 rfl rfl q308 dX1_hasAdjective_16 ?_
      refine g_iload_n 1 dX1_hasAdjective_19 rfl ?_
      refine g_iload_n 3 dX1_hasAdjective_20 rfl ?_
      refine g_cVI (As := [vI a1, vI a3]) (n := 2) (stk := []) (ci := 0) (b := 0) (N := 21) (hX2_at a1 a3 u) (by decide +kernel) rfl rfl (lw_V q571 q572 q573 q164 q574) (by decide +kernel) rfl (by decide) hRf hRl (fun _ => (avc ra1 (avc ra3 avn))) (Nat.le_of_ble_eq_true rfl) rfl rfl dX1_hasAdjective_21 (fun v2 s3 rv2 => ?_)
      refine g_iload_n 2 dX1_hasAdjective_24 rfl ?_
      refine g_icmp_ne 30 dX1_hasAdjective_25 (by decide) (fun _ => rv2) (fun _ => ra2) (fun _ => ?_) (fun _ => ?_)
      · exact g_pick [] rfl (hx28 s3)
      · refine g_iinc 3 (loc' := fun v4 => [(3, vI v4), (0, vR 1), (1, vI a1), (2, vI a2)]) dX1_hasAdjective_30 rfl (by decide) (fun _ => rfl) (fun v4 rv4 => ?_)
        refine g_goto 2 dX1_hasAdjective_33 (by decide) ?_
        exact g_pick [1, 2, 3, 0] rfl (ih a1 a2 v4 s3 ra1 ra2 rv4)
    · exact g_pick [] rfl (hx36 u)
theorem wX1_hasAdjective (hd : 2 ≤ d) (hRf : d + 1 ≤ R.frames) (hRl : 40 * (d + 1) ≤ R.locals) (hX2_at : ∀ (a1 a2 : Int) (u : Sg), Ct l d FC clA yX2_at cX2_at 3 (some .int) DX2_at rvI [vR 0, vI a1, vI a2] u (call 98 [a1, a2] u)) (a1 a2 : Int) (u : Sg) (ra1 : inR a1) (ra2 : inR a2) : WG p l e R s m args below meth c JX1_hasAdjective DX1_hasAdjective G clA A FC ad0 σ0 rvI (bX1_hasAdjective call a1 a2 u) u 0 [(0, vR 1), (1, vI a1), (2, vI a2)] [] := by
  unfold bX1_hasAdjective
  refine g_iconst dX1_hasAdjective_0 ?_
  refine g_istore_n (loc' := [(3, vI 1), (0, vR 1), (1, vI a1), (2, vI a2)]) dX1_hasAdjective_1 (by decide) rfl ?_
  refine g_pick [1, 2, 3, 0] rfl (wX1_hasAdjective_L2 hd hRf hRl hX2_at _ _ (fun s1 => ?_) (fun s2 => ?_) KF a1 a2 1 u ra1 ra2 (inR_z (Or.inr rfl)))
  · refine g_iconst dX1_hasAdjective_36 ?_
    exact g_zret rfl rfl (fun _ => (Or.inl rfl)) dX1_hasAdjective_37
  · refine g_iconst dX1_hasAdjective_28 ?_
    exact g_zret rfl rfl (fun _ => (Or.inr rfl)) dX1_hasAdjective_29
end
section
variable {l : Launch} {d : Nat} {call : Nat → List Int → Sg → Option (Int × Sg)}
theorem ctX1_hasAdjective (p0 : Program) (e0 : Env) (s0 : State) (m0 : MethodId) (meth0 : Method) (c0 : Code) (G0 : Gm) (hd : 2 ≤ d) (hX2_at : ∀ (a1 a2 : Int) (u : Sg), Ct l d FC clA yX2_at cX2_at 3 (some .int) DX2_at rvI [vR 0, vI a1, vI a2] u (call 98 [a1, a2] u)) (a1 a2 : Int) (u : Sg) : Ct l (d + 1) FC clA yX1_hasAdjective cX1_hasAdjective 4 (some .boolean) DX1_hasAdjective rvI [vR 1, vI a1, vI a2] u (bX1_hasAdjective call a1 a2 u) :=
  Ct_of (by decide) (Nat.le_of_ble_eq_true rfl) (fun p e R s1 m args below meth c G A ad hA hRf hRl => wX1_hasAdjective hd hRf hRl hX2_at a1 a2 u (hA _ (List.mem_cons_of_mem _ List.mem_cons_self)) (hA _ (List.mem_cons_of_mem _ (List.mem_cons_of_mem _ List.mem_cons_self)))) p0 e0 s0 m0 meth0 c0 G0
end
