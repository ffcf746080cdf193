/-! RoundCheck.placed(III)I -/
abbrev JX1_placed : Jm := (cX1_placed, RX1, 12, (some .int))
def bX1_placed_L166 (call : Nat → List Int → Sg → Option (Int × Sg)) : Nat → Int → Int → Int → Int → Sg → (Int → Int → Int → Sg → Option (Int × Sg)) → Option (Int × Sg)
  | 0, _, _, _, _, _, _ => none
  | n + 1, a6, a7, a9, a10, u, x205 => ld u 3 a7 fun v1 => if a10 < v1 then (cl (call 98 [a7, a10] u) fun v2 s3 => cl (call 97 [v2] s3) fun v4 s5 => ar (a10 + 1) fun v6 => bX1_placed_L166 call n a6 a7 a9 v6 s5 x205) else (x205 a6 a7 a9 u)
def bX1_placed_L290 (call : Nat → List Int → Sg → Option (Int × Sg)) : Nat → Int → Int → Int → Int → Int → Int → Int → Int → Int → Sg → (Int → Int → Int → Int → Int → Sg → Option (Int × Sg)) → Option (Int × Sg)
  | 0, _, _, _, _, _, _, _, _, _, _, _ => none
  | n + 1, a1, a2, a3, a4, a5, a6, a7, a8, a9, u, x370 => if a9 < a7 then (jn (fun (a1 a2 a3 a4 a5 a6 a7 a8 a9 t0 : Int) (s2 : Sg) => jn (fun (a1 a2 a3 a4 a5 a6 a7 a8 a9 a11 : Int) (s4 : Sg) => cl (call 97 [a11] s4) fun v5 s6 => ar (a9 + 1) fun v7 => bX1_placed_L290 call n a1 a2 a3 a4 a5 a6 a7 a8 v7 s6 x370) fun j3 => if t0 = 0 then (j3 a1 a2 a3 a4 a5 a6 a7 0 a9 t0 s2) else (j3 a1 a2 a3 a4 a5 a6 a7 a8 a9 t0 s2)) fun j1 => cl (call 98 [a1, a9] u) fun v8 s9 => if v8 = 0 then (j1 a1 a2 a3 a4 a5 a6 a7 a8 a9 0 s9) else (jn (fun (a1 a2 a3 a4 a5 a6 a7 a8 a9 t1 t2 t3 : Int) (s11 : Sg) => cl (call 74 [t1, t2, t3] s11) fun v12 s13 => j1 a1 a2 a3 a4 a5 a6 a7 a8 a9 v12 s13) fun j10 => jn (fun (a1 a2 a3 a4 a5 a6 a7 a8 a9 t1 t2 : Int) (s15 : Sg) => j10 a1 a2 a3 a4 a5 a6 a7 a8 a9 t1 t2 a3 s15) fun j14 => if a4 = 18 then (if a9 = 1 then (ar (a3 + 1) fun v16 => j10 a1 a2 a3 a4 a5 a6 a7 a8 a9 v8 a2 v16 s9) else (j14 a1 a2 a3 a4 a5 a6 a7 a8 a9 v8 a2 s9)) else (j14 a1 a2 a3 a4 a5 a6 a7 a8 a9 v8 a2 s9))) else (x370 a1 a4 a5 a6 a8 u)
def bX1_placed (call : Nat → List Int → Sg → Option (Int × Sg)) (a1 a2 a3 : Int) (u : Sg) : Option (Int × Sg) := ld u 0 a1 fun v1 => if v1 = 2 then (ld u 1 a1 fun v2 => if v2 = a3 then (some (a2, u)) else (some (0, u))) else (ld u 5 a1 fun v3 => if v3 ≤ a3 then (jn (fun (s5 : Sg) => some (0, s5)) fun j4 => cl (call 12 [v1] u) fun v6 s7 => if v6 = 0 then (j4 s7) else (ld s7 5 a1 fun v8 => if v8 = 0 then (some (a1, s7)) else (j4 s7))) else (jn (fun (a1 a2 a3 a4 t0 : Int) (s10 : Sg) => un (gI s10 12) fun v11 => if a4 = 5 then (cl (call 98 [a1, 0] s10) fun v12 s13 => cl (call 30 [v12] s13) fun v14 s15 => cl (call 74 [v14, a2, a3] s15) fun v16 s17 => if t0 = 0 then (some (0, s17)) else (jn (fun (a9 : Int) (s19 : Sg) => cl (call 76 [a9] s19) fun v20 s21 => some (v20, s21)) fun j18 => if v16 = 0 then (j18 0 s17) else (cl (call 97 [v16] s17) fun v22 s23 => bX1_placed_L166 call KF v11 v12 0 1 s23 (fun v25 v26 v27 s24 => ld s24 1 v26 fun v28 => cl (call 113 [8, v28, v25] s24) fun v29 s30 => if v29 = 0 then (j18 v27 s30) else (cl (call 97 [v29] s30) fun v31 s32 => cl (call 113 [5, 0, v25] s32) fun v33 s34 => j18 v33 s34))))) else (jn (fun (a1 a2 a3 a4 a5 a6 t0 : Int) (s36 : Sg) => bX1_placed_L290 call KF a1 a2 a3 a4 a5 a6 t0 1 0 s36 (fun v38 v39 v40 v41 v42 s37 => jn (fun (a5 a6 : Int) (s44 : Sg) => un (sI s44 12 a6) fun s45 => if a5 = 0 then (some (0, s45)) else (cl (call 76 [0] s45) fun v46 s47 => some (v46, s47))) fun j43 => if v40 = 0 then (j43 v40 v41 s37) else (if v42 = 0 then (j43 v40 v41 s37) else (ld s37 1 v38 fun v48 => cl (call 113 [v39, v48, v41] s37) fun v49 s50 => cl (call 76 [v49] s50) fun v51 s52 => some (v51, s52))))) fun j35 => if a4 = 8 then (j35 a1 a2 a3 a4 t0 v11 1 s10) else (ld s10 3 a1 fun v53 => j35 a1 a2 a3 a4 t0 v11 v53 s10))) fun j9 => jn (fun (a1 a2 a3 a4 : Int) (s55 : Sg) => j9 a1 a2 a3 a4 0 s55) fun j54 => cl (call 12 [v1] u) fun v56 s57 => if v56 = 0 then (j54 a1 a2 a3 v1 s57) else (cl (call 75 [a1, a3] s57) fun v58 s59 => if v58 = 0 then (j9 a1 a2 a3 v1 1 s59) else (j54 a1 a2 a3 v1 s59))))
section
variable {p : Program} {l : Launch} {e : Env} {R : Room} {s : State} {m : MethodId} {args : Array Value} {below : List Frame} {meth : Method} {c : Code} {G : Gm} {A : Nat → Prop} {ad0 : Nat → Nat} {σ0 : Sg} {d : Nat} {call : Nat → List Int → Sg → Option (Int × Sg)}
theorem wX1_placed_L166 (hd : 2 ≤ d) (hRf : d + 1 ≤ R.frames) (hRl : 40 * (d + 1) ≤ R.locals) (hX1_isTerm : ∀ (a1 : Int) (u : Sg), Ct l d FC clA yX1_isTerm cX1_isTerm 1 (some .boolean) DX1_isTerm rvI [vI a1] u (call 12 [a1] u)) (hX2_at : ∀ (a1 a2 : Int) (u : Sg), Ct l d FC clA yX2_at cX2_at 3 (some .int) DX2_at rvI [vR 0, vI a1, vI a2] u (call 98 [a1, a2] u)) (hX1_argOf : ∀ (a1 : Int) (u : Sg), Ct l d FC clA yX1_argOf cX1_argOf 2 (some .int) DX1_argOf rvI [vR 1, vI a1] u (call 30 [a1] u)) (hX1_placed : ∀ (a1 a2 a3 : Int) (u : Sg), Ct l d FC clA yX1_placed cX1_placed 12 (some .int) DX1_placed rvI [vR 1, vI a1, vI a2, vI a3] u (call 74 [a1, a2, a3] u)) (hX1_counted : ∀ (a1 : Int) (u : Sg), Ct l d FC clA yX1_counted cX1_counted 2 (some .int) DX1_counted rvI [vR 1, vI a1] u (call 76 [a1] u)) (hX2_push : ∀ (a1 : Int) (u : Sg), Ct l d FC clA yX2_push cX2_push 2 none DX2_push rvV [vR 0, vI a1] u (call 97 [a1] u)) (hX2_seek : ∀ (a1 a2 a3 : Int) (u : Sg), Ct l d FC clA yX2_seek cX2_seek 8 (some .int) DX2_seek rvI [vR 0, vI a1, vI a2, vI a3] u (call 113 [a1, a2, a3] u)) (hX1_isWithin : ∀ (a1 a2 : Int) (u : Sg), Ct l d FC clA yX1_isWithin cX1_isWithin 5 (some .boolean) DX1_isWithin rvI [vR 1, vI a1, vI a2] u (call 75 [a1, a2] u)) (x205 : Int → Int → Int → Sg → Option (Int × Sg)) (hx205 : ∀ (a6 a7 a9 : Int) (u : Sg), inR a6 → inR a7 → (a9 = 0 ∨ a9 = 1) → WG p l e R s m args below meth c JX1_placed DX1_placed G clA A FC ad0 σ0 rvI (x205 a6 a7 a9 u) u 205 [(0, vR 1), (6, vI a6), (7, vI a7), (9, vI a9)] []) : ∀ (n : Nat) (a6 a7 a9 a10 : Int) (u : Sg), inR a6 → inR a7 → (a9 = 0 ∨ a9 = 1) → inR a10 → WG p l e R s m args below meth c JX1_placed DX1_placed G clA A FC ad0 σ0 rvI (bX1_placed_L166 call n a6 a7 a9 a10 u x205) u 166 [(0, vR 1), (6, vI a6), (7, vI a7), (9, vI a9), (10, vI a10)] [] := by
  intro n
  induction n with
  | zero =>
    intro a6 a7 a9 a10 u ra6 ra7 za9 ra10
    exact g_none
  | succ n ih =>
    intro a6 a7 a9 a10 u ra6 ra7 za9 ra10
    rw [bX1_placed_L166]
    refine g_iload 4 dX1_placed_166 rfl ?_
    refine g_aload_n 0 dX1_placed_168 rfl ?_
    refine g_get (v := vR 0) (ci := 1) (b := 30) (N := 57) 0 rfl rfl (by decide) in_X1 rfl rfl q308 dX1_placed_169 ?_
    refine g_get (v := vR 13) (ci := 0) (b := 0) (N := 21) 3 rfl rfl (by decide) in_X2 rfl rfl q237 dX1_placed_172 ?_
    refine g_iload 2 dX1_placed_175 rfl ?_
    refine g_iald (id := 3) 3 rfl rfl dX1_placed_177 (fun v1 rv1 => ?_)
    refine g_icmp_ge 205 dX1_placed_178 (by decide) (fun _ => ra10) (fun _ => rv1) (fun _ => ?_) (fun _ => ?_)
    · refine g_aload_n 0 dX1_placed_181 rfl ?_
      refine g_get (v := vR 0) (ci := 1) (b := 30) (N := 57) 0 rfl rfl (by decide) in_X1 rfl rfl q308 dX1_placed_182 ?_
      refine g_aload_n 0 dX1_placed_185 rfl ?_
      refine g_get (v := vR 0) (ci := 1) (b := 30) (N := 57) 0 rfl rfl (by decide) in_X1 rfl rfl q308 dX1_placed_186 ?_
      refine g_iload 2 dX1_placed_189 rfl ?_
      refine g_iload 4 dX1_placed_191 rfl ?_
      refine g_cVI (As := [vI a7, vI a10]) (n := 2) (stk := [vR 0]) (ci := 0) (b := 0) (N := 21) (hX2_at a7 a10 u) (by decide +kernel) rfl rfl (lw_V q571 q572 q573 q164 q574) (by decide +kernel) rfl (by decide) hRf hRl (fun _ => (avc ra7 (avc ra10 avn))) (Nat.le_of_ble_eq_true rfl) rfl rfl dX1_placed_193 (fun v2 s3 rv2 => ?_)
      refine g_cVV (As := [vI v2]) (n := 1) (stk := []) (ci := 0) (b := 0) (N := 21) (hX2_push v2 s3) (by decide +kernel) rfl rfl (lw_V q637 q228 q229 q164 q230) (by decide +kernel) rfl (by decide) hRf hRl (fun _ => (avc rv2 avn)) (Nat.le_of_ble_eq_true rfl) rfl rfl dX1_placed_196 (fun v4 s5 => ?_)
      refine g_iinc 4 (loc' := fun v6 => [(10, vI v6), (0, vR 1), (6, vI a6), (7, vI a7), (9, vI a9)]) dX1_placed_199 rfl (by decide) (fun _ => rfl) (fun v6 rv6 => ?_)
      refine g_goto 166 dX1_placed_202 (by decide) ?_
      exact g_pick [1, 2, 3, 4, 0] rfl (ih a6 a7 a9 v6 s5 ra6 ra7 za9 rv6)
    · exact g_pick [0, 1, 2, 3] rfl (hx205 a6 a7 a9 u ra6 ra7 za9)
theorem wX1_placed_L290 (hd : 2 ≤ d) (hRf : d + 1 ≤ R.frames) (hRl : 40 * (d + 1) ≤ R.locals) (hX1_isTerm : ∀ (a1 : Int) (u : Sg), Ct l d FC clA yX1_isTerm cX1_isTerm 1 (some .boolean) DX1_isTerm rvI [vI a1] u (call 12 [a1] u)) (hX2_at : ∀ (a1 a2 : Int) (u : Sg), Ct l d FC clA yX2_at cX2_at 3 (some .int) DX2_at rvI [vR 0, vI a1, vI a2] u (call 98 [a1, a2] u)) (hX1_argOf : ∀ (a1 : Int) (u : Sg), Ct l d FC clA yX1_argOf cX1_argOf 2 (some .int) DX1_argOf rvI [vR 1, vI a1] u (call 30 [a1] u)) (hX1_placed : ∀ (a1 a2 a3 : Int) (u : Sg), Ct l d FC clA yX1_placed cX1_placed 12 (some .int) DX1_placed rvI [vR 1, vI a1, vI a2, vI a3] u (call 74 [a1, a2, a3] u)) (hX1_counted : ∀ (a1 : Int) (u : Sg), Ct l d FC clA yX1_counted cX1_counted 2 (some .int) DX1_counted rvI [vR 1, vI a1] u (call 76 [a1] u)) (hX2_push : ∀ (a1 : Int) (u : Sg), Ct l d FC clA yX2_push cX2_push 2 none DX2_push rvV [vR 0, vI a1] u (call 97 [a1] u)) (hX2_seek : ∀ (a1 a2 a3 : Int) (u : Sg), Ct l d FC clA yX2_seek cX2_seek 8 (some .int) DX2_seek rvI [vR 0, vI a1, vI a2, vI a3] u (call 113 [a1, a2, a3] u)) (hX1_isWithin : ∀ (a1 a2 : Int) (u : Sg), Ct l d FC clA yX1_isWithin cX1_isWithin 5 (some .boolean) DX1_isWithin rvI [vR 1, vI a1, vI a2] u (call 75 [a1, a2] u)) (x370 : Int → Int → Int → Int → Int → Sg → Option (Int × Sg)) (hx370 : ∀ (a1 a4 a5 a6 a8 : Int) (u : Sg), inR a1 → inR a4 → (a5 = 0 ∨ a5 = 1) → inR a6 → (a8 = 0 ∨ a8 = 1) → WG p l e R s m args below meth c JX1_placed DX1_placed G clA A FC ad0 σ0 rvI (x370 a1 a4 a5 a6 a8 u) u 370 [(0, vR 1), (1, vI a1), (4, vI a4), (5, vI a5), (6, vI a6), (8, vI a8)] []) : ∀ (n : Nat) (a1 a2 a3 a4 a5 a6 a7 a8 a9 : Int) (u : Sg), inR a1 → inR a2 → inR a3 → inR a4 → (a5 = 0 ∨ a5 = 1) → inR a6 → inR a7 → (a8 = 0 ∨ a8 = 1) → inR a9 → WG p l e R s m args below meth c JX1_placed DX1_placed G clA A FC ad0 σ0 rvI (bX1_placed_L290 call n a1 a2 a3 a4 a5 a6 a7 a8 a9 u x370) u 290 [(0, vR 1), (1, vI a1), (2, vI a2), (3, vI a3), (4, vI a4), (5, vI a5), (6, vI a6), (7, vI a7), (8, vI a8), (9, vI a9)] [] := by
  intro n
  induction n with
  | zero =>
    intro a1 a2 a3 a4 a5 a6 a7 a8 a9 u ra1 ra2 ra3 ra4 za5 ra6 ra7 za8 ra9
    exact g_none
  | succ n ih =>
    intro a1 a2 a3 a4 a5 a6 a7 a8 a9 u ra1 ra2 ra3 ra4 za5 ra6 ra7 za8 ra9
    rw [bX1_placed_L290]
    refine g_iload 9 dX1_placed_290 rfl ?_
    refine g_iload 7 dX1_placed_292 rfl ?_
    refine g_icmp_ge 370 dX1_placed_294 (by decide) (fun _ => ra9) (fun _ => ra7) (fun _ => ?_) (fun _ => ?_)
    · refine g_jn (fun j1 => ∀ (a1 a2 a3 a4 a5 a6 a7 a8 a9 t0 : Int) (s2 : Sg), inR a1 → inR a2 → inR a3 → inR a4 → (a5 = 0 ∨ a5 = 1) → inR a6 → inR a7 → (a8 = 0 ∨ a8 = 1) → inR a9 → inR t0 → WG p l e R s m args below meth c JX1_placed DX1_placed G clA A FC ad0 σ0 rvI (j1 a1 a2 a3 a4 a5 a6 a7 a8 a9 t0 s2) s2 345 [(0, vR 1), (1, vI a1), (2, vI a2), (3, vI a3), (4, vI a4), (5, vI a5), (6, vI a6), (7, vI a7), (8, vI a8), (9, vI a9)] [vI t0]) (fun a1 a2 a3 a4 a5 a6 a7 a8 a9 t0 s2 ra1 ra2 ra3 ra4 za5 ra6 ra7 za8 ra9 rt0 => ?_) (fun j1 hj1 => ?_)
      · refine g_jn (fun j3 => ∀ (a1 a2 a3 a4 a5 a6 a7 a8 a9 a11 : Int) (s4 : Sg), inR a1 → inR a2 → inR a3 → inR a4 → (a5 = 0 ∨ a5 = 1) → inR a6 → inR a7 → (a8 = 0 ∨ a8 = 1) → inR a9 → inR a11 → WG p l e R s m args below meth c JX1_placed DX1_placed G clA A FC ad0 σ0 rvI (j3 a1 a2 a3 a4 a5 a6 a7 a8 a9 a11 s4) s4 355 [(0, vR 1), (1, vI a1), (2, vI a2), (3, vI a3), (4, vI a4), (5, vI a5), (6, vI a6), (7, vI a7), (8, vI a8), (9, vI a9), (11, vI a11)] []) (fun a1 a2 a3 a4 a5 a6 a7 a8 a9 a11 s4 ra1 ra2 ra3 ra4 za5 ra6 ra7 za8 ra9 ra11 => ?_) (fun j3 hj3 => ?_)
        · refine g_aload_n 0 dX1_placed_355 rfl ?_
          refine g_get (v := vR 0) (ci := 1) (b := 30) (N := 57) 0 rfl rfl (by decide) in_X1 rfl rfl q308 dX1_placed_356 ?_
          refine g_iload 10 dX1_placed_359 rfl ?_
          refine g_cVV (As := [vI a11]) (n := 1) (stk := []) (ci := 0) (b := 0) (N := 21) (hX2_push a11 s4) (by decide +kernel) rfl rfl (lw_V q637 q228 q229 q164 q230) (by decide +kernel) rfl (by decide) hRf hRl (fun _ => (avc ra11 avn)) (Nat.le_of_ble_eq_true rfl) rfl rfl dX1_placed_361 (fun v5 s6 => ?_)
          refine g_iinc 9 (loc' := fun v7 => [(9, vI v7), (0, vR 1), (1, vI a1), (2, vI a2), (3, vI a3), (4, vI a4), (5, vI a5), (6, vI a6), (7, vI a7), (8, vI a8), (11, vI a11)]) dX1_placed_364 rfl (by decide) (fun _ => rfl) (fun v7 rv7 => ?_)
          refine g_goto 290 dX1_placed_367 (by decide) ?_
          exact g_pick [1, 2, 3, 4, 5, 6, 7, 8, 9, 0] rfl (ih a1 a2 a3 a4 a5 a6 a7 a8 v7 s6 ra1 ra2 ra3 ra4 za5 ra6 ra7 za8 rv7)
        · refine g_istore (loc' := [(11, vI t0), (0, vR 1), (1, vI a1), (2, vI a2), (3, vI a3), (4, vI a4), (5, vI a5), (6, vI a6), (7, vI a7), (8, vI a8), (9, vI a9)]) dX1_placed_345 (by decide) rfl ?_
          refine g_iload 0 dX1_placed_347 rfl ?_
          refine g_if_ne 355 dX1_placed_349 (by decide) (fun _ => rt0) (fun _ => ?_) (fun _ => ?_)
          · refine g_iconst dX1_placed_352 ?_
            refine g_istore (loc' := [(8, vI 0), (11, vI t0), (0, vR 1), (1, vI a1), (2, vI a2), (3, vI a3), (4, vI a4), (5, vI a5), (6, vI a6), (7, vI a7), (9, vI a9)]) dX1_placed_353 (by decide) rfl ?_
            exact g_pick [2, 3, 4, 5, 6, 7, 8, 9, 0, 10, 1] rfl (hj3 a1 a2 a3 a4 a5 a6 a7 0 a9 t0 s2 ra1 ra2 ra3 ra4 za5 ra6 ra7 (Or.inl rfl) ra9 rt0)
          · exact g_pick [1, 2, 3, 4, 5, 6, 7, 8, 9, 10, 0] rfl (hj3 a1 a2 a3 a4 a5 a6 a7 a8 a9 t0 s2 ra1 ra2 ra3 ra4 za5 ra6 ra7 za8 ra9 rt0)
      · refine g_aload_n 0 dX1_placed_297 rfl ?_
        refine g_get (v := vR 0) (ci := 1) (b := 30) (N := 57) 0 rfl rfl (by decide) in_X1 rfl rfl q308 dX1_placed_298 ?_
        refine g_iload_n 1 dX1_placed_301 rfl ?_
        refine g_iload 9 dX1_placed_302 rfl ?_
        refine g_cVI (As := [vI a1, vI a9]) (n := 2) (stk := []) (ci := 0) (b := 0) (N := 21) (hX2_at a1 a9 u) (by decide +kernel) rfl rfl (lw_V q571 q572 q573 q164 q574) (by decide +kernel) rfl (by decide) hRf hRl (fun _ => (avc ra1 (avc ra9 avn))) (Nat.le_of_ble_eq_true rfl) rfl rfl dX1_placed_304 (fun v8 s9 rv8 => ?_)
        refine g_istore (loc' := [(10, vI v8), (0, vR 1), (1, vI a1), (2, vI a2), (3, vI a3), (4, vI a4), (5, vI a5), (6, vI a6), (7, vI a7), (8, vI a8), (9, vI a9)]) dX1_placed_307 (by decide) rfl ?_
        refine g_iload 0 dX1_placed_309 rfl ?_
        refine g_if_ne 318 dX1_placed_311 (by decide) (fun _ => rv8) (fun _ => ?_) (fun _ => ?_)
        · refine g_iconst dX1_placed_314 ?_
          refine g_goto 345 dX1_placed_315 (by decide) ?_
          exact g_pick [1, 2, 3, 4, 5, 6, 7, 8, 9, 10] rfl (hj1 a1 a2 a3 a4 a5 a6 a7 a8 a9 0 s9 ra1 ra2 ra3 ra4 za5 ra6 ra7 za8 ra9 (inR_z (Or.inl rfl)))
        · refine g_jn (fun j10 => ∀ (a1 a2 a3 a4 a5 a6 a7 a8 a9 t1 t2 t3 : Int) (s11 : Sg), inR a1 → inR a2 → inR a3 → inR a4 → (a5 = 0 ∨ a5 = 1) → inR a6 → inR a7 → (a8 = 0 ∨ a8 = 1) → inR a9 → inR t1 → inR t2 → inR t3 → WG p l e R s m args below meth c JX1_placed DX1_placed G clA A FC ad0 σ0 rvI (j10 a1 a2 a3 a4 a5 a6 a7 a8 a9 t1 t2 t3 s11) s11 342 [(0, vR 1), (1, vI a1), (2, vI a2), (3, vI a3), (4, vI a4), (5, vI a5), (6, vI a6), (7, vI a7), (8, vI a8), (9, vI a9)] [vI t3, vI t2, vI t1, vR 1]) (fun a1 a2 a3 a4 a5 a6 a7 a8 a9 t1 t2 t3 s11 ra1 ra2 ra3 ra4 za5 ra6 ra7 za8 ra9 rt1 rt2 rt3 => ?_) (fun j10 hj10 => ?_)
          · refine g_cVI (As := [vI t1, vI t2, vI t3]) (n := 3) (stk := []) (ci := 1) (b := 30) (N := 57) (hX1_placed t1 t2 t3 s11) (by decide +kernel) rfl rfl (lw_V q978 q980 qs56 q163 q981) (by decide +kernel) rfl (by decide) hRf hRl (fun _ => (avc rt1 (avc rt2 (avc rt3 avn)))) (Nat.le_of_ble_eq_true rfl) rfl rfl dX1_placed_342 (fun v12 s13 rv12 => ?_)
            exact g_pick [0, 1, 2, 3, 4, 5, 6, 7, 8, 9] rfl (hj1 a1 a2 a3 a4 a5 a6 a7 a8 a9 v12 s13 ra1 ra2 ra3 ra4 za5 ra6 ra7 za8 ra9 rv12)
          · refine g_jn (fun j14 => ∀ (a1 a2 a3 a4 a5 a6 a7 a8 a9 t1 t2 : Int) (s15 : Sg), inR a1 → inR a2 → inR a3 → inR a4 → (a5 = 0 ∨ a5 = 1) → inR a6 → inR a7 → (a8 = 0 ∨ a8 = 1) → inR a9 → inR t1 → inR t2 → WG p l e R s m args below meth c JX1_placed DX1_placed G clA A FC ad0 σ0 rvI (j14 a1 a2 a3 a4 a5 a6 a7 a8 a9 t1 t2 s15) s15 341 [(0, vR 1), (1, vI a1), (2, vI a2), (3, vI a3), (4, vI a4), (5, vI a5), (6, vI a6), (7, vI a7), (8, vI a8), (9, vI a9)] [vI t2, vI t1, vR 1]) (fun a1 a2 a3 a4 a5 a6 a7 a8 a9 t1 t2 s15 ra1 ra2 ra3 ra4 za5 ra6 ra7 za8 ra9 rt1 rt2 => ?_) (fun j14 hj14 => ?_)
            · refine g_iload_n 3 dX1_placed_341 rfl ?_
              exact g_pick [0, 1, 2, 3, 4, 5, 6, 7, 8, 9] rfl (hj10 a1 a2 a3 a4 a5 a6 a7 a8 a9 t1 t2 a3 s15 ra1 ra2 ra3 ra4 za5 ra6 ra7 za8 ra9 rt1 rt2 ra3)
            · refine g_aload_n 1 dX1_placed_318 rfl ?_
              refine g_iload 0 dX1_placed_319 rfl ?_
              refine g_iload_n 3 dX1_placed_321 rfl ?_
              refine g_iload 5 dX1_placed_322 rfl ?_
              refine g_bipush (by decide +kernel) dX1_placed_324 ?_
              refine g_icmp_ne 341 dX1_placed_326 (by decide) (fun _ => ra4) (fun _ => (by decide : inR (18))) (fun _ => ?_) (fun _ => ?_)
              · refine g_iload 10 dX1_placed_329 rfl ?_
                refine g_iconst dX1_placed_331 ?_
                refine g_icmp_ne 341 dX1_placed_332 (by decide) (fun _ => ra9) (fun _ => (inR_z (Or.inr rfl))) (fun _ => ?_) (fun _ => ?_)
                · refine g_iload_n 4 dX1_placed_335 rfl ?_
                  refine g_iconst dX1_placed_336 ?_
                  refine g_iadd dX1_placed_337 (fun v16 rv16 => ?_)
                  refine g_goto 342 dX1_placed_338 (by decide) ?_
                  exact g_pick [1, 2, 3, 4, 5, 6, 7, 8, 9, 10] rfl (hj10 a1 a2 a3 a4 a5 a6 a7 a8 a9 v8 a2 v16 s9 ra1 ra2 ra3 ra4 za5 ra6 ra7 za8 ra9 rv8 ra2 rv16)
                · exact g_pick [1, 2, 3, 4, 5, 6, 7, 8, 9, 10] rfl (hj14 a1 a2 a3 a4 a5 a6 a7 a8 a9 v8 a2 s9 ra1 ra2 ra3 ra4 za5 ra6 ra7 za8 ra9 rv8 ra2)
              · exact g_pick [1, 2, 3, 4, 5, 6, 7, 8, 9, 10] rfl (hj14 a1 a2 a3 a4 a5 a6 a7 a8 a9 v8 a2 s9 ra1 ra2 ra3 ra4 za5 ra6 ra7 za8 ra9 rv8 ra2)
    · exact g_pick [0, 1, 4, 5, 6, 8] rfl (hx370 a1 a4 a5 a6 a8 u ra1 ra4 za5 ra6 za8)
theorem wX1_placed (hd : 2 ≤ d) (hRf : d + 1 ≤ R.frames) (hRl : 40 * (d + 1) ≤ R.locals) (hX1_isTerm : ∀ (a1 : Int) (u : Sg), Ct l d FC clA yX1_isTerm cX1_isTerm 1 (some .boolean) DX1_isTerm rvI [vI a1] u (call 12 [a1] u)) (hX2_at : ∀ (a1 a2 : Int) (u : Sg), Ct l d FC clA yX2_at cX2_at 3 (some .int) DX2_at rvI [vR 0, vI a1, vI a2] u (call 98 [a1, a2] u)) (hX1_argOf : ∀ (a1 : Int) (u : Sg), Ct l d FC clA yX1_argOf cX1_argOf 2 (some .int) DX1_argOf rvI [vR 1, vI a1] u (call 30 [a1] u)) (hX1_placed : ∀ (a1 a2 a3 : Int) (u : Sg), Ct l d FC clA yX1_placed cX1_placed 12 (some .int) DX1_placed rvI [vR 1, vI a1, vI a2, vI a3] u (call 74 [a1, a2, a3] u)) (hX1_counted : ∀ (a1 : Int) (u : Sg), Ct l d FC clA yX1_counted cX1_counted 2 (some .int) DX1_counted rvI [vR 1, vI a1] u (call 76 [a1] u)) (hX2_push : ∀ (a1 : Int) (u : Sg), Ct l d FC clA yX2_push cX2_push 2 none DX2_push rvV [vR 0, vI a1] u (call 97 [a1] u)) (hX2_seek : ∀ (a1 a2 a3 : Int) (u : Sg), Ct l d FC clA yX2_seek cX2_seek 8 (some .int) DX2_seek rvI [vR 0, vI a1, vI a2, vI a3] u (call 113 [a1, a2, a3] u)) (hX1_isWithin : ∀ (a1 a2 : Int) (u : Sg), Ct l d FC clA yX1_isWithin cX1_isWithin 5 (some .boolean) DX1_isWithin rvI [vR 1, vI a1, vI a2] u (call 75 [a1, a2] u)) (a1 a2 a3 : Int) (u : Sg) (ra1 : inR a1) (ra2 : inR a2) (ra3 : inR a3) : WG p l e R s m args below meth c JX1_placed DX1_placed G clA A FC ad0 σ0 rvI (bX1_placed call a1 a2 a3 u) u 0 [(0, vR 1), (1, vI a1), (2, vI a2), (3, vI a3)] [] := by
  unfold bX1_placed
  refine g_aload_n 0 dX1_placed_0 rfl ?_
  refine g_get (v := vR 0) (ci := 1) (b := 30) (N := 57) 0 rfl rfl (by decide) in_X1 rfl rfl q308 dX1_placed_1 ?_
  refine g_get (v := vR 10) (ci := 0) (b := 0) (N := 21) 0 rfl rfl (by decide) in_X2 rfl rfl q232 dX1_placed_4 ?_
  refine g_iload_n 1 dX1_placed_7 rfl ?_
  refine g_iald (id := 0) 0 rfl rfl dX1_placed_8 (fun v1 rv1 => ?_)
  refine g_istore (loc' := [(4, vI v1), (0, vR 1), (1, vI a1), (2, vI a2), (3, vI a3)]) dX1_placed_9 (by decide) rfl ?_
  refine g_iload 0 dX1_placed_11 rfl ?_
  refine g_iconst dX1_placed_13 ?_
  refine g_icmp_ne 36 dX1_placed_14 (by decide) (fun _ => rv1) (fun _ => (by decide : inR (2))) (fun _ => ?_) (fun _ => ?_)
  · refine g_aload_n 1 dX1_placed_17 rfl ?_
    refine g_get (v := vR 0) (ci := 1) (b := 30) (N := 57) 0 rfl rfl (by decide) in_X1 rfl rfl q308 dX1_placed_18 ?_
    refine g_get (v := vR 11) (ci := 0) (b := 0) (N := 21) 1 rfl rfl (by decide) in_X2 rfl rfl q234 dX1_placed_21 ?_
    refine g_iload_n 2 dX1_placed_24 rfl ?_
    refine g_iald (id := 1) 1 rfl rfl dX1_placed_25 (fun v2 rv2 => ?_)
    refine g_iload_n 4 dX1_placed_26 rfl ?_
    refine g_icmp_ne 34 dX1_placed_27 (by decide) (fun _ => rv2) (fun _ => ra3) (fun _ => ?_) (fun _ => ?_)
    · refine g_iload_n 3 dX1_placed_30 rfl ?_
      refine g_goto 35 dX1_placed_31 (by decide) ?_
      exact g_iret rfl rfl (fun _ => ra2) dX1_placed_35
    · refine g_iconst dX1_placed_34 ?_
      exact g_iret rfl rfl (fun _ => (inR_z (Or.inl rfl))) dX1_placed_35
  · refine g_aload_n 1 dX1_placed_36 rfl ?_
    refine g_get (v := vR 0) (ci := 1) (b := 30) (N := 57) 0 rfl rfl (by decide) in_X1 rfl rfl q308 dX1_placed_37 ?_
    refine g_get (v := vR 15) (ci := 0) (b := 0) (N := 21) 5 rfl rfl (by decide) in_X2 rfl rfl q241 dX1_placed_40 ?_
    refine g_iload_n 2 dX1_placed_43 rfl ?_
    refine g_iald (id := 5) 5 rfl rfl dX1_placed_44 (fun v3 rv3 => ?_)
    refine g_iload_n 4 dX1_placed_45 rfl ?_
    refine g_icmp_gt 75 dX1_placed_46 (by decide) (fun _ => rv3) (fun _ => ra3) (fun _ => ?_) (fun _ => ?_)
    · refine g_jn (fun j4 => ∀ (s5 : Sg), WG p l e R s m args below meth c JX1_placed DX1_placed G clA A FC ad0 σ0 rvI (j4 s5) s5 73 [] []) (fun s5 => ?_) (fun j4 hj4 => ?_)
      · refine g_iconst dX1_placed_73 ?_
        exact g_iret rfl rfl (fun _ => (inR_z (Or.inl rfl))) dX1_placed_74
      · refine g_iload 0 dX1_placed_49 rfl ?_
        refine g_cSZ (As := [vI v1]) (n := 1) (stk := []) (hX1_isTerm v1 u) (by decide +kernel) (lw_S q626 q627 q163 q628) (by decide +kernel) rfl (by decide) hRf hRl (fun _ => (avc rv1 avn)) (Nat.le_of_ble_eq_true rfl) rfl rfl dX1_placed_51 (fun v6 s7 zv6 => ?_)
        refine g_if_eq 73 dX1_placed_54 (by decide) (fun _ => (inR_z zv6)) (fun _ => ?_) (fun _ => ?_)
        · exact g_pick [] rfl (hj4 s7)
        · refine g_aload_n 1 dX1_placed_57 rfl ?_
          refine g_get (v := vR 0) (ci := 1) (b := 30) (N := 57) 0 rfl rfl (by decide) in_X1 rfl rfl q308 dX1_placed_58 ?_
          refine g_get (v := vR 15) (ci := 0) (b := 0) (N := 21) 5 rfl rfl (by decide) in_X2 rfl rfl q241 dX1_placed_61 ?_
          refine g_iload_n 2 dX1_placed_64 rfl ?_
          refine g_iald (id := 5) 5 rfl rfl dX1_placed_65 (fun v8 rv8 => ?_)
          refine g_if_ne 73 dX1_placed_66 (by decide) (fun _ => rv8) (fun _ => ?_) (fun _ => ?_)
          · refine g_iload_n 2 dX1_placed_69 rfl ?_
            refine g_goto 74 dX1_placed_70 (by decide) ?_
            exact g_iret rfl rfl (fun _ => ra1) dX1_placed_74
          · exact g_pick [] rfl (hj4 s7)
    · refine g_jn (fun j9 => ∀ (a1 a2 a3 a4 t0 : Int) (s10 : Sg), inR a1 → inR a2 → inR a3 → inR a4 → (t0 = 0 ∨ t0 = 1) → WG p l e R s m args below meth c JX1_placed DX1_placed G clA A FC ad0 σ0 rvI (j9 a1 a2 a3 a4 t0 s10) s10 97 [(0, vR 1), (1, vI a1), (2, vI a2), (3, vI a3), (4, vI a4)] [vI t0]) (fun a1 a2 a3 a4 t0 s10 ra1 ra2 ra3 ra4 zt0 => ?_) (fun j9 hj9 => ?_)
      · refine g_istore (loc' := [(5, vI t0), (0, vR 1), (1, vI a1), (2, vI a2), (3, vI a3), (4, vI a4)]) dX1_placed_97 (by decide) rfl ?_
        refine g_aload_n 1 dX1_placed_99 rfl ?_
        refine g_get (v := vR 0) (ci := 1) (b := 30) (N := 57) 0 rfl rfl (by decide) in_X1 rfl rfl q308 dX1_placed_100 ?_
        refine g_getI (ci := 0) (b := 0) (N := 21) 12 rfl rfl rfl (by decide) in_X2 rfl rfl q251 dX1_placed_103 (fun v11 rv11 => ?_)
        refine g_istore (loc' := [(6, vI v11), (5, vI t0), (0, vR 1), (1, vI a1), (2, vI a2), (3, vI a3), (4, vI a4)]) dX1_placed_106 (by decide) rfl ?_
        refine g_iload 6 dX1_placed_108 rfl ?_
        refine g_iconst dX1_placed_110 ?_
        refine g_icmp_ne 262 dX1_placed_111 (by decide) (fun _ => ra4) (fun _ => (by decide : inR (5))) (fun _ => ?_) (fun _ => ?_)
        · refine g_aload_n 2 dX1_placed_114 rfl ?_
          refine g_get (v := vR 0) (ci := 1) (b := 30) (N := 57) 0 rfl rfl (by decide) in_X1 rfl rfl q308 dX1_placed_115 ?_
          refine g_iload_n 3 dX1_placed_118 rfl ?_
          refine g_iconst dX1_placed_119 ?_
          refine g_cVI (As := [vI a1, vI 0]) (n := 2) (stk := []) (ci := 0) (b := 0) (N := 21) (hX2_at a1 0 s10) (by decide +kernel) rfl rfl (lw_V q571 q572 q573 q164 q574) (by decide +kernel) rfl (by decide) hRf hRl (fun _ => (avc ra1 (avc (inR_z (Or.inl rfl)) avn))) (Nat.le_of_ble_eq_true rfl) rfl rfl dX1_placed_120 (fun v12 s13 rv12 => ?_)
          refine g_istore (loc' := [(7, vI v12), (6, vI v11), (5, vI t0), (0, vR 1), (1, vI a1), (2, vI a2), (3, vI a3), (4, vI a4)]) dX1_placed_123 (by decide) rfl ?_
          refine g_aload_n 3 dX1_placed_125 rfl ?_
          refine g_aload_n 3 dX1_placed_126 rfl ?_
          refine g_iload 0 dX1_placed_127 rfl ?_
          refine g_cVI (As := [vI v12]) (n := 1) (stk := [vR 1]) (ci := 1) (b := 30) (N := 57) (hX1_argOf v12 s13) (by decide +kernel) rfl rfl (lw_V q773 q775 qs16 q163 q776) (by decide +kernel) rfl (by decide) hRf hRl (fun _ => (avc rv12 avn)) (Nat.le_of_ble_eq_true rfl) rfl rfl dX1_placed_129 (fun v14 s15 rv14 => ?_)
          refine g_iload_n 5 dX1_placed_132 rfl ?_
          refine g_iload_n 6 dX1_placed_133 rfl ?_
          refine g_cVI (As := [vI v14, vI a2, vI a3]) (n := 3) (stk := []) (ci := 1) (b := 30) (N := 57) (hX1_placed v14 a2 a3 s15) (by decide +kernel) rfl rfl (lw_V q978 q980 qs56 q163 q981) (by decide +kernel) rfl (by decide) hRf hRl (fun _ => (avc rv14 (avc ra2 (avc ra3 avn)))) (Nat.le_of_ble_eq_true rfl) rfl rfl dX1_placed_134 (fun v16 s17 rv16 => ?_)
          refine g_istore (loc' := [(8, vI v16), (7, vI v12), (6, vI v11), (5, vI t0), (0, vR 1), (1, vI a1), (2, vI a2), (3, vI a3), (4, vI a4)]) dX1_placed_137 (by decide) rfl ?_
          refine g_iload 3 dX1_placed_139 rfl ?_
          refine g_if_ne 146 dX1_placed_141 (by decide) (fun _ => (inR_z zt0)) (fun _ => ?_) (fun _ => ?_)
          · refine g_iconst dX1_placed_144 ?_
            exact g_iret rfl rfl (fun _ => (inR_z (Or.inl rfl))) dX1_placed_145
          · refine g_jn (fun j18 => ∀ (a9 : Int) (s19 : Sg), inR a9 → WG p l e R s m args below meth c JX1_placed DX1_placed G clA A FC ad0 σ0 rvI (j18 a9 s19) s19 255 [(0, vR 1), (9, vI a9)] []) (fun a9 s19 ra9 => ?_) (fun j18 hj18 => ?_)
            · refine g_aload_n 0 dX1_placed_255 rfl ?_
              refine g_iload 1 dX1_placed_256 rfl ?_
              refine g_cVI (As := [vI a9]) (n := 1) (stk := []) (ci := 1) (b := 30) (N := 57) (hX1_counted a9 s19) (by decide +kernel) rfl rfl (lw_V q990 q992 qs58 q163 q993) (by decide +kernel) rfl (by decide) hRf hRl (fun _ => (avc ra9 avn)) (Nat.le_of_ble_eq_true rfl) rfl rfl dX1_placed_258 (fun v20 s21 rv20 => ?_)
              exact g_iret rfl rfl (fun _ => rv20) dX1_placed_261
            · refine g_iconst dX1_placed_146 ?_
              refine g_istore (loc' := [(9, vI 0), (8, vI v16), (7, vI v12), (6, vI v11), (5, vI t0), (0, vR 1), (1, vI a1), (2, vI a2), (3, vI a3), (4, vI a4)]) dX1_placed_147 (by decide) rfl ?_
              refine g_iload 1 dX1_placed_149 rfl ?_
              refine g_if_eq 255 dX1_placed_151 (by decide) (fun _ => rv16) (fun _ => ?_) (fun _ => ?_)
              · exact g_pick [5, 0] rfl (hj18 0 s17 (inR_z (Or.inl rfl)))
              · refine g_aload_n 5 dX1_placed_154 rfl ?_
                refine g_get (v := vR 0) (ci := 1) (b := 30) (N := 57) 0 rfl rfl (by decide) in_X1 rfl rfl q308 dX1_placed_155 ?_
                refine g_iload 1 dX1_placed_158 rfl ?_
                refine g_cVV (As := [vI v16]) (n := 1) (stk := []) (ci := 0) (b := 0) (N := 21) (hX2_push v16 s17) (by decide +kernel) rfl rfl (lw_V q637 q228 q229 q164 q230) (by decide +kernel) rfl (by decide) hRf hRl (fun _ => (avc rv16 avn)) (Nat.le_of_ble_eq_true rfl) rfl rfl dX1_placed_160 (fun v22 s23 => ?_)
                refine g_iconst dX1_placed_163 ?_
                refine g_istore (loc' := [(10, vI 1), (9, vI 0), (8, vI v16), (7, vI v12), (6, vI v11), (5, vI t0), (0, vR 1), (1, vI a1), (2, vI a2), (3, vI a3), (4, vI a4)]) dX1_placed_164 (by decide) rfl ?_
                refine g_pick [6, 4, 3, 1, 0] rfl (wX1_placed_L166 hd hRf hRl hX1_isTerm hX2_at hX1_argOf hX1_placed hX1_counted hX2_push hX2_seek hX1_isWithin _ (fun v25 v26 v27 s24 rv25 rv26 zv27 => ?_) KF v11 v12 0 1 s23 rv11 rv12 (Or.inl rfl) (inR_z (Or.inr rfl)))
                · refine g_aload_n 0 dX1_placed_205 rfl ?_
                  refine g_get (v := vR 0) (ci := 1) (b := 30) (N := 57) 0 rfl rfl (by decide) in_X1 rfl rfl q308 dX1_placed_206 ?_
                  refine g_bipush (by decide +kernel) dX1_placed_209 ?_
                  refine g_aload_n 0 dX1_placed_211 rfl ?_
                  refine g_get (v := vR 0) (ci := 1) (b := 30) (N := 57) 0 rfl rfl (by decide) in_X1 rfl rfl q308 dX1_placed_212 ?_
                  refine g_get (v := vR 11) (ci := 0) (b := 0) (N := 21) 1 rfl rfl (by decide) in_X2 rfl rfl q234 dX1_placed_215 ?_
                  refine g_iload 2 dX1_placed_218 rfl ?_
                  refine g_iald (id := 1) 1 rfl rfl dX1_placed_220 (fun v28 rv28 => ?_)
                  refine g_iload 1 dX1_placed_221 rfl ?_
                  refine g_cVI (As := [vI 8, vI v28, vI v25]) (n := 3) (stk := []) (ci := 0) (b := 0) (N := 21) (hX2_seek 8 v28 v25 s24) (by decide +kernel) rfl rfl (lw_V q986 q987 q988 q164 q989) (by decide +kernel) rfl (by decide) hRf hRl (fun _ => (avc (by decide : inR (8)) (avc rv28 (avc rv25 avn)))) (Nat.le_of_ble_eq_true rfl) rfl rfl dX1_placed_223 (fun v29 s30 rv29 => ?_)
                  refine g_istore (loc' := [(10, vI v29), (0, vR 1), (6, vI v25), (7, vI v26), (9, vI v27)]) dX1_placed_226 (by decide) rfl ?_
                  refine g_iload 0 dX1_placed_228 rfl ?_
                  refine g_if_eq 255 dX1_placed_230 (by decide) (fun _ => rv29) (fun _ => ?_) (fun _ => ?_)
                  · exact g_pick [1, 4] rfl (hj18 v27 s30 (inR_z zv27))
                  · refine g_aload_n 1 dX1_placed_233 rfl ?_
                    refine g_get (v := vR 0) (ci := 1) (b := 30) (N := 57) 0 rfl rfl (by decide) in_X1 rfl rfl q308 dX1_placed_234 ?_
                    refine g_iload 0 dX1_placed_237 rfl ?_
                    refine g_cVV (As := [vI v29]) (n := 1) (stk := []) (ci := 0) (b := 0) (N := 21) (hX2_push v29 s30) (by decide +kernel) rfl rfl (lw_V q637 q228 q229 q164 q230) (by decide +kernel) rfl (by decide) hRf hRl (fun _ => (avc rv29 avn)) (Nat.le_of_ble_eq_true rfl) rfl rfl dX1_placed_239 (fun v31 s32 => ?_)
                    refine g_aload_n 1 dX1_placed_242 rfl ?_
                    refine g_get (v := vR 0) (ci := 1) (b := 30) (N := 57) 0 rfl rfl (by decide) in_X1 rfl rfl q308 dX1_placed_243 ?_
                    refine g_iconst dX1_placed_246 ?_
                    refine g_iconst dX1_placed_247 ?_
                    refine g_iload 2 dX1_placed_248 rfl ?_
                    refine g_cVI (As := [vI 5, vI 0, vI v25]) (n := 3) (stk := []) (ci := 0) (b := 0) (N := 21) (hX2_seek 5 0 v25 s32) (by decide +kernel) rfl rfl (lw_V q986 q987 q988 q164 q989) (by decide +kernel) rfl (by decide) hRf hRl (fun _ => (avc (by decide : inR (5)) (avc (inR_z (Or.inl rfl)) (avc rv25 avn)))) (Nat.le_of_ble_eq_true rfl) rfl rfl dX1_placed_250 (fun v33 s34 rv33 => ?_)
                    refine g_istore (loc' := [(9, vI v33), (10, vI v29), (0, vR 1), (6, vI v25), (7, vI v26)]) dX1_placed_253 (by decide) rfl ?_
                    exact g_pick [2, 0] rfl (hj18 v33 s34 rv33)
        · refine g_jn (fun j35 => ∀ (a1 a2 a3 a4 a5 a6 t0 : Int) (s36 : Sg), inR a1 → inR a2 → inR a3 → inR a4 → (a5 = 0 ∨ a5 = 1) → inR a6 → inR t0 → WG p l e R s m args below meth c JX1_placed DX1_placed G clA A FC ad0 σ0 rvI (j35 a1 a2 a3 a4 a5 a6 t0 s36) s36 282 [(0, vR 1), (1, vI a1), (2, vI a2), (3, vI a3), (4, vI a4), (5, vI a5), (6, vI a6)] [vI t0]) (fun a1 a2 a3 a4 a5 a6 t0 s36 ra1 ra2 ra3 ra4 za5 ra6 rt0 => ?_) (fun j35 hj35 => ?_)
          · refine g_istore (loc' := [(7, vI t0), (0, vR 1), (1, vI a1), (2, vI a2), (3, vI a3), (4, vI a4), (5, vI a5), (6, vI a6)]) dX1_placed_282 (by decide) rfl ?_
            refine g_iconst dX1_placed_284 ?_
            refine g_istore (loc' := [(8, vI 1), (7, vI t0), (0, vR 1), (1, vI a1), (2, vI a2), (3, vI a3), (4, vI a4), (5, vI a5), (6, vI a6)]) dX1_placed_285 (by decide) rfl ?_
            refine g_iconst dX1_placed_287 ?_
            refine g_istore (loc' := [(9, vI 0), (8, vI 1), (7, vI t0), (0, vR 1), (1, vI a1), (2, vI a2), (3, vI a3), (4, vI a4), (5, vI a5), (6, vI a6)]) dX1_placed_288 (by decide) rfl ?_
            refine g_pick [3, 4, 5, 6, 7, 8, 9, 2, 1, 0] rfl (wX1_placed_L290 hd hRf hRl hX1_isTerm hX2_at hX1_argOf hX1_placed hX1_counted hX2_push hX2_seek hX1_isWithin _ (fun v38 v39 v40 v41 v42 s37 rv38 rv39 zv40 rv41 zv42 => ?_) KF a1 a2 a3 a4 a5 a6 t0 1 0 s36 ra1 ra2 ra3 ra4 za5 ra6 rt0 (Or.inr rfl) (inR_z (Or.inl rfl)))
            · refine g_jn (fun j43 => ∀ (a5 a6 : Int) (s44 : Sg), (a5 = 0 ∨ a5 = 1) → inR a6 → WG p l e R s m args below meth c JX1_placed DX1_placed G clA A FC ad0 σ0 rvI (j43 a5 a6 s44) s44 380 [(0, vR 1), (5, vI a5), (6, vI a6)] []) (fun a5 a6 s44 za5 ra6 => ?_) (fun j43 hj43 => ?_)
              · refine g_aload_n 0 dX1_placed_380 rfl ?_
                refine g_get (v := vR 0) (ci := 1) (b := 30) (N := 57) 0 rfl rfl (by decide) in_X1 rfl rfl q308 dX1_placed_381 ?_
                refine g_iload 2 dX1_placed_384 rfl ?_
                refine g_sIU (ci := 0) (b := 0) (N := 21) FC_ok 12 rfl rfl rfl (by decide) in_X2 tyX2 tyX2_ok nmX2 rfl rfl rfl rfl (by decide +kernel) ra6 q251 dX1_placed_386 (fun s45 => ?_)
                refine g_iload 1 dX1_placed_389 rfl ?_
                refine g_if_eq 402 dX1_placed_391 (by decide) (fun _ => (inR_z za5)) (fun _ => ?_) (fun _ => ?_)
                · refine g_iconst dX1_placed_402 ?_
                  exact g_iret rfl rfl (fun _ => (inR_z (Or.inl rfl))) dX1_placed_403
                · refine g_aload_n 0 dX1_placed_394 rfl ?_
                  refine g_iconst dX1_placed_395 ?_
                  refine g_cVI (As := [vI 0]) (n := 1) (stk := []) (ci := 1) (b := 30) (N := 57) (hX1_counted 0 s45) (by decide +kernel) rfl rfl (lw_V q990 q992 qs58 q163 q993) (by decide +kernel) rfl (by decide) hRf hRl (fun _ => (avc (inR_z (Or.inl rfl)) avn)) (Nat.le_of_ble_eq_true rfl) rfl rfl dX1_placed_396 (fun v46 s47 rv46 => ?_)
                  refine g_goto 403 dX1_placed_399 (by decide) ?_
                  exact g_iret rfl rfl (fun _ => rv46) dX1_placed_403
              · refine g_iload 3 dX1_placed_370 rfl ?_
                refine g_if_eq 380 dX1_placed_372 (by decide) (fun _ => (inR_z zv40)) (fun _ => ?_) (fun _ => ?_)
                · exact g_pick [0, 3, 4] rfl (hj43 v40 v41 s37 zv40 rv41)
                · refine g_iload 5 dX1_placed_375 rfl ?_
                  refine g_if_ne 404 dX1_placed_377 (by decide) (fun _ => (inR_z zv42)) (fun _ => ?_) (fun _ => ?_)
                  · exact g_pick [0, 3, 4] rfl (hj43 v40 v41 s37 zv40 rv41)
                  · refine g_aload_n 0 dX1_placed_404 rfl ?_
                    refine g_aload_n 0 dX1_placed_405 rfl ?_
                    refine g_get (v := vR 0) (ci := 1) (b := 30) (N := 57) 0 rfl rfl (by decide) in_X1 rfl rfl q308 dX1_placed_406 ?_
                    refine g_iload 2 dX1_placed_409 rfl ?_
                    refine g_aload_n 0 dX1_placed_411 rfl ?_
                    refine g_get (v := vR 0) (ci := 1) (b := 30) (N := 57) 0 rfl rfl (by decide) in_X1 rfl rfl q308 dX1_placed_412 ?_
                    refine g_get (v := vR 11) (ci := 0) (b := 0) (N := 21) 1 rfl rfl (by decide) in_X2 rfl rfl q234 dX1_placed_415 ?_
                    refine g_iload_n 1 dX1_placed_418 rfl ?_
                    refine g_iald (id := 1) 1 rfl rfl dX1_placed_419 (fun v48 rv48 => ?_)
                    refine g_iload 4 dX1_placed_420 rfl ?_
                    refine g_cVI (As := [vI v39, vI v48, vI v41]) (n := 3) (stk := [vR 1]) (ci := 0) (b := 0) (N := 21) (hX2_seek v39 v48 v41 s37) (by decide +kernel) rfl rfl (lw_V q986 q987 q988 q164 q989) (by decide +kernel) rfl (by decide) hRf hRl (fun _ => (avc rv39 (avc rv48 (avc rv41 avn)))) (Nat.le_of_ble_eq_true rfl) rfl rfl dX1_placed_422 (fun v49 s50 rv49 => ?_)
                    refine g_cVI (As := [vI v49]) (n := 1) (stk := []) (ci := 1) (b := 30) (N := 57) (hX1_counted v49 s50) (by decide +kernel) rfl rfl (lw_V q990 q992 qs58 q163 q993) (by decide +kernel) rfl (by decide) hRf hRl (fun _ => (avc rv49 avn)) (Nat.le_of_ble_eq_true rfl) rfl rfl dX1_placed_425 (fun v51 s52 rv51 => ?_)
                    exact g_iret rfl rfl (fun _ => rv51) dX1_placed_428
          · refine g_iload 6 dX1_placed_262 rfl ?_
            refine g_bipush (by decide +kernel) dX1_placed_264 ?_
            refine g_icmp_ne 273 dX1_placed_266 (by decide) (fun _ => ra4) (fun _ => (by decide : inR (8))) (fun _ => ?_) (fun _ => ?_)
            · refine g_iconst dX1_placed_269 ?_
              refine g_goto 282 dX1_placed_270 (by decide) ?_
              exact g_pick [2, 3, 4, 5, 6, 1, 0] rfl (hj35 a1 a2 a3 a4 t0 v11 1 s10 ra1 ra2 ra3 ra4 zt0 rv11 (inR_z (Or.inr rfl)))
            · refine g_aload_n 2 dX1_placed_273 rfl ?_
              refine g_get (v := vR 0) (ci := 1) (b := 30) (N := 57) 0 rfl rfl (by decide) in_X1 rfl rfl q308 dX1_placed_274 ?_
              refine g_get (v := vR 13) (ci := 0) (b := 0) (N := 21) 3 rfl rfl (by decide) in_X2 rfl rfl q237 dX1_placed_277 ?_
              refine g_iload_n 3 dX1_placed_280 rfl ?_
              refine g_iald (id := 3) 3 rfl rfl dX1_placed_281 (fun v53 rv53 => ?_)
              exact g_pick [2, 3, 4, 5, 6, 1, 0] rfl (hj35 a1 a2 a3 a4 t0 v11 v53 s10 ra1 ra2 ra3 ra4 zt0 rv11 rv53)
      · refine g_jn (fun j54 => ∀ (a1 a2 a3 a4 : Int) (s55 : Sg), inR a1 → inR a2 → inR a3 → inR a4 → WG p l e R s m args below meth c JX1_placed DX1_placed G clA A FC ad0 σ0 rvI (j54 a1 a2 a3 a4 s55) s55 96 [(0, vR 1), (1, vI a1), (2, vI a2), (3, vI a3), (4, vI a4)] []) (fun a1 a2 a3 a4 s55 ra1 ra2 ra3 ra4 => ?_) (fun j54 hj54 => ?_)
        · refine g_iconst dX1_placed_96 ?_
          exact g_pick [0, 1, 2, 3, 4] rfl (hj9 a1 a2 a3 a4 0 s55 ra1 ra2 ra3 ra4 (Or.inl rfl))
        · refine g_iload 0 dX1_placed_75 rfl ?_
          refine g_cSZ (As := [vI v1]) (n := 1) (stk := []) (hX1_isTerm v1 u) (by decide +kernel) (lw_S q626 q627 q163 q628) (by decide +kernel) rfl (by decide) hRf hRl (fun _ => (avc rv1 avn)) (Nat.le_of_ble_eq_true rfl) rfl rfl dX1_placed_77 (fun v56 s57 zv56 => ?_)
          refine g_if_eq 96 dX1_placed_80 (by decide) (fun _ => (inR_z zv56)) (fun _ => ?_) (fun _ => ?_)
          · exact g_pick [1, 2, 3, 4, 0] rfl (hj54 a1 a2 a3 v1 s57 ra1 ra2 ra3 rv1)
          · refine g_aload_n 1 dX1_placed_83 rfl ?_
            refine g_iload_n 2 dX1_placed_84 rfl ?_
            refine g_iload_n 4 dX1_placed_85 rfl ?_
            refine g_cVZ (As := [vI a1, vI a3]) (n := 2) (stk := []) (ci := 1) (b := 30) (N := 57) (hX1_isWithin a1 a3 s57) (by decide +kernel) rfl rfl (lw_V q982 q984 qs57 q163 q985) (by decide +kernel) rfl (by decide) hRf hRl (fun _ => (avc ra1 (avc ra3 avn))) (Nat.le_of_ble_eq_true rfl) rfl rfl dX1_placed_86 (fun v58 s59 zv58 => ?_)
            refine g_if_ne 96 dX1_placed_89 (by decide) (fun _ => (inR_z zv58)) (fun _ => ?_) (fun _ => ?_)
            · refine g_iconst dX1_placed_92 ?_
              refine g_goto 97 dX1_placed_93 (by decide) ?_
              exact g_pick [1, 2, 3, 4, 0] rfl (hj9 a1 a2 a3 v1 1 s59 ra1 ra2 ra3 rv1 (Or.inr rfl))
            · exact g_pick [1, 2, 3, 4, 0] rfl (hj54 a1 a2 a3 v1 s59 ra1 ra2 ra3 rv1)
end
section
variable {l : Launch} {d : Nat} {call : Nat → List Int → Sg → Option (Int × Sg)}
theorem ctX1_placed (p0 : Program) (e0 : Env) (s0 : State) (m0 : MethodId) (meth0 : Method) (c0 : Code) (G0 : Gm) (hd : 2 ≤ d) (hX1_isTerm : ∀ (a1 : Int) (u : Sg), Ct l d FC clA yX1_isTerm cX1_isTerm 1 (some .boolean) DX1_isTerm rvI [vI a1] u (call 12 [a1] u)) (hX2_at : ∀ (a1 a2 : Int) (u : Sg), Ct l d FC clA yX2_at cX2_at 3 (some .int) DX2_at rvI [vR 0, vI a1, vI a2] u (call 98 [a1, a2] u)) (hX1_argOf : ∀ (a1 : Int) (u : Sg), Ct l d FC clA yX1_argOf cX1_argOf 2 (some .int) DX1_argOf rvI [vR 1, vI a1] u (call 30 [a1] u)) (hX1_placed : ∀ (a1 a2 a3 : Int) (u : Sg), Ct l d FC clA yX1_placed cX1_placed 12 (some .int) DX1_placed rvI [vR 1, vI a1, vI a2, vI a3] u (call 74 [a1, a2, a3] u)) (hX1_counted : ∀ (a1 : Int) (u : Sg), Ct l d FC clA yX1_counted cX1_counted 2 (some .int) DX1_counted rvI [vR 1, vI a1] u (call 76 [a1] u)) (hX2_push : ∀ (a1 : Int) (u : Sg), Ct l d FC clA yX2_push cX2_push 2 none DX2_push rvV [vR 0, vI a1] u (call 97 [a1] u)) (hX2_seek : ∀ (a1 a2 a3 : Int) (u : Sg), Ct l d FC clA yX2_seek cX2_seek 8 (some .int) DX2_seek rvI [vR 0, vI a1, vI a2, vI a3] u (call 113 [a1, a2, a3] u)) (hX1_isWithin : ∀ (a1 a2 : Int) (u : Sg), Ct l d FC clA yX1_isWithin cX1_isWithin 5 (some .boolean) DX1_isWithin rvI [vR 1, vI a1, vI a2] u (call 75 [a1, a2] u)) (a1 a2 a3 : Int) (u : Sg) : Ct l (d + 1) FC clA yX1_placed cX1_placed 12 (some .int) DX1_placed rvI [vR 1, vI a1, vI a2, vI a3] u (bX1_placed call a1 a2 a3 u) :=
  Ct_of (by decide) (Nat.le_of_ble_eq_true rfl) (fun p e R s1 m args below meth c G A ad hA hRf hRl => wX1_placed hd hRf hRl hX1_isTerm hX2_at hX1_argOf hX1_placed hX1_counted hX2_push hX2_seek hX1_isWithin a1 a2 a3 u (hA _ (List.mem_cons_of_mem _ List.mem_cons_self)) (hA _ (List.mem_cons_of_mem _ (List.mem_cons_of_mem _ List.mem_cons_self))) (hA _ (List.mem_cons_of_mem _ (List.mem_cons_of_mem _ (List.mem_cons_of_mem _ List.mem_cons_self))))) p0 e0 s0 m0 meth0 c0 G0
end
/-! RoundCheck.isWithin(II)Z -/
abbrev JX1_isWithin : Jm := (cX1_isWithin, RX1, 5, (some .boolean))
def bX1_isWithin_L77 (call : Nat → List Int → Sg → Option (Int × Sg)) : Nat → Int → Int → Int → Int → Sg → (Sg → Option (Int × Sg)) → (Sg → Option (Int × Sg)) → Option (Int × Sg)
  | 0, _, _, _, _, _, _, _ => none
  | n + 1, a1, a2, a3, a4, u, x122, x114 => if a4 < a3 then (cl (call 98 [a1, a4] u) fun v1 s2 => if v1 = 0 then (ar (a4 + 1) fun v3 => bX1_isWithin_L77 call n a1 a2 a3 v3 s2 x122 x114) else (cl (call 98 [a1, a4] s2) fun v4 s5 => cl (call 75 [v4, a2] s5) fun v6 s7 => if v6 = 0 then (ar (a4 + 1) fun v8 => bX1_isWithin_L77 call n a1 a2 a3 v8 s7 x122 x114) else (x114 s7))) else (x122 u)
def bX1_isWithin (call : Nat → List Int → Sg → Option (Int × Sg)) (a1 a2 : Int) (u : Sg) : Option (Int × Sg) := ld u 5 a1 fun v1 => if v1 = 0 then (some (0, u)) else (ld u 0 a1 fun v2 => if v2 = 2 then (ld u 1 a1 fun v3 => if v3 = a2 then (some (0, u)) else (some (1, u))) else (jn (fun (a1 a2 t0 : Int) (s5 : Sg) => bX1_isWithin_L77 call KF a1 a2 t0 0 s5 (fun s6 => some (0, s6)) (fun s7 => some (1, s7))) fun j4 => ld u 0 a1 fun v8 => if v8 = 8 then (j4 a1 a2 1 u) else (ld u 3 a1 fun v9 => j4 a1 a2 v9 u)))
section
variable {p : Program} {l : Launch} {e : Env} {R : Room} {s : State} {m : MethodId} {args : Array Value} {below : List Frame} {meth : Method} {c : Code} {G : Gm} {A : Nat → Prop} {ad0 : Nat → Nat} {σ0 : Sg} {d : Nat} {call : Nat → List Int → Sg → Option (Int × Sg)}
theorem wX1_isWithin_L77 (hd : 2 ≤ d) (hRf : d + 1 ≤ R.frames) (hRl : 40 * (d + 1) ≤ R.locals) (hX2_at : ∀ (a1 a2 : Int) (u : Sg), Ct l d FC clA yX2_at cX2_at 3 (some .int) DX2_at rvI [vR 0, vI a1, vI a2] u (call 98 [a1, a2] u)) (hX1_isWithin : ∀ (a1 a2 : Int) (u : Sg), Ct l d FC clA yX1_isWithin cX1_isWithin 5 (some .boolean) DX1_isWithin rvI [vR 1, vI a1, vI a2] u (call 75 [a1, a2] u)) (x122 : Sg → Option (Int × Sg)) (x114 : Sg → Option (Int × Sg)) (hx122 : ∀ (u : Sg), WG p l e R s m args below meth c JX1_isWithin DX1_isWithin G clA A FC ad0 σ0 rvI (x122 u) u 122 [] []) (hx114 : ∀ (u : Sg), WG p l e R s m args below meth c JX1_isWithin DX1_isWithin G clA A FC ad0 σ0 rvI (x114 u) u 114 [] []) : ∀ (n : Nat) (a1 a2 a3 a4 : Int) (u : Sg), inR a1 → inR a2 → inR a3 → inR a4 → WG p l e R s m args below meth c JX1_isWithin DX1_isWithin G clA A FC ad0 σ0 rvI (bX1_isWithin_L77 call n a1 a2 a3 a4 u x122 x114) u 77 [(0, vR 1), (1, vI a1), (2, vI a2), (3, vI a3), (4, vI a4)] [] := by
  intro n
  induction n with
  | zero =>
    intro a1 a2 a3 a4 u ra1 ra2 ra3 ra4
    exact g_none
  | succ n ih =>
    intro a1 a2 a3 a4 u ra1 ra2 ra3 ra4
    rw [bX1_isWithin_L77]
    refine g_iload 4 dX1_isWithin_77 rfl ?_
    refine g_iload_n 3 dX1_isWithin_79 rfl ?_
    refine g_icmp_ge 122 dX1_isWithin_80 (by decide) (fun _ => ra4) (fun _ => ra3) (fun _ => ?_) (fun _ => ?_)
    · refine g_aload_n 0 dX1_isWithin_83 rfl ?_
      refine g_get (v := vR 0) (ci := 1) (b := 30) (N := 57) 0 rfl rfl (by decide) in_X1 rfl rfl q308 dX1_isWithin_84 ?_
      refine g_iload_n 1 dX1_isWithin_87 rfl ?_
      refine g_iload 4 dX1_isWithin_88 rfl ?_
      refine g_cVI (As := [vI a1, vI a4]) (n := 2) (stk := []) (ci := 0) (b := 0) (N := 21) (hX2_at a1 a4 u) (by decide +kernel) rfl rfl (lw_V q571 q572 q573 q164 q574) (by decide +kernel) rfl (by decide) hRf hRl (fun _ => (avc ra1 (avc ra4 avn))) (Nat.le_of_ble_eq_true rfl) rfl rfl dX1_isWithin_90 (fun v1 s2 rv1 => ?_)
      refine g_if_eq 116 dX1_isWithin_93 (by decide) (fun _ => rv1) (fun _ => ?_) (fun _ => ?_)
      · refine g_iinc 4 (loc' := fun v3 => [(4, vI v3), (0, vR 1), (1, vI a1), (2, vI a2), (3, vI a3)]) dX1_isWithin_116 rfl (by decide) (fun _ => rfl) (fun v3 rv3 => ?_)
        refine g_goto 77 dX1_isWithin_119 (by decide) ?_
        exact g_pick [1, 2, 3, 4, 0] rfl (ih a1 a2 a3 v3 s2 ra1 ra2 ra3 rv3)
      · refine g_aload_n 0 dX1_isWithin_96 rfl ?_
        refine g_aload_n 0 dX1_isWithin_97 rfl ?_
        refine g_get (v := vR 0) (ci := 1) (b := 30) (N := 57) 0 rfl rfl (by decide) in_X1 rfl rfl q308 dX1_isWithin_98 ?_
        refine g_iload_n 1 dX1_isWithin_101 rfl ?_
        refine g_iload 4 dX1_isWithin_102 rfl ?_
        refine g_cVI (As := [vI a1, vI a4]) (n := 2) (stk := [vR 1]) (ci := 0) (b := 0) (N := 21) (hX2_at a1 a4 s2) (by decide +kernel) rfl rfl (lw_V q571 q572 q573 q164 q574) (by decide +kernel) rfl (by decide) hRf hRl (fun _ => (avc ra1 (avc ra4 avn))) (Nat.le_of_ble_eq_true rfl) rfl rfl dX1_isWithin_104 (fun v4 s5 rv4 => ?_)
        refine g_iload_n 2 dX1_isWithin_107 rfl ?_
        refine g_cVZ (As := [vI v4, vI a2]) (n := 2) (stk := []) (ci := 1) (b := 30) (N := 57) (hX1_isWithin v4 a2 s5) (by decide +kernel) rfl rfl (lw_V q982 q984 qs57 q163 q985) (by decide +kernel) rfl (by decide) hRf hRl (fun _ => (avc rv4 (avc ra2 avn))) (Nat.le_of_ble_eq_true rfl) rfl rfl dX1_isWithin_108 (fun v6 s7 zv6 => ?_)
        refine g_if_eq 116 dX1_isWithin_111 (by decide) (fun _ => (inR_z zv6)) (fun _ => ?_) (fun _ => ?_)
        · refine g_iinc 4 (loc' := fun v8 => [(4, vI v8), (0, vR 1), (1, vI a1), (2, vI a2), (3, vI a3)]) dX1_isWithin_116 rfl (by decide) (fun _ => rfl) (fun v8 rv8 => ?_)
          refine g_goto 77 dX1_isWithin_119 (by decide) ?_
          exact g_pick [1, 2, 3, 4, 0] rfl (ih a1 a2 a3 v8 s7 ra1 ra2 ra3 rv8)
        · exact g_pick [] rfl (hx114 s7)
    · exact g_pick [] rfl (hx122 u)
theorem wX1_isWithin (hd : 2 ≤ d) (hRf : d + 1 ≤ R.frames) (hRl : 40 * (d + 1) ≤ R.locals) (hX2_at : ∀ (a1 a2 : Int) (u : Sg), Ct l d FC clA yX2_at cX2_at 3 (some .int) DX2_at rvI [vR 0, vI a1, vI a2] u (call 98 [a1, a2] u)) (hX1_isWithin : ∀ (a1 a2 : Int) (u : Sg), Ct l d FC clA yX1_isWithin cX1_isWithin 5 (some .boolean) DX1_isWithin rvI [vR 1, vI a1, vI a2] u (call 75 [a1, a2] u)) (a1 a2 : Int) (u : Sg) (ra1 : inR a1) (ra2 : inR a2) : WG p l e R s m args below meth c JX1_isWithin DX1_isWithin G clA A FC ad0 σ0 rvI (bX1_isWithin call a1 a2 u) u 0 [(0, vR 1), (1, vI a1), (2, vI a2)] [] := by
  unfold bX1_isWithin
  refine g_aload_n 0 dX1_isWithin_0 rfl ?_
  refine g_get (v := vR 0) (ci := 1) (b := 30) (N := 57) 0 rfl rfl (by decide) in_X1 rfl rfl q308 dX1_isWithin_1 ?_
  refine g_get (v := vR 15) (ci := 0) (b := 0) (N := 21) 5 rfl rfl (by decide) in_X2 rfl rfl q241 dX1_isWithin_4 ?_
  refine g_iload_n 1 dX1_isWithin_7 rfl ?_
  refine g_iald (id := 5) 5 rfl rfl dX1_isWithin_8 (fun v1 rv1 => ?_)
  refine g_if_ne 14 dX1_isWithin_9 (by decide) (fun _ => rv1) (fun _ => ?_) (fun _ => ?_)
  · refine g_iconst dX1_isWithin_12 ?_
    exact g_zret rfl rfl (fun _ => (Or.inl rfl)) dX1_isWithin_13
  · refine g_aload_n 0 dX1_isWithin_14 rfl ?_
    refine g_get (v := vR 0) (ci := 1) (b := 30) (N := 57) 0 rfl rfl (by decide) in_X1 rfl rfl q308 dX1_isWithin_15 ?_
    refine g_get (v := vR 10) (ci := 0) (b := 0) (N := 21) 0 rfl rfl (by decide) in_X2 rfl rfl q232 dX1_isWithin_18 ?_
    refine g_iload_n 1 dX1_isWithin_21 rfl ?_
    refine g_iald (id := 0) 0 rfl rfl dX1_isWithin_22 (fun v2 rv2 => ?_)
    refine g_iconst dX1_isWithin_23 ?_
    refine g_icmp_ne 46 dX1_isWithin_24 (by decide) (fun _ => rv2) (fun _ => (by decide : inR (2))) (fun _ => ?_) (fun _ => ?_)
    · refine g_aload_n 0 dX1_isWithin_27 rfl ?_
      refine g_get (v := vR 0) (ci := 1) (b := 30) (N := 57) 0 rfl rfl (by decide) in_X1 rfl rfl q308 dX1_isWithin_28 ?_
      refine g_get (v := vR 11) (ci := 0) (b := 0) (N := 21) 1 rfl rfl (by decide) in_X2 rfl rfl q234 dX1_isWithin_31 ?_
      refine g_iload_n 1 dX1_isWithin_34 rfl ?_
      refine g_iald (id := 1) 1 rfl rfl dX1_isWithin_35 (fun v3 rv3 => ?_)
      refine g_iload_n 2 dX1_isWithin_36 rfl ?_
      refine g_icmp_eq 44 dX1_isWithin_37 (by decide) (fun _ => rv3) (fun _ => ra2) (fun _ => ?_) (fun _ => ?_)
      · refine g_iconst dX1_isWithin_44 ?_
        exact g_zret rfl rfl (fun _ => (Or.inl rfl)) dX1_isWithin_45
      · refine g_iconst dX1_isWithin_40 ?_
        refine g_goto 45 dX1_isWithin_41 (by decide) ?_
        exact g_zret rfl rfl (fun _ => (Or.inr rfl)) dX1_isWithin_45
    · refine g_jn (fun j4 => ∀ (a1 a2 t0 : Int) (s5 : Sg), inR a1 → inR a2 → inR t0 → WG p l e R s m args below meth c JX1_isWithin DX1_isWithin G clA A FC ad0 σ0 rvI (j4 a1 a2 t0 s5) s5 73 [(0, vR 1), (1, vI a1), (2, vI a2)] [vI t0]) (fun a1 a2 t0 s5 ra1 ra2 rt0 => ?_) (fun j4 hj4 => ?_)
      · refine g_istore_n (loc' := [(3, vI t0), (0, vR 1), (1, vI a1), (2, vI a2)]) dX1_isWithin_73 (by decide) rfl ?_
        refine g_iconst dX1_isWithin_74 ?_
        refine g_istore (loc' := [(4, vI 0), (3, vI t0), (0, vR 1), (1, vI a1), (2, vI a2)]) dX1_isWithin_75 (by decide) rfl ?_
        refine g_pick [2, 3, 4, 1, 0] rfl (wX1_isWithin_L77 hd hRf hRl hX2_at hX1_isWithin _ _ (fun s6 => ?_) (fun s7 => ?_) KF a1 a2 t0 0 s5 ra1 ra2 rt0 (inR_z (Or.inl rfl)))
        · refine g_iconst dX1_isWithin_122 ?_
          exact g_zret rfl rfl (fun _ => (Or.inl rfl)) dX1_isWithin_123
        · refine g_iconst dX1_isWithin_114 ?_
          exact g_zret rfl rfl (fun _ => (Or.inr rfl)) dX1_isWithin_115
      · refine g_aload_n 0 dX1_isWithin_46 rfl ?_
        refine g_get (v := vR 0) (ci := 1) (b := 30) (N := 57) 0 rfl rfl (by decide) in_X1 rfl rfl q308 dX1_isWithin_47 ?_
        refine g_get (v := vR 10) (ci := 0) (b := 0) (N := 21) 0 rfl rfl (by decide) in_X2 rfl rfl q232 dX1_isWithin_50 ?_
        refine g_iload_n 1 dX1_isWithin_53 rfl ?_
        refine g_iald (id := 0) 0 rfl rfl dX1_isWithin_54 (fun v8 rv8 => ?_)
        refine g_bipush (by decide +kernel) dX1_isWithin_55 ?_
        refine g_icmp_ne 64 dX1_isWithin_57 (by decide) (fun _ => rv8) (fun _ => (by decide : inR (8))) (fun _ => ?_) (fun _ => ?_)
        · refine g_iconst dX1_isWithin_60 ?_
          refine g_goto 73 dX1_isWithin_61 (by decide) ?_
          exact g_pick [0, 1, 2] rfl (hj4 a1 a2 1 u ra1 ra2 (inR_z (Or.inr rfl)))
        · refine g_aload_n 0 dX1_isWithin_64 rfl ?_
          refine g_get (v := vR 0) (ci := 1) (b := 30) (N := 57) 0 rfl rfl (by decide) in_X1 rfl rfl q308 dX1_isWithin_65 ?_
          refine g_get (v := vR 13) (ci := 0) (b := 0) (N := 21) 3 rfl rfl (by decide) in_X2 rfl rfl q237 dX1_isWithin_68 ?_
          refine g_iload_n 1 dX1_isWithin_71 rfl ?_
          refine g_iald (id := 3) 3 rfl rfl dX1_isWithin_72 (fun v9 rv9 => ?_)
          exact g_pick [0, 1, 2] rfl (hj4 a1 a2 v9 u ra1 ra2 rv9)
end
section
variable {l : Launch} {d : Nat} {call : Nat → List Int → Sg → Option (Int × Sg)}
theorem ctX1_isWithin (p0 : Program) (e0 : Env) (s0 : State) (m0 : MethodId) (meth0 : Method) (c0 : Code) (G0 : Gm) (hd : 2 ≤ d) (hX2_at : ∀ (a1 a2 : Int) (u : Sg), Ct l d FC clA yX2_at cX2_at 3 (some .int) DX2_at rvI [vR 0, vI a1, vI a2] u (call 98 [a1, a2] u)) (hX1_isWithin : ∀ (a1 a2 : Int) (u : Sg), Ct l d FC clA yX1_isWithin cX1_isWithin 5 (some .boolean) DX1_isWithin rvI [vR 1, vI a1, vI a2] u (call 75 [a1, a2] u)) (a1 a2 : Int) (u : Sg) : Ct l (d + 1) FC clA yX1_isWithin cX1_isWithin 5 (some .boolean) DX1_isWithin rvI [vR 1, vI a1, vI a2] u (bX1_isWithin call a1 a2 u) :=
  Ct_of (by decide) (Nat.le_of_ble_eq_true rfl) (fun p e R s1 m args below meth c G A ad hA hRf hRl => wX1_isWithin hd hRf hRl hX2_at hX1_isWithin a1 a2 u (hA _ (List.mem_cons_of_mem _ List.mem_cons_self)) (hA _ (List.mem_cons_of_mem _ (List.mem_cons_of_mem _ List.mem_cons_self)))) p0 e0 s0 m0 meth0 c0 G0
end
/-! RoundCheck.counted(I)I -/
abbrev JX1_counted : Jm := (cX1_counted, RX1, 2, (some .int))
def bX1_counted (call : Nat → List Int → Sg → Option (Int × Sg)) (a1 : Int) (u : Sg) : Option (Int × Sg) := jn (fun (a1 : Int) (s2 : Sg) => un (sI s2 59 1) fun s3 => some (a1, s3)) fun j1 => if a1 = 0 then (j1 a1 u) else (cl (call 46 [a1] u) fun v4 s5 => if v4 = 0 then (j1 a1 s5) else (un (sI s5 58 1) fun s6 => some (a1, s6)))
section
variable {p : Program} {l : Launch} {e : Env} {R : Room} {s : State} {m : MethodId} {args : Array Value} {below : List Frame} {meth : Method} {c : Code} {G : Gm} {A : Nat → Prop} {ad0 : Nat → Nat} {σ0 : Sg} {d : Nat} {call : Nat → List Int → Sg → Option (Int × Sg)}
theorem wX1_counted (hd : 2 ≤ d) (hRf : d + 1 ≤ R.frames) (hRl : 40 * (d + 1) ≤ R.locals) (hX1_isAtHand : ∀ (a1 : Int) (u : Sg), Ct l d FC clA yX1_isAtHand cX1_isAtHand 2 (some .boolean) DX1_isAtHand rvI [vR 1, vI a1] u (call 46 [a1] u)) (a1 : Int) (u : Sg) (ra1 : inR a1) : WG p l e R s m args below meth c JX1_counted DX1_counted G clA A FC ad0 σ0 rvI (bX1_counted call a1 u) u 0 [(0, vR 1), (1, vI a1)] [] := by
  unfold bX1_counted
  refine g_jn (fun j1 => ∀ (a1 : Int) (s2 : Sg), inR a1 → WG p l e R s m args below meth c JX1_counted DX1_counted G clA A FC ad0 σ0 rvI (j1 a1 s2) s2 20 [(0, vR 1), (1, vI a1)] []) (fun a1 s2 ra1 => ?_) (fun j1 hj1 => ?_)
  · refine g_aload_n 0 dX1_counted_20 rfl ?_
    refine g_iconst dX1_counted_21 ?_
    refine g_sZU (ci := 1) (b := 30) (N := 57) FC_ok 29 rfl rfl rfl (by decide) in_X1 tyX1 tyX1_ok nmX1 rfl rfl rfl rfl (by decide +kernel) (Or.inr rfl) q337 dX1_counted_22 (fun s3 => ?_)
    refine g_iload_n 1 dX1_counted_25 rfl ?_
    exact g_iret rfl rfl (fun _ => ra1) dX1_counted_26
  · refine g_iload_n 1 dX1_counted_0 rfl ?_
    refine g_if_eq 20 dX1_counted_1 (by decide) (fun _ => ra1) (fun _ => ?_) (fun _ => ?_)
    · exact g_pick [0, 1] rfl (hj1 a1 u ra1)
    · refine g_aload_n 0 dX1_counted_4 rfl ?_
      refine g_iload_n 1 dX1_counted_5 rfl ?_
      refine g_cVZ (As := [vI a1]) (n := 1) (stk := []) (ci := 1) (b := 30) (N := 57) (hX1_isAtHand a1 u) (by decide +kernel) rfl rfl (lw_V q856 q858 qs28 q163 q859) (by decide +kernel) rfl (by decide) hRf hRl (fun _ => (avc ra1 avn)) (Nat.le_of_ble_eq_true rfl) rfl rfl dX1_counted_6 (fun v4 s5 zv4 => ?_)
      refine g_if_eq 20 dX1_counted_9 (by decide) (fun _ => (inR_z zv4)) (fun _ => ?_) (fun _ => ?_)
      · exact g_pick [0, 1] rfl (hj1 a1 s5 ra1)
      · refine g_aload_n 0 dX1_counted_12 rfl ?_
        refine g_iconst dX1_counted_13 ?_
        refine g_sZU (ci := 1) (b := 30) (N := 57) FC_ok 28 rfl rfl rfl (by decide) in_X1 tyX1 tyX1_ok nmX1 rfl rfl rfl rfl (by decide +kernel) (Or.inr rfl) q336 dX1_counted_14 (fun s6 => ?_)
        refine g_goto 25 dX1_counted_17 (by decide) ?_
        refine g_iload_n 1 dX1_counted_25 rfl ?_
        exact g_iret rfl rfl (fun _ => ra1) dX1_counted_26
end
section
variable {l : Launch} {d : Nat} {call : Nat → List Int → Sg → Option (Int × Sg)}
theorem ctX1_counted (p0 : Program) (e0 : Env) (s0 : State) (m0 : MethodId) (meth0 : Method) (c0 : Code) (G0 : Gm) (hd : 2 ≤ d) (hX1_isAtHand : ∀ (a1 : Int) (u : Sg), Ct l d FC clA yX1_isAtHand cX1_isAtHand 2 (some .boolean) DX1_isAtHand rvI [vR 1, vI a1] u (call 46 [a1] u)) (a1 : Int) (u : Sg) : Ct l (d + 1) FC clA yX1_counted cX1_counted 2 (some .int) DX1_counted rvI [vR 1, vI a1] u (bX1_counted call a1 u) :=
  Ct_of (by decide) (Nat.le_of_ble_eq_true rfl) (fun p e R s1 m args below meth c G A ad hA hRf hRl => wX1_counted hd hRf hRl hX1_isAtHand a1 u (hA _ (List.mem_cons_of_mem _ List.mem_cons_self))) p0 e0 s0 m0 meth0 c0 G0
end
/-! RoundCheck.oneLeft(I)V -/
abbrev JX1_oneLeft : Jm := (cX1_oneLeft, RX1, 5, none)
def bX1_oneLeft_L7 (call : Nat → List Int → Sg → Option (Int × Sg)) : Nat → Int → Int → Int → Int → Sg → (Int → Int → Sg → Option (Int × Sg)) → Option (Int × Sg)
  | 0, _, _, _, _, _, _ => none
  | n + 1, a1, a2, a3, a4, u, x66 => ld u 3 a1 fun v1 => if a4 < v1 then (if a3 < 2 then (cl (call 98 [a1, a4] u) fun v2 s3 => cl (call 67 [v2] s3) fun v4 s5 => if v4 = 0 then (cl (call 98 [a1, a4] s5) fun v6 s7 => ar (a3 + 1) fun v8 => ar (a4 + 1) fun v9 => bX1_oneLeft_L7 call n a1 v6 v8 v9 s7 x66) else (ar (a4 + 1) fun v10 => bX1_oneLeft_L7 call n a1 a2 a3 v10 s5 x66)) else (x66 a2 a3 u)) else (x66 a2 a3 u)
def bX1_oneLeft (call : Nat → List Int → Sg → Option (Int × Sg)) (a1 : Int) (u : Sg) : Option (Int × Sg) := bX1_oneLeft_L7 call KF a1 0 0 0 u (fun v2 v3 s1 => if v3 = 1 then (cl (call 102 [v2] s1) fun v4 s5 => cl (call 72 [v4] s5) fun v6 s7 => some (0, s7)) else (some (0, s1)))
section
variable {p : Program} {l : Launch} {e : Env} {R : Room} {s : State} {m : MethodId} {args : Array Value} {below : List Frame} {meth : Method} {c : Code} {G : Gm} {A : Nat → Prop} {ad0 : Nat → Nat} {σ0 : Sg} {d : Nat} {call : Nat → List Int → Sg → Option (Int × Sg)}
theorem wX1_oneLeft_L7 (hd : 2 ≤ d) (hRf : d + 1 ≤ R.frames) (hRl : 40 * (d + 1) ≤ R.locals) (hX2_at : ∀ (a1 a2 : Int) (u : Sg), Ct l d FC clA yX2_at cX2_at 3 (some .int) DX2_at rvI [vR 0, vI a1, vI a2] u (call 98 [a1, a2] u)) (hX1_holds : ∀ (a1 : Int) (u : Sg), Ct l d FC clA yX1_holds cX1_holds 3 (some .boolean) DX1_holds rvI [vR 1, vI a1] u (call 67 [a1] u)) (hX2_not : ∀ (a1 : Int) (u : Sg), Ct l d FC clA yX2_not cX2_not 2 (some .int) DX2_not rvI [vR 0, vI a1] u (call 102 [a1] u)) (hX1_come : ∀ (a1 : Int) (u : Sg), Ct l d FC clA yX1_come cX1_come 3 none DX1_come rvV [vR 1, vI a1] u (call 72 [a1] u)) (x66 : Int → Int → Sg → Option (Int × Sg)) (hx66 : ∀ (a2 a3 : Int) (u : Sg), inR a2 → inR a3 → WG p l e R s m args below meth c JX1_oneLeft DX1_oneLeft G clA A FC ad0 σ0 rvV (x66 a2 a3 u) u 66 [(0, vR 1), (2, vI a2), (3, vI a3)] []) : ∀ (n : Nat) (a1 a2 a3 a4 : Int) (u : Sg), inR a1 → inR a2 → inR a3 → inR a4 → WG p l e R s m args below meth c JX1_oneLeft DX1_oneLeft G clA A FC ad0 σ0 rvV (bX1_oneLeft_L7 call n a1 a2 a3 a4 u x66) u 7 [(0, vR 1), (1, vI a1), (2, vI a2), (3, vI a3), (4, vI a4)] [] := by
  intro n
  induction n with
  | zero =>
    intro a1 a2 a3 a4 u ra1 ra2 ra3 ra4
    exact g_none
  | succ n ih =>
    intro a1 a2 a3 a4 u ra1 ra2 ra3 ra4
    rw [bX1_oneLeft_L7]
    refine g_iload 4 dX1_oneLeft_7 rfl ?_
    refine g_aload_n 0 dX1_oneLeft_9 rfl ?_
    refine g_get (v := vR 0) (ci := 1) (b := 30) (N := 57) 0 rfl rfl (by decide) in_X1 rfl rfl q308 dX1_oneLeft_10 ?_
    refine g_get (v := vR 13) (ci := 0) (b := 0) (N := 21) 3 rfl rfl (by decide) in_X2 rfl rfl q237 dX1_oneLeft_13 ?_
    refine g_iload_n 1 dX1_oneLeft_16 rfl ?_
    refine g_iald (id := 3) 3 rfl rfl dX1_oneLeft_17 (fun v1 rv1 => ?_)
    refine g_icmp_ge 66 dX1_oneLeft_18 (by decide) (fun _ => ra4) (fun _ => rv1) (fun _ => ?_) (fun _ => ?_)
    · refine g_iload_n 3 dX1_oneLeft_21 rfl ?_
      refine g_iconst dX1_oneLeft_22 ?_
      refine g_icmp_ge 66 dX1_oneLeft_23 (by decide) (fun _ => ra3) (fun _ => (by decide : inR (2))) (fun _ => ?_) (fun _ => ?_)
      · refine g_aload_n 0 dX1_oneLeft_26 rfl ?_
        refine g_aload_n 0 dX1_oneLeft_27 rfl ?_
        refine g_get (v := vR 0) (ci := 1) (b := 30) (N := 57) 0 rfl rfl (by decide) in_X1 rfl rfl q308 dX1_oneLeft_28 ?_
        refine g_iload_n 1 dX1_oneLeft_31 rfl ?_
        refine g_iload 4 dX1_oneLeft_32 rfl ?_
        refine g_cVI (As := [vI a1, vI a4]) (n := 2) (stk := [vR 1]) (ci := 0) (b := 0) (N := 21) (hX2_at a1 a4 u) (by decide +kernel) rfl rfl (lw_V q571 q572 q573 q164 q574) (by decide +kernel) rfl (by decide) hRf hRl (fun _ => (avc ra1 (avc ra4 avn))) (Nat.le_of_ble_eq_true rfl) rfl rfl dX1_oneLeft_34 (fun v2 s3 rv2 => ?_)
        refine g_cVZ (As := [vI v2]) (n := 1) (stk := []) (ci := 1) (b := 30) (N := 57) (hX1_holds v2 s3) (by decide +kernel) rfl rfl (lw_V q950 q952 qs49 q163 q953) (by decide +kernel) rfl (by decide) hRf hRl (fun _ => (avc rv2 avn)) (Nat.le_of_ble_eq_true rfl) rfl rfl dX1_oneLeft_37 (fun v4 s5 zv4 => ?_)
        refine g_if_eq 46 dX1_oneLeft_40 (by decide) (fun _ => (inR_z zv4)) (fun _ => ?_) (fun _ => ?_)
        · refine g_aload_n 0 dX1_oneLeft_46 rfl ?_
          refine g_get (v := vR 0) (ci := 1) (b := 30) (N := 57) 0 rfl rfl (by decide) in_X1 rfl rfl q308 dX1_oneLeft_47 ?_
          refine g_iload_n 1 dX1_oneLeft_50 rfl ?_
          refine g_iload 4 dX1_oneLeft_51 rfl ?_
          refine g_cVI (As := [vI a1, vI a4]) (n := 2) (stk := []) (ci := 0) (b := 0) (N := 21) (hX2_at a1 a4 s5) (by decide +kernel) rfl rfl (lw_V q571 q572 q573 q164 q574) (by decide +kernel) rfl (by decide) hRf hRl (fun _ => (avc ra1 (avc ra4 avn))) (Nat.le_of_ble_eq_true rfl) rfl rfl dX1_oneLeft_53 (fun v6 s7 rv6 => ?_)
          refine g_istore_n (loc' := [(2, vI v6), (0, vR 1), (1, vI a1), (3, vI a3), (4, vI a4)]) dX1_oneLeft_56 (by decide) rfl ?_
          refine g_iinc 3 (loc' := fun v8 => [(3, vI v8), (2, vI v6), (0, vR 1), (1, vI a1), (4, vI a4)]) dX1_oneLeft_57 rfl (by decide) (fun _ => rfl) (fun v8 rv8 => ?_)
          refine g_iinc 4 (loc' := fun v9 => [(4, vI v9), (3, vI v8), (2, vI v6), (0, vR 1), (1, vI a1)]) dX1_oneLeft_60 rfl (by decide) (fun _ => rfl) (fun v9 rv9 => ?_)
          refine g_goto 7 dX1_oneLeft_63 (by decide) ?_
          exact g_pick [3, 4, 2, 1, 0] rfl (ih a1 v6 v8 v9 s7 ra1 rv6 rv8 rv9)
        · refine g_goto 60 dX1_oneLeft_43 (by decide) ?_
          refine g_iinc 4 (loc' := fun v10 => [(4, vI v10), (0, vR 1), (1, vI a1), (2, vI a2), (3, vI a3)]) dX1_oneLeft_60 rfl (by decide) (fun _ => rfl) (fun v10 rv10 => ?_)
          refine g_goto 7 dX1_oneLeft_63 (by decide) ?_
          exact g_pick [1, 2, 3, 4, 0] rfl (ih a1 a2 a3 v10 s5 ra1 ra2 ra3 rv10)
      · exact g_pick [0, 2, 3] rfl (hx66 a2 a3 u ra2 ra3)
    · exact g_pick [0, 2, 3] rfl (hx66 a2 a3 u ra2 ra3)
theorem wX1_oneLeft (hd : 2 ≤ d) (hRf : d + 1 ≤ R.frames) (hRl : 40 * (d + 1) ≤ R.locals) (hX2_at : ∀ (a1 a2 : Int) (u : Sg), Ct l d FC clA yX2_at cX2_at 3 (some .int) DX2_at rvI [vR 0, vI a1, vI a2] u (call 98 [a1, a2] u)) (hX1_holds : ∀ (a1 : Int) (u : Sg), Ct l d FC clA yX1_holds cX1_holds 3 (some .boolean) DX1_holds rvI [vR 1, vI a1] u (call 67 [a1] u)) (hX2_not : ∀ (a1 : Int) (u : Sg), Ct l d FC clA yX2_not cX2_not 2 (some .int) DX2_not rvI [vR 0, vI a1] u (call 102 [a1] u)) (hX1_come : ∀ (a1 : Int) (u : Sg), Ct l d FC clA yX1_come cX1_come 3 none DX1_come rvV [vR 1, vI a1] u (call 72 [a1] u)) (a1 : Int) (u : Sg) (ra1 : inR a1) : WG p l e R s m args below meth c JX1_oneLeft DX1_oneLeft G clA A FC ad0 σ0 rvV (bX1_oneLeft call a1 u) u 0 [(0, vR 1), (1, vI a1)] [] := by
  unfold bX1_oneLeft
  refine g_iconst dX1_oneLeft_0 ?_
  refine g_istore_n (loc' := [(2, vI 0), (0, vR 1), (1, vI a1)]) dX1_oneLeft_1 (by decide) rfl ?_
  refine g_iconst dX1_oneLeft_2 ?_
  refine g_istore_n (loc' := [(3, vI 0), (2, vI 0), (0, vR 1), (1, vI a1)]) dX1_oneLeft_3 (by decide) rfl ?_
  refine g_iconst dX1_oneLeft_4 ?_
  refine g_istore (loc' := [(4, vI 0), (3, vI 0), (2, vI 0), (0, vR 1), (1, vI a1)]) dX1_oneLeft_5 (by decide) rfl ?_
  refine g_pick [3, 4, 2, 1, 0] rfl (wX1_oneLeft_L7 hd hRf hRl hX2_at hX1_holds hX2_not hX1_come _ (fun v2 v3 s1 rv2 rv3 => ?_) KF a1 0 0 0 u ra1 (inR_z (Or.inl rfl)) (inR_z (Or.inl rfl)) (inR_z (Or.inl rfl)))
  · refine g_iload_n 2 dX1_oneLeft_66 rfl ?_
    refine g_iconst dX1_oneLeft_67 ?_
    refine g_icmp_ne 83 dX1_oneLeft_68 (by decide) (fun _ => rv3) (fun _ => (inR_z (Or.inr rfl))) (fun _ => ?_) (fun _ => ?_)
    · refine g_aload_n 0 dX1_oneLeft_71 rfl ?_
      refine g_aload_n 0 dX1_oneLeft_72 rfl ?_
      refine g_get (v := vR 0) (ci := 1) (b := 30) (N := 57) 0 rfl rfl (by decide) in_X1 rfl rfl q308 dX1_oneLeft_73 ?_
      refine g_iload_n 1 dX1_oneLeft_76 rfl ?_
      refine g_cVI (As := [vI v2]) (n := 1) (stk := [vR 1]) (ci := 0) (b := 0) (N := 21) (hX2_not v2 s1) (by decide +kernel) rfl rfl (lw_V q719 q720 q721 q164 q722) (by decide +kernel) rfl (by decide) hRf hRl (fun _ => (avc rv2 avn)) (Nat.le_of_ble_eq_true rfl) rfl rfl dX1_oneLeft_77 (fun v4 s5 rv4 => ?_)
      refine g_cVV (As := [vI v4]) (n := 1) (stk := []) (ci := 1) (b := 30) (N := 57) (hX1_come v4 s5) (by decide +kernel) rfl rfl (lw_V q970 q972 qs54 q163 q973) (by decide +kernel) rfl (by decide) hRf hRl (fun _ => (avc rv4 avn)) (Nat.le_of_ble_eq_true rfl) rfl rfl dX1_oneLeft_80 (fun v6 s7 => ?_)
      exact g_vret rfl rfl dX1_oneLeft_83
    · exact g_vret rfl rfl dX1_oneLeft_83
end
section
variable {l : Launch} {d : Nat} {call : Nat → List Int → Sg → Option (Int × Sg)}
theorem ctX1_oneLeft (p0 : Program) (e0 : Env) (s0 : State) (m0 : MethodId) (meth0 : Method) (c0 : Code) (G0 : Gm) (hd : 2 ≤ d) (hX2_at : ∀ (a1 a2 : Int) (u : Sg), Ct l d FC clA yX2_at cX2_at 3 (some .int) DX2_at rvI [vR 0, vI a1, vI a2] u (call 98 [a1, a2] u)) (hX1_holds : ∀ (a1 : Int) (u : Sg), Ct l d FC clA yX1_holds cX1_holds 3 (some .boolean) DX1_holds rvI [vR 1, vI a1] u (call 67 [a1] u)) (hX2_not : ∀ (a1 : Int) (u : Sg), Ct l d FC clA yX2_not cX2_not 2 (some .int) DX2_not rvI [vR 0, vI a1] u (call 102 [a1] u)) (hX1_come : ∀ (a1 : Int) (u : Sg), Ct l d FC clA yX1_come cX1_come 3 none DX1_come rvV [vR 1, vI a1] u (call 72 [a1] u)) (a1 : Int) (u : Sg) : Ct l (d + 1) FC clA yX1_oneLeft cX1_oneLeft 5 none DX1_oneLeft rvV [vR 1, vI a1] u (bX1_oneLeft call a1 u) :=
  Ct_of (by decide) (Nat.le_of_ble_eq_true rfl) (fun p e R s1 m args below meth c G A ad hA hRf hRl => wX1_oneLeft hd hRf hRl hX2_at hX1_holds hX2_not hX1_come a1 u (hA _ (List.mem_cons_of_mem _ List.mem_cons_self))) p0 e0 s0 m0 meth0 c0 G0
end
/-! RoundCheck.newConstant(I)V -/
abbrev JX1_newConstant : Jm := (cX1_newConstant, RX1, 2, none)
def bX1_newConstant (call : Nat → List Int → Sg → Option (Int × Sg)) (a1 : Int) (u : Sg) : Option (Int × Sg) := jn (fun (a1 : Int) (s2 : Sg) => un (gI s2 56) fun v3 => stA s2 55 v3 a1 fun s4 => un (gI s4 56) fun v5 => ar (v5 + 1) fun v6 => un (sI s4 56 v6) fun s7 => some (0, s7)) fun j1 => un (gI u 56) fun v8 => un (gL u 55 : Int) fun v9 => if v8 = v9 then (un (gI u 56) fun v10 => ar (2 * v10) fun v11 => cpy u 55 v11 fun s12 => j1 a1 s12) else (j1 a1 u)
section
variable {p : Program} {l : Launch} {e : Env} {R : Room} {s : State} {m : MethodId} {args : Array Value} {below : List Frame} {meth : Method} {c : Code} {G : Gm} {A : Nat → Prop} {ad0 : Nat → Nat} {σ0 : Sg} {d : Nat} {call : Nat → List Int → Sg → Option (Int × Sg)}
theorem wX1_newConstant (hd : 2 ≤ d) (hRf : d + 1 ≤ R.frames) (hRl : 40 * (d + 1) ≤ R.locals) (a1 : Int) (u : Sg) (ra1 : inR a1) : WG p l e R s m args below meth c JX1_newConstant DX1_newConstant G clA A FC ad0 σ0 rvV (bX1_newConstant call a1 u) u 0 [(0, vR 1), (1, vI a1)] [] := by
  unfold bX1_newConstant
  refine g_jn (fun j1 => ∀ (a1 : Int) (s2 : Sg), inR a1 → WG p l e R s m args below meth c JX1_newConstant DX1_newConstant G clA A FC ad0 σ0 rvV (j1 a1 s2) s2 29 [(0, vR 1), (1, vI a1)] []) (fun a1 s2 ra1 => ?_) (fun j1 hj1 => ?_)
  · refine g_aload_n 0 dX1_newConstant_29 rfl ?_
    refine g_get (v := vR 65) (ci := 1) (b := 30) (N := 57) 25 rfl rfl (by decide) in_X1 rfl rfl q333 dX1_newConstant_30 ?_
    refine g_aload_n 0 dX1_newConstant_33 rfl ?_
    refine g_getI (ci := 1) (b := 30) (N := 57) 26 rfl rfl rfl (by decide) in_X1 rfl rfl q334 dX1_newConstant_34 (fun v3 rv3 => ?_)
    refine g_iload_n 1 dX1_newConstant_37 rfl ?_
    refine g_iastU (id := 55) FC_ok 25 rfl rfl (by decide +kernel) ra1 dX1_newConstant_38 (fun s4 => ?_)
    refine g_aload_n 0 dX1_newConstant_39 rfl ?_
    refine g_dup rfl dX1_newConstant_40 ?_
    refine g_getI (ci := 1) (b := 30) (N := 57) 26 rfl rfl rfl (by decide) in_X1 rfl rfl q334 dX1_newConstant_41 (fun v5 rv5 => ?_)
    refine g_iconst dX1_newConstant_44 ?_
    refine g_iadd dX1_newConstant_45 (fun v6 rv6 => ?_)
    refine g_sIU (ci := 1) (b := 30) (N := 57) FC_ok 26 rfl rfl rfl (by decide) in_X1 tyX1 tyX1_ok nmX1 rfl rfl rfl rfl (by decide +kernel) rv6 q334 dX1_newConstant_46 (fun s7 => ?_)
    exact g_vret rfl rfl dX1_newConstant_49
  · refine g_aload_n 0 dX1_newConstant_0 rfl ?_
    refine g_getI (ci := 1) (b := 30) (N := 57) 26 rfl rfl rfl (by decide) in_X1 rfl rfl q334 dX1_newConstant_1 (fun v8 rv8 => ?_)
    refine g_aload_n 0 dX1_newConstant_4 rfl ?_
    refine g_get (v := vR 65) (ci := 1) (b := 30) (N := 57) 25 rfl rfl (by decide) in_X1 rfl rfl q333 dX1_newConstant_5 ?_
    refine g_alenU (id := 55) 25 rfl (Or.inl rfl) dX1_newConstant_8 (fun v9 rv9 => ?_)
    refine g_icmp_ne 29 dX1_newConstant_9 (by decide) (fun _ => rv8) (fun _ => rv9) (fun _ => ?_) (fun _ => ?_)
    · refine g_aload_n 0 dX1_newConstant_12 rfl ?_
      refine g_aload_n 0 dX1_newConstant_13 rfl ?_
      refine g_get (v := vR 65) (ci := 1) (b := 30) (N := 57) 25 rfl rfl (by decide) in_X1 rfl rfl q333 dX1_newConstant_14 ?_
      refine g_iconst dX1_newConstant_17 ?_
      refine g_aload_n 0 dX1_newConstant_18 rfl ?_
      refine g_getI (ci := 1) (b := 30) (N := 57) 26 rfl rfl rfl (by decide) in_X1 rfl rfl q334 dX1_newConstant_19 (fun v10 rv10 => ?_)
      refine g_imul dX1_newConstant_22 (fun v11 rv11 => ?_)
      refine g_cpy (ci := 1) (b := 30) (N := 57) FC_ok FC_10 rfl 25 25 rfl rfl rfl rfl (by decide) in_X1 tyX1 tyX1_ok nmX1 rfl rfl rfl rfl (by decide +kernel) q666 q333 hRf hRl (Nat.le_of_succ_le hd) (Nat.le_of_ble_eq_true rfl) rfl rfl dX1_newConstant_23 dX1_newConstant_26 (fun s12 => ?_)
      exact g_pick [0, 1] rfl (hj1 a1 s12 ra1)
    · exact g_pick [0, 1] rfl (hj1 a1 u ra1)
end
section
variable {l : Launch} {d : Nat} {call : Nat → List Int → Sg → Option (Int × Sg)}
theorem ctX1_newConstant (p0 : Program) (e0 : Env) (s0 : State) (m0 : MethodId) (meth0 : Method) (c0 : Code) (G0 : Gm) (hd : 2 ≤ d) (a1 : Int) (u : Sg) : Ct l (d + 1) FC clA yX1_newConstant cX1_newConstant 2 none DX1_newConstant rvV [vR 1, vI a1] u (bX1_newConstant call a1 u) :=
  Ct_of (by decide) (Nat.le_of_ble_eq_true rfl) (fun p e R s1 m args below meth c G A ad hA hRf hRl => wX1_newConstant hd hRf hRl a1 u (hA _ (List.mem_cons_of_mem _ List.mem_cons_self))) p0 e0 s0 m0 meth0 c0 G0
end
/-! RoundCheck.forget(III)V -/
abbrev JX1_forget : Jm := (cX1_forget, RX1, 4, none)
def bX1_forget (call : Nat → List Int → Sg → Option (Int × Sg)) (a1 a2 a3 : Int) (u : Sg) : Option (Int × Sg) := cl (call 99 [a1, a2] u) fun v1 s2 => un (sI s2 86 a3) fun s3 => un (gI s3 33) fun v4 => ar (v4 + 1) fun v5 => un (sI s3 33 v5) fun s6 => some (0, s6)
section
variable {p : Program} {l : Launch} {e : Env} {R : Room} {s : State} {m : MethodId} {args : Array Value} {below : List Frame} {meth : Method} {c : Code} {G : Gm} {A : Nat → Prop} {ad0 : Nat → Nat} {σ0 : Sg} {d : Nat} {call : Nat → List Int → Sg → Option (Int × Sg)}
theorem wX1_forget (hd : 2 ≤ d) (hRf : d + 1 ≤ R.frames) (hRl : 40 * (d + 1) ≤ R.locals) (hX2_forget : ∀ (a1 a2 : Int) (u : Sg), Ct l d FC clA yX2_forget cX2_forget 5 none DX2_forget rvV [vR 0, vI a1, vI a2] u (call 99 [a1, a2] u)) (a1 a2 a3 : Int) (u : Sg) (ra1 : inR a1) (ra2 : inR a2) (ra3 : inR a3) : WG p l e R s m args below meth c JX1_forget DX1_forget G clA A FC ad0 σ0 rvV (bX1_forget call a1 a2 a3 u) u 0 [(0, vR 1), (1, vI a1), (2, vI a2), (3, vI a3)] [] := by
  unfold bX1_forget
  refine g_aload_n 0 dX1_forget_0 rfl ?_
  refine g_get (v := vR 0) (ci := 1) (b := 30) (N := 57) 0 rfl rfl (by decide) in_X1 rfl rfl q308 dX1_forget_1 ?_
  refine g_iload_n 1 dX1_forget_4 rfl ?_
  refine g_iload_n 2 dX1_forget_5 rfl ?_
  refine g_cVV (As := [vI a1, vI a2]) (n := 2) (stk := []) (ci := 0) (b := 0) (N := 21) (hX2_forget a1 a2 u) (by decide +kernel) rfl rfl (lw_V q647 q648 q649 q164 q650) (by decide +kernel) rfl (by decide) hRf hRl (fun _ => (avc ra1 (avc ra2 avn))) (Nat.le_of_ble_eq_true rfl) rfl rfl dX1_forget_6 (fun v1 s2 => ?_)
  refine g_aload_n 0 dX1_forget_9 rfl ?_
  refine g_iload_n 3 dX1_forget_10 rfl ?_
  refine g_sIU (ci := 1) (b := 30) (N := 57) FC_ok 56 rfl rfl rfl (by decide) in_X1 tyX1 tyX1_ok nmX1 rfl rfl rfl rfl (by decide +kernel) ra3 q364 dX1_forget_11 (fun s3 => ?_)
  refine g_aload_n 0 dX1_forget_14 rfl ?_
  refine g_dup rfl dX1_forget_15 ?_
  refine g_getI (ci := 1) (b := 30) (N := 57) 3 rfl rfl rfl (by decide) in_X1 rfl rfl q311 dX1_forget_16 (fun v4 rv4 => ?_)
  refine g_iconst dX1_forget_19 ?_
  refine g_iadd dX1_forget_20 (fun v5 rv5 => ?_)
  refine g_sIU (ci := 1) (b := 30) (N := 57) FC_ok 3 rfl rfl rfl (by decide) in_X1 tyX1 tyX1_ok nmX1 rfl rfl rfl rfl (by decide +kernel) rv5 q311 dX1_forget_21 (fun s6 => ?_)
  exact g_vret rfl rfl dX1_forget_24
end
section
variable {l : Launch} {d : Nat} {call : Nat → List Int → Sg → Option (Int × Sg)}
theorem ctX1_forget (p0 : Program) (e0 : Env) (s0 : State) (m0 : MethodId) (meth0 : Method) (c0 : Code) (G0 : Gm) (hd : 2 ≤ d) (hX2_forget : ∀ (a1 a2 : Int) (u : Sg), Ct l d FC clA yX2_forget cX2_forget 5 none DX2_forget rvV [vR 0, vI a1, vI a2] u (call 99 [a1, a2] u)) (a1 a2 a3 : Int) (u : Sg) : Ct l (d + 1) FC clA yX1_forget cX1_forget 4 none DX1_forget rvV [vR 1, vI a1, vI a2, vI a3] u (bX1_forget call a1 a2 a3 u) :=
  Ct_of (by decide) (Nat.le_of_ble_eq_true rfl) (fun p e R s1 m args below meth c G A ad hA hRf hRl => wX1_forget hd hRf hRl hX2_forget a1 a2 a3 u (hA _ (List.mem_cons_of_mem _ List.mem_cons_self)) (hA _ (List.mem_cons_of_mem _ (List.mem_cons_of_mem _ List.mem_cons_self))) (hA _ (List.mem_cons_of_mem _ (List.mem_cons_of_mem _ (List.mem_cons_of_mem _ List.mem_cons_self))))) p0 e0 s0 m0 meth0 c0 G0
end
/-! RoundCheck.fits0(II)Z -/
abbrev JX1_fits0 : Jm := (cX1_fits0, RX1, 3, (some .boolean))
def bX1_fits0 (call : Nat → List Int → Sg → Option (Int × Sg)) (a1 a2 : Int) (u : Sg) : Option (Int × Sg) := jn (fun (s2 : Sg) => some (0, s2)) fun j1 => cl (call 47 [a1] u) fun v3 s4 => ld s4 1 a2 fun v5 => cl (call 30 [a2] s4) fun v6 s7 => cl (call 82 [v3, v5, v6] s7) fun v8 s9 => if v8 = 0 then (j1 s9) else (jn (fun (s11 : Sg) => some (1, s11)) fun j10 => cl (call 83 [a2] s9) fun v12 s13 => if v12 = 0 then (j10 s13) else (cl (call 84 [a1] s13) fun v14 s15 => cl (call 88 [a2, v14] s15) fun v16 s17 => if v16 = 0 then (j1 s17) else (j10 s17)))
section
variable {p : Program} {l : Launch} {e : Env} {R : Room} {s : State} {m : MethodId} {args : Array Value} {below : List Frame} {meth : Method} {c : Code} {G : Gm} {A : Nat → Prop} {ad0 : Nat → Nat} {σ0 : Sg} {d : Nat} {call : Nat → List Int → Sg → Option (Int × Sg)}
theorem wX1_fits0 (hd : 2 ≤ d) (hRf : d + 1 ≤ R.frames) (hRl : 40 * (d + 1) ≤ R.locals) (hX1_typeOf : ∀ (a1 : Int) (u : Sg), Ct l d FC clA yX1_typeOf cX1_typeOf 3 (some .int) DX1_typeOf rvI [vR 1, vI a1] u (call 47 [a1] u)) (hX1_argOf : ∀ (a1 : Int) (u : Sg), Ct l d FC clA yX1_argOf cX1_argOf 2 (some .int) DX1_argOf rvI [vR 1, vI a1] u (call 30 [a1] u)) (hX1_hasMode : ∀ (a1 a2 a3 : Int) (u : Sg), Ct l d FC clA yX1_hasMode cX1_hasMode 5 (some .boolean) DX1_hasMode rvI [vR 1, vI a1, vI a2, vI a3] u (call 82 [a1, a2, a3] u)) (hX1_adjectivesOf : ∀ (a1 : Int) (u : Sg), Ct l d FC clA yX1_adjectivesOf cX1_adjectivesOf 2 (some .int) DX1_adjectivesOf rvI [vR 1, vI a1] u (call 83 [a1] u)) (hX1_adjectivesOf0 : ∀ (a1 : Int) (u : Sg), Ct l d FC clA yX1_adjectivesOf0 cX1_adjectivesOf0 10 (some .int) DX1_adjectivesOf0 rvI [vR 1, vI a1] u (call 84 [a1] u)) (hX1_within : ∀ (a1 a2 : Int) (u : Sg), Ct l d FC clA yX1_within cX1_within 4 (some .boolean) DX1_within rvI [vR 1, vI a1, vI a2] u (call 88 [a1, a2] u)) (a1 a2 : Int) (u : Sg) (ra1 : inR a1) (ra2 : inR a2) : WG p l e R s m args below meth c JX1_fits0 DX1_fits0 G clA A FC ad0 σ0 rvI (bX1_fits0 call a1 a2 u) u 0 [(0, vR 1), (1, vI a1), (2, vI a2)] [] := by
  unfold bX1_fits0
  refine g_jn (fun j1 => ∀ (s2 : Sg), WG p l e R s m args below meth c JX1_fits0 DX1_fits0 G clA A FC ad0 σ0 rvI (j1 s2) s2 51 [] []) (fun s2 => ?_) (fun j1 hj1 => ?_)
  · refine g_iconst dX1_fits0_51 ?_
    exact g_zret rfl rfl (fun _ => (Or.inl rfl)) dX1_fits0_52
  · refine g_aload_n 0 dX1_fits0_0 rfl ?_
    refine g_aload_n 0 dX1_fits0_1 rfl ?_
    refine g_iload_n 1 dX1_fits0_2 rfl ?_
    refine g_cVI (As := [vI a1]) (n := 1) (stk := [vR 1]) (ci := 1) (b := 30) (N := 57) (hX1_typeOf a1 u) (by decide +kernel) rfl rfl (lw_V q860 q862 qs29 q163 q863) (by decide +kernel) rfl (by decide) hRf hRl (fun _ => (avc ra1 avn)) (Nat.le_of_ble_eq_true rfl) rfl rfl dX1_fits0_3 (fun v3 s4 rv3 => ?_)
    refine g_aload_n 0 dX1_fits0_6 rfl ?_
    refine g_get (v := vR 0) (ci := 1) (b := 30) (N := 57) 0 rfl rfl (by decide) in_X1 rfl rfl q308 dX1_fits0_7 ?_
    refine g_get (v := vR 11) (ci := 0) (b := 0) (N := 21) 1 rfl rfl (by decide) in_X2 rfl rfl q234 dX1_fits0_10 ?_
    refine g_iload_n 2 dX1_fits0_13 rfl ?_
    refine g_iald (id := 1) 1 rfl rfl dX1_fits0_14 (fun v5 rv5 => ?_)
    refine g_aload_n 0 dX1_fits0_15 rfl ?_
    refine g_iload_n 2 dX1_fits0_16 rfl ?_
    refine g_cVI (As := [vI a2]) (n := 1) (stk := [vI v5, vI v3, vR 1]) (ci := 1) (b := 30) (N := 57) (hX1_argOf a2 s4) (by decide +kernel) rfl rfl (lw_V q773 q775 qs16 q163 q776) (by decide +kernel) rfl (by decide) hRf hRl (fun _ => (avc ra2 avn)) (Nat.le_of_ble_eq_true rfl) rfl rfl dX1_fits0_17 (fun v6 s7 rv6 => ?_)
    refine g_cVZ (As := [vI v3, vI v5, vI v6]) (n := 3) (stk := []) (ci := 1) (b := 30) (N := 57) (hX1_hasMode v3 v5 v6 s7) (by decide +kernel) rfl rfl (lw_V q1017 q1019 qs63 q163 q1020) (by decide +kernel) rfl (by decide) hRf hRl (fun _ => (avc rv3 (avc rv5 (avc rv6 avn)))) (Nat.le_of_ble_eq_true rfl) rfl rfl dX1_fits0_20 (fun v8 s9 zv8 => ?_)
    refine g_if_eq 51 dX1_fits0_23 (by decide) (fun _ => (inR_z zv8)) (fun _ => ?_) (fun _ => ?_)
    · exact g_pick [] rfl (hj1 s9)
    · refine g_jn (fun j10 => ∀ (s11 : Sg), WG p l e R s m args below meth c JX1_fits0 DX1_fits0 G clA A FC ad0 σ0 rvI (j10 s11) s11 47 [] []) (fun s11 => ?_) (fun j10 hj10 => ?_)
      · refine g_iconst dX1_fits0_47 ?_
        refine g_goto 52 dX1_fits0_48 (by decide) ?_
        exact g_zret rfl rfl (fun _ => (Or.inr rfl)) dX1_fits0_52
      · refine g_aload_n 0 dX1_fits0_26 rfl ?_
        refine g_iload_n 2 dX1_fits0_27 rfl ?_
        refine g_cVI (As := [vI a2]) (n := 1) (stk := []) (ci := 1) (b := 30) (N := 57) (hX1_adjectivesOf a2 s9) (by decide +kernel) rfl rfl (lw_V q1021 q1023 qs64 q163 q1024) (by decide +kernel) rfl (by decide) hRf hRl (fun _ => (avc ra2 avn)) (Nat.le_of_ble_eq_true rfl) rfl rfl dX1_fits0_28 (fun v12 s13 rv12 => ?_)
        refine g_if_eq 47 dX1_fits0_31 (by decide) (fun _ => rv12) (fun _ => ?_) (fun _ => ?_)
        · exact g_pick [] rfl (hj10 s13)
        · refine g_aload_n 0 dX1_fits0_34 rfl ?_
          refine g_iload_n 2 dX1_fits0_35 rfl ?_
          refine g_aload_n 0 dX1_fits0_36 rfl ?_
          refine g_iload_n 1 dX1_fits0_37 rfl ?_
          refine g_cVI (As := [vI a1]) (n := 1) (stk := [vI a2, vR 1]) (ci := 1) (b := 30) (N := 57) (hX1_adjectivesOf0 a1 s13) (by decide +kernel) rfl rfl (lw_V q1025 q1027 qs65 q163 q1028) (by decide +kernel) rfl (by decide) hRf hRl (fun _ => (avc ra1 avn)) (Nat.le_of_ble_eq_true rfl) rfl rfl dX1_fits0_38 (fun v14 s15 rv14 => ?_)
          refine g_cVZ (As := [vI a2, vI v14]) (n := 2) (stk := []) (ci := 1) (b := 30) (N := 57) (hX1_within a2 v14 s15) (by decide +kernel) rfl rfl (lw_V q1041 q1043 qs69 q163 q1044) (by decide +kernel) rfl (by decide) hRf hRl (fun _ => (avc ra2 (avc rv14 avn))) (Nat.le_of_ble_eq_true rfl) rfl rfl dX1_fits0_41 (fun v16 s17 zv16 => ?_)
          refine g_if_eq 51 dX1_fits0_44 (by decide) (fun _ => (inR_z zv16)) (fun _ => ?_) (fun _ => ?_)
          · exact g_pick [] rfl (hj1 s17)
          · exact g_pick [] rfl (hj10 s17)
end
section
variable {l : Launch} {d : Nat} {call : Nat → List Int → Sg → Option (Int × Sg)}
theorem ctX1_fits0 (p0 : Program) (e0 : Env) (s0 : State) (m0 : MethodId) (meth0 : Method) (c0 : Code) (G0 : Gm) (hd : 2 ≤ d) (hX1_typeOf : ∀ (a1 : Int) (u : Sg), Ct l d FC clA yX1_typeOf cX1_typeOf 3 (some .int) DX1_typeOf rvI [vR 1, vI a1] u (call 47 [a1] u)) (hX1_argOf : ∀ (a1 : Int) (u : Sg), Ct l d FC clA yX1_argOf cX1_argOf 2 (some .int) DX1_argOf rvI [vR 1, vI a1] u (call 30 [a1] u)) (hX1_hasMode : ∀ (a1 a2 a3 : Int) (u : Sg), Ct l d FC clA yX1_hasMode cX1_hasMode 5 (some .boolean) DX1_hasMode rvI [vR 1, vI a1, vI a2, vI a3] u (call 82 [a1, a2, a3] u)) (hX1_adjectivesOf : ∀ (a1 : Int) (u : Sg), Ct l d FC clA yX1_adjectivesOf cX1_adjectivesOf 2 (some .int) DX1_adjectivesOf rvI [vR 1, vI a1] u (call 83 [a1] u)) (hX1_adjectivesOf0 : ∀ (a1 : Int) (u : Sg), Ct l d FC clA yX1_adjectivesOf0 cX1_adjectivesOf0 10 (some .int) DX1_adjectivesOf0 rvI [vR 1, vI a1] u (call 84 [a1] u)) (hX1_within : ∀ (a1 a2 : Int) (u : Sg), Ct l d FC clA yX1_within cX1_within 4 (some .boolean) DX1_within rvI [vR 1, vI a1, vI a2] u (call 88 [a1, a2] u)) (a1 a2 : Int) (u : Sg) : Ct l (d + 1) FC clA yX1_fits0 cX1_fits0 3 (some .boolean) DX1_fits0 rvI [vR 1, vI a1, vI a2] u (bX1_fits0 call a1 a2 u) :=
  Ct_of (by decide) (Nat.le_of_ble_eq_true rfl) (fun p e R s1 m args below meth c G A ad hA hRf hRl => wX1_fits0 hd hRf hRl hX1_typeOf hX1_argOf hX1_hasMode hX1_adjectivesOf hX1_adjectivesOf0 hX1_within a1 a2 u (hA _ (List.mem_cons_of_mem _ List.mem_cons_self)) (hA _ (List.mem_cons_of_mem _ (List.mem_cons_of_mem _ List.mem_cons_self)))) p0 e0 s0 m0 meth0 c0 G0
end
/-! RoundCheck.hasMode(III)Z -/
abbrev JX1_hasMode : Jm := (cX1_hasMode, RX1, 5, (some .boolean))
def bX1_hasMode_L3 (call : Nat → List Int → Sg → Option (Int × Sg)) : Nat → Int → Int → Int → Sg → (Sg → Option (Int × Sg)) → (Sg → Option (Int × Sg)) → Option (Int × Sg)
  | 0, _, _, _, _, _, _ => none
  | n + 1, a2, a3, a4, u, x45, x32 => if a4 = 0 then (x45 u) else (jn (fun (a2 a3 a4 : Int) (s2 : Sg) => cl (call 51 [a4] s2) fun v3 s4 => bX1_hasMode_L3 call n a2 a3 v3 s4 x45 x32) fun j1 => ld u 1 a4 fun v5 => if v5 = a2 then (cl (call 30 [a4] u) fun v6 s7 => if v6 = a3 then (x32 s7) else (j1 a2 a3 a4 s7)) else (j1 a2 a3 a4 u))
def bX1_hasMode (call : Nat → List Int → Sg → Option (Int × Sg)) (a1 a2 a3 : Int) (u : Sg) : Option (Int × Sg) := bX1_hasMode_L3 call KF a2 a3 a1 u (fun s1 => some (0, s1)) (fun s2 => some (1, s2))
section
variable {p : Program} {l : Launch} {e : Env} {R : Room} {s : State} {m : MethodId} {args : Array Value} {below : List Frame} {meth : Method} {c : Code} {G : Gm} {A : Nat → Prop} {ad0 : Nat → Nat} {σ0 : Sg} {d : Nat} {call : Nat → List Int → Sg → Option (Int × Sg)}
theorem wX1_hasMode_L3 (hd : 2 ≤ d) (hRf : d + 1 ≤ R.frames) (hRl : 40 * (d + 1) ≤ R.locals) (hX1_parent : ∀ (a1 : Int) (u : Sg), Ct l d FC clA yX1_parent cX1_parent 2 (some .int) DX1_parent rvI [vR 1, vI a1] u (call 51 [a1] u)) (hX1_argOf : ∀ (a1 : Int) (u : Sg), Ct l d FC clA yX1_argOf cX1_argOf 2 (some .int) DX1_argOf rvI [vR 1, vI a1] u (call 30 [a1] u)) (x45 : Sg → Option (Int × Sg)) (x32 : Sg → Option (Int × Sg)) (hx45 : ∀ (u : Sg), WG p l e R s m args below meth c JX1_hasMode DX1_hasMode G clA A FC ad0 σ0 rvI (x45 u) u 45 [] []) (hx32 : ∀ (u : Sg), WG p l e R s m args below meth c JX1_hasMode DX1_hasMode G clA A FC ad0 σ0 rvI (x32 u) u 32 [] []) : ∀ (n : Nat) (a2 a3 a4 : Int) (u : Sg), inR a2 → inR a3 → inR a4 → WG p l e R s m args below meth c JX1_hasMode DX1_hasMode G clA A FC ad0 σ0 rvI (bX1_hasMode_L3 call n a2 a3 a4 u x45 x32) u 3 [(0, vR 1), (2, vI a2), (3, vI a3), (4, vI a4)] [] := by
  intro n
  induction n with
  | zero =>
    intro a2 a3 a4 u ra2 ra3 ra4
    exact g_none
  | succ n ih =>
    intro a2 a3 a4 u ra2 ra3 ra4
    rw [bX1_hasMode_L3]
    refine g_iload 3 dX1_hasMode_3 rfl ?_
    refine g_if_eq 45 dX1_hasMode_5 (by decide) (fun _ => ra4) (fun _ => ?_) (fun _ => ?_)
    · exact g_pick [] rfl (hx45 u)
    · refine g_jn (fun j1 => ∀ (a2 a3 a4 : Int) (s2 : Sg), inR a2 → inR a3 → inR a4 → WG p l e R s m args below meth c JX1_hasMode DX1_hasMode G clA A FC ad0 σ0 rvI (j1 a2 a3 a4 s2) s2 34 [(0, vR 1), (2, vI a2), (3, vI a3), (4, vI a4)] []) (fun a2 a3 a4 s2 ra2 ra3 ra4 => ?_) (fun j1 hj1 => ?_)
      · refine g_aload_n 0 dX1_hasMode_34 rfl ?_
        refine g_iload 3 dX1_hasMode_35 rfl ?_
        refine g_cVI (As := [vI a4]) (n := 1) (stk := []) (ci := 1) (b := 30) (N := 57) (hX1_parent a4 s2) (by decide +kernel) rfl rfl (lw_V q880 q882 qs33 q163 q883) (by decide +kernel) rfl (by decide) hRf hRl (fun _ => (avc ra4 avn)) (Nat.le_of_ble_eq_true rfl) rfl rfl dX1_hasMode_37 (fun v3 s4 rv3 => ?_)
        refine g_istore (loc' := [(4, vI v3), (0, vR 1), (2, vI a2), (3, vI a3)]) dX1_hasMode_40 (by decide) rfl ?_
        refine g_goto 3 dX1_hasMode_42 (by decide) ?_
        exact g_pick [1, 2, 3, 0] rfl (ih a2 a3 v3 s4 ra2 ra3 rv3)
      · refine g_aload_n 0 dX1_hasMode_8 rfl ?_
        refine g_get (v := vR 0) (ci := 1) (b := 30) (N := 57) 0 rfl rfl (by decide) in_X1 rfl rfl q308 dX1_hasMode_9 ?_
        refine g_get (v := vR 11) (ci := 0) (b := 0) (N := 21) 1 rfl rfl (by decide) in_X2 rfl rfl q234 dX1_hasMode_12 ?_
        refine g_iload 3 dX1_hasMode_15 rfl ?_
        refine g_iald (id := 1) 1 rfl rfl dX1_hasMode_17 (fun v5 rv5 => ?_)
        refine g_iload_n 1 dX1_hasMode_18 rfl ?_
        refine g_icmp_ne 34 dX1_hasMode_19 (by decide) (fun _ => rv5) (fun _ => ra2) (fun _ => ?_) (fun _ => ?_)
        · refine g_aload_n 0 dX1_hasMode_22 rfl ?_
          refine g_iload 3 dX1_hasMode_23 rfl ?_
          refine g_cVI (As := [vI a4]) (n := 1) (stk := []) (ci := 1) (b := 30) (N := 57) (hX1_argOf a4 u) (by decide +kernel) rfl rfl (lw_V q773 q775 qs16 q163 q776) (by decide +kernel) rfl (by decide) hRf hRl (fun _ => (avc ra4 avn)) (Nat.le_of_ble_eq_true rfl) rfl rfl dX1_hasMode_25 (fun v6 s7 rv6 => ?_)
          refine g_iload_n 2 dX1_hasMode_28 rfl ?_
          refine g_icmp_ne 34 dX1_hasMode_29 (by decide) (fun _ => rv6) (fun _ => ra3) (fun _ => ?_) (fun _ => ?_)
          · exact g_pick [] rfl (hx32 s7)
          · exact g_pick [0, 1, 2, 3] rfl (hj1 a2 a3 a4 s7 ra2 ra3 ra4)
        · exact g_pick [0, 1, 2, 3] rfl (hj1 a2 a3 a4 u ra2 ra3 ra4)
theorem wX1_hasMode (hd : 2 ≤ d) (hRf : d + 1 ≤ R.frames) (hRl : 40 * (d + 1) ≤ R.locals) (hX1_parent : ∀ (a1 : Int) (u : Sg), Ct l d FC clA yX1_parent cX1_parent 2 (some .int) DX1_parent rvI [vR 1, vI a1] u (call 51 [a1] u)) (hX1_argOf : ∀ (a1 : Int) (u : Sg), Ct l d FC clA yX1_argOf cX1_argOf 2 (some .int) DX1_argOf rvI [vR 1, vI a1] u (call 30 [a1] u)) (a1 a2 a3 : Int) (u : Sg) (ra1 : inR a1) (ra2 : inR a2) (ra3 : inR a3) : WG p l e R s m args below meth c JX1_hasMode DX1_hasMode G clA A FC ad0 σ0 rvI (bX1_hasMode call a1 a2 a3 u) u 0 [(0, vR 1), (1, vI a1), (2, vI a2), (3, vI a3)] [] := by
  unfold bX1_hasMode
  refine g_iload_n 1 dX1_hasMode_0 rfl ?_
  refine g_istore (loc' := [(4, vI a1), (0, vR 1), (1, vI a1), (2, vI a2), (3, vI a3)]) dX1_hasMode_1 (by decide) rfl ?_
  refine g_pick [1, 3, 4, 0] rfl (wX1_hasMode_L3 hd hRf hRl hX1_parent hX1_argOf _ _ (fun s1 => ?_) (fun s2 => ?_) KF a2 a3 a1 u ra2 ra3 ra1)
  · refine g_iconst dX1_hasMode_45 ?_
    exact g_zret rfl rfl (fun _ => (Or.inl rfl)) dX1_hasMode_46
  · refine g_iconst dX1_hasMode_32 ?_
    exact g_zret rfl rfl (fun _ => (Or.inr rfl)) dX1_hasMode_33
end
section
variable {l : Launch} {d : Nat} {call : Nat → List Int → Sg → Option (Int × Sg)}
theorem ctX1_hasMode (p0 : Program) (e0 : Env) (s0 : State) (m0 : MethodId) (meth0 : Method) (c0 : Code) (G0 : Gm) (hd : 2 ≤ d) (hX1_parent : ∀ (a1 : Int) (u : Sg), Ct l d FC clA yX1_parent cX1_parent 2 (some .int) DX1_parent rvI [vR 1, vI a1] u (call 51 [a1] u)) (hX1_argOf : ∀ (a1 : Int) (u : Sg), Ct l d FC clA yX1_argOf cX1_argOf 2 (some .int) DX1_argOf rvI [vR 1, vI a1] u (call 30 [a1] u)) (a1 a2 a3 : Int) (u : Sg) : Ct l (d + 1) FC clA yX1_hasMode cX1_hasMode 5 (some .boolean) DX1_hasMode rvI [vR 1, vI a1, vI a2, vI a3] u (bX1_hasMode call a1 a2 a3 u) :=
  Ct_of (by decide) (Nat.le_of_ble_eq_true rfl) (fun p e R s1 m args below meth c G A ad hA hRf hRl => wX1_hasMode hd hRf hRl hX1_parent hX1_argOf a1 a2 a3 u (hA _ (List.mem_cons_of_mem _ List.mem_cons_self)) (hA _ (List.mem_cons_of_mem _ (List.mem_cons_of_mem _ List.mem_cons_self))) (hA _ (List.mem_cons_of_mem _ (List.mem_cons_of_mem _ (List.mem_cons_of_mem _ List.mem_cons_self))))) p0 e0 s0 m0 meth0 c0 G0
end
/-! RoundCheck.adjectivesOf(I)I -/
abbrev JX1_adjectivesOf : Jm := (cX1_adjectivesOf, RX1, 2, (some .int))
def bX1_adjectivesOf (call : Nat → List Int → Sg → Option (Int × Sg)) (a1 : Int) (u : Sg) : Option (Int × Sg) := ld u 3 a1 fun v1 => ar (v1 - 1) fun v2 => some (v2, u)
section
variable {p : Program} {l : Launch} {e : Env} {R : Room} {s : State} {m : MethodId} {args : Array Value} {below : List Frame} {meth : Method} {c : Code} {G : Gm} {A : Nat → Prop} {ad0 : Nat → Nat} {σ0 : Sg} {d : Nat} {call : Nat → List Int → Sg → Option (Int × Sg)}
theorem wX1_adjectivesOf (hd : 2 ≤ d) (hRf : d + 1 ≤ R.frames) (hRl : 40 * (d + 1) ≤ R.locals) (a1 : Int) (u : Sg) (ra1 : inR a1) : WG p l e R s m args below meth c JX1_adjectivesOf DX1_adjectivesOf G clA A FC ad0 σ0 rvI (bX1_adjectivesOf call a1 u) u 0 [(0, vR 1), (1, vI a1)] [] := by
  unfold bX1_adjectivesOf
  refine g_aload_n 0 dX1_adjectivesOf_0 rfl ?_
  refine g_get (v := vR 0) (ci := 1) (b := 30) (N := 57) 0 rfl rfl (by decide) in_X1 rfl rfl q308 dX1_adjectivesOf_1 ?_
  refine g_get (v := vR 13) (ci := 0) (b := 0) (N := 21) 3 rfl rfl (by decide) in_X2 rfl rfl q237 dX1_adjectivesOf_4 ?_
  refine g_iload_n 1 dX1_adjectivesOf_7 rfl ?_
  refine g_iald (id := 3) 3 rfl rfl dX1_adjectivesOf_8 (fun v1 rv1 => ?_)
  refine g_iconst dX1_adjectivesOf_9 ?_
  refine g_isub dX1_adjectivesOf_10 (fun v2 rv2 => ?_)
  exact g_iret rfl rfl (fun _ => rv2) dX1_adjectivesOf_11
end
section
variable {l : Launch} {d : Nat} {call : Nat → List Int → Sg → Option (Int × Sg)}
theorem ctX1_adjectivesOf (p0 : Program) (e0 : Env) (s0 : State) (m0 : MethodId) (meth0 : Method) (c0 : Code) (G0 : Gm) (hd : 2 ≤ d) (a1 : Int) (u : Sg) : Ct l (d + 1) FC clA yX1_adjectivesOf cX1_adjectivesOf 2 (some .int) DX1_adjectivesOf rvI [vR 1, vI a1] u (bX1_adjectivesOf call a1 u) :=
  Ct_of (by decide) (Nat.le_of_ble_eq_true rfl) (fun p e R s1 m args below meth c G A ad hA hRf hRl => wX1_adjectivesOf hd hRf hRl a1 u (hA _ (List.mem_cons_of_mem _ List.mem_cons_self))) p0 e0 s0 m0 meth0 c0 G0
end
