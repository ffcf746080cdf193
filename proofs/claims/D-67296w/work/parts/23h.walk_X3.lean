/-! RoundCheckModel.bringsOf(II)V -/
abbrev JX3_bringsOf : Jm := (cX3_bringsOf, RX3, 10, none)
def bX3_bringsOf_L56 (call : Nat → List Int → Sg → Option (Int × Sg)) : Nat → Int → Int → Int → Int → Int → Sg → (Int → Int → Int → Sg → Option (Int × Sg)) → Option (Int × Sg)
  | 0, _, _, _, _, _, _, _ => none
  | n + 1, a1, a2, a3, a4, a6, u, x86 => ld u 3 a4 fun v1 => if a6 < v1 then (cl (call 7 [a4, a6] u) fun v2 s3 => cl (call 106 [v2] s3) fun v4 s5 => ar (a6 + 1) fun v6 => bX3_bringsOf_L56 call n a1 a2 a3 a4 v6 s5 x86) else (x86 a1 a2 a3 u)
def bX3_bringsOf_L99 (call : Nat → List Int → Sg → Option (Int × Sg)) : Nat → Int → Int → Int → Int → Int → Sg → (Int → Int → Int → Int → Sg → Option (Int × Sg)) → Option (Int × Sg)
  | 0, _, _, _, _, _, _, _ => none
  | n + 1, a1, a2, a3, a4, a6, u, x127 => un (gI u 58) fun v1 => if a6 < v1 then (ld u 55 a6 fun v2 => cl (call 107 [a4, v2] u) fun v3 s4 => ar (a6 + 1) fun v5 => bX3_bringsOf_L99 call n a1 a2 a3 a4 v5 s4 x127) else (x127 a1 a2 a3 a4 u)
def bX3_bringsOf_L130 (call : Nat → List Int → Sg → Option (Int × Sg)) : Nat → Int → Int → Int → Int → Int → Sg → (Int → Int → Int → Sg → Option (Int × Sg)) → Option (Int × Sg)
  | 0, _, _, _, _, _, _, _ => none
  | n + 1, a1, a2, a3, a4, a6, u, x155 => if a6 < a2 then (ld u 69 a6 fun v1 => cl (call 107 [a4, v1] u) fun v2 s3 => ar (a6 + 1) fun v4 => bX3_bringsOf_L130 call n a1 a2 a3 a4 v4 s3 x155) else (x155 a1 a2 a3 u)
def bX3_bringsOf_L200 (call : Nat → List Int → Sg → Option (Int × Sg)) : Nat → Int → Int → Int → Int → Int → Int → Int → Sg → (Int → Int → Int → Int → Int → Sg → Option (Int × Sg)) → Option (Int × Sg)
  | 0, _, _, _, _, _, _, _, _, _ => none
  | n + 1, a1, a2, a3, a6, a7, a8, a9, u, x249 => ld u 3 a6 fun v1 => if a9 < v1 then (cl (call 7 [a6, a9] u) fun v2 s3 => cl (call 100 [v2] s3) fun v4 s5 => if v4 = 0 then (ar (a8 + 1) fun v6 => cl (call 7 [a6, a9] s5) fun v7 s8 => ar (a9 + 1) fun v9 => bX3_bringsOf_L200 call n a1 a2 a3 a6 v7 v6 v9 s8 x249) else (ar (a9 + 1) fun v10 => bX3_bringsOf_L200 call n a1 a2 a3 a6 a7 a8 v10 s5 x249)) else (x249 a1 a2 a3 a7 a8 u)
def bX3_bringsOf_L2 (call : Nat → List Int → Sg → Option (Int × Sg)) : Nat → Int → Int → Int → Sg → (Sg → Option (Int × Sg)) → Option (Int × Sg)
  | 0, _, _, _, _, _ => none
  | n + 1, a1, a2, a3, u, x396 => if a3 < a1 then (jn (fun (a1 a2 a3 : Int) (s2 : Sg) => ld s2 49 a3 fun v3 => ld s2 1 v3 fun v4 => if v4 = 16 then (bX3_bringsOf_L56 call KF a1 a2 a3 v3 0 s2 (fun v6 v7 v8 s5 => ar (v8 + 1) fun v9 => bX3_bringsOf_L2 call n v6 v7 v9 s5 x396)) else (if v4 = 17 then (bX3_bringsOf_L99 call KF a1 a2 a3 v3 0 s2 (fun v11 v12 v13 v14 s10 => bX3_bringsOf_L130 call KF v11 v12 v13 v14 0 s10 (fun v16 v17 v18 s15 => ar (v18 + 1) fun v19 => bX3_bringsOf_L2 call n v16 v17 v19 s15 x396))) else (jn (fun (a1 a2 a3 a4 a5 : Int) (s21 : Sg) => if a5 = 15 then (cl (call 7 [a4, 0] s21) fun v22 s23 => gd (keeps [1] s21 s23 = true) (ld s23 1 v22 fun v24 => if v24 = 17 then (cl (call 111 [a4] s23) fun v25 s26 => if v25 = 0 then (cl (call 7 [a4, 0] s26) fun v27 s28 => cl (call 112 [a4] s28) fun v29 s30 => cl (call 7 [v27, 0] s30) fun v31 s32 => cl (call 9 [0, v31] s32) fun v33 s34 => cl (call 27 [2, v33] s34) fun v35 s36 => un (gI s36 70) fun v37 => mor s36 69 v37 fun s38 => un (gI s38 70) fun v39 => ar (v39 + 1) fun v40 => un (sI s38 70 v40) fun s41 => stA s41 69 v39 v35 fun s42 => cl (call 7 [v27, 1] s42) fun v43 s44 => cl (call 58 [v43, 0, v35] s44) fun v45 s46 => cl (call 36 [v45] s46) fun v47 s48 => cl (call 106 [v47] s48) fun v49 s50 => ar (a3 + 1) fun v51 => bX3_bringsOf_L2 call n a1 a2 v51 s50 x396) else (ar (a3 + 1) fun v52 => bX3_bringsOf_L2 call n a1 a2 v52 s26 x396)) else (ar (a3 + 1) fun v53 => bX3_bringsOf_L2 call n a1 a2 v53 s23 x396))) else (ar (a3 + 1) fun v54 => bX3_bringsOf_L2 call n a1 a2 v54 s21 x396)) fun j20 => if v4 = 15 then (cl (call 7 [v3, 0] s2) fun v55 s56 => gd (keeps [1] s2 s56 = true) (ld s56 1 v55 fun v57 => if v57 = 16 then (cl (call 7 [v3, 0] s56) fun v58 s59 => bX3_bringsOf_L200 call KF a1 a2 a3 v58 0 0 0 s59 (fun v61 v62 v63 v64 v65 s60 => if v65 = 1 then (cl (call 36 [v64] s60) fun v66 s67 => cl (call 106 [v66] s67) fun v68 s69 => ar (v63 + 1) fun v70 => bX3_bringsOf_L2 call n v61 v62 v70 s69 x396) else (ar (v63 + 1) fun v71 => bX3_bringsOf_L2 call n v61 v62 v71 s60 x396))) else (j20 a1 a2 a3 v3 v4 s56))) else (j20 a1 a2 a3 v3 v4 s2)))) fun j1 => un (gI u 75) fun v72 => if v72 = 0 then (j1 a1 a2 a3 u) else (un (gI u 50) fun v73 => un (gI u 75) fun v74 => ar (v73 + v74) fun v75 => if v75 ≤ 400 then (j1 a1 a2 a3 u) else (x396 u))) else (x396 u)
def bX3_bringsOf (call : Nat → List Int → Sg → Option (Int × Sg)) (a1 a2 : Int) (u : Sg) : Option (Int × Sg) := bX3_bringsOf_L2 call KF a1 a2 0 u (fun s1 => some (0, s1))
section
variable {p : Program} {l : Launch} {e : Env} {R : Room} {s : State} {m : MethodId} {args : Array Value} {below : List Frame} {meth : Method} {c : Code} {G : Gm} {A : Nat → Prop} {ad0 : Nat → Nat} {σ0 : Sg} {d : Nat} {call : Nat → List Int → Sg → Option (Int × Sg)}
theorem wX3_bringsOf_L56 (hd : 2 ≤ d) (hRf : d + 1 ≤ R.frames) (hRl : 40 * (d + 1) ≤ R.locals) (hX3_get : ∀ (a1 a2 : Int) (u : Sg), Ct l d FT clA yX3_get cX3_get 3 (some .int) DX3_get rvI [vR 0, vI a1, vI a2] u (call 7 [a1, a2] u)) (hX3_comes : ∀ (a1 : Int) (u : Sg), Ct l d FT clA yX3_comes cX3_comes 2 none DX3_comes rvV [vR 0, vI a1] u (call 106 [a1] u)) (hX3_instance : ∀ (a1 a2 : Int) (u : Sg), Ct l d FT clA yX3_instance cX3_instance 5 none DX3_instance rvV [vR 0, vI a1, vI a2] u (call 107 [a1, a2] u)) (hX3_isDone : ∀ (a1 : Int) (u : Sg), Ct l d FT clA yX3_isDone cX3_isDone 2 (some .boolean) DX3_isDone rvI [vR 0, vI a1] u (call 111 [a1] u)) (hX3_done : ∀ (a1 : Int) (u : Sg), Ct l d FT clA yX3_done cX3_done 2 none DX3_done rvV [vR 0, vI a1] u (call 112 [a1] u)) (hX3_fresh : ∀ (a1 a2 : Int) (u : Sg), Ct l d FT clA yX3_fresh cX3_fresh 3 (some .int) DX3_fresh rvI [vR 0, vI a1, vI a2] u (call 9 [a1, a2] u)) (hX3_leaf : ∀ (a1 a2 : Int) (u : Sg), Ct l d FT clA yX3_leaf cX3_leaf 4 (some .int) DX3_leaf rvI [vR 0, vI a1, vI a2] u (call 27 [a1, a2] u)) (hX3_put : ∀ (a1 a2 a3 : Int) (u : Sg), Ct l d FT clA yX3_put cX3_put 8 (some .int) DX3_put rvI [vR 0, vI a1, vI a2, vI a3] u (call 58 [a1, a2, a3] u)) (hX3_not : ∀ (a1 : Int) (u : Sg), Ct l d FT clA yX3_not cX3_not 2 (some .int) DX3_not rvI [vR 0, vI a1] u (call 36 [a1] u)) (hX3_holds : ∀ (a1 : Int) (u : Sg), Ct l d FT clA yX3_holds cX3_holds 10 (some .boolean) DX3_holds rvI [vR 0, vI a1] u (call 100 [a1] u)) (x86 : Int → Int → Int → Sg → Option (Int × Sg)) (hx86 : ∀ (a1 a2 a3 : Int) (u : Sg), inR a1 → inR a2 → inR a3 → WG p l e R s m args below meth c JX3_bringsOf DX3_bringsOf G clA A FT ad0 σ0 rvV (x86 a1 a2 a3 u) u 86 [(0, vR 0), (1, vI a1), (2, vI a2), (3, vI a3)] []) : ∀ (n : Nat) (a1 a2 a3 a4 a6 : Int) (u : Sg), inR a1 → inR a2 → inR a3 → inR a4 → inR a6 → WG p l e R s m args below meth c JX3_bringsOf DX3_bringsOf G clA A FT ad0 σ0 rvV (bX3_bringsOf_L56 call n a1 a2 a3 a4 a6 u x86) u 56 [(0, vR 0), (1, vI a1), (2, vI a2), (3, vI a3), (4, vI a4), (6, vI a6)] [] := by
  intro n
  induction n with
  | zero =>
    intro a1 a2 a3 a4 a6 u ra1 ra2 ra3 ra4 ra6
    exact g_none
  | succ n ih =>
    intro a1 a2 a3 a4 a6 u ra1 ra2 ra3 ra4 ra6
    rw [bX3_bringsOf_L56]
    refine g_iload 5 dX3_bringsOf_56 rfl ?_
    refine g_aload_n 0 dX3_bringsOf_58 rfl ?_
    refine g_get (v := vR 13) (ci := 2) (b := 0) (N := 83) 3 rfl rfl (by decide) in_X3 rfl rfl q1135 dX3_bringsOf_59 ?_
    refine g_iload 4 dX3_bringsOf_62 rfl ?_
    refine g_iald (id := 3) 2 rfl rfl dX3_bringsOf_64 (fun v1 rv1 => ?_)
    refine g_icmp_ge 86 dX3_bringsOf_65 (by decide) (fun _ => ra6) (fun _ => rv1) (fun _ => ?_) (fun _ => ?_)
    · refine g_aload_n 0 dX3_bringsOf_68 rfl ?_
      refine g_aload_n 0 dX3_bringsOf_69 rfl ?_
      refine g_iload 4 dX3_bringsOf_70 rfl ?_
      refine g_iload 5 dX3_bringsOf_72 rfl ?_
      refine g_cVI (As := [vI a4, vI a6]) (n := 2) (stk := [vR 0]) (ci := 2) (b := 0) (N := 83) (hX3_get a4 a6 u) (by decide +kernel) rfl rfl (lw_V q1116 q1118 qs76 q168 q1119) (by decide +kernel) rfl (by decide) hRf hRl (fun _ => (avc ra4 (avc ra6 avn))) (Nat.le_of_ble_eq_true rfl) rfl rfl dX3_bringsOf_74 (fun v2 s3 rv2 => ?_)
      refine g_cVV (As := [vI v2]) (n := 1) (stk := []) (ci := 2) (b := 0) (N := 83) (hX3_comes v2 s3) (by decide +kernel) rfl rfl (lw_V q1766 q1768 qs155 q168 q1769) (by decide +kernel) rfl (by decide) hRf hRl (fun _ => (avc rv2 avn)) (Nat.le_of_ble_eq_true rfl) rfl rfl dX3_bringsOf_77 (fun v4 s5 => ?_)
      refine g_iinc 5 (loc' := fun v6 => [(6, vI v6), (0, vR 0), (1, vI a1), (2, vI a2), (3, vI a3), (4, vI a4)]) dX3_bringsOf_80 rfl (by decide) (fun _ => rfl) (fun v6 rv6 => ?_)
      refine g_goto 56 dX3_bringsOf_83 (by decide) ?_
      exact g_pick [1, 2, 3, 4, 5, 0] rfl (ih a1 a2 a3 a4 v6 s5 ra1 ra2 ra3 ra4 rv6)
    · exact g_pick [0, 1, 2, 3] rfl (hx86 a1 a2 a3 u ra1 ra2 ra3)
theorem wX3_bringsOf_L99 (hd : 2 ≤ d) (hRf : d + 1 ≤ R.frames) (hRl : 40 * (d + 1) ≤ R.locals) (hX3_get : ∀ (a1 a2 : Int) (u : Sg), Ct l d FT clA yX3_get cX3_get 3 (some .int) DX3_get rvI [vR 0, vI a1, vI a2] u (call 7 [a1, a2] u)) (hX3_comes : ∀ (a1 : Int) (u : Sg), Ct l d FT clA yX3_comes cX3_comes 2 none DX3_comes rvV [vR 0, vI a1] u (call 106 [a1] u)) (hX3_instance : ∀ (a1 a2 : Int) (u : Sg), Ct l d FT clA yX3_instance cX3_instance 5 none DX3_instance rvV [vR 0, vI a1, vI a2] u (call 107 [a1, a2] u)) (hX3_isDone : ∀ (a1 : Int) (u : Sg), Ct l d FT clA yX3_isDone cX3_isDone 2 (some .boolean) DX3_isDone rvI [vR 0, vI a1] u (call 111 [a1] u)) (hX3_done : ∀ (a1 : Int) (u : Sg), Ct l d FT clA yX3_done cX3_done 2 none DX3_done rvV [vR 0, vI a1] u (call 112 [a1] u)) (hX3_fresh : ∀ (a1 a2 : Int) (u : Sg), Ct l d FT clA yX3_fresh cX3_fresh 3 (some .int) DX3_fresh rvI [vR 0, vI a1, vI a2] u (call 9 [a1, a2] u)) (hX3_leaf : ∀ (a1 a2 : Int) (u : Sg), Ct l d FT clA yX3_leaf cX3_leaf 4 (some .int) DX3_leaf rvI [vR 0, vI a1, vI a2] u (call 27 [a1, a2] u)) (hX3_put : ∀ (a1 a2 a3 : Int) (u : Sg), Ct l d FT clA yX3_put cX3_put 8 (some .int) DX3_put rvI [vR 0, vI a1, vI a2, vI a3] u (call 58 [a1, a2, a3] u)) (hX3_not : ∀ (a1 : Int) (u : Sg), Ct l d FT clA yX3_not cX3_not 2 (some .int) DX3_not rvI [vR 0, vI a1] u (call 36 [a1] u)) (hX3_holds : ∀ (a1 : Int) (u : Sg), Ct l d FT clA yX3_holds cX3_holds 10 (some .boolean) DX3_holds rvI [vR 0, vI a1] u (call 100 [a1] u)) (x127 : Int → Int → Int → Int → Sg → Option (Int × Sg)) (hx127 : ∀ (a1 a2 a3 a4 : Int) (u : Sg), inR a1 → inR a2 → inR a3 → inR a4 → WG p l e R s m args below meth c JX3_bringsOf DX3_bringsOf G clA A FT ad0 σ0 rvV (x127 a1 a2 a3 a4 u) u 127 [(0, vR 0), (1, vI a1), (2, vI a2), (3, vI a3), (4, vI a4)] []) : ∀ (n : Nat) (a1 a2 a3 a4 a6 : Int) (u : Sg), inR a1 → inR a2 → inR a3 → inR a4 → inR a6 → WG p l e R s m args below meth c JX3_bringsOf DX3_bringsOf G clA A FT ad0 σ0 rvV (bX3_bringsOf_L99 call n a1 a2 a3 a4 a6 u x127) u 99 [(0, vR 0), (1, vI a1), (2, vI a2), (3, vI a3), (4, vI a4), (6, vI a6)] [] := by
  intro n
  induction n with
  | zero =>
    intro a1 a2 a3 a4 a6 u ra1 ra2 ra3 ra4 ra6
    exact g_none
  | succ n ih =>
    intro a1 a2 a3 a4 a6 u ra1 ra2 ra3 ra4 ra6
    rw [bX3_bringsOf_L99]
    refine g_iload 5 dX3_bringsOf_99 rfl ?_
    refine g_aload_n 0 dX3_bringsOf_101 rfl ?_
    refine g_getI (ci := 2) (b := 0) (N := 83) 58 rfl rfl rfl (by decide) in_X3 rfl rfl q1190 dX3_bringsOf_102 (fun v1 rv1 => ?_)
    refine g_icmp_ge 127 dX3_bringsOf_105 (by decide) (fun _ => ra6) (fun _ => rv1) (fun _ => ?_) (fun _ => ?_)
    · refine g_aload_n 0 dX3_bringsOf_108 rfl ?_
      refine g_iload 4 dX3_bringsOf_109 rfl ?_
      refine g_aload_n 0 dX3_bringsOf_111 rfl ?_
      refine g_get (v := vR 65) (ci := 2) (b := 0) (N := 83) 55 rfl rfl (by decide) in_X3 rfl rfl q1187 dX3_bringsOf_112 ?_
      refine g_iload 5 dX3_bringsOf_115 rfl ?_
      refine g_iald (id := 55) 39 rfl rfl dX3_bringsOf_117 (fun v2 rv2 => ?_)
      refine g_cVV (As := [vI a4, vI v2]) (n := 2) (stk := []) (ci := 2) (b := 0) (N := 83) (hX3_instance a4 v2 u) (by decide +kernel) rfl rfl (lw_V q1770 q1772 qs156 q168 q1773) (by decide +kernel) rfl (by decide) hRf hRl (fun _ => (avc ra4 (avc rv2 avn))) (Nat.le_of_ble_eq_true rfl) rfl rfl dX3_bringsOf_118 (fun v3 s4 => ?_)
      refine g_iinc 5 (loc' := fun v5 => [(6, vI v5), (0, vR 0), (1, vI a1), (2, vI a2), (3, vI a3), (4, vI a4)]) dX3_bringsOf_121 rfl (by decide) (fun _ => rfl) (fun v5 rv5 => ?_)
      refine g_goto 99 dX3_bringsOf_124 (by decide) ?_
      exact g_pick [1, 2, 3, 4, 5, 0] rfl (ih a1 a2 a3 a4 v5 s4 ra1 ra2 ra3 ra4 rv5)
    · exact g_pick [0, 1, 2, 3, 4] rfl (hx127 a1 a2 a3 a4 u ra1 ra2 ra3 ra4)
theorem wX3_bringsOf_L130 (hd : 2 ≤ d) (hRf : d + 1 ≤ R.frames) (hRl : 40 * (d + 1) ≤ R.locals) (hX3_get : ∀ (a1 a2 : Int) (u : Sg), Ct l d FT clA yX3_get cX3_get 3 (some .int) DX3_get rvI [vR 0, vI a1, vI a2] u (call 7 [a1, a2] u)) (hX3_comes : ∀ (a1 : Int) (u : Sg), Ct l d FT clA yX3_comes cX3_comes 2 none DX3_comes rvV [vR 0, vI a1] u (call 106 [a1] u)) (hX3_instance : ∀ (a1 a2 : Int) (u : Sg), Ct l d FT clA yX3_instance cX3_instance 5 none DX3_instance rvV [vR 0, vI a1, vI a2] u (call 107 [a1, a2] u)) (hX3_isDone : ∀ (a1 : Int) (u : Sg), Ct l d FT clA yX3_isDone cX3_isDone 2 (some .boolean) DX3_isDone rvI [vR 0, vI a1] u (call 111 [a1] u)) (hX3_done : ∀ (a1 : Int) (u : Sg), Ct l d FT clA yX3_done cX3_done 2 none DX3_done rvV [vR 0, vI a1] u (call 112 [a1] u)) (hX3_fresh : ∀ (a1 a2 : Int) (u : Sg), Ct l d FT clA yX3_fresh cX3_fresh 3 (some .int) DX3_fresh rvI [vR 0, vI a1, vI a2] u (call 9 [a1, a2] u)) (hX3_leaf : ∀ (a1 a2 : Int) (u : Sg), Ct l d FT clA yX3_leaf cX3_leaf 4 (some .int) DX3_leaf rvI [vR 0, vI a1, vI a2] u (call 27 [a1, a2] u)) (hX3_put : ∀ (a1 a2 a3 : Int) (u : Sg), Ct l d FT clA yX3_put cX3_put 8 (some .int) DX3_put rvI [vR 0, vI a1, vI a2, vI a3] u (call 58 [a1, a2, a3] u)) (hX3_not : ∀ (a1 : Int) (u : Sg), Ct l d FT clA yX3_not cX3_not 2 (some .int) DX3_not rvI [vR 0, vI a1] u (call 36 [a1] u)) (hX3_holds : ∀ (a1 : Int) (u : Sg), Ct l d FT clA yX3_holds cX3_holds 10 (some .boolean) DX3_holds rvI [vR 0, vI a1] u (call 100 [a1] u)) (x155 : Int → Int → Int → Sg → Option (Int × Sg)) (hx155 : ∀ (a1 a2 a3 : Int) (u : Sg), inR a1 → inR a2 → inR a3 → WG p l e R s m args below meth c JX3_bringsOf DX3_bringsOf G clA A FT ad0 σ0 rvV (x155 a1 a2 a3 u) u 155 [(0, vR 0), (1, vI a1), (2, vI a2), (3, vI a3)] []) : ∀ (n : Nat) (a1 a2 a3 a4 a6 : Int) (u : Sg), inR a1 → inR a2 → inR a3 → inR a4 → inR a6 → WG p l e R s m args below meth c JX3_bringsOf DX3_bringsOf G clA A FT ad0 σ0 rvV (bX3_bringsOf_L130 call n a1 a2 a3 a4 a6 u x155) u 130 [(0, vR 0), (1, vI a1), (2, vI a2), (3, vI a3), (4, vI a4), (6, vI a6)] [] := by
  intro n
  induction n with
  | zero =>
    intro a1 a2 a3 a4 a6 u ra1 ra2 ra3 ra4 ra6
    exact g_none
  | succ n ih =>
    intro a1 a2 a3 a4 a6 u ra1 ra2 ra3 ra4 ra6
    rw [bX3_bringsOf_L130]
    refine g_iload 5 dX3_bringsOf_130 rfl ?_
    refine g_iload_n 2 dX3_bringsOf_132 rfl ?_
    refine g_icmp_ge 155 dX3_bringsOf_133 (by decide) (fun _ => ra6) (fun _ => ra2) (fun _ => ?_) (fun _ => ?_)
    · refine g_aload_n 0 dX3_bringsOf_136 rfl ?_
      refine g_iload 4 dX3_bringsOf_137 rfl ?_
      refine g_aload_n 0 dX3_bringsOf_139 rfl ?_
      refine g_get (v := vR 79) (ci := 2) (b := 0) (N := 83) 69 rfl rfl (by decide) in_X3 rfl rfl q1201 dX3_bringsOf_140 ?_
      refine g_iload 5 dX3_bringsOf_143 rfl ?_
      refine g_iald (id := 69) 46 rfl rfl dX3_bringsOf_145 (fun v1 rv1 => ?_)
      refine g_cVV (As := [vI a4, vI v1]) (n := 2) (stk := []) (ci := 2) (b := 0) (N := 83) (hX3_instance a4 v1 u) (by decide +kernel) rfl rfl (lw_V q1770 q1772 qs156 q168 q1773) (by decide +kernel) rfl (by decide) hRf hRl (fun _ => (avc ra4 (avc rv1 avn))) (Nat.le_of_ble_eq_true rfl) rfl rfl dX3_bringsOf_146 (fun v2 s3 => ?_)
      refine g_iinc 5 (loc' := fun v4 => [(6, vI v4), (0, vR 0), (1, vI a1), (2, vI a2), (3, vI a3), (4, vI a4)]) dX3_bringsOf_149 rfl (by decide) (fun _ => rfl) (fun v4 rv4 => ?_)
      refine g_goto 130 dX3_bringsOf_152 (by decide) ?_
      exact g_pick [1, 2, 3, 4, 5, 0] rfl (ih a1 a2 a3 a4 v4 s3 ra1 ra2 ra3 ra4 rv4)
    · exact g_pick [0, 1, 2, 3] rfl (hx155 a1 a2 a3 u ra1 ra2 ra3)
theorem wX3_bringsOf_L200 (hd : 2 ≤ d) (hRf : d + 1 ≤ R.frames) (hRl : 40 * (d + 1) ≤ R.locals) (hX3_get : ∀ (a1 a2 : Int) (u : Sg), Ct l d FT clA yX3_get cX3_get 3 (some .int) DX3_get rvI [vR 0, vI a1, vI a2] u (call 7 [a1, a2] u)) (hX3_comes : ∀ (a1 : Int) (u : Sg), Ct l d FT clA yX3_comes cX3_comes 2 none DX3_comes rvV [vR 0, vI a1] u (call 106 [a1] u)) (hX3_instance : ∀ (a1 a2 : Int) (u : Sg), Ct l d FT clA yX3_instance cX3_instance 5 none DX3_instance rvV [vR 0, vI a1, vI a2] u (call 107 [a1, a2] u)) (hX3_isDone : ∀ (a1 : Int) (u : Sg), Ct l d FT clA yX3_isDone cX3_isDone 2 (some .boolean) DX3_isDone rvI [vR 0, vI a1] u (call 111 [a1] u)) (hX3_done : ∀ (a1 : Int) (u : Sg), Ct l d FT clA yX3_done cX3_done 2 none DX3_done rvV [vR 0, vI a1] u (call 112 [a1] u)) (hX3_fresh : ∀ (a1 a2 : Int) (u : Sg), Ct l d FT clA yX3_fresh cX3_fresh 3 (some .int) DX3_fresh rvI [vR 0, vI a1, vI a2] u (call 9 [a1, a2] u)) (hX3_leaf : ∀ (a1 a2 : Int) (u : Sg), Ct l d FT clA yX3_leaf cX3_leaf 4 (some .int) DX3_leaf rvI [vR 0, vI a1, vI a2] u (call 27 [a1, a2] u)) (hX3_put : ∀ (a1 a2 a3 : Int) (u : Sg), Ct l d FT clA yX3_put cX3_put 8 (some .int) DX3_put rvI [vR 0, vI a1, vI a2, vI a3] u (call 58 [a1, a2, a3] u)) (hX3_not : ∀ (a1 : Int) (u : Sg), Ct l d FT clA yX3_not cX3_not 2 (some .int) DX3_not rvI [vR 0, vI a1] u (call 36 [a1] u)) (hX3_holds : ∀ (a1 : Int) (u : Sg), Ct l d FT clA yX3_holds cX3_holds 10 (some .boolean) DX3_holds rvI [vR 0, vI a1] u (call 100 [a1] u)) (x249 : Int → Int → Int → Int → Int → Sg → Option (Int × Sg)) (hx249 : ∀ (a1 a2 a3 a7 a8 : Int) (u : Sg), inR a1 → inR a2 → inR a3 → inR a7 → inR a8 → WG p l e R s m args below meth c JX3_bringsOf DX3_bringsOf G clA A FT ad0 σ0 rvV (x249 a1 a2 a3 a7 a8 u) u 249 [(0, vR 0), (1, vI a1), (2, vI a2), (3, vI a3), (7, vI a7), (8, vI a8)] []) : ∀ (n : Nat) (a1 a2 a3 a6 a7 a8 a9 : Int) (u : Sg), inR a1 → inR a2 → inR a3 → inR a6 → inR a7 → inR a8 → inR a9 → WG p l e R s m args below meth c JX3_bringsOf DX3_bringsOf G clA A FT ad0 σ0 rvV (bX3_bringsOf_L200 call n a1 a2 a3 a6 a7 a8 a9 u x249) u 200 [(0, vR 0), (1, vI a1), (2, vI a2), (3, vI a3), (6, vI a6), (7, vI a7), (8, vI a8), (9, vI a9)] [] := by
  intro n
  induction n with
  | zero =>
    intro a1 a2 a3 a6 a7 a8 a9 u ra1 ra2 ra3 ra6 ra7 ra8 ra9
    exact g_none
  | succ n ih =>
    intro a1 a2 a3 a6 a7 a8 a9 u ra1 ra2 ra3 ra6 ra7 ra8 ra9
    rw [bX3_bringsOf_L200]
    refine g_iload 7 dX3_bringsOf_200 rfl ?_
    refine g_aload_n 0 dX3_bringsOf_202 rfl ?_
    refine g_get (v := vR 13) (ci := 2) (b := 0) (N := 83) 3 rfl rfl (by decide) in_X3 rfl rfl q1135 dX3_bringsOf_203 ?_
    refine g_iload 4 dX3_bringsOf_206 rfl ?_
    refine g_iald (id := 3) 2 rfl rfl dX3_bringsOf_208 (fun v1 rv1 => ?_)
    refine g_icmp_ge 249 dX3_bringsOf_209 (by decide) (fun _ => ra9) (fun _ => rv1) (fun _ => ?_) (fun _ => ?_)
    · refine g_aload_n 0 dX3_bringsOf_212 rfl ?_
      refine g_aload_n 0 dX3_bringsOf_213 rfl ?_
      refine g_iload 4 dX3_bringsOf_214 rfl ?_
      refine g_iload 7 dX3_bringsOf_216 rfl ?_
      refine g_cVI (As := [vI a6, vI a9]) (n := 2) (stk := [vR 0]) (ci := 2) (b := 0) (N := 83) (hX3_get a6 a9 u) (by decide +kernel) rfl rfl (lw_V q1116 q1118 qs76 q168 q1119) (by decide +kernel) rfl (by decide) hRf hRl (fun _ => (avc ra6 (avc ra9 avn))) (Nat.le_of_ble_eq_true rfl) rfl rfl dX3_bringsOf_218 (fun v2 s3 rv2 => ?_)
      refine g_cVZ (As := [vI v2]) (n := 1) (stk := []) (ci := 2) (b := 0) (N := 83) (hX3_holds v2 s3) (by decide +kernel) rfl rfl (lw_V q1742 q1744 qs149 q168 q1745) (by decide +kernel) rfl (by decide) hRf hRl (fun _ => (avc rv2 avn)) (Nat.le_of_ble_eq_true rfl) rfl rfl dX3_bringsOf_221 (fun v4 s5 zv4 => ?_)
      refine g_if_eq 230 dX3_bringsOf_224 (by decide) (fun _ => (inR_z zv4)) (fun _ => ?_) (fun _ => ?_)
      · refine g_iinc 6 (loc' := fun v6 => [(8, vI v6), (0, vR 0), (1, vI a1), (2, vI a2), (3, vI a3), (6, vI a6), (7, vI a7), (9, vI a9)]) dX3_bringsOf_230 rfl (by decide) (fun _ => rfl) (fun v6 rv6 => ?_)
        refine g_aload_n 1 dX3_bringsOf_233 rfl ?_
        refine g_iload 5 dX3_bringsOf_234 rfl ?_
        refine g_iload 7 dX3_bringsOf_236 rfl ?_
        refine g_cVI (As := [vI a6, vI a9]) (n := 2) (stk := []) (ci := 2) (b := 0) (N := 83) (hX3_get a6 a9 s5) (by decide +kernel) rfl rfl (lw_V q1116 q1118 qs76 q168 q1119) (by decide +kernel) rfl (by decide) hRf hRl (fun _ => (avc ra6 (avc ra9 avn))) (Nat.le_of_ble_eq_true rfl) rfl rfl dX3_bringsOf_238 (fun v7 s8 rv7 => ?_)
        refine g_istore (loc' := [(7, vI v7), (8, vI v6), (0, vR 0), (1, vI a1), (2, vI a2), (3, vI a3), (6, vI a6), (9, vI a9)]) dX3_bringsOf_241 (by decide) rfl ?_
        refine g_iinc 7 (loc' := fun v9 => [(9, vI v9), (7, vI v7), (8, vI v6), (0, vR 0), (1, vI a1), (2, vI a2), (3, vI a3), (6, vI a6)]) dX3_bringsOf_243 rfl (by decide) (fun _ => rfl) (fun v9 rv9 => ?_)
        refine g_goto 200 dX3_bringsOf_246 (by decide) ?_
        exact g_pick [3, 4, 5, 6, 7, 1, 2, 0] rfl (ih a1 a2 a3 a6 v7 v6 v9 s8 ra1 ra2 ra3 ra6 rv7 rv6 rv9)
      · refine g_goto 243 dX3_bringsOf_227 (by decide) ?_
        refine g_iinc 7 (loc' := fun v10 => [(9, vI v10), (0, vR 0), (1, vI a1), (2, vI a2), (3, vI a3), (6, vI a6), (7, vI a7), (8, vI a8)]) dX3_bringsOf_243 rfl (by decide) (fun _ => rfl) (fun v10 rv10 => ?_)
        refine g_goto 200 dX3_bringsOf_246 (by decide) ?_
        exact g_pick [1, 2, 3, 4, 5, 6, 7, 0] rfl (ih a1 a2 a3 a6 a7 a8 v10 s5 ra1 ra2 ra3 ra6 ra7 ra8 rv10)
    · exact g_pick [0, 1, 2, 3, 5, 6] rfl (hx249 a1 a2 a3 a7 a8 u ra1 ra2 ra3 ra7 ra8)
theorem wX3_bringsOf_L2 (hd : 2 ≤ d) (hRf : d + 1 ≤ R.frames) (hRl : 40 * (d + 1) ≤ R.locals) (hX3_get : ∀ (a1 a2 : Int) (u : Sg), Ct l d FT clA yX3_get cX3_get 3 (some .int) DX3_get rvI [vR 0, vI a1, vI a2] u (call 7 [a1, a2] u)) (hX3_comes : ∀ (a1 : Int) (u : Sg), Ct l d FT clA yX3_comes cX3_comes 2 none DX3_comes rvV [vR 0, vI a1] u (call 106 [a1] u)) (hX3_instance : ∀ (a1 a2 : Int) (u : Sg), Ct l d FT clA yX3_instance cX3_instance 5 none DX3_instance rvV [vR 0, vI a1, vI a2] u (call 107 [a1, a2] u)) (hX3_isDone : ∀ (a1 : Int) (u : Sg), Ct l d FT clA yX3_isDone cX3_isDone 2 (some .boolean) DX3_isDone rvI [vR 0, vI a1] u (call 111 [a1] u)) (hX3_done : ∀ (a1 : Int) (u : Sg), Ct l d FT clA yX3_done cX3_done 2 none DX3_done rvV [vR 0, vI a1] u (call 112 [a1] u)) (hX3_fresh : ∀ (a1 a2 : Int) (u : Sg), Ct l d FT clA yX3_fresh cX3_fresh 3 (some .int) DX3_fresh rvI [vR 0, vI a1, vI a2] u (call 9 [a1, a2] u)) (hX3_leaf : ∀ (a1 a2 : Int) (u : Sg), Ct l d FT clA yX3_leaf cX3_leaf 4 (some .int) DX3_leaf rvI [vR 0, vI a1, vI a2] u (call 27 [a1, a2] u)) (hX3_put : ∀ (a1 a2 a3 : Int) (u : Sg), Ct l d FT clA yX3_put cX3_put 8 (some .int) DX3_put rvI [vR 0, vI a1, vI a2, vI a3] u (call 58 [a1, a2, a3] u)) (hX3_not : ∀ (a1 : Int) (u : Sg), Ct l d FT clA yX3_not cX3_not 2 (some .int) DX3_not rvI [vR 0, vI a1] u (call 36 [a1] u)) (hX3_holds : ∀ (a1 : Int) (u : Sg), Ct l d FT clA yX3_holds cX3_holds 10 (some .boolean) DX3_holds rvI [vR 0, vI a1] u (call 100 [a1] u)) (x396 : Sg → Option (Int × Sg)) (hx396 : ∀ (u : Sg), WG p l e R s m args below meth c JX3_bringsOf DX3_bringsOf G clA A FT ad0 σ0 rvV (x396 u) u 396 [] []) : ∀ (n : Nat) (a1 a2 a3 : Int) (u : Sg), inR a1 → inR a2 → inR a3 → WG p l e R s m args below meth c JX3_bringsOf DX3_bringsOf G clA A FT ad0 σ0 rvV (bX3_bringsOf_L2 call n a1 a2 a3 u x396) u 2 [(0, vR 0), (1, vI a1), (2, vI a2), (3, vI a3)] [] := by
  intro n
  induction n with
  | zero =>
    intro a1 a2 a3 u ra1 ra2 ra3
    exact g_none
  | succ n ih =>
    intro a1 a2 a3 u ra1 ra2 ra3
    rw [bX3_bringsOf_L2]
    refine g_iload_n 3 dX3_bringsOf_2 rfl ?_
    refine g_iload_n 1 dX3_bringsOf_3 rfl ?_
    refine g_icmp_ge 396 dX3_bringsOf_4 (by decide) (fun _ => ra3) (fun _ => ra1) (fun _ => ?_) (fun _ => ?_)
    · refine g_jn (fun j1 => ∀ (a1 a2 a3 : Int) (s2 : Sg), inR a1 → inR a2 → inR a3 → WG p l e R s m args below meth c JX3_bringsOf DX3_bringsOf G clA A FT ad0 σ0 rvV (j1 a1 a2 a3 s2) s2 29 [(0, vR 0), (1, vI a1), (2, vI a2), (3, vI a3)] []) (fun a1 a2 a3 s2 ra1 ra2 ra3 => ?_) (fun j1 hj1 => ?_)
      · refine g_aload_n 0 dX3_bringsOf_29 rfl ?_
        refine g_get (v := vR 59) (ci := 2) (b := 0) (N := 83) 49 rfl rfl (by decide) in_X3 rfl rfl q1181 dX3_bringsOf_30 ?_
        refine g_iload_n 3 dX3_bringsOf_33 rfl ?_
        refine g_iald (id := 49) 35 rfl rfl dX3_bringsOf_34 (fun v3 rv3 => ?_)
        refine g_istore (loc' := [(4, vI v3), (0, vR 0), (1, vI a1), (2, vI a2), (3, vI a3)]) dX3_bringsOf_35 (by decide) rfl ?_
        refine g_aload_n 1 dX3_bringsOf_37 rfl ?_
        refine g_get (v := vR 11) (ci := 2) (b := 0) (N := 83) 1 rfl rfl (by decide) in_X3 rfl rfl q1133 dX3_bringsOf_38 ?_
        refine g_iload 0 dX3_bringsOf_41 rfl ?_
        refine g_iald (id := 1) 0 rfl rfl dX3_bringsOf_43 (fun v4 rv4 => ?_)
        refine g_istore (loc' := [(5, vI v4), (4, vI v3), (0, vR 0), (1, vI a1), (2, vI a2), (3, vI a3)]) dX3_bringsOf_44 (by decide) rfl ?_
        refine g_iload 0 dX3_bringsOf_46 rfl ?_
        refine g_bipush (by decide +kernel) dX3_bringsOf_48 ?_
        refine g_icmp_ne 89 dX3_bringsOf_50 (by decide) (fun _ => rv4) (fun _ => (by decide : inR (16))) (fun _ => ?_) (fun _ => ?_)
        · refine g_iconst dX3_bringsOf_53 ?_
          refine g_istore (loc' := [(6, vI 0), (5, vI v4), (4, vI v3), (0, vR 0), (1, vI a1), (2, vI a2), (3, vI a3)]) dX3_bringsOf_54 (by decide) rfl ?_
          refine g_pick [3, 4, 5, 6, 2, 0] rfl (wX3_bringsOf_L56 hd hRf hRl hX3_get hX3_comes hX3_instance hX3_isDone hX3_done hX3_fresh hX3_leaf hX3_put hX3_not hX3_holds _ (fun v6 v7 v8 s5 rv6 rv7 rv8 => ?_) KF a1 a2 a3 v3 0 s2 ra1 ra2 ra3 rv3 (inR_z (Or.inl rfl)))
          · refine g_goto 390 dX3_bringsOf_86 (by decide) ?_
            refine g_iinc 3 (loc' := fun v9 => [(3, vI v9), (0, vR 0), (1, vI v6), (2, vI v7)]) dX3_bringsOf_390 rfl (by decide) (fun _ => rfl) (fun v9 rv9 => ?_)
            refine g_goto 2 dX3_bringsOf_393 (by decide) ?_
            exact g_pick [1, 2, 3, 0] rfl (ih v6 v7 v9 s5 rv6 rv7 rv9)
        · refine g_iload 0 dX3_bringsOf_89 rfl ?_
          refine g_bipush (by decide +kernel) dX3_bringsOf_91 ?_
          refine g_icmp_ne 158 dX3_bringsOf_93 (by decide) (fun _ => rv4) (fun _ => (by decide : inR (17))) (fun _ => ?_) (fun _ => ?_)
          · refine g_iconst dX3_bringsOf_96 ?_
            refine g_istore (loc' := [(6, vI 0), (5, vI v4), (4, vI v3), (0, vR 0), (1, vI a1), (2, vI a2), (3, vI a3)]) dX3_bringsOf_97 (by decide) rfl ?_
            refine g_pick [3, 4, 5, 6, 2, 0] rfl (wX3_bringsOf_L99 hd hRf hRl hX3_get hX3_comes hX3_instance hX3_isDone hX3_done hX3_fresh hX3_leaf hX3_put hX3_not hX3_holds _ (fun v11 v12 v13 v14 s10 rv11 rv12 rv13 rv14 => ?_) KF a1 a2 a3 v3 0 s2 ra1 ra2 ra3 rv3 (inR_z (Or.inl rfl)))
            · refine g_iconst dX3_bringsOf_127 ?_
              refine g_istore (loc' := [(6, vI 0), (0, vR 0), (1, vI v11), (2, vI v12), (3, vI v13), (4, vI v14)]) dX3_bringsOf_128 (by decide) rfl ?_
              refine g_pick [1, 2, 3, 4, 5, 0] rfl (wX3_bringsOf_L130 hd hRf hRl hX3_get hX3_comes hX3_instance hX3_isDone hX3_done hX3_fresh hX3_leaf hX3_put hX3_not hX3_holds _ (fun v16 v17 v18 s15 rv16 rv17 rv18 => ?_) KF v11 v12 v13 v14 0 s10 rv11 rv12 rv13 rv14 (inR_z (Or.inl rfl)))
              · refine g_goto 390 dX3_bringsOf_155 (by decide) ?_
                refine g_iinc 3 (loc' := fun v19 => [(3, vI v19), (0, vR 0), (1, vI v16), (2, vI v17)]) dX3_bringsOf_390 rfl (by decide) (fun _ => rfl) (fun v19 rv19 => ?_)
                refine g_goto 2 dX3_bringsOf_393 (by decide) ?_
                exact g_pick [1, 2, 3, 0] rfl (ih v16 v17 v19 s15 rv16 rv17 rv19)
          · refine g_jn (fun j20 => ∀ (a1 a2 a3 a4 a5 : Int) (s21 : Sg), inR a1 → inR a2 → inR a3 → inR a4 → inR a5 → WG p l e R s m args below meth c JX3_bringsOf DX3_bringsOf G clA A FT ad0 σ0 rvV (j20 a1 a2 a3 a4 a5 s21) s21 268 [(0, vR 0), (1, vI a1), (2, vI a2), (3, vI a3), (4, vI a4), (5, vI a5)] []) (fun a1 a2 a3 a4 a5 s21 ra1 ra2 ra3 ra4 ra5 => ?_) (fun j20 hj20 => ?_)
            · refine g_iload 5 dX3_bringsOf_268 rfl ?_
              refine g_bipush (by decide +kernel) dX3_bringsOf_270 ?_
              refine g_icmp_ne 390 dX3_bringsOf_272 (by decide) (fun _ => ra5) (fun _ => (by decide : inR (15))) (fun _ => ?_) (fun _ => ?_)
              · refine g_aload_n 0 dX3_bringsOf_275 rfl ?_
                refine g_get (v := vR 11) (ci := 2) (b := 0) (N := 83) 1 rfl rfl (by decide) in_X3 rfl rfl q1133 dX3_bringsOf_276 ?_
                refine g_aload_n 0 dX3_bringsOf_279 rfl ?_
                refine g_iload 4 dX3_bringsOf_280 rfl ?_
                refine g_iconst dX3_bringsOf_282 ?_
                refine g_cVIk [1] (As := [vI a4, vI 0]) (n := 2) (stk := [vR 11]) (ci := 2) (b := 0) (N := 83) (hX3_get a4 0 s21) (by decide +kernel) rfl rfl (lw_V q1116 q1118 qs76 q168 q1119) (by decide +kernel) rfl (by decide) hRf hRl (fun _ => (avc ra4 (avc (inR_z (Or.inl rfl)) avn))) (Nat.le_of_ble_eq_true rfl) rfl rfl dX3_bringsOf_283 (fun v22 s23 rv22 => ?_)
                refine g_iald (id := 1) 0 rfl rfl dX3_bringsOf_286 (fun v24 rv24 => ?_)
                refine g_bipush (by decide +kernel) dX3_bringsOf_287 ?_
                refine g_icmp_ne 390 dX3_bringsOf_289 (by decide) (fun _ => rv24) (fun _ => (by decide : inR (17))) (fun _ => ?_) (fun _ => ?_)
                · refine g_aload_n 0 dX3_bringsOf_292 rfl ?_
                  refine g_iload 4 dX3_bringsOf_293 rfl ?_
                  refine g_cVZ (As := [vI a4]) (n := 1) (stk := []) (ci := 2) (b := 0) (N := 83) (hX3_isDone a4 s23) (by decide +kernel) rfl rfl (lw_V q1786 q1788 qs160 q168 q1789) (by decide +kernel) rfl (by decide) hRf hRl (fun _ => (avc ra4 avn)) (Nat.le_of_ble_eq_true rfl) rfl rfl dX3_bringsOf_295 (fun v25 s26 zv25 => ?_)
                  refine g_if_ne 390 dX3_bringsOf_298 (by decide) (fun _ => (inR_z zv25)) (fun _ => ?_) (fun _ => ?_)
                  · refine g_aload_n 0 dX3_bringsOf_301 rfl ?_
                    refine g_iload 4 dX3_bringsOf_302 rfl ?_
                    refine g_iconst dX3_bringsOf_304 ?_
                    refine g_cVI (As := [vI a4, vI 0]) (n := 2) (stk := []) (ci := 2) (b := 0) (N := 83) (hX3_get a4 0 s26) (by decide +kernel) rfl rfl (lw_V q1116 q1118 qs76 q168 q1119) (by decide +kernel) rfl (by decide) hRf hRl (fun _ => (avc ra4 (avc (inR_z (Or.inl rfl)) avn))) (Nat.le_of_ble_eq_true rfl) rfl rfl dX3_bringsOf_305 (fun v27 s28 rv27 => ?_)
                    refine g_istore (loc' := [(6, vI v27), (0, vR 0), (1, vI a1), (2, vI a2), (3, vI a3), (4, vI a4), (5, vI a5)]) dX3_bringsOf_308 (by decide) rfl ?_
                    refine g_aload_n 1 dX3_bringsOf_310 rfl ?_
                    refine g_iload 5 dX3_bringsOf_311 rfl ?_
                    refine g_cVV (As := [vI a4]) (n := 1) (stk := []) (ci := 2) (b := 0) (N := 83) (hX3_done a4 s28) (by decide +kernel) rfl rfl (lw_V q1790 q1792 qs161 q168 q1793) (by decide +kernel) rfl (by decide) hRf hRl (fun _ => (avc ra4 avn)) (Nat.le_of_ble_eq_true rfl) rfl rfl dX3_bringsOf_313 (fun v29 s30 => ?_)
                    refine g_aload_n 1 dX3_bringsOf_316 rfl ?_
                    refine g_iconst dX3_bringsOf_317 ?_
                    refine g_aload_n 1 dX3_bringsOf_318 rfl ?_
                    refine g_iconst dX3_bringsOf_319 ?_
                    refine g_aload_n 1 dX3_bringsOf_320 rfl ?_
                    refine g_iload 0 dX3_bringsOf_321 rfl ?_
                    refine g_iconst dX3_bringsOf_323 ?_
                    refine g_cVI (As := [vI v27, vI 0]) (n := 2) (stk := [vI 0, vR 0, vI 2, vR 0]) (ci := 2) (b := 0) (N := 83) (hX3_get v27 0 s30) (by decide +kernel) rfl rfl (lw_V q1116 q1118 qs76 q168 q1119) (by decide +kernel) rfl (by decide) hRf hRl (fun _ => (avc rv27 (avc (inR_z (Or.inl rfl)) avn))) (Nat.le_of_ble_eq_true rfl) rfl rfl dX3_bringsOf_324 (fun v31 s32 rv31 => ?_)
                    refine g_cVI (As := [vI 0, vI v31]) (n := 2) (stk := [vI 2, vR 0]) (ci := 2) (b := 0) (N := 83) (hX3_fresh 0 v31 s32) (by decide +kernel) rfl rfl (lw_V q1123 q1125 qs77 q168 q1126) (by decide +kernel) rfl (by decide) hRf hRl (fun _ => (avc (inR_z (Or.inl rfl)) (avc rv31 avn))) (Nat.le_of_ble_eq_true rfl) rfl rfl dX3_bringsOf_327 (fun v33 s34 rv33 => ?_)
                    refine g_cVI (As := [vI 2, vI v33]) (n := 2) (stk := []) (ci := 2) (b := 0) (N := 83) (hX3_leaf 2 v33 s34) (by decide +kernel) rfl rfl (lw_V q1447 q1449 qs89 q168 q1450) (by decide +kernel) rfl (by decide) hRf hRl (fun _ => (avc (by decide : inR (2)) (avc rv33 avn))) (Nat.le_of_ble_eq_true rfl) rfl rfl dX3_bringsOf_330 (fun v35 s36 rv35 => ?_)
                    refine g_istore (loc' := [(7, vI v35), (6, vI v27), (0, vR 0), (1, vI a1), (2, vI a2), (3, vI a3), (4, vI a4), (5, vI a5)]) dX3_bringsOf_333 (by decide) rfl ?_
                    refine g_aload_n 2 dX3_bringsOf_335 rfl ?_
                    refine g_aload_n 2 dX3_bringsOf_336 rfl ?_
                    refine g_get (v := vR 79) (ci := 2) (b := 0) (N := 83) 69 rfl rfl (by decide) in_X3 rfl rfl q1201 dX3_bringsOf_337 ?_
                    refine g_aload_n 2 dX3_bringsOf_340 rfl ?_
                    refine g_getI (ci := 2) (b := 0) (N := 83) 70 rfl rfl rfl (by decide) in_X3 rfl rfl q1202 dX3_bringsOf_341 (fun v37 rv37 => ?_)
                    refine g_more (ci := 2) (b := 0) (N := 83) FT_ok FT_10 rfl 69 46 rfl rfl rfl rfl (by decide) in_X3 tyX3 tyX3_ok nmX3 rfl rfl rfl rfl (by decide +kernel) rv37 q1104 q1201 hRf hRl hd (Nat.le_of_ble_eq_true rfl) rfl rfl dX3_bringsOf_344 dX3_bringsOf_347 (fun s38 => ?_)
                    refine g_aload_n 2 dX3_bringsOf_350 rfl ?_
                    refine g_get (v := vR 79) (ci := 2) (b := 0) (N := 83) 69 rfl rfl (by decide) in_X3 rfl rfl q1201 dX3_bringsOf_351 ?_
                    refine g_aload_n 2 dX3_bringsOf_354 rfl ?_
                    refine g_dup rfl dX3_bringsOf_355 ?_
                    refine g_getI (ci := 2) (b := 0) (N := 83) 70 rfl rfl rfl (by decide) in_X3 rfl rfl q1202 dX3_bringsOf_356 (fun v39 rv39 => ?_)
                    refine g_dup_x1 rfl rfl dX3_bringsOf_359 ?_
                    refine g_iconst dX3_bringsOf_360 ?_
                    refine g_iadd dX3_bringsOf_361 (fun v40 rv40 => ?_)
                    refine g_sIU (ci := 2) (b := 0) (N := 83) FT_ok 70 rfl rfl rfl (by decide) in_X3 tyX3 tyX3_ok nmX3 rfl rfl rfl rfl (by decide +kernel) rv40 q1202 dX3_bringsOf_362 (fun s41 => ?_)
                    refine g_iload 0 dX3_bringsOf_365 rfl ?_
                    refine g_iastU (id := 69) FT_ok 46 rfl rfl (by decide +kernel) rv35 dX3_bringsOf_367 (fun s42 => ?_)
                    refine g_aload_n 2 dX3_bringsOf_368 rfl ?_
                    refine g_aload_n 2 dX3_bringsOf_369 rfl ?_
                    refine g_aload_n 2 dX3_bringsOf_370 rfl ?_
                    refine g_aload_n 2 dX3_bringsOf_371 rfl ?_
                    refine g_iload 1 dX3_bringsOf_372 rfl ?_
                    refine g_iconst dX3_bringsOf_374 ?_
                    refine g_cVI (As := [vI v27, vI 1]) (n := 2) (stk := [vR 0, vR 0, vR 0]) (ci := 2) (b := 0) (N := 83) (hX3_get v27 1 s42) (by decide +kernel) rfl rfl (lw_V q1116 q1118 qs76 q168 q1119) (by decide +kernel) rfl (by decide) hRf hRl (fun _ => (avc rv27 (avc (inR_z (Or.inr rfl)) avn))) (Nat.le_of_ble_eq_true rfl) rfl rfl dX3_bringsOf_375 (fun v43 s44 rv43 => ?_)
                    refine g_iconst dX3_bringsOf_378 ?_
                    refine g_iload 0 dX3_bringsOf_379 rfl ?_
                    refine g_cVI (As := [vI v43, vI 0, vI v35]) (n := 3) (stk := [vR 0, vR 0]) (ci := 2) (b := 0) (N := 83) (hX3_put v43 0 v35 s44) (by decide +kernel) rfl rfl (lw_V q1573 q1575 qs108 q168 q1576) (by decide +kernel) rfl (by decide) hRf hRl (fun _ => (avc rv43 (avc (inR_z (Or.inl rfl)) (avc rv35 avn)))) (Nat.le_of_ble_eq_true rfl) rfl rfl dX3_bringsOf_381 (fun v45 s46 rv45 => ?_)
                    refine g_cVI (As := [vI v45]) (n := 1) (stk := [vR 0]) (ci := 2) (b := 0) (N := 83) (hX3_not v45 s46) (by decide +kernel) rfl rfl (lw_V q1483 q1485 qs93 q168 q1486) (by decide +kernel) rfl (by decide) hRf hRl (fun _ => (avc rv45 avn)) (Nat.le_of_ble_eq_true rfl) rfl rfl dX3_bringsOf_384 (fun v47 s48 rv47 => ?_)
                    refine g_cVV (As := [vI v47]) (n := 1) (stk := []) (ci := 2) (b := 0) (N := 83) (hX3_comes v47 s48) (by decide +kernel) rfl rfl (lw_V q1766 q1768 qs155 q168 q1769) (by decide +kernel) rfl (by decide) hRf hRl (fun _ => (avc rv47 avn)) (Nat.le_of_ble_eq_true rfl) rfl rfl dX3_bringsOf_387 (fun v49 s50 => ?_)
                    refine g_iinc 5 (loc' := fun v51 => [(3, vI v51), (7, vI v35), (6, vI v27), (0, vR 0), (1, vI a1), (2, vI a2), (4, vI a4), (5, vI a5)]) dX3_bringsOf_390 rfl (by decide) (fun _ => rfl) (fun v51 rv51 => ?_)
                    refine g_goto 2 dX3_bringsOf_393 (by decide) ?_
                    exact g_pick [3, 4, 5, 0] rfl (ih a1 a2 v51 s50 ra1 ra2 rv51)
                  · refine g_iinc 3 (loc' := fun v52 => [(3, vI v52), (0, vR 0), (1, vI a1), (2, vI a2), (4, vI a4), (5, vI a5)]) dX3_bringsOf_390 rfl (by decide) (fun _ => rfl) (fun v52 rv52 => ?_)
                    refine g_goto 2 dX3_bringsOf_393 (by decide) ?_
                    exact g_pick [1, 2, 3, 0] rfl (ih a1 a2 v52 s26 ra1 ra2 rv52)
                · refine g_iinc 3 (loc' := fun v53 => [(3, vI v53), (0, vR 0), (1, vI a1), (2, vI a2), (4, vI a4), (5, vI a5)]) dX3_bringsOf_390 rfl (by decide) (fun _ => rfl) (fun v53 rv53 => ?_)
                  refine g_goto 2 dX3_bringsOf_393 (by decide) ?_
                  exact g_pick [1, 2, 3, 0] rfl (ih a1 a2 v53 s23 ra1 ra2 rv53)
              · refine g_iinc 3 (loc' := fun v54 => [(3, vI v54), (0, vR 0), (1, vI a1), (2, vI a2), (4, vI a4), (5, vI a5)]) dX3_bringsOf_390 rfl (by decide) (fun _ => rfl) (fun v54 rv54 => ?_)
                refine g_goto 2 dX3_bringsOf_393 (by decide) ?_
                exact g_pick [1, 2, 3, 0] rfl (ih a1 a2 v54 s21 ra1 ra2 rv54)
            · refine g_iload 0 dX3_bringsOf_158 rfl ?_
              refine g_bipush (by decide +kernel) dX3_bringsOf_160 ?_
              refine g_icmp_ne 268 dX3_bringsOf_162 (by decide) (fun _ => rv4) (fun _ => (by decide : inR (15))) (fun _ => ?_) (fun _ => ?_)
              · refine g_aload_n 2 dX3_bringsOf_165 rfl ?_
                refine g_get (v := vR 11) (ci := 2) (b := 0) (N := 83) 1 rfl rfl (by decide) in_X3 rfl rfl q1133 dX3_bringsOf_166 ?_
                refine g_aload_n 2 dX3_bringsOf_169 rfl ?_
                refine g_iload 1 dX3_bringsOf_170 rfl ?_
                refine g_iconst dX3_bringsOf_172 ?_
                refine g_cVIk [1] (As := [vI v3, vI 0]) (n := 2) (stk := [vR 11]) (ci := 2) (b := 0) (N := 83) (hX3_get v3 0 s2) (by decide +kernel) rfl rfl (lw_V q1116 q1118 qs76 q168 q1119) (by decide +kernel) rfl (by decide) hRf hRl (fun _ => (avc rv3 (avc (inR_z (Or.inl rfl)) avn))) (Nat.le_of_ble_eq_true rfl) rfl rfl dX3_bringsOf_173 (fun v55 s56 rv55 => ?_)
                refine g_iald (id := 1) 0 rfl rfl dX3_bringsOf_176 (fun v57 rv57 => ?_)
                refine g_bipush (by decide +kernel) dX3_bringsOf_177 ?_
                refine g_icmp_ne 268 dX3_bringsOf_179 (by decide) (fun _ => rv57) (fun _ => (by decide : inR (16))) (fun _ => ?_) (fun _ => ?_)
                · refine g_aload_n 2 dX3_bringsOf_182 rfl ?_
                  refine g_iload 1 dX3_bringsOf_183 rfl ?_
                  refine g_iconst dX3_bringsOf_185 ?_
                  refine g_cVI (As := [vI v3, vI 0]) (n := 2) (stk := []) (ci := 2) (b := 0) (N := 83) (hX3_get v3 0 s56) (by decide +kernel) rfl rfl (lw_V q1116 q1118 qs76 q168 q1119) (by decide +kernel) rfl (by decide) hRf hRl (fun _ => (avc rv3 (avc (inR_z (Or.inl rfl)) avn))) (Nat.le_of_ble_eq_true rfl) rfl rfl dX3_bringsOf_186 (fun v58 s59 rv58 => ?_)
                  refine g_istore (loc' := [(6, vI v58), (5, vI v4), (4, vI v3), (0, vR 0), (1, vI a1), (2, vI a2), (3, vI a3)]) dX3_bringsOf_189 (by decide) rfl ?_
                  refine g_iconst dX3_bringsOf_191 ?_
                  refine g_istore (loc' := [(7, vI 0), (6, vI v58), (5, vI v4), (4, vI v3), (0, vR 0), (1, vI a1), (2, vI a2), (3, vI a3)]) dX3_bringsOf_192 (by decide) rfl ?_
                  refine g_iconst dX3_bringsOf_194 ?_
                  refine g_istore (loc' := [(8, vI 0), (7, vI 0), (6, vI v58), (5, vI v4), (4, vI v3), (0, vR 0), (1, vI a1), (2, vI a2), (3, vI a3)]) dX3_bringsOf_195 (by decide) rfl ?_
                  refine g_iconst dX3_bringsOf_197 ?_
                  refine g_istore (loc' := [(9, vI 0), (8, vI 0), (7, vI 0), (6, vI v58), (5, vI v4), (4, vI v3), (0, vR 0), (1, vI a1), (2, vI a2), (3, vI a3)]) dX3_bringsOf_198 (by decide) rfl ?_
                  refine g_pick [6, 7, 8, 9, 3, 2, 1, 0] rfl (wX3_bringsOf_L200 hd hRf hRl hX3_get hX3_comes hX3_instance hX3_isDone hX3_done hX3_fresh hX3_leaf hX3_put hX3_not hX3_holds _ (fun v61 v62 v63 v64 v65 s60 rv61 rv62 rv63 rv64 rv65 => ?_) KF a1 a2 a3 v58 0 0 0 s59 ra1 ra2 ra3 rv58 (inR_z (Or.inl rfl)) (inR_z (Or.inl rfl)) (inR_z (Or.inl rfl)))
                  · refine g_iload 5 dX3_bringsOf_249 rfl ?_
                    refine g_iconst dX3_bringsOf_251 ?_
                    refine g_icmp_ne 265 dX3_bringsOf_252 (by decide) (fun _ => rv65) (fun _ => (inR_z (Or.inr rfl))) (fun _ => ?_) (fun _ => ?_)
                    · refine g_aload_n 0 dX3_bringsOf_255 rfl ?_
                      refine g_aload_n 0 dX3_bringsOf_256 rfl ?_
                      refine g_iload 4 dX3_bringsOf_257 rfl ?_
                      refine g_cVI (As := [vI v64]) (n := 1) (stk := [vR 0]) (ci := 2) (b := 0) (N := 83) (hX3_not v64 s60) (by decide +kernel) rfl rfl (lw_V q1483 q1485 qs93 q168 q1486) (by decide +kernel) rfl (by decide) hRf hRl (fun _ => (avc rv64 avn)) (Nat.le_of_ble_eq_true rfl) rfl rfl dX3_bringsOf_259 (fun v66 s67 rv66 => ?_)
                      refine g_cVV (As := [vI v66]) (n := 1) (stk := []) (ci := 2) (b := 0) (N := 83) (hX3_comes v66 s67) (by decide +kernel) rfl rfl (lw_V q1766 q1768 qs155 q168 q1769) (by decide +kernel) rfl (by decide) hRf hRl (fun _ => (avc rv66 avn)) (Nat.le_of_ble_eq_true rfl) rfl rfl dX3_bringsOf_262 (fun v68 s69 => ?_)
                      refine g_goto 390 dX3_bringsOf_265 (by decide) ?_
                      refine g_iinc 3 (loc' := fun v70 => [(3, vI v70), (0, vR 0), (1, vI v61), (2, vI v62), (7, vI v64), (8, vI v65)]) dX3_bringsOf_390 rfl (by decide) (fun _ => rfl) (fun v70 rv70 => ?_)
                      refine g_goto 2 dX3_bringsOf_393 (by decide) ?_
                      exact g_pick [1, 2, 3, 0] rfl (ih v61 v62 v70 s69 rv61 rv62 rv70)
                    · refine g_goto 390 dX3_bringsOf_265 (by decide) ?_
                      refine g_iinc 3 (loc' := fun v71 => [(3, vI v71), (0, vR 0), (1, vI v61), (2, vI v62), (7, vI v64), (8, vI v65)]) dX3_bringsOf_390 rfl (by decide) (fun _ => rfl) (fun v71 rv71 => ?_)
                      refine g_goto 2 dX3_bringsOf_393 (by decide) ?_
                      exact g_pick [1, 2, 3, 0] rfl (ih v61 v62 v71 s60 rv61 rv62 rv71)
                · exact g_pick [2, 3, 4, 5, 1, 0] rfl (hj20 a1 a2 a3 v3 v4 s56 ra1 ra2 ra3 rv3 rv4)
              · exact g_pick [2, 3, 4, 5, 1, 0] rfl (hj20 a1 a2 a3 v3 v4 s2 ra1 ra2 ra3 rv3 rv4)
      · refine g_aload_n 0 dX3_bringsOf_7 rfl ?_
        refine g_getI (ci := 2) (b := 0) (N := 83) 75 rfl rfl rfl (by decide) in_X3 rfl rfl q1207 dX3_bringsOf_8 (fun v72 rv72 => ?_)
        refine g_if_eq 29 dX3_bringsOf_11 (by decide) (fun _ => rv72) (fun _ => ?_) (fun _ => ?_)
        · exact g_pick [0, 1, 2, 3] rfl (hj1 a1 a2 a3 u ra1 ra2 ra3)
        · refine g_aload_n 0 dX3_bringsOf_14 rfl ?_
          refine g_getI (ci := 2) (b := 0) (N := 83) 50 rfl rfl rfl (by decide) in_X3 rfl rfl q1182 dX3_bringsOf_15 (fun v73 rv73 => ?_)
          refine g_aload_n 0 dX3_bringsOf_18 rfl ?_
          refine g_getI (ci := 2) (b := 0) (N := 83) 75 rfl rfl rfl (by decide) in_X3 rfl rfl q1207 dX3_bringsOf_19 (fun v74 rv74 => ?_)
          refine g_iadd dX3_bringsOf_22 (fun v75 rv75 => ?_)
          refine g_sipush (by decide +kernel) dX3_bringsOf_23 ?_
          refine g_icmp_gt 396 dX3_bringsOf_26 (by decide) (fun _ => rv75) (fun _ => (by decide : inR (400))) (fun _ => ?_) (fun _ => ?_)
          · exact g_pick [0, 1, 2, 3] rfl (hj1 a1 a2 a3 u ra1 ra2 ra3)
          · exact g_pick [] rfl (hx396 u)
    · exact g_pick [] rfl (hx396 u)
theorem wX3_bringsOf (hd : 2 ≤ d) (hRf : d + 1 ≤ R.frames) (hRl : 40 * (d + 1) ≤ R.locals) (hX3_get : ∀ (a1 a2 : Int) (u : Sg), Ct l d FT clA yX3_get cX3_get 3 (some .int) DX3_get rvI [vR 0, vI a1, vI a2] u (call 7 [a1, a2] u)) (hX3_comes : ∀ (a1 : Int) (u : Sg), Ct l d FT clA yX3_comes cX3_comes 2 none DX3_comes rvV [vR 0, vI a1] u (call 106 [a1] u)) (hX3_instance : ∀ (a1 a2 : Int) (u : Sg), Ct l d FT clA yX3_instance cX3_instance 5 none DX3_instance rvV [vR 0, vI a1, vI a2] u (call 107 [a1, a2] u)) (hX3_isDone : ∀ (a1 : Int) (u : Sg), Ct l d FT clA yX3_isDone cX3_isDone 2 (some .boolean) DX3_isDone rvI [vR 0, vI a1] u (call 111 [a1] u)) (hX3_done : ∀ (a1 : Int) (u : Sg), Ct l d FT clA yX3_done cX3_done 2 none DX3_done rvV [vR 0, vI a1] u (call 112 [a1] u)) (hX3_fresh : ∀ (a1 a2 : Int) (u : Sg), Ct l d FT clA yX3_fresh cX3_fresh 3 (some .int) DX3_fresh rvI [vR 0, vI a1, vI a2] u (call 9 [a1, a2] u)) (hX3_leaf : ∀ (a1 a2 : Int) (u : Sg), Ct l d FT clA yX3_leaf cX3_leaf 4 (some .int) DX3_leaf rvI [vR 0, vI a1, vI a2] u (call 27 [a1, a2] u)) (hX3_put : ∀ (a1 a2 a3 : Int) (u : Sg), Ct l d FT clA yX3_put cX3_put 8 (some .int) DX3_put rvI [vR 0, vI a1, vI a2, vI a3] u (call 58 [a1, a2, a3] u)) (hX3_not : ∀ (a1 : Int) (u : Sg), Ct l d FT clA yX3_not cX3_not 2 (some .int) DX3_not rvI [vR 0, vI a1] u (call 36 [a1] u)) (hX3_holds : ∀ (a1 : Int) (u : Sg), Ct l d FT clA yX3_holds cX3_holds 10 (some .boolean) DX3_holds rvI [vR 0, vI a1] u (call 100 [a1] u)) (a1 a2 : Int) (u : Sg) (ra1 : inR a1) (ra2 : inR a2) : WG p l e R s m args below meth c JX3_bringsOf DX3_bringsOf G clA A FT ad0 σ0 rvV (bX3_bringsOf call a1 a2 u) u 0 [(0, vR 0), (1, vI a1), (2, vI a2)] [] := by
  unfold bX3_bringsOf
  refine g_iconst dX3_bringsOf_0 ?_
  refine g_istore_n (loc' := [(3, vI 0), (0, vR 0), (1, vI a1), (2, vI a2)]) dX3_bringsOf_1 (by decide) rfl ?_
  refine g_pick [1, 2, 3, 0] rfl (wX3_bringsOf_L2 hd hRf hRl hX3_get hX3_comes hX3_instance hX3_isDone hX3_done hX3_fresh hX3_leaf hX3_put hX3_not hX3_holds _ (fun s1 => ?_) KF a1 a2 0 u ra1 ra2 (inR_z (Or.inl rfl)))
  · exact g_vret rfl rfl dX3_bringsOf_396
end
section
variable {l : Launch} {d : Nat} {call : Nat → List Int → Sg → Option (Int × Sg)}
theorem ctX3_bringsOf (p0 : Program) (e0 : Env) (s0 : State) (m0 : MethodId) (meth0 : Method) (c0 : Code) (G0 : Gm) (hd : 2 ≤ d) (hX3_get : ∀ (a1 a2 : Int) (u : Sg), Ct l d FT clA yX3_get cX3_get 3 (some .int) DX3_get rvI [vR 0, vI a1, vI a2] u (call 7 [a1, a2] u)) (hX3_comes : ∀ (a1 : Int) (u : Sg), Ct l d FT clA yX3_comes cX3_comes 2 none DX3_comes rvV [vR 0, vI a1] u (call 106 [a1] u)) (hX3_instance : ∀ (a1 a2 : Int) (u : Sg), Ct l d FT clA yX3_instance cX3_instance 5 none DX3_instance rvV [vR 0, vI a1, vI a2] u (call 107 [a1, a2] u)) (hX3_isDone : ∀ (a1 : Int) (u : Sg), Ct l d FT clA yX3_isDone cX3_isDone 2 (some .boolean) DX3_isDone rvI [vR 0, vI a1] u (call 111 [a1] u)) (hX3_done : ∀ (a1 : Int) (u : Sg), Ct l d FT clA yX3_done cX3_done 2 none DX3_done rvV [vR 0, vI a1] u (call 112 [a1] u)) (hX3_fresh : ∀ (a1 a2 : Int) (u : Sg), Ct l d FT clA yX3_fresh cX3_fresh 3 (some .int) DX3_fresh rvI [vR 0, vI a1, vI a2] u (call 9 [a1, a2] u)) (hX3_leaf : ∀ (a1 a2 : Int) (u : Sg), Ct l d FT clA yX3_leaf cX3_leaf 4 (some .int) DX3_leaf rvI [vR 0, vI a1, vI a2] u (call 27 [a1, a2] u)) (hX3_put : ∀ (a1 a2 a3 : Int) (u : Sg), Ct l d FT clA yX3_put cX3_put 8 (some .int) DX3_put rvI [vR 0, vI a1, vI a2, vI a3] u (call 58 [a1, a2, a3] u)) (hX3_not : ∀ (a1 : Int) (u : Sg), Ct l d FT clA yX3_not cX3_not 2 (some .int) DX3_not rvI [vR 0, vI a1] u (call 36 [a1] u)) (hX3_holds : ∀ (a1 : Int) (u : Sg), Ct l d FT clA yX3_holds cX3_holds 10 (some .boolean) DX3_holds rvI [vR 0, vI a1] u (call 100 [a1] u)) (a1 a2 : Int) (u : Sg) : Ct l (d + 1) FT clA yX3_bringsOf cX3_bringsOf 10 none DX3_bringsOf rvV [vR 0, vI a1, vI a2] u (bX3_bringsOf call a1 a2 u) :=
  Ct_of (by decide) (Nat.le_of_ble_eq_true rfl) (fun p e R s1 m args below meth c G A ad hA hRf hRl => wX3_bringsOf hd hRf hRl hX3_get hX3_comes hX3_instance hX3_isDone hX3_done hX3_fresh hX3_leaf hX3_put hX3_not hX3_holds a1 a2 u (hA _ (List.mem_cons_of_mem _ List.mem_cons_self)) (hA _ (List.mem_cons_of_mem _ (List.mem_cons_of_mem _ List.mem_cons_self)))) p0 e0 s0 m0 meth0 c0 G0
end
/-! RoundCheckModel.comes(I)V -/
abbrev JX3_comes : Jm := (cX3_comes, RX3, 2, none)
def bX3_comes (call : Nat → List Int → Sg → Option (Int × Sg)) (a1 : Int) (u : Sg) : Option (Int × Sg) := un (gI u 8) fun v1 => mor u 74 v1 fun s2 => ld s2 74 a1 fun v3 => un (gI s2 76) fun v4 => if v3 = v4 then (some (0, s2)) else (jn (fun (a1 : Int) (s6 : Sg) => un (gI s6 76) fun v7 => stA s6 74 a1 v7 fun s8 => un (gI s8 75) fun v9 => mor s8 73 v9 fun s10 => un (gI s10 75) fun v11 => ar (v11 + 1) fun v12 => un (sI s10 75 v12) fun s13 => stA s13 73 v11 a1 fun s14 => some (0, s14)) fun j5 => un (gL s2 51 : Int) fun v15 => if a1 < v15 then (ld s2 51 a1 fun v16 => un (gI s2 54) fun v17 => if v16 = v17 then (some (0, s2)) else (j5 a1 s2)) else (j5 a1 s2))
section
variable {p : Program} {l : Launch} {e : Env} {R : Room} {s : State} {m : MethodId} {args : Array Value} {below : List Frame} {meth : Method} {c : Code} {G : Gm} {A : Nat → Prop} {ad0 : Nat → Nat} {σ0 : Sg} {d : Nat} {call : Nat → List Int → Sg → Option (Int × Sg)}
theorem wX3_comes (hd : 2 ≤ d) (hRf : d + 1 ≤ R.frames) (hRl : 40 * (d + 1) ≤ R.locals) (a1 : Int) (u : Sg) (ra1 : inR a1) : WG p l e R s m args below meth c JX3_comes DX3_comes G clA A FT ad0 σ0 rvV (bX3_comes call a1 u) u 0 [(0, vR 0), (1, vI a1)] [] := by
  unfold bX3_comes
  refine g_aload_n 0 dX3_comes_0 rfl ?_
  refine g_aload_n 0 dX3_comes_1 rfl ?_
  refine g_get (v := vR 84) (ci := 2) (b := 0) (N := 83) 74 rfl rfl (by decide) in_X3 rfl rfl q1206 dX3_comes_2 ?_
  refine g_aload_n 0 dX3_comes_5 rfl ?_
  refine g_getI (ci := 2) (b := 0) (N := 83) 8 rfl rfl rfl (by decide) in_X3 rfl rfl q1140 dX3_comes_6 (fun v1 rv1 => ?_)
  refine g_more (ci := 2) (b := 0) (N := 83) FT_ok FT_10 rfl 74 48 rfl rfl rfl rfl (by decide) in_X3 tyX3 tyX3_ok nmX3 rfl rfl rfl rfl (by decide +kernel) rv1 q1104 q1206 hRf hRl hd (Nat.le_of_ble_eq_true rfl) rfl rfl dX3_comes_9 dX3_comes_12 (fun s2 => ?_)
  refine g_aload_n 0 dX3_comes_15 rfl ?_
  refine g_get (v := vR 84) (ci := 2) (b := 0) (N := 83) 74 rfl rfl (by decide) in_X3 rfl rfl q1206 dX3_comes_16 ?_
  refine g_iload_n 1 dX3_comes_19 rfl ?_
  refine g_iald (id := 74) 48 rfl rfl dX3_comes_20 (fun v3 rv3 => ?_)
  refine g_aload_n 0 dX3_comes_21 rfl ?_
  refine g_getI (ci := 2) (b := 0) (N := 83) 76 rfl rfl rfl (by decide) in_X3 rfl rfl q1208 dX3_comes_22 (fun v4 rv4 => ?_)
  refine g_icmp_eq 50 dX3_comes_25 (by decide) (fun _ => rv3) (fun _ => rv4) (fun _ => ?_) (fun _ => ?_)
  · exact g_vret rfl rfl dX3_comes_50
  · refine g_jn (fun j5 => ∀ (a1 : Int) (s6 : Sg), inR a1 → WG p l e R s m args below meth c JX3_comes DX3_comes G clA A FT ad0 σ0 rvV (j5 a1 s6) s6 51 [(0, vR 0), (1, vI a1)] []) (fun a1 s6 ra1 => ?_) (fun j5 hj5 => ?_)
    · refine g_aload_n 0 dX3_comes_51 rfl ?_
      refine g_get (v := vR 84) (ci := 2) (b := 0) (N := 83) 74 rfl rfl (by decide) in_X3 rfl rfl q1206 dX3_comes_52 ?_
      refine g_iload_n 1 dX3_comes_55 rfl ?_
      refine g_aload_n 0 dX3_comes_56 rfl ?_
      refine g_getI (ci := 2) (b := 0) (N := 83) 76 rfl rfl rfl (by decide) in_X3 rfl rfl q1208 dX3_comes_57 (fun v7 rv7 => ?_)
      refine g_iastU (id := 74) FT_ok 48 rfl rfl (by decide +kernel) rv7 dX3_comes_60 (fun s8 => ?_)
      refine g_aload_n 0 dX3_comes_61 rfl ?_
      refine g_aload_n 0 dX3_comes_62 rfl ?_
      refine g_get (v := vR 83) (ci := 2) (b := 0) (N := 83) 73 rfl rfl (by decide) in_X3 rfl rfl q1205 dX3_comes_63 ?_
      refine g_aload_n 0 dX3_comes_66 rfl ?_
      refine g_getI (ci := 2) (b := 0) (N := 83) 75 rfl rfl rfl (by decide) in_X3 rfl rfl q1207 dX3_comes_67 (fun v9 rv9 => ?_)
      refine g_more (ci := 2) (b := 0) (N := 83) FT_ok FT_10 rfl 73 47 rfl rfl rfl rfl (by decide) in_X3 tyX3 tyX3_ok nmX3 rfl rfl rfl rfl (by decide +kernel) rv9 q1104 q1205 hRf hRl hd (Nat.le_of_ble_eq_true rfl) rfl rfl dX3_comes_70 dX3_comes_73 (fun s10 => ?_)
      refine g_aload_n 0 dX3_comes_76 rfl ?_
      refine g_get (v := vR 83) (ci := 2) (b := 0) (N := 83) 73 rfl rfl (by decide) in_X3 rfl rfl q1205 dX3_comes_77 ?_
      refine g_aload_n 0 dX3_comes_80 rfl ?_
      refine g_dup rfl dX3_comes_81 ?_
      refine g_getI (ci := 2) (b := 0) (N := 83) 75 rfl rfl rfl (by decide) in_X3 rfl rfl q1207 dX3_comes_82 (fun v11 rv11 => ?_)
      refine g_dup_x1 rfl rfl dX3_comes_85 ?_
      refine g_iconst dX3_comes_86 ?_
      refine g_iadd dX3_comes_87 (fun v12 rv12 => ?_)
      refine g_sIU (ci := 2) (b := 0) (N := 83) FT_ok 75 rfl rfl rfl (by decide) in_X3 tyX3 tyX3_ok nmX3 rfl rfl rfl rfl (by decide +kernel) rv12 q1207 dX3_comes_88 (fun s13 => ?_)
      refine g_iload_n 1 dX3_comes_91 rfl ?_
      refine g_iastU (id := 73) FT_ok 47 rfl rfl (by decide +kernel) ra1 dX3_comes_92 (fun s14 => ?_)
      exact g_vret rfl rfl dX3_comes_93
    · refine g_iload_n 1 dX3_comes_28 rfl ?_
      refine g_aload_n 0 dX3_comes_29 rfl ?_
      refine g_get (v := vR 61) (ci := 2) (b := 0) (N := 83) 51 rfl rfl (by decide) in_X3 rfl rfl q1183 dX3_comes_30 ?_
      refine g_alenU (id := 51) 36 rfl (Or.inl rfl) dX3_comes_33 (fun v15 rv15 => ?_)
      refine g_icmp_ge 51 dX3_comes_34 (by decide) (fun _ => ra1) (fun _ => rv15) (fun _ => ?_) (fun _ => ?_)
      · refine g_aload_n 0 dX3_comes_37 rfl ?_
        refine g_get (v := vR 61) (ci := 2) (b := 0) (N := 83) 51 rfl rfl (by decide) in_X3 rfl rfl q1183 dX3_comes_38 ?_
        refine g_iload_n 1 dX3_comes_41 rfl ?_
        refine g_iald (id := 51) 36 rfl rfl dX3_comes_42 (fun v16 rv16 => ?_)
        refine g_aload_n 0 dX3_comes_43 rfl ?_
        refine g_getI (ci := 2) (b := 0) (N := 83) 54 rfl rfl rfl (by decide) in_X3 rfl rfl q1186 dX3_comes_44 (fun v17 rv17 => ?_)
        refine g_icmp_ne 51 dX3_comes_47 (by decide) (fun _ => rv16) (fun _ => rv17) (fun _ => ?_) (fun _ => ?_)
        · exact g_vret rfl rfl dX3_comes_50
        · exact g_pick [0, 1] rfl (hj5 a1 s2 ra1)
      · exact g_pick [0, 1] rfl (hj5 a1 s2 ra1)
end
section
variable {l : Launch} {d : Nat} {call : Nat → List Int → Sg → Option (Int × Sg)}
theorem ctX3_comes (p0 : Program) (e0 : Env) (s0 : State) (m0 : MethodId) (meth0 : Method) (c0 : Code) (G0 : Gm) (hd : 2 ≤ d) (a1 : Int) (u : Sg) : Ct l (d + 1) FT clA yX3_comes cX3_comes 2 none DX3_comes rvV [vR 0, vI a1] u (bX3_comes call a1 u) :=
  Ct_of (by decide) (Nat.le_of_ble_eq_true rfl) (fun p e R s1 m args below meth c G A ad hA hRf hRl => wX3_comes hd hRf hRl a1 u (hA _ (List.mem_cons_of_mem _ List.mem_cons_self))) p0 e0 s0 m0 meth0 c0 G0
end
/-! RoundCheckModel.instance(II)V -/
abbrev JX3_instance : Jm := (cX3_instance, RX3, 5, none)
def bX3_instance (call : Nat → List Int → Sg → Option (Int × Sg)) (a1 a2 : Int) (u : Sg) : Option (Int × Sg) := cl (call 7 [a1, 0] u) fun v1 s2 => cl (call 87 [a2, v1] s2) fun v3 s4 => if v3 = 0 then (some (0, s4)) else (jn (fun (a1 a2 : Int) (s6 : Sg) => cl (call 7 [a1, 1] s6) fun v7 s8 => cl (call 58 [v7, 0, a2] s8) fun v9 s10 => cl (call 106 [v9] s10) fun v11 s12 => some (0, s12)) fun j5 => un (gI s4 8) fun v13 => un (gI s4 10) fun v14 => un (sI s4 71 0) fun s15 => un (sI s15 72 0) fun s16 => cl (call 7 [a1, 1] s16) fun v17 s18 => cl (call 108 [v17, 0, a2] s18) fun v19 s20 => un (gI s20 71) fun v21 => if v21 = 0 then (j5 a1 a2 s20) else (un (gI s20 72) fun v22 => if v22 = 0 then (cl (call 110 [v13, v14] s20) fun v23 s24 => some (0, s24)) else (j5 a1 a2 s20)))
section
variable {p : Program} {l : Launch} {e : Env} {R : Room} {s : State} {m : MethodId} {args : Array Value} {below : List Frame} {meth : Method} {c : Code} {G : Gm} {A : Nat → Prop} {ad0 : Nat → Nat} {σ0 : Sg} {d : Nat} {call : Nat → List Int → Sg → Option (Int × Sg)}
theorem wX3_instance (hd : 2 ≤ d) (hRf : d + 1 ≤ R.frames) (hRl : 40 * (d + 1) ≤ R.locals) (hX3_get : ∀ (a1 a2 : Int) (u : Sg), Ct l d FT clA yX3_get cX3_get 3 (some .int) DX3_get rvI [vR 0, vI a1, vI a2] u (call 7 [a1, a2] u)) (hX3_fitsHere : ∀ (a1 a2 : Int) (u : Sg), Ct l d FT clA yX3_fitsHere cX3_fitsHere 5 (some .boolean) DX3_fitsHere rvI [vR 0, vI a1, vI a2] u (call 87 [a1, a2] u)) (hX3_put : ∀ (a1 a2 a3 : Int) (u : Sg), Ct l d FT clA yX3_put cX3_put 8 (some .int) DX3_put rvI [vR 0, vI a1, vI a2, vI a3] u (call 58 [a1, a2, a3] u)) (hX3_comes : ∀ (a1 : Int) (u : Sg), Ct l d FT clA yX3_comes cX3_comes 2 none DX3_comes rvV [vR 0, vI a1] u (call 106 [a1] u)) (hX3_losing : ∀ (a1 a2 a3 : Int) (u : Sg), Ct l d FT clA yX3_losing cX3_losing 5 none DX3_losing rvV [vR 0, vI a1, vI a2, vI a3] u (call 108 [a1, a2, a3] u)) (hX3_forget : ∀ (a1 a2 : Int) (u : Sg), Ct l d FT clA yX3_forget cX3_forget 3 none DX3_forget rvV [vR 0, vI a1, vI a2] u (call 110 [a1, a2] u)) (a1 a2 : Int) (u : Sg) (ra1 : inR a1) (ra2 : inR a2) : WG p l e R s m args below meth c JX3_instance DX3_instance G clA A FT ad0 σ0 rvV (bX3_instance call a1 a2 u) u 0 [(0, vR 0), (1, vI a1), (2, vI a2)] [] := by
  unfold bX3_instance
  refine g_aload_n 0 dX3_instance_0 rfl ?_
  refine g_iload_n 2 dX3_instance_1 rfl ?_
  refine g_aload_n 0 dX3_instance_2 rfl ?_
  refine g_iload_n 1 dX3_instance_3 rfl ?_
  refine g_iconst dX3_instance_4 ?_
  refine g_cVI (As := [vI a1, vI 0]) (n := 2) (stk := [vI a2, vR 0]) (ci := 2) (b := 0) (N := 83) (hX3_get a1 0 u) (by decide +kernel) rfl rfl (lw_V q1116 q1118 qs76 q168 q1119) (by decide +kernel) rfl (by decide) hRf hRl (fun _ => (avc ra1 (avc (inR_z (Or.inl rfl)) avn))) (Nat.le_of_ble_eq_true rfl) rfl rfl dX3_instance_5 (fun v1 s2 rv1 => ?_)
  refine g_cVZ (As := [vI a2, vI v1]) (n := 2) (stk := []) (ci := 2) (b := 0) (N := 83) (hX3_fitsHere a2 v1 s2) (by decide +kernel) rfl rfl (lw_V q1690 q1692 qs136 q168 q1693) (by decide +kernel) rfl (by decide) hRf hRl (fun _ => (avc ra2 (avc rv1 avn))) (Nat.le_of_ble_eq_true rfl) rfl rfl dX3_instance_8 (fun v3 s4 zv3 => ?_)
  refine g_if_ne 15 dX3_instance_11 (by decide) (fun _ => (inR_z zv3)) (fun _ => ?_) (fun _ => ?_)
  · exact g_vret rfl rfl dX3_instance_14
  · refine g_jn (fun j5 => ∀ (a1 a2 : Int) (s6 : Sg), inR a1 → inR a2 → WG p l e R s m args below meth c JX3_instance DX3_instance G clA A FT ad0 σ0 rvV (j5 a1 a2 s6) s6 62 [(0, vR 0), (1, vI a1), (2, vI a2)] []) (fun a1 a2 s6 ra1 ra2 => ?_) (fun j5 hj5 => ?_)
    · refine g_aload_n 0 dX3_instance_62 rfl ?_
      refine g_aload_n 0 dX3_instance_63 rfl ?_
      refine g_aload_n 0 dX3_instance_64 rfl ?_
      refine g_iload_n 1 dX3_instance_65 rfl ?_
      refine g_iconst dX3_instance_66 ?_
      refine g_cVI (As := [vI a1, vI 1]) (n := 2) (stk := [vR 0, vR 0]) (ci := 2) (b := 0) (N := 83) (hX3_get a1 1 s6) (by decide +kernel) rfl rfl (lw_V q1116 q1118 qs76 q168 q1119) (by decide +kernel) rfl (by decide) hRf hRl (fun _ => (avc ra1 (avc (inR_z (Or.inr rfl)) avn))) (Nat.le_of_ble_eq_true rfl) rfl rfl dX3_instance_67 (fun v7 s8 rv7 => ?_)
      refine g_iconst dX3_instance_70 ?_
      refine g_iload_n 2 dX3_instance_71 rfl ?_
      refine g_cVI (As := [vI v7, vI 0, vI a2]) (n := 3) (stk := [vR 0]) (ci := 2) (b := 0) (N := 83) (hX3_put v7 0 a2 s8) (by decide +kernel) rfl rfl (lw_V q1573 q1575 qs108 q168 q1576) (by decide +kernel) rfl (by decide) hRf hRl (fun _ => (avc rv7 (avc (inR_z (Or.inl rfl)) (avc ra2 avn)))) (Nat.le_of_ble_eq_true rfl) rfl rfl dX3_instance_72 (fun v9 s10 rv9 => ?_)
      refine g_cVV (As := [vI v9]) (n := 1) (stk := []) (ci := 2) (b := 0) (N := 83) (hX3_comes v9 s10) (by decide +kernel) rfl rfl (lw_V q1766 q1768 qs155 q168 q1769) (by decide +kernel) rfl (by decide) hRf hRl (fun _ => (avc rv9 avn)) (Nat.le_of_ble_eq_true rfl) rfl rfl dX3_instance_75 (fun v11 s12 => ?_)
      refine g_goto 88 dX3_instance_78 (by decide) ?_
      exact g_vret rfl rfl dX3_instance_88
    · refine g_aload_n 0 dX3_instance_15 rfl ?_
      refine g_getI (ci := 2) (b := 0) (N := 83) 8 rfl rfl rfl (by decide) in_X3 rfl rfl q1140 dX3_instance_16 (fun v13 rv13 => ?_)
      refine g_istore_n (loc' := [(3, vI v13), (0, vR 0), (1, vI a1), (2, vI a2)]) dX3_instance_19 (by decide) rfl ?_
      refine g_aload_n 1 dX3_instance_20 rfl ?_
      refine g_getI (ci := 2) (b := 0) (N := 83) 10 rfl rfl rfl (by decide) in_X3 rfl rfl q1142 dX3_instance_21 (fun v14 rv14 => ?_)
      refine g_istore (loc' := [(4, vI v14), (3, vI v13), (0, vR 0), (1, vI a1), (2, vI a2)]) dX3_instance_24 (by decide) rfl ?_
      refine g_aload_n 2 dX3_instance_26 rfl ?_
      refine g_iconst dX3_instance_27 ?_
      refine g_sZU (ci := 2) (b := 0) (N := 83) FT_ok 71 rfl rfl rfl (by decide) in_X3 tyX3 tyX3_ok nmX3 rfl rfl rfl rfl (by decide +kernel) (Or.inl rfl) q1203 dX3_instance_28 (fun s15 => ?_)
      refine g_aload_n 2 dX3_instance_31 rfl ?_
      refine g_iconst dX3_instance_32 ?_
      refine g_sZU (ci := 2) (b := 0) (N := 83) FT_ok 72 rfl rfl rfl (by decide) in_X3 tyX3 tyX3_ok nmX3 rfl rfl rfl rfl (by decide +kernel) (Or.inl rfl) q1204 dX3_instance_33 (fun s16 => ?_)
      refine g_aload_n 2 dX3_instance_36 rfl ?_
      refine g_aload_n 2 dX3_instance_37 rfl ?_
      refine g_iload_n 3 dX3_instance_38 rfl ?_
      refine g_iconst dX3_instance_39 ?_
      refine g_cVI (As := [vI a1, vI 1]) (n := 2) (stk := [vR 0]) (ci := 2) (b := 0) (N := 83) (hX3_get a1 1 s16) (by decide +kernel) rfl rfl (lw_V q1116 q1118 qs76 q168 q1119) (by decide +kernel) rfl (by decide) hRf hRl (fun _ => (avc ra1 (avc (inR_z (Or.inr rfl)) avn))) (Nat.le_of_ble_eq_true rfl) rfl rfl dX3_instance_40 (fun v17 s18 rv17 => ?_)
      refine g_iconst dX3_instance_43 ?_
      refine g_iload_n 4 dX3_instance_44 rfl ?_
      refine g_cVV (As := [vI v17, vI 0, vI a2]) (n := 3) (stk := []) (ci := 2) (b := 0) (N := 83) (hX3_losing v17 0 a2 s18) (by decide +kernel) rfl rfl (lw_V q1774 q1776 qs157 q168 q1777) (by decide +kernel) rfl (by decide) hRf hRl (fun _ => (avc rv17 (avc (inR_z (Or.inl rfl)) (avc ra2 avn)))) (Nat.le_of_ble_eq_true rfl) rfl rfl dX3_instance_45 (fun v19 s20 => ?_)
      refine g_aload_n 2 dX3_instance_48 rfl ?_
      refine g_getZ (ci := 2) (b := 0) (N := 83) 71 rfl rfl rfl (by decide) in_X3 rfl rfl q1203 dX3_instance_49 (fun v21 zv21 => ?_)
      refine g_if_eq 62 dX3_instance_52 (by decide) (fun _ => (inR_z zv21)) (fun _ => ?_) (fun _ => ?_)
      · exact g_pick [2, 3, 4] rfl (hj5 a1 a2 s20 ra1 ra2)
      · refine g_aload_n 2 dX3_instance_55 rfl ?_
        refine g_getZ (ci := 2) (b := 0) (N := 83) 72 rfl rfl rfl (by decide) in_X3 rfl rfl q1204 dX3_instance_56 (fun v22 zv22 => ?_)
        refine g_if_eq 81 dX3_instance_59 (by decide) (fun _ => (inR_z zv22)) (fun _ => ?_) (fun _ => ?_)
        · refine g_aload_n 2 dX3_instance_81 rfl ?_
          refine g_iload_n 1 dX3_instance_82 rfl ?_
          refine g_iload 0 dX3_instance_83 rfl ?_
          refine g_cVV (As := [vI v13, vI v14]) (n := 2) (stk := []) (ci := 2) (b := 0) (N := 83) (hX3_forget v13 v14 s20) (by decide +kernel) rfl rfl (lw_V q1782 q1784 qs159 q168 q1785) (by decide +kernel) rfl (by decide) hRf hRl (fun _ => (avc rv13 (avc rv14 avn))) (Nat.le_of_ble_eq_true rfl) rfl rfl dX3_instance_85 (fun v23 s24 => ?_)
          exact g_vret rfl rfl dX3_instance_88
        · exact g_pick [2, 3, 4] rfl (hj5 a1 a2 s20 ra1 ra2)
end
section
variable {l : Launch} {d : Nat} {call : Nat → List Int → Sg → Option (Int × Sg)}
theorem ctX3_instance (p0 : Program) (e0 : Env) (s0 : State) (m0 : MethodId) (meth0 : Method) (c0 : Code) (G0 : Gm) (hd : 2 ≤ d) (hX3_get : ∀ (a1 a2 : Int) (u : Sg), Ct l d FT clA yX3_get cX3_get 3 (some .int) DX3_get rvI [vR 0, vI a1, vI a2] u (call 7 [a1, a2] u)) (hX3_fitsHere : ∀ (a1 a2 : Int) (u : Sg), Ct l d FT clA yX3_fitsHere cX3_fitsHere 5 (some .boolean) DX3_fitsHere rvI [vR 0, vI a1, vI a2] u (call 87 [a1, a2] u)) (hX3_put : ∀ (a1 a2 a3 : Int) (u : Sg), Ct l d FT clA yX3_put cX3_put 8 (some .int) DX3_put rvI [vR 0, vI a1, vI a2, vI a3] u (call 58 [a1, a2, a3] u)) (hX3_comes : ∀ (a1 : Int) (u : Sg), Ct l d FT clA yX3_comes cX3_comes 2 none DX3_comes rvV [vR 0, vI a1] u (call 106 [a1] u)) (hX3_losing : ∀ (a1 a2 a3 : Int) (u : Sg), Ct l d FT clA yX3_losing cX3_losing 5 none DX3_losing rvV [vR 0, vI a1, vI a2, vI a3] u (call 108 [a1, a2, a3] u)) (hX3_forget : ∀ (a1 a2 : Int) (u : Sg), Ct l d FT clA yX3_forget cX3_forget 3 none DX3_forget rvV [vR 0, vI a1, vI a2] u (call 110 [a1, a2] u)) (a1 a2 : Int) (u : Sg) : Ct l (d + 1) FT clA yX3_instance cX3_instance 5 none DX3_instance rvV [vR 0, vI a1, vI a2] u (bX3_instance call a1 a2 u) :=
  Ct_of (by decide) (Nat.le_of_ble_eq_true rfl) (fun p e R s1 m args below meth c G A ad hA hRf hRl => wX3_instance hd hRf hRl hX3_get hX3_fitsHere hX3_put hX3_comes hX3_losing hX3_forget a1 a2 u (hA _ (List.mem_cons_of_mem _ List.mem_cons_self)) (hA _ (List.mem_cons_of_mem _ (List.mem_cons_of_mem _ List.mem_cons_self)))) p0 e0 s0 m0 meth0 c0 G0
end
/-! RoundCheckModel.losing(III)V -/
abbrev JX3_losing : Jm := (cX3_losing, RX3, 5, none)
def bX3_losing_L69 (call : Nat → List Int → Sg → Option (Int × Sg)) : Nat → Int → Int → Int → Int → Sg → (Sg → Option (Int × Sg)) → Option (Int × Sg)
  | 0, _, _, _, _, _, _ => none
  | n + 1, a1, a2, a3, a4, u, x132 => ld u 3 a1 fun v1 => if a4 < v1 then (cl (call 16 [a1, a4] u) fun v2 s3 => if v2 = 0 then (ar (a4 + 1) fun v4 => bX3_losing_L69 call n a1 a2 a3 v4 s3 x132) else (jn (fun (a1 a2 a3 a4 t1 t2 : Int) (s6 : Sg) => cl (call 108 [t1, t2, a3] s6) fun v7 s8 => ar (a4 + 1) fun v9 => bX3_losing_L69 call n a1 a2 a3 v9 s8 x132) fun j5 => jn (fun (a1 a2 a3 a4 t1 : Int) (s11 : Sg) => j5 a1 a2 a3 a4 t1 a2 s11) fun j10 => cl (call 7 [a1, a4] s3) fun v12 s13 => ld s13 1 a1 fun v14 => if v14 = 17 then (if a4 = 1 then (ar (a2 + 1) fun v15 => j5 a1 a2 a3 a4 v12 v15 s13) else (j10 a1 a2 a3 a4 v12 s13)) else (j10 a1 a2 a3 a4 v12 s13))) else (x132 u)
def bX3_losing (call : Nat → List Int → Sg → Option (Int × Sg)) (a1 a2 a3 : Int) (u : Sg) : Option (Int × Sg) := ld u 5 a1 fun v1 => if v1 ≤ a2 then (some (0, u)) else (ld u 1 a1 fun v2 => if v2 = 1 then (some (0, u)) else (jn (fun (a1 a2 a3 : Int) (s4 : Sg) => bX3_losing_L69 call KF a1 a2 a3 0 s4 (fun s5 => some (0, s5))) fun j3 => ld u 1 a1 fun v6 => cl (call 65 [v6] u) fun v7 s8 => if v7 = 0 then (j3 a1 a2 a3 s8) else (cl (call 109 [a1, a2] s8) fun v9 s10 => if v9 = 0 then (j3 a1 a2 a3 s10) else (un (sI s10 71 1) fun s11 => cl (call 58 [a1, a2, a3] s11) fun v12 s13 => cl (call 66 [v12] s13) fun v14 s15 => if v14 < 0 then (j3 a1 a2 a3 s15) else (un (sI s15 72 1) fun s16 => j3 a1 a2 a3 s16)))))
section
variable {p : Program} {l : Launch} {e : Env} {R : Room} {s : State} {m : MethodId} {args : Array Value} {below : List Frame} {meth : Method} {c : Code} {G : Gm} {A : Nat → Prop} {ad0 : Nat → Nat} {σ0 : Sg} {d : Nat} {call : Nat → List Int → Sg → Option (Int × Sg)}
theorem wX3_losing_L69 (hd : 2 ≤ d) (hRf : d + 1 ≤ R.frames) (hRl : 40 * (d + 1) ≤ R.locals) (hX3_isPart : ∀ (a1 a2 : Int) (u : Sg), Ct l d FT clA yX3_isPart cX3_isPart 4 (some .boolean) DX3_isPart rvI [vR 0, vI a1, vI a2] u (call 16 [a1, a2] u)) (hX3_losing : ∀ (a1 a2 a3 : Int) (u : Sg), Ct l d FT clA yX3_losing cX3_losing 5 none DX3_losing rvV [vR 0, vI a1, vI a2, vI a3] u (call 108 [a1, a2, a3] u)) (hX3_get : ∀ (a1 a2 : Int) (u : Sg), Ct l d FT clA yX3_get cX3_get 3 (some .int) DX3_get rvI [vR 0, vI a1, vI a2] u (call 7 [a1, a2] u)) (hX3_isTerm : ∀ (a1 : Int) (u : Sg), Ct l d FT clA yX3_isTerm cX3_isTerm 1 (some .boolean) DX3_isTerm rvI [vI a1] u (call 65 [a1] u)) (hX3_isOnly : ∀ (a1 a2 : Int) (u : Sg), Ct l d FT clA yX3_isOnly cX3_isOnly 4 (some .boolean) DX3_isOnly rvI [vR 0, vI a1, vI a2] u (call 109 [a1, a2] u)) (hX3_put : ∀ (a1 a2 a3 : Int) (u : Sg), Ct l d FT clA yX3_put cX3_put 8 (some .int) DX3_put rvI [vR 0, vI a1, vI a2, vI a3] u (call 58 [a1, a2, a3] u)) (hX3_indexOf : ∀ (a1 : Int) (u : Sg), Ct l d FT clA yX3_indexOf cX3_indexOf 2 (some .int) DX3_indexOf rvI [vR 0, vI a1] u (call 66 [a1] u)) (x132 : Sg → Option (Int × Sg)) (hx132 : ∀ (u : Sg), WG p l e R s m args below meth c JX3_losing DX3_losing G clA A FT ad0 σ0 rvV (x132 u) u 132 [] []) : ∀ (n : Nat) (a1 a2 a3 a4 : Int) (u : Sg), inR a1 → inR a2 → inR a3 → inR a4 → WG p l e R s m args below meth c JX3_losing DX3_losing G clA A FT ad0 σ0 rvV (bX3_losing_L69 call n a1 a2 a3 a4 u x132) u 69 [(0, vR 0), (1, vI a1), (2, vI a2), (3, vI a3), (4, vI a4)] [] := by
  intro n
  induction n with
  | zero =>
    intro a1 a2 a3 a4 u ra1 ra2 ra3 ra4
    exact g_none
  | succ n ih =>
    intro a1 a2 a3 a4 u ra1 ra2 ra3 ra4
    rw [bX3_losing_L69]
    refine g_iload 4 dX3_losing_69 rfl ?_
    refine g_aload_n 0 dX3_losing_71 rfl ?_
    refine g_get (v := vR 13) (ci := 2) (b := 0) (N := 83) 3 rfl rfl (by decide) in_X3 rfl rfl q1135 dX3_losing_72 ?_
    refine g_iload_n 1 dX3_losing_75 rfl ?_
    refine g_iald (id := 3) 2 rfl rfl dX3_losing_76 (fun v1 rv1 => ?_)
    refine g_icmp_ge 132 dX3_losing_77 (by decide) (fun _ => ra4) (fun _ => rv1) (fun _ => ?_) (fun _ => ?_)
    · refine g_aload_n 0 dX3_losing_80 rfl ?_
      refine g_iload_n 1 dX3_losing_81 rfl ?_
      refine g_iload 4 dX3_losing_82 rfl ?_
      refine g_cVZ (As := [vI a1, vI a4]) (n := 2) (stk := []) (ci := 2) (b := 0) (N := 83) (hX3_isPart a1 a4 u) (by decide +kernel) rfl rfl (lw_V q1403 q1405 qs83 q168 q1406) (by decide +kernel) rfl (by decide) hRf hRl (fun _ => (avc ra1 (avc ra4 avn))) (Nat.le_of_ble_eq_true rfl) rfl rfl dX3_losing_84 (fun v2 s3 zv2 => ?_)
      refine g_if_eq 126 dX3_losing_87 (by decide) (fun _ => (inR_z zv2)) (fun _ => ?_) (fun _ => ?_)
      · refine g_iinc 4 (loc' := fun v4 => [(4, vI v4), (0, vR 0), (1, vI a1), (2, vI a2), (3, vI a3)]) dX3_losing_126 rfl (by decide) (fun _ => rfl) (fun v4 rv4 => ?_)
        refine g_goto 69 dX3_losing_129 (by decide) ?_
        exact g_pick [1, 2, 3, 4, 0] rfl (ih a1 a2 a3 v4 s3 ra1 ra2 ra3 rv4)
      · refine g_jn (fun j5 => ∀ (a1 a2 a3 a4 t1 t2 : Int) (s6 : Sg), inR a1 → inR a2 → inR a3 → inR a4 → inR t1 → inR t2 → WG p l e R s m args below meth c JX3_losing DX3_losing G clA A FT ad0 σ0 rvV (j5 a1 a2 a3 a4 t1 t2 s6) s6 122 [(0, vR 0), (1, vI a1), (2, vI a2), (3, vI a3), (4, vI a4)] [vI t2, vI t1, vR 0]) (fun a1 a2 a3 a4 t1 t2 s6 ra1 ra2 ra3 ra4 rt1 rt2 => ?_) (fun j5 hj5 => ?_)
        · refine g_iload_n 3 dX3_losing_122 rfl ?_
          refine g_cVV (As := [vI t1, vI t2, vI a3]) (n := 3) (stk := []) (ci := 2) (b := 0) (N := 83) (hX3_losing t1 t2 a3 s6) (by decide +kernel) rfl rfl (lw_V q1774 q1776 qs157 q168 q1777) (by decide +kernel) rfl (by decide) hRf hRl (fun _ => (avc rt1 (avc rt2 (avc ra3 avn)))) (Nat.le_of_ble_eq_true rfl) rfl rfl dX3_losing_123 (fun v7 s8 => ?_)
          refine g_iinc 4 (loc' := fun v9 => [(4, vI v9), (0, vR 0), (1, vI a1), (2, vI a2), (3, vI a3)]) dX3_losing_126 rfl (by decide) (fun _ => rfl) (fun v9 rv9 => ?_)
          refine g_goto 69 dX3_losing_129 (by decide) ?_
          exact g_pick [1, 2, 3, 4, 0] rfl (ih a1 a2 a3 v9 s8 ra1 ra2 ra3 rv9)
        · refine g_jn (fun j10 => ∀ (a1 a2 a3 a4 t1 : Int) (s11 : Sg), inR a1 → inR a2 → inR a3 → inR a4 → inR t1 → WG p l e R s m args below meth c JX3_losing DX3_losing G clA A FT ad0 σ0 rvV (j10 a1 a2 a3 a4 t1 s11) s11 121 [(0, vR 0), (1, vI a1), (2, vI a2), (3, vI a3), (4, vI a4)] [vI t1, vR 0]) (fun a1 a2 a3 a4 t1 s11 ra1 ra2 ra3 ra4 rt1 => ?_) (fun j10 hj10 => ?_)
          · refine g_iload_n 2 dX3_losing_121 rfl ?_
            exact g_pick [0, 1, 2, 3, 4] rfl (hj5 a1 a2 a3 a4 t1 a2 s11 ra1 ra2 ra3 ra4 rt1 ra2)
          · refine g_aload_n 0 dX3_losing_90 rfl ?_
            refine g_aload_n 0 dX3_losing_91 rfl ?_
            refine g_iload_n 1 dX3_losing_92 rfl ?_
            refine g_iload 4 dX3_losing_93 rfl ?_
            refine g_cVI (As := [vI a1, vI a4]) (n := 2) (stk := [vR 0]) (ci := 2) (b := 0) (N := 83) (hX3_get a1 a4 s3) (by decide +kernel) rfl rfl (lw_V q1116 q1118 qs76 q168 q1119) (by decide +kernel) rfl (by decide) hRf hRl (fun _ => (avc ra1 (avc ra4 avn))) (Nat.le_of_ble_eq_true rfl) rfl rfl dX3_losing_95 (fun v12 s13 rv12 => ?_)
            refine g_aload_n 0 dX3_losing_98 rfl ?_
            refine g_get (v := vR 11) (ci := 2) (b := 0) (N := 83) 1 rfl rfl (by decide) in_X3 rfl rfl q1133 dX3_losing_99 ?_
            refine g_iload_n 1 dX3_losing_102 rfl ?_
            refine g_iald (id := 1) 0 rfl rfl dX3_losing_103 (fun v14 rv14 => ?_)
            refine g_bipush (by decide +kernel) dX3_losing_104 ?_
            refine g_icmp_ne 121 dX3_losing_106 (by decide) (fun _ => rv14) (fun _ => (by decide : inR (17))) (fun _ => ?_) (fun _ => ?_)
            · refine g_iload 4 dX3_losing_109 rfl ?_
              refine g_iconst dX3_losing_111 ?_
              refine g_icmp_ne 121 dX3_losing_112 (by decide) (fun _ => ra4) (fun _ => (inR_z (Or.inr rfl))) (fun _ => ?_) (fun _ => ?_)
              · refine g_iload_n 2 dX3_losing_115 rfl ?_
                refine g_iconst dX3_losing_116 ?_
                refine g_iadd dX3_losing_117 (fun v15 rv15 => ?_)
                refine g_goto 122 dX3_losing_118 (by decide) ?_
                exact g_pick [0, 1, 2, 3, 4] rfl (hj5 a1 a2 a3 a4 v12 v15 s13 ra1 ra2 ra3 ra4 rv12 rv15)
              · exact g_pick [0, 1, 2, 3, 4] rfl (hj10 a1 a2 a3 a4 v12 s13 ra1 ra2 ra3 ra4 rv12)
            · exact g_pick [0, 1, 2, 3, 4] rfl (hj10 a1 a2 a3 a4 v12 s13 ra1 ra2 ra3 ra4 rv12)
    · exact g_pick [] rfl (hx132 u)
theorem wX3_losing (hd : 2 ≤ d) (hRf : d + 1 ≤ R.frames) (hRl : 40 * (d + 1) ≤ R.locals) (hX3_isPart : ∀ (a1 a2 : Int) (u : Sg), Ct l d FT clA yX3_isPart cX3_isPart 4 (some .boolean) DX3_isPart rvI [vR 0, vI a1, vI a2] u (call 16 [a1, a2] u)) (hX3_losing : ∀ (a1 a2 a3 : Int) (u : Sg), Ct l d FT clA yX3_losing cX3_losing 5 none DX3_losing rvV [vR 0, vI a1, vI a2, vI a3] u (call 108 [a1, a2, a3] u)) (hX3_get : ∀ (a1 a2 : Int) (u : Sg), Ct l d FT clA yX3_get cX3_get 3 (some .int) DX3_get rvI [vR 0, vI a1, vI a2] u (call 7 [a1, a2] u)) (hX3_isTerm : ∀ (a1 : Int) (u : Sg), Ct l d FT clA yX3_isTerm cX3_isTerm 1 (some .boolean) DX3_isTerm rvI [vI a1] u (call 65 [a1] u)) (hX3_isOnly : ∀ (a1 a2 : Int) (u : Sg), Ct l d FT clA yX3_isOnly cX3_isOnly 4 (some .boolean) DX3_isOnly rvI [vR 0, vI a1, vI a2] u (call 109 [a1, a2] u)) (hX3_put : ∀ (a1 a2 a3 : Int) (u : Sg), Ct l d FT clA yX3_put cX3_put 8 (some .int) DX3_put rvI [vR 0, vI a1, vI a2, vI a3] u (call 58 [a1, a2, a3] u)) (hX3_indexOf : ∀ (a1 : Int) (u : Sg), Ct l d FT clA yX3_indexOf cX3_indexOf 2 (some .int) DX3_indexOf rvI [vR 0, vI a1] u (call 66 [a1] u)) (a1 a2 a3 : Int) (u : Sg) (ra1 : inR a1) (ra2 : inR a2) (ra3 : inR a3) : WG p l e R s m args below meth c JX3_losing DX3_losing G clA A FT ad0 σ0 rvV (bX3_losing call a1 a2 a3 u) u 0 [(0, vR 0), (1, vI a1), (2, vI a2), (3, vI a3)] [] := by
  unfold bX3_losing
  refine g_aload_n 0 dX3_losing_0 rfl ?_
  refine g_get (v := vR 15) (ci := 2) (b := 0) (N := 83) 5 rfl rfl (by decide) in_X3 rfl rfl q1137 dX3_losing_1 ?_
  refine g_iload_n 1 dX3_losing_4 rfl ?_
  refine g_iald (id := 5) 4 rfl rfl dX3_losing_5 (fun v1 rv1 => ?_)
  refine g_iload_n 2 dX3_losing_6 rfl ?_
  refine g_icmp_le 20 dX3_losing_7 (by decide) (fun _ => rv1) (fun _ => ra2) (fun _ => ?_) (fun _ => ?_)
  · exact g_vret rfl rfl dX3_losing_20
  · refine g_aload_n 0 dX3_losing_10 rfl ?_
    refine g_get (v := vR 11) (ci := 2) (b := 0) (N := 83) 1 rfl rfl (by decide) in_X3 rfl rfl q1133 dX3_losing_11 ?_
    refine g_iload_n 1 dX3_losing_14 rfl ?_
    refine g_iald (id := 1) 0 rfl rfl dX3_losing_15 (fun v2 rv2 => ?_)
    refine g_iconst dX3_losing_16 ?_
    refine g_icmp_ne 21 dX3_losing_17 (by decide) (fun _ => rv2) (fun _ => (inR_z (Or.inr rfl))) (fun _ => ?_) (fun _ => ?_)
    · exact g_vret rfl rfl dX3_losing_20
    · refine g_jn (fun j3 => ∀ (a1 a2 a3 : Int) (s4 : Sg), inR a1 → inR a2 → inR a3 → WG p l e R s m args below meth c JX3_losing DX3_losing G clA A FT ad0 σ0 rvV (j3 a1 a2 a3 s4) s4 66 [(0, vR 0), (1, vI a1), (2, vI a2), (3, vI a3)] []) (fun a1 a2 a3 s4 ra1 ra2 ra3 => ?_) (fun j3 hj3 => ?_)
      · refine g_iconst dX3_losing_66 ?_
        refine g_istore (loc' := [(4, vI 0), (0, vR 0), (1, vI a1), (2, vI a2), (3, vI a3)]) dX3_losing_67 (by decide) rfl ?_
        refine g_pick [1, 2, 3, 4, 0] rfl (wX3_losing_L69 hd hRf hRl hX3_isPart hX3_losing hX3_get hX3_isTerm hX3_isOnly hX3_put hX3_indexOf _ (fun s5 => ?_) KF a1 a2 a3 0 s4 ra1 ra2 ra3 (inR_z (Or.inl rfl)))
        · exact g_vret rfl rfl dX3_losing_132
      · refine g_aload_n 0 dX3_losing_21 rfl ?_
        refine g_get (v := vR 11) (ci := 2) (b := 0) (N := 83) 1 rfl rfl (by decide) in_X3 rfl rfl q1133 dX3_losing_22 ?_
        refine g_iload_n 1 dX3_losing_25 rfl ?_
        refine g_iald (id := 1) 0 rfl rfl dX3_losing_26 (fun v6 rv6 => ?_)
        refine g_cSZ (As := [vI v6]) (n := 1) (stk := []) (hX3_isTerm v6 u) (by decide +kernel) (lw_S q1603 q1604 q168 q1605) (by decide +kernel) rfl (by decide) hRf hRl (fun _ => (avc rv6 avn)) (Nat.le_of_ble_eq_true rfl) rfl rfl dX3_losing_27 (fun v7 s8 zv7 => ?_)
        refine g_if_eq 66 dX3_losing_30 (by decide) (fun _ => (inR_z zv7)) (fun _ => ?_) (fun _ => ?_)
        · exact g_pick [0, 1, 2, 3] rfl (hj3 a1 a2 a3 s8 ra1 ra2 ra3)
        · refine g_aload_n 0 dX3_losing_33 rfl ?_
          refine g_iload_n 1 dX3_losing_34 rfl ?_
          refine g_iload_n 2 dX3_losing_35 rfl ?_
          refine g_cVZ (As := [vI a1, vI a2]) (n := 2) (stk := []) (ci := 2) (b := 0) (N := 83) (hX3_isOnly a1 a2 s8) (by decide +kernel) rfl rfl (lw_V q1778 q1780 qs158 q168 q1781) (by decide +kernel) rfl (by decide) hRf hRl (fun _ => (avc ra1 (avc ra2 avn))) (Nat.le_of_ble_eq_true rfl) rfl rfl dX3_losing_36 (fun v9 s10 zv9 => ?_)
          refine g_if_eq 66 dX3_losing_39 (by decide) (fun _ => (inR_z zv9)) (fun _ => ?_) (fun _ => ?_)
          · exact g_pick [0, 1, 2, 3] rfl (hj3 a1 a2 a3 s10 ra1 ra2 ra3)
          · refine g_aload_n 0 dX3_losing_42 rfl ?_
            refine g_iconst dX3_losing_43 ?_
            refine g_sZU (ci := 2) (b := 0) (N := 83) FT_ok 71 rfl rfl rfl (by decide) in_X3 tyX3 tyX3_ok nmX3 rfl rfl rfl rfl (by decide +kernel) (Or.inr rfl) q1203 dX3_losing_44 (fun s11 => ?_)
            refine g_aload_n 0 dX3_losing_47 rfl ?_
            refine g_aload_n 0 dX3_losing_48 rfl ?_
            refine g_iload_n 1 dX3_losing_49 rfl ?_
            refine g_iload_n 2 dX3_losing_50 rfl ?_
            refine g_iload_n 3 dX3_losing_51 rfl ?_
            refine g_cVI (As := [vI a1, vI a2, vI a3]) (n := 3) (stk := [vR 0]) (ci := 2) (b := 0) (N := 83) (hX3_put a1 a2 a3 s11) (by decide +kernel) rfl rfl (lw_V q1573 q1575 qs108 q168 q1576) (by decide +kernel) rfl (by decide) hRf hRl (fun _ => (avc ra1 (avc ra2 (avc ra3 avn)))) (Nat.le_of_ble_eq_true rfl) rfl rfl dX3_losing_52 (fun v12 s13 rv12 => ?_)
            refine g_cVI (As := [vI v12]) (n := 1) (stk := []) (ci := 2) (b := 0) (N := 83) (hX3_indexOf v12 s13) (by decide +kernel) rfl rfl (lw_V q1606 q1608 qs115 q168 q1609) (by decide +kernel) rfl (by decide) hRf hRl (fun _ => (avc rv12 avn)) (Nat.le_of_ble_eq_true rfl) rfl rfl dX3_losing_55 (fun v14 s15 rv14 => ?_)
            refine g_if_lt 66 dX3_losing_58 (by decide) (fun _ => rv14) (fun _ => ?_) (fun _ => ?_)
            · exact g_pick [0, 1, 2, 3] rfl (hj3 a1 a2 a3 s15 ra1 ra2 ra3)
            · refine g_aload_n 0 dX3_losing_61 rfl ?_
              refine g_iconst dX3_losing_62 ?_
              refine g_sZU (ci := 2) (b := 0) (N := 83) FT_ok 72 rfl rfl rfl (by decide) in_X3 tyX3 tyX3_ok nmX3 rfl rfl rfl rfl (by decide +kernel) (Or.inr rfl) q1204 dX3_losing_63 (fun s16 => ?_)
              exact g_pick [0, 1, 2, 3] rfl (hj3 a1 a2 a3 s16 ra1 ra2 ra3)
end
section
variable {l : Launch} {d : Nat} {call : Nat → List Int → Sg → Option (Int × Sg)}
theorem ctX3_losing (p0 : Program) (e0 : Env) (s0 : State) (m0 : MethodId) (meth0 : Method) (c0 : Code) (G0 : Gm) (hd : 2 ≤ d) (hX3_isPart : ∀ (a1 a2 : Int) (u : Sg), Ct l d FT clA yX3_isPart cX3_isPart 4 (some .boolean) DX3_isPart rvI [vR 0, vI a1, vI a2] u (call 16 [a1, a2] u)) (hX3_losing : ∀ (a1 a2 a3 : Int) (u : Sg), Ct l d FT clA yX3_losing cX3_losing 5 none DX3_losing rvV [vR 0, vI a1, vI a2, vI a3] u (call 108 [a1, a2, a3] u)) (hX3_get : ∀ (a1 a2 : Int) (u : Sg), Ct l d FT clA yX3_get cX3_get 3 (some .int) DX3_get rvI [vR 0, vI a1, vI a2] u (call 7 [a1, a2] u)) (hX3_isTerm : ∀ (a1 : Int) (u : Sg), Ct l d FT clA yX3_isTerm cX3_isTerm 1 (some .boolean) DX3_isTerm rvI [vI a1] u (call 65 [a1] u)) (hX3_isOnly : ∀ (a1 a2 : Int) (u : Sg), Ct l d FT clA yX3_isOnly cX3_isOnly 4 (some .boolean) DX3_isOnly rvI [vR 0, vI a1, vI a2] u (call 109 [a1, a2] u)) (hX3_put : ∀ (a1 a2 a3 : Int) (u : Sg), Ct l d FT clA yX3_put cX3_put 8 (some .int) DX3_put rvI [vR 0, vI a1, vI a2, vI a3] u (call 58 [a1, a2, a3] u)) (hX3_indexOf : ∀ (a1 : Int) (u : Sg), Ct l d FT clA yX3_indexOf cX3_indexOf 2 (some .int) DX3_indexOf rvI [vR 0, vI a1] u (call 66 [a1] u)) (a1 a2 a3 : Int) (u : Sg) : Ct l (d + 1) FT clA yX3_losing cX3_losing 5 none DX3_losing rvV [vR 0, vI a1, vI a2, vI a3] u (bX3_losing call a1 a2 a3 u) :=
  Ct_of (by decide) (Nat.le_of_ble_eq_true rfl) (fun p e R s1 m args below meth c G A ad hA hRf hRl => wX3_losing hd hRf hRl hX3_isPart hX3_losing hX3_get hX3_isTerm hX3_isOnly hX3_put hX3_indexOf a1 a2 a3 u (hA _ (List.mem_cons_of_mem _ List.mem_cons_self)) (hA _ (List.mem_cons_of_mem _ (List.mem_cons_of_mem _ List.mem_cons_self))) (hA _ (List.mem_cons_of_mem _ (List.mem_cons_of_mem _ (List.mem_cons_of_mem _ List.mem_cons_self))))) p0 e0 s0 m0 meth0 c0 G0
end
/-! RoundCheckModel.isOnly(II)Z -/
abbrev JX3_isOnly : Jm := (cX3_isOnly, RX3, 4, (some .boolean))
def bX3_isOnly_L28 (call : Nat → List Int → Sg → Option (Int × Sg)) : Nat → Int → Int → Int → Sg → (Sg → Option (Int × Sg)) → (Sg → Option (Int × Sg)) → Option (Int × Sg)
  | 0, _, _, _, _, _, _ => none
  | n + 1, a1, a2, a3, u, x69, x61 => ld u 3 a1 fun v1 => if a3 < v1 then (cl (call 16 [a1, a3] u) fun v2 s3 => if v2 = 0 then (ar (a3 + 1) fun v4 => bX3_isOnly_L28 call n a1 a2 v4 s3 x69 x61) else (cl (call 7 [a1, a3] s3) fun v5 s6 => cl (call 109 [v5, a2] s6) fun v7 s8 => if v7 = 0 then (x61 s8) else (ar (a3 + 1) fun v9 => bX3_isOnly_L28 call n a1 a2 v9 s8 x69 x61))) else (x69 u)
def bX3_isOnly (call : Nat → List Int → Sg → Option (Int × Sg)) (a1 a2 : Int) (u : Sg) : Option (Int × Sg) := ld u 1 a1 fun v1 => if v1 = 1 then (cl (call 7 [a1, 0] u) fun v2 s3 => if v2 = a2 then (some (1, s3)) else (some (0, s3))) else (bX3_isOnly_L28 call KF a1 a2 0 u (fun s4 => some (1, s4)) (fun s5 => some (0, s5)))
section
variable {p : Program} {l : Launch} {e : Env} {R : Room} {s : State} {m : MethodId} {args : Array Value} {below : List Frame} {meth : Method} {c : Code} {G : Gm} {A : Nat → Prop} {ad0 : Nat → Nat} {σ0 : Sg} {d : Nat} {call : Nat → List Int → Sg → Option (Int × Sg)}
theorem wX3_isOnly_L28 (hd : 2 ≤ d) (hRf : d + 1 ≤ R.frames) (hRl : 40 * (d + 1) ≤ R.locals) (hX3_get : ∀ (a1 a2 : Int) (u : Sg), Ct l d FT clA yX3_get cX3_get 3 (some .int) DX3_get rvI [vR 0, vI a1, vI a2] u (call 7 [a1, a2] u)) (hX3_isPart : ∀ (a1 a2 : Int) (u : Sg), Ct l d FT clA yX3_isPart cX3_isPart 4 (some .boolean) DX3_isPart rvI [vR 0, vI a1, vI a2] u (call 16 [a1, a2] u)) (hX3_isOnly : ∀ (a1 a2 : Int) (u : Sg), Ct l d FT clA yX3_isOnly cX3_isOnly 4 (some .boolean) DX3_isOnly rvI [vR 0, vI a1, vI a2] u (call 109 [a1, a2] u)) (x69 : Sg → Option (Int × Sg)) (x61 : Sg → Option (Int × Sg)) (hx69 : ∀ (u : Sg), WG p l e R s m args below meth c JX3_isOnly DX3_isOnly G clA A FT ad0 σ0 rvI (x69 u) u 69 [] []) (hx61 : ∀ (u : Sg), WG p l e R s m args below meth c JX3_isOnly DX3_isOnly G clA A FT ad0 σ0 rvI (x61 u) u 61 [] []) : ∀ (n : Nat) (a1 a2 a3 : Int) (u : Sg), inR a1 → inR a2 → inR a3 → WG p l e R s m args below meth c JX3_isOnly DX3_isOnly G clA A FT ad0 σ0 rvI (bX3_isOnly_L28 call n a1 a2 a3 u x69 x61) u 28 [(0, vR 0), (1, vI a1), (2, vI a2), (3, vI a3)] [] := by
  intro n
  induction n with
  | zero =>
    intro a1 a2 a3 u ra1 ra2 ra3
    exact g_none
  | succ n ih =>
    intro a1 a2 a3 u ra1 ra2 ra3
    rw [bX3_isOnly_L28]
    refine g_iload_n 3 dX3_isOnly_28 rfl ?_
    refine g_aload_n 0 dX3_isOnly_29 rfl ?_
    refine g_get (v := vR 13) (ci := 2) (b := 0) (N := 83) 3 rfl rfl (by decide) in_X3 rfl rfl q1135 dX3_isOnly_30 ?_
    refine g_iload_n 1 dX3_isOnly_33 rfl ?_
    refine g_iald (id := 3) 2 rfl rfl dX3_isOnly_34 (fun v1 rv1 => ?_)
    refine g_icmp_ge 69 dX3_isOnly_35 (by decide) (fun _ => ra3) (fun _ => rv1) (fun _ => ?_) (fun _ => ?_)
    · refine g_aload_n 0 dX3_isOnly_38 rfl ?_
      refine g_iload_n 1 dX3_isOnly_39 rfl ?_
      refine g_iload_n 3 dX3_isOnly_40 rfl ?_
      refine g_cVZ (As := [vI a1, vI a3]) (n := 2) (stk := []) (ci := 2) (b := 0) (N := 83) (hX3_isPart a1 a3 u) (by decide +kernel) rfl rfl (lw_V q1403 q1405 qs83 q168 q1406) (by decide +kernel) rfl (by decide) hRf hRl (fun _ => (avc ra1 (avc ra3 avn))) (Nat.le_of_ble_eq_true rfl) rfl rfl dX3_isOnly_41 (fun v2 s3 zv2 => ?_)
      refine g_if_eq 63 dX3_isOnly_44 (by decide) (fun _ => (inR_z zv2)) (fun _ => ?_) (fun _ => ?_)
      · refine g_iinc 3 (loc' := fun v4 => [(3, vI v4), (0, vR 0), (1, vI a1), (2, vI a2)]) dX3_isOnly_63 rfl (by decide) (fun _ => rfl) (fun v4 rv4 => ?_)
        refine g_goto 28 dX3_isOnly_66 (by decide) ?_
        exact g_pick [1, 2, 3, 0] rfl (ih a1 a2 v4 s3 ra1 ra2 rv4)
      · refine g_aload_n 0 dX3_isOnly_47 rfl ?_
        refine g_aload_n 0 dX3_isOnly_48 rfl ?_
        refine g_iload_n 1 dX3_isOnly_49 rfl ?_
        refine g_iload_n 3 dX3_isOnly_50 rfl ?_
        refine g_cVI (As := [vI a1, vI a3]) (n := 2) (stk := [vR 0]) (ci := 2) (b := 0) (N := 83) (hX3_get a1 a3 s3) (by decide +kernel) rfl rfl (lw_V q1116 q1118 qs76 q168 q1119) (by decide +kernel) rfl (by decide) hRf hRl (fun _ => (avc ra1 (avc ra3 avn))) (Nat.le_of_ble_eq_true rfl) rfl rfl dX3_isOnly_51 (fun v5 s6 rv5 => ?_)
        refine g_iload_n 2 dX3_isOnly_54 rfl ?_
        refine g_cVZ (As := [vI v5, vI a2]) (n := 2) (stk := []) (ci := 2) (b := 0) (N := 83) (hX3_isOnly v5 a2 s6) (by decide +kernel) rfl rfl (lw_V q1778 q1780 qs158 q168 q1781) (by decide +kernel) rfl (by decide) hRf hRl (fun _ => (avc rv5 (avc ra2 avn))) (Nat.le_of_ble_eq_true rfl) rfl rfl dX3_isOnly_55 (fun v7 s8 zv7 => ?_)
        refine g_if_ne 63 dX3_isOnly_58 (by decide) (fun _ => (inR_z zv7)) (fun _ => ?_) (fun _ => ?_)
        · exact g_pick [] rfl (hx61 s8)
        · refine g_iinc 3 (loc' := fun v9 => [(3, vI v9), (0, vR 0), (1, vI a1), (2, vI a2)]) dX3_isOnly_63 rfl (by decide) (fun _ => rfl) (fun v9 rv9 => ?_)
          refine g_goto 28 dX3_isOnly_66 (by decide) ?_
          exact g_pick [1, 2, 3, 0] rfl (ih a1 a2 v9 s8 ra1 ra2 rv9)
    · exact g_pick [] rfl (hx69 u)
theorem wX3_isOnly (hd : 2 ≤ d) (hRf : d + 1 ≤ R.frames) (hRl : 40 * (d + 1) ≤ R.locals) (hX3_get : ∀ (a1 a2 : Int) (u : Sg), Ct l d FT clA yX3_get cX3_get 3 (some .int) DX3_get rvI [vR 0, vI a1, vI a2] u (call 7 [a1, a2] u)) (hX3_isPart : ∀ (a1 a2 : Int) (u : Sg), Ct l d FT clA yX3_isPart cX3_isPart 4 (some .boolean) DX3_isPart rvI [vR 0, vI a1, vI a2] u (call 16 [a1, a2] u)) (hX3_isOnly : ∀ (a1 a2 : Int) (u : Sg), Ct l d FT clA yX3_isOnly cX3_isOnly 4 (some .boolean) DX3_isOnly rvI [vR 0, vI a1, vI a2] u (call 109 [a1, a2] u)) (a1 a2 : Int) (u : Sg) (ra1 : inR a1) (ra2 : inR a2) : WG p l e R s m args below meth c JX3_isOnly DX3_isOnly G clA A FT ad0 σ0 rvI (bX3_isOnly call a1 a2 u) u 0 [(0, vR 0), (1, vI a1), (2, vI a2)] [] := by
  unfold bX3_isOnly
  refine g_aload_n 0 dX3_isOnly_0 rfl ?_
  refine g_get (v := vR 11) (ci := 2) (b := 0) (N := 83) 1 rfl rfl (by decide) in_X3 rfl rfl q1133 dX3_isOnly_1 ?_
  refine g_iload_n 1 dX3_isOnly_4 rfl ?_
  refine g_iald (id := 1) 0 rfl rfl dX3_isOnly_5 (fun v1 rv1 => ?_)
  refine g_iconst dX3_isOnly_6 ?_
  refine g_icmp_ne 26 dX3_isOnly_7 (by decide) (fun _ => rv1) (fun _ => (inR_z (Or.inr rfl))) (fun _ => ?_) (fun _ => ?_)
  · refine g_aload_n 0 dX3_isOnly_10 rfl ?_
    refine g_iload_n 1 dX3_isOnly_11 rfl ?_
    refine g_iconst dX3_isOnly_12 ?_
    refine g_cVI (As := [vI a1, vI 0]) (n := 2) (stk := []) (ci := 2) (b := 0) (N := 83) (hX3_get a1 0 u) (by decide +kernel) rfl rfl (lw_V q1116 q1118 qs76 q168 q1119) (by decide +kernel) rfl (by decide) hRf hRl (fun _ => (avc ra1 (avc (inR_z (Or.inl rfl)) avn))) (Nat.le_of_ble_eq_true rfl) rfl rfl dX3_isOnly_13 (fun v2 s3 rv2 => ?_)
    refine g_iload_n 2 dX3_isOnly_16 rfl ?_
    refine g_icmp_ne 24 dX3_isOnly_17 (by decide) (fun _ => rv2) (fun _ => ra2) (fun _ => ?_) (fun _ => ?_)
    · refine g_iconst dX3_isOnly_20 ?_
      refine g_goto 25 dX3_isOnly_21 (by decide) ?_
      exact g_zret rfl rfl (fun _ => (Or.inr rfl)) dX3_isOnly_25
    · refine g_iconst dX3_isOnly_24 ?_
      exact g_zret rfl rfl (fun _ => (Or.inl rfl)) dX3_isOnly_25
  · refine g_iconst dX3_isOnly_26 ?_
    refine g_istore_n (loc' := [(3, vI 0), (0, vR 0), (1, vI a1), (2, vI a2)]) dX3_isOnly_27 (by decide) rfl ?_
    refine g_pick [1, 2, 3, 0] rfl (wX3_isOnly_L28 hd hRf hRl hX3_get hX3_isPart hX3_isOnly _ _ (fun s4 => ?_) (fun s5 => ?_) KF a1 a2 0 u ra1 ra2 (inR_z (Or.inl rfl)))
    · refine g_iconst dX3_isOnly_69 ?_
      exact g_zret rfl rfl (fun _ => (Or.inr rfl)) dX3_isOnly_70
    · refine g_iconst dX3_isOnly_61 ?_
      exact g_zret rfl rfl (fun _ => (Or.inl rfl)) dX3_isOnly_62
end
section
variable {l : Launch} {d : Nat} {call : Nat → List Int → Sg → Option (Int × Sg)}
theorem ctX3_isOnly (p0 : Program) (e0 : Env) (s0 : State) (m0 : MethodId) (meth0 : Method) (c0 : Code) (G0 : Gm) (hd : 2 ≤ d) (hX3_get : ∀ (a1 a2 : Int) (u : Sg), Ct l d FT clA yX3_get cX3_get 3 (some .int) DX3_get rvI [vR 0, vI a1, vI a2] u (call 7 [a1, a2] u)) (hX3_isPart : ∀ (a1 a2 : Int) (u : Sg), Ct l d FT clA yX3_isPart cX3_isPart 4 (some .boolean) DX3_isPart rvI [vR 0, vI a1, vI a2] u (call 16 [a1, a2] u)) (hX3_isOnly : ∀ (a1 a2 : Int) (u : Sg), Ct l d FT clA yX3_isOnly cX3_isOnly 4 (some .boolean) DX3_isOnly rvI [vR 0, vI a1, vI a2] u (call 109 [a1, a2] u)) (a1 a2 : Int) (u : Sg) : Ct l (d + 1) FT clA yX3_isOnly cX3_isOnly 4 (some .boolean) DX3_isOnly rvI [vR 0, vI a1, vI a2] u (bX3_isOnly call a1 a2 u) :=
  Ct_of (by decide) (Nat.le_of_ble_eq_true rfl) (fun p e R s1 m args below meth c G A ad hA hRf hRl => wX3_isOnly hd hRf hRl hX3_get hX3_isPart hX3_isOnly a1 a2 u (hA _ (List.mem_cons_of_mem _ List.mem_cons_self)) (hA _ (List.mem_cons_of_mem _ (List.mem_cons_of_mem _ List.mem_cons_self)))) p0 e0 s0 m0 meth0 c0 G0
end
/-! RoundCheckModel.forget(II)V -/
abbrev JX3_forget : Jm := (cX3_forget, RX3, 3, none)
def bX3_forget_L12 (call : Nat → List Int → Sg → Option (Int × Sg)) : Nat → Int → Int → Sg → (Int → Sg → Option (Int × Sg)) → Option (Int × Sg)
  | 0, _, _, _, _ => none
  | n + 1, a1, a2, u, x56 => un (gI u 8) fun v1 => if v1 ≤ a1 then (x56 a2 u) else (un (gI u 8) fun v2 => ld u 7 v2 fun v3 => un (gI u 8) fun v4 => ld u 6 v4 fun v5 => stA u 11 v3 v5 fun s6 => un (gI s6 8) fun v7 => ar (v7 - 1) fun v8 => un (sI s6 8 v8) fun s9 => bX3_forget_L12 call n a1 a2 s9 x56)
def bX3_forget (call : Nat → List Int → Sg → Option (Int × Sg)) (a1 a2 : Int) (u : Sg) : Option (Int × Sg) := jn (fun (a1 a2 : Int) (s2 : Sg) => bX3_forget_L12 call KF a1 a2 s2 (fun v4 s3 => un (sI s3 10 v4) fun s5 => some (0, s5))) fun j1 => un (gI u 8) fun v6 => if v6 ≤ a1 then (j1 a1 a2 u) else (cl (call 10 [] u) fun v7 s8 => j1 a1 a2 s8)
section
variable {p : Program} {l : Launch} {e : Env} {R : Room} {s : State} {m : MethodId} {args : Array Value} {below : List Frame} {meth : Method} {c : Code} {G : Gm} {A : Nat → Prop} {ad0 : Nat → Nat} {σ0 : Sg} {d : Nat} {call : Nat → List Int → Sg → Option (Int × Sg)}
theorem wX3_forget_L12 (hd : 2 ≤ d) (hRf : d + 1 ≤ R.frames) (hRl : 40 * (d + 1) ≤ R.locals) (hX3_anew : ∀ (u : Sg), Ct l d FT clA yX3_anew cX3_anew 2 none DX3_anew rvV [vR 0] u (call 10 [] u)) (x56 : Int → Sg → Option (Int × Sg)) (hx56 : ∀ (a2 : Int) (u : Sg), inR a2 → WG p l e R s m args below meth c JX3_forget DX3_forget G clA A FT ad0 σ0 rvV (x56 a2 u) u 56 [(0, vR 0), (2, vI a2)] []) : ∀ (n : Nat) (a1 a2 : Int) (u : Sg), inR a1 → inR a2 → WG p l e R s m args below meth c JX3_forget DX3_forget G clA A FT ad0 σ0 rvV (bX3_forget_L12 call n a1 a2 u x56) u 12 [(0, vR 0), (1, vI a1), (2, vI a2)] [] := by
  intro n
  induction n with
  | zero =>
    intro a1 a2 u ra1 ra2
    exact g_none
  | succ n ih =>
    intro a1 a2 u ra1 ra2
    rw [bX3_forget_L12]
    refine g_aload_n 0 dX3_forget_12 rfl ?_
    refine g_getI (ci := 2) (b := 0) (N := 83) 8 rfl rfl rfl (by decide) in_X3 rfl rfl q1140 dX3_forget_13 (fun v1 rv1 => ?_)
    refine g_iload_n 1 dX3_forget_16 rfl ?_
    refine g_icmp_le 56 dX3_forget_17 (by decide) (fun _ => rv1) (fun _ => ra1) (fun _ => ?_) (fun _ => ?_)
    · exact g_pick [0, 2] rfl (hx56 a2 u ra2)
    · refine g_aload_n 0 dX3_forget_20 rfl ?_
      refine g_get (v := vR 21) (ci := 2) (b := 0) (N := 83) 11 rfl rfl (by decide) in_X3 rfl rfl q1143 dX3_forget_21 ?_
      refine g_aload_n 0 dX3_forget_24 rfl ?_
      refine g_get (v := vR 17) (ci := 2) (b := 0) (N := 83) 7 rfl rfl (by decide) in_X3 rfl rfl q1139 dX3_forget_25 ?_
      refine g_aload_n 0 dX3_forget_28 rfl ?_
      refine g_getI (ci := 2) (b := 0) (N := 83) 8 rfl rfl rfl (by decide) in_X3 rfl rfl q1140 dX3_forget_29 (fun v2 rv2 => ?_)
      refine g_iald (id := 7) 6 rfl rfl dX3_forget_32 (fun v3 rv3 => ?_)
      refine g_aload_n 0 dX3_forget_33 rfl ?_
      refine g_get (v := vR 16) (ci := 2) (b := 0) (N := 83) 6 rfl rfl (by decide) in_X3 rfl rfl q1138 dX3_forget_34 ?_
      refine g_aload_n 0 dX3_forget_37 rfl ?_
      refine g_getI (ci := 2) (b := 0) (N := 83) 8 rfl rfl rfl (by decide) in_X3 rfl rfl q1140 dX3_forget_38 (fun v4 rv4 => ?_)
      refine g_iald (id := 6) 5 rfl rfl dX3_forget_41 (fun v5 rv5 => ?_)
      refine g_iastU (id := 11) FT_ok 8 rfl rfl (by decide +kernel) rv5 dX3_forget_42 (fun s6 => ?_)
      refine g_aload_n 0 dX3_forget_43 rfl ?_
      refine g_dup rfl dX3_forget_44 ?_
      refine g_getI (ci := 2) (b := 0) (N := 83) 8 rfl rfl rfl (by decide) in_X3 rfl rfl q1140 dX3_forget_45 (fun v7 rv7 => ?_)
      refine g_iconst dX3_forget_48 ?_
      refine g_isub dX3_forget_49 (fun v8 rv8 => ?_)
      refine g_sIU (ci := 2) (b := 0) (N := 83) FT_ok 8 rfl rfl rfl (by decide) in_X3 tyX3 tyX3_ok nmX3 rfl rfl rfl rfl (by decide +kernel) rv8 q1140 dX3_forget_50 (fun s9 => ?_)
      refine g_goto 12 dX3_forget_53 (by decide) ?_
      exact g_pick [0, 1, 2] rfl (ih a1 a2 s9 ra1 ra2)
theorem wX3_forget (hd : 2 ≤ d) (hRf : d + 1 ≤ R.frames) (hRl : 40 * (d + 1) ≤ R.locals) (hX3_anew : ∀ (u : Sg), Ct l d FT clA yX3_anew cX3_anew 2 none DX3_anew rvV [vR 0] u (call 10 [] u)) (a1 a2 : Int) (u : Sg) (ra1 : inR a1) (ra2 : inR a2) : WG p l e R s m args below meth c JX3_forget DX3_forget G clA A FT ad0 σ0 rvV (bX3_forget call a1 a2 u) u 0 [(0, vR 0), (1, vI a1), (2, vI a2)] [] := by
  unfold bX3_forget
  refine g_jn (fun j1 => ∀ (a1 a2 : Int) (s2 : Sg), inR a1 → inR a2 → WG p l e R s m args below meth c JX3_forget DX3_forget G clA A FT ad0 σ0 rvV (j1 a1 a2 s2) s2 12 [(0, vR 0), (1, vI a1), (2, vI a2)] []) (fun a1 a2 s2 ra1 ra2 => ?_) (fun j1 hj1 => ?_)
  · refine g_pick [0, 1, 2] rfl (wX3_forget_L12 hd hRf hRl hX3_anew _ (fun v4 s3 rv4 => ?_) KF a1 a2 s2 ra1 ra2)
    · refine g_aload_n 0 dX3_forget_56 rfl ?_
      refine g_iload_n 1 dX3_forget_57 rfl ?_
      refine g_sIU (ci := 2) (b := 0) (N := 83) FT_ok 10 rfl rfl rfl (by decide) in_X3 tyX3 tyX3_ok nmX3 rfl rfl rfl rfl (by decide +kernel) rv4 q1142 dX3_forget_58 (fun s5 => ?_)
      exact g_vret rfl rfl dX3_forget_61
  · refine g_aload_n 0 dX3_forget_0 rfl ?_
    refine g_getI (ci := 2) (b := 0) (N := 83) 8 rfl rfl rfl (by decide) in_X3 rfl rfl q1140 dX3_forget_1 (fun v6 rv6 => ?_)
    refine g_iload_n 1 dX3_forget_4 rfl ?_
    refine g_icmp_le 12 dX3_forget_5 (by decide) (fun _ => rv6) (fun _ => ra1) (fun _ => ?_) (fun _ => ?_)
    · exact g_pick [0, 1, 2] rfl (hj1 a1 a2 u ra1 ra2)
    · refine g_aload_n 0 dX3_forget_8 rfl ?_
      refine g_cVV (As := []) (n := 0) (stk := []) (ci := 2) (b := 0) (N := 83) (hX3_anew  u) (by decide +kernel) rfl rfl (lw_V q1127 q1129 qs78 q168 q1130) (by decide +kernel) rfl (by decide) hRf hRl (fun _ => avn) (Nat.le_of_ble_eq_true rfl) rfl rfl dX3_forget_9 (fun v7 s8 => ?_)
      exact g_pick [0, 1, 2] rfl (hj1 a1 a2 s8 ra1 ra2)
end
section
variable {l : Launch} {d : Nat} {call : Nat → List Int → Sg → Option (Int × Sg)}
theorem ctX3_forget (p0 : Program) (e0 : Env) (s0 : State) (m0 : MethodId) (meth0 : Method) (c0 : Code) (G0 : Gm) (hd : 2 ≤ d) (hX3_anew : ∀ (u : Sg), Ct l d FT clA yX3_anew cX3_anew 2 none DX3_anew rvV [vR 0] u (call 10 [] u)) (a1 a2 : Int) (u : Sg) : Ct l (d + 1) FT clA yX3_forget cX3_forget 3 none DX3_forget rvV [vR 0, vI a1, vI a2] u (bX3_forget call a1 a2 u) :=
  Ct_of (by decide) (Nat.le_of_ble_eq_true rfl) (fun p e R s1 m args below meth c G A ad hA hRf hRl => wX3_forget hd hRf hRl hX3_anew a1 a2 u (hA _ (List.mem_cons_of_mem _ List.mem_cons_self)) (hA _ (List.mem_cons_of_mem _ (List.mem_cons_of_mem _ List.mem_cons_self)))) p0 e0 s0 m0 meth0 c0 G0
end
/-! RoundCheckModel.isDone(I)Z -/
abbrev JX3_isDone : Jm := (cX3_isDone, RX3, 2, (some .boolean))
def bX3_isDone (call : Nat → List Int → Sg → Option (Int × Sg)) (a1 : Int) (u : Sg) : Option (Int × Sg) := jn (fun (s2 : Sg) => some (0, s2)) fun j1 => un (gL u 77 : Int) fun v3 => if a1 < v3 then (ld u 77 a1 fun v4 => un (gI u 54) fun v5 => if v4 = v5 then (some (1, u)) else (j1 u)) else (j1 u)
section
variable {p : Program} {l : Launch} {e : Env} {R : Room} {s : State} {m : MethodId} {args : Array Value} {below : List Frame} {meth : Method} {c : Code} {G : Gm} {A : Nat → Prop} {ad0 : Nat → Nat} {σ0 : Sg} {d : Nat} {call : Nat → List Int → Sg → Option (Int × Sg)}
theorem wX3_isDone (hd : 2 ≤ d) (hRf : d + 1 ≤ R.frames) (hRl : 40 * (d + 1) ≤ R.locals) (a1 : Int) (u : Sg) (ra1 : inR a1) : WG p l e R s m args below meth c JX3_isDone DX3_isDone G clA A FT ad0 σ0 rvI (bX3_isDone call a1 u) u 0 [(0, vR 0), (1, vI a1)] [] := by
  unfold bX3_isDone
  refine g_jn (fun j1 => ∀ (s2 : Sg), WG p l e R s m args below meth c JX3_isDone DX3_isDone G clA A FT ad0 σ0 rvI (j1 s2) s2 26 [] []) (fun s2 => ?_) (fun j1 hj1 => ?_)
  · refine g_iconst dX3_isDone_26 ?_
    exact g_zret rfl rfl (fun _ => (Or.inl rfl)) dX3_isDone_27
  · refine g_iload_n 1 dX3_isDone_0 rfl ?_
    refine g_aload_n 0 dX3_isDone_1 rfl ?_
    refine g_get (v := vR 87) (ci := 2) (b := 0) (N := 83) 77 rfl rfl (by decide) in_X3 rfl rfl q1209 dX3_isDone_2 ?_
    refine g_alenU (id := 77) 49 rfl (Or.inl rfl) dX3_isDone_5 (fun v3 rv3 => ?_)
    refine g_icmp_ge 26 dX3_isDone_6 (by decide) (fun _ => ra1) (fun _ => rv3) (fun _ => ?_) (fun _ => ?_)
    · refine g_aload_n 0 dX3_isDone_9 rfl ?_
      refine g_get (v := vR 87) (ci := 2) (b := 0) (N := 83) 77 rfl rfl (by decide) in_X3 rfl rfl q1209 dX3_isDone_10 ?_
      refine g_iload_n 1 dX3_isDone_13 rfl ?_
      refine g_iald (id := 77) 49 rfl rfl dX3_isDone_14 (fun v4 rv4 => ?_)
      refine g_aload_n 0 dX3_isDone_15 rfl ?_
      refine g_getI (ci := 2) (b := 0) (N := 83) 54 rfl rfl rfl (by decide) in_X3 rfl rfl q1186 dX3_isDone_16 (fun v5 rv5 => ?_)
      refine g_icmp_ne 26 dX3_isDone_19 (by decide) (fun _ => rv4) (fun _ => rv5) (fun _ => ?_) (fun _ => ?_)
      · refine g_iconst dX3_isDone_22 ?_
        refine g_goto 27 dX3_isDone_23 (by decide) ?_
        exact g_zret rfl rfl (fun _ => (Or.inr rfl)) dX3_isDone_27
      · exact g_pick [] rfl (hj1 u)
    · exact g_pick [] rfl (hj1 u)
end
section
variable {l : Launch} {d : Nat} {call : Nat → List Int → Sg → Option (Int × Sg)}
theorem ctX3_isDone (p0 : Program) (e0 : Env) (s0 : State) (m0 : MethodId) (meth0 : Method) (c0 : Code) (G0 : Gm) (hd : 2 ≤ d) (a1 : Int) (u : Sg) : Ct l (d + 1) FT clA yX3_isDone cX3_isDone 2 (some .boolean) DX3_isDone rvI [vR 0, vI a1] u (bX3_isDone call a1 u) :=
  Ct_of (by decide) (Nat.le_of_ble_eq_true rfl) (fun p e R s1 m args below meth c G A ad hA hRf hRl => wX3_isDone hd hRf hRl a1 u (hA _ (List.mem_cons_of_mem _ List.mem_cons_self))) p0 e0 s0 m0 meth0 c0 G0
end
/-! RoundCheckModel.done(I)V -/
abbrev JX3_done : Jm := (cX3_done, RX3, 2, none)
def bX3_done (call : Nat → List Int → Sg → Option (Int × Sg)) (a1 : Int) (u : Sg) : Option (Int × Sg) := un (gI u 8) fun v1 => mor u 77 v1 fun s2 => un (gI s2 54) fun v3 => stA s2 77 a1 v3 fun s4 => some (0, s4)
section
variable {p : Program} {l : Launch} {e : Env} {R : Room} {s : State} {m : MethodId} {args : Array Value} {below : List Frame} {meth : Method} {c : Code} {G : Gm} {A : Nat → Prop} {ad0 : Nat → Nat} {σ0 : Sg} {d : Nat} {call : Nat → List Int → Sg → Option (Int × Sg)}
theorem wX3_done (hd : 2 ≤ d) (hRf : d + 1 ≤ R.frames) (hRl : 40 * (d + 1) ≤ R.locals) (a1 : Int) (u : Sg) (ra1 : inR a1) : WG p l e R s m args below meth c JX3_done DX3_done G clA A FT ad0 σ0 rvV (bX3_done call a1 u) u 0 [(0, vR 0), (1, vI a1)] [] := by
  unfold bX3_done
  refine g_aload_n 0 dX3_done_0 rfl ?_
  refine g_aload_n 0 dX3_done_1 rfl ?_
  refine g_get (v := vR 87) (ci := 2) (b := 0) (N := 83) 77 rfl rfl (by decide) in_X3 rfl rfl q1209 dX3_done_2 ?_
  refine g_aload_n 0 dX3_done_5 rfl ?_
  refine g_getI (ci := 2) (b := 0) (N := 83) 8 rfl rfl rfl (by decide) in_X3 rfl rfl q1140 dX3_done_6 (fun v1 rv1 => ?_)
  refine g_more (ci := 2) (b := 0) (N := 83) FT_ok FT_10 rfl 77 49 rfl rfl rfl rfl (by decide) in_X3 tyX3 tyX3_ok nmX3 rfl rfl rfl rfl (by decide +kernel) rv1 q1104 q1209 hRf hRl hd (Nat.le_of_ble_eq_true rfl) rfl rfl dX3_done_9 dX3_done_12 (fun s2 => ?_)
  refine g_aload_n 0 dX3_done_15 rfl ?_
  refine g_get (v := vR 87) (ci := 2) (b := 0) (N := 83) 77 rfl rfl (by decide) in_X3 rfl rfl q1209 dX3_done_16 ?_
  refine g_iload_n 1 dX3_done_19 rfl ?_
  refine g_aload_n 0 dX3_done_20 rfl ?_
  refine g_getI (ci := 2) (b := 0) (N := 83) 54 rfl rfl rfl (by decide) in_X3 rfl rfl q1186 dX3_done_21 (fun v3 rv3 => ?_)
  refine g_iastU (id := 77) FT_ok 49 rfl rfl (by decide +kernel) rv3 dX3_done_24 (fun s4 => ?_)
  exact g_vret rfl rfl dX3_done_25
end
section
variable {l : Launch} {d : Nat} {call : Nat → List Int → Sg → Option (Int × Sg)}
theorem ctX3_done (p0 : Program) (e0 : Env) (s0 : State) (m0 : MethodId) (meth0 : Method) (c0 : Code) (G0 : Gm) (hd : 2 ≤ d) (a1 : Int) (u : Sg) : Ct l (d + 1) FT clA yX3_done cX3_done 2 none DX3_done rvV [vR 0, vI a1] u (bX3_done call a1 u) :=
  Ct_of (by decide) (Nat.le_of_ble_eq_true rfl) (fun p e R s1 m args below meth c G A ad hA hRf hRl => wX3_done hd hRf hRl a1 u (hA _ (List.mem_cons_of_mem _ List.mem_cons_self))) p0 e0 s0 m0 meth0 c0 G0
end
/-! RoundCheckModel.fits(II)Z -/
abbrev JX3_fits : Jm := (cX3_fits, RX3, 5, (some .boolean))
def bX3_fits (call : Nat → List Int → Sg → Option (Int × Sg)) (a1 a2 : Int) (u : Sg) : Option (Int × Sg) := jn (fun (s2 : Sg) => cl (call 17 [1] s2) fun v3 s4 => if v3 ≤ 0 then (some (0, s4)) else (some (1, s4))) fun j1 => un (sI u 0 0) fun s5 => cl (call 25 [a1, 0] s5) fun v6 s7 => cl (call 25 [a2, 1] s7) fun v8 s9 => if v6 = 0 then (j1 s9) else (if v8 = 0 then (j1 s9) else (cl (call 88 [v6, v8] s9) fun v10 s11 => some (v10, s11)))
section
variable {p : Program} {l : Launch} {e : Env} {R : Room} {s : State} {m : MethodId} {args : Array Value} {below : List Frame} {meth : Method} {c : Code} {G : Gm} {A : Nat → Prop} {ad0 : Nat → Nat} {σ0 : Sg} {d : Nat} {call : Nat → List Int → Sg → Option (Int × Sg)}
theorem wX3_fits (hd : 2 ≤ d) (hRf : d + 1 ≤ R.frames) (hRl : 40 * (d + 1) ≤ R.locals) (hX3_fails : ∀ (a1 : Int) (u : Sg), Ct l d FT clA yX3_fails cX3_fails 2 (some .int) DX3_fails rvI [vR 0, vI a1] u (call 17 [a1] u)) (hX3_closed : ∀ (a1 a2 : Int) (u : Sg), Ct l d FT clA yX3_closed cX3_closed 4 (some .int) DX3_closed rvI [vR 0, vI a1, vI a2] u (call 25 [a1, a2] u)) (hX3_suits : ∀ (a1 a2 : Int) (u : Sg), Ct l d FT clA yX3_suits cX3_suits 4 (some .boolean) DX3_suits rvI [vR 0, vI a1, vI a2] u (call 88 [a1, a2] u)) (a1 a2 : Int) (u : Sg) (ra1 : inR a1) (ra2 : inR a2) : WG p l e R s m args below meth c JX3_fits DX3_fits G clA A FT ad0 σ0 rvI (bX3_fits call a1 a2 u) u 0 [(0, vR 0), (1, vI a1), (2, vI a2)] [] := by
  unfold bX3_fits
  refine g_jn (fun j1 => ∀ (s2 : Sg), WG p l e R s m args below meth c JX3_fits DX3_fits G clA A FT ad0 σ0 rvI (j1 s2) s2 29 [(0, vR 0)] []) (fun s2 => ?_) (fun j1 hj1 => ?_)
  · refine g_aload_n 0 dX3_fits_29 rfl ?_
    refine g_iconst dX3_fits_30 ?_
    refine g_cVI (As := [vI 1]) (n := 1) (stk := []) (ci := 2) (b := 0) (N := 83) (hX3_fails 1 s2) (by decide +kernel) rfl rfl (lw_V q1407 q1409 qs84 q168 q1410) (by decide +kernel) rfl (by decide) hRf hRl (fun _ => (avc (inR_z (Or.inr rfl)) avn)) (Nat.le_of_ble_eq_true rfl) rfl rfl dX3_fits_31 (fun v3 s4 rv3 => ?_)
    refine g_if_le 41 dX3_fits_34 (by decide) (fun _ => rv3) (fun _ => ?_) (fun _ => ?_)
    · refine g_iconst dX3_fits_41 ?_
      exact g_zret rfl rfl (fun _ => (Or.inl rfl)) dX3_fits_42
    · refine g_iconst dX3_fits_37 ?_
      refine g_goto 42 dX3_fits_38 (by decide) ?_
      exact g_zret rfl rfl (fun _ => (Or.inr rfl)) dX3_fits_42
  · refine g_aload_n 0 dX3_fits_0 rfl ?_
    refine g_iconst dX3_fits_1 ?_
    refine g_sIU (ci := 2) (b := 0) (N := 83) FT_ok 0 rfl rfl rfl (by decide) in_X3 tyX3 tyX3_ok nmX3 rfl rfl rfl rfl (by decide +kernel) (inR_z (Or.inl rfl)) q1132 dX3_fits_2 (fun s5 => ?_)
    refine g_aload_n 0 dX3_fits_5 rfl ?_
    refine g_iload_n 1 dX3_fits_6 rfl ?_
    refine g_iconst dX3_fits_7 ?_
    refine g_cVI (As := [vI a1, vI 0]) (n := 2) (stk := []) (ci := 2) (b := 0) (N := 83) (hX3_closed a1 0 s5) (by decide +kernel) rfl rfl (lw_V q1439 q1441 qs87 q168 q1442) (by decide +kernel) rfl (by decide) hRf hRl (fun _ => (avc ra1 (avc (inR_z (Or.inl rfl)) avn))) (Nat.le_of_ble_eq_true rfl) rfl rfl dX3_fits_8 (fun v6 s7 rv6 => ?_)
    refine g_istore_n (loc' := [(3, vI v6), (0, vR 0), (1, vI a1), (2, vI a2)]) dX3_fits_11 (by decide) rfl ?_
    refine g_aload_n 1 dX3_fits_12 rfl ?_
    refine g_iload_n 3 dX3_fits_13 rfl ?_
    refine g_iconst dX3_fits_14 ?_
    refine g_cVI (As := [vI a2, vI 1]) (n := 2) (stk := []) (ci := 2) (b := 0) (N := 83) (hX3_closed a2 1 s7) (by decide +kernel) rfl rfl (lw_V q1439 q1441 qs87 q168 q1442) (by decide +kernel) rfl (by decide) hRf hRl (fun _ => (avc ra2 (avc (inR_z (Or.inr rfl)) avn))) (Nat.le_of_ble_eq_true rfl) rfl rfl dX3_fits_15 (fun v8 s9 rv8 => ?_)
    refine g_istore (loc' := [(4, vI v8), (3, vI v6), (0, vR 0), (1, vI a1), (2, vI a2)]) dX3_fits_18 (by decide) rfl ?_
    refine g_iload_n 1 dX3_fits_20 rfl ?_
    refine g_if_eq 29 dX3_fits_21 (by decide) (fun _ => rv6) (fun _ => ?_) (fun _ => ?_)
    · exact g_pick [2] rfl (hj1 s9)
    · refine g_iload 0 dX3_fits_24 rfl ?_
      refine g_if_ne 43 dX3_fits_26 (by decide) (fun _ => rv8) (fun _ => ?_) (fun _ => ?_)
      · exact g_pick [2] rfl (hj1 s9)
      · refine g_aload_n 2 dX3_fits_43 rfl ?_
        refine g_iload_n 1 dX3_fits_44 rfl ?_
        refine g_iload 0 dX3_fits_45 rfl ?_
        refine g_cVZ (As := [vI v6, vI v8]) (n := 2) (stk := []) (ci := 2) (b := 0) (N := 83) (hX3_suits v6 v8 s9) (by decide +kernel) rfl rfl (lw_V q1694 q1696 qs137 q168 q1697) (by decide +kernel) rfl (by decide) hRf hRl (fun _ => (avc rv6 (avc rv8 avn))) (Nat.le_of_ble_eq_true rfl) rfl rfl dX3_fits_47 (fun v10 s11 zv10 => ?_)
        exact g_zret rfl rfl (fun _ => zv10) dX3_fits_50
end
section
variable {l : Launch} {d : Nat} {call : Nat → List Int → Sg → Option (Int × Sg)}
theorem ctX3_fits (p0 : Program) (e0 : Env) (s0 : State) (m0 : MethodId) (meth0 : Method) (c0 : Code) (G0 : Gm) (hd : 2 ≤ d) (hX3_fails : ∀ (a1 : Int) (u : Sg), Ct l d FT clA yX3_fails cX3_fails 2 (some .int) DX3_fails rvI [vR 0, vI a1] u (call 17 [a1] u)) (hX3_closed : ∀ (a1 a2 : Int) (u : Sg), Ct l d FT clA yX3_closed cX3_closed 4 (some .int) DX3_closed rvI [vR 0, vI a1, vI a2] u (call 25 [a1, a2] u)) (hX3_suits : ∀ (a1 a2 : Int) (u : Sg), Ct l d FT clA yX3_suits cX3_suits 4 (some .boolean) DX3_suits rvI [vR 0, vI a1, vI a2] u (call 88 [a1, a2] u)) (a1 a2 : Int) (u : Sg) : Ct l (d + 1) FT clA yX3_fits cX3_fits 5 (some .boolean) DX3_fits rvI [vR 0, vI a1, vI a2] u (bX3_fits call a1 a2 u) :=
  Ct_of (by decide) (Nat.le_of_ble_eq_true rfl) (fun p e R s1 m args below meth c G A ad hA hRf hRl => wX3_fits hd hRf hRl hX3_fails hX3_closed hX3_suits a1 a2 u (hA _ (List.mem_cons_of_mem _ List.mem_cons_self)) (hA _ (List.mem_cons_of_mem _ (List.mem_cons_of_mem _ List.mem_cons_self)))) p0 e0 s0 m0 meth0 c0 G0
end
/-! RoundCheckModel.adjectives(I)I -/
abbrev JX3_adjectives : Jm := (cX3_adjectives, RX3, 3, (some .int))
def bX3_adjectives (call : Nat → List Int → Sg → Option (Int × Sg)) (a1 : Int) (u : Sg) : Option (Int × Sg) := un (sI u 0 0) fun s1 => cl (call 25 [a1, 0] s1) fun v2 s3 => if v2 = 0 then (cl (call 17 [1] s3) fun v4 s5 => some (v4, s5)) else (cl (call 91 [v2] s3) fun v6 s7 => some (v6, s7))
section
variable {p : Program} {l : Launch} {e : Env} {R : Room} {s : State} {m : MethodId} {args : Array Value} {below : List Frame} {meth : Method} {c : Code} {G : Gm} {A : Nat → Prop} {ad0 : Nat → Nat} {σ0 : Sg} {d : Nat} {call : Nat → List Int → Sg → Option (Int × Sg)}
theorem wX3_adjectives (hd : 2 ≤ d) (hRf : d + 1 ≤ R.frames) (hRl : 40 * (d + 1) ≤ R.locals) (hX3_closed : ∀ (a1 a2 : Int) (u : Sg), Ct l d FT clA yX3_closed cX3_closed 4 (some .int) DX3_closed rvI [vR 0, vI a1, vI a2] u (call 25 [a1, a2] u)) (hX3_fails : ∀ (a1 : Int) (u : Sg), Ct l d FT clA yX3_fails cX3_fails 2 (some .int) DX3_fails rvI [vR 0, vI a1] u (call 17 [a1] u)) (hX3_allOf : ∀ (a1 : Int) (u : Sg), Ct l d FT clA yX3_allOf cX3_allOf 6 (some .int) DX3_allOf rvI [vR 0, vI a1] u (call 91 [a1] u)) (a1 : Int) (u : Sg) (ra1 : inR a1) : WG p l e R s m args below meth c JX3_adjectives DX3_adjectives G clA A FT ad0 σ0 rvI (bX3_adjectives call a1 u) u 0 [(0, vR 0), (1, vI a1)] [] := by
  unfold bX3_adjectives
  refine g_aload_n 0 dX3_adjectives_0 rfl ?_
  refine g_iconst dX3_adjectives_1 ?_
  refine g_sIU (ci := 2) (b := 0) (N := 83) FT_ok 0 rfl rfl rfl (by decide) in_X3 tyX3 tyX3_ok nmX3 rfl rfl rfl rfl (by decide +kernel) (inR_z (Or.inl rfl)) q1132 dX3_adjectives_2 (fun s1 => ?_)
  refine g_aload_n 0 dX3_adjectives_5 rfl ?_
  refine g_iload_n 1 dX3_adjectives_6 rfl ?_
  refine g_iconst dX3_adjectives_7 ?_
  refine g_cVI (As := [vI a1, vI 0]) (n := 2) (stk := []) (ci := 2) (b := 0) (N := 83) (hX3_closed a1 0 s1) (by decide +kernel) rfl rfl (lw_V q1439 q1441 qs87 q168 q1442) (by decide +kernel) rfl (by decide) hRf hRl (fun _ => (avc ra1 (avc (inR_z (Or.inl rfl)) avn))) (Nat.le_of_ble_eq_true rfl) rfl rfl dX3_adjectives_8 (fun v2 s3 rv2 => ?_)
  refine g_istore_n (loc' := [(2, vI v2), (0, vR 0), (1, vI a1)]) dX3_adjectives_11 (by decide) rfl ?_
  refine g_iload_n 0 dX3_adjectives_12 rfl ?_
  refine g_if_ne 24 dX3_adjectives_13 (by decide) (fun _ => rv2) (fun _ => ?_) (fun _ => ?_)
  · refine g_aload_n 1 dX3_adjectives_16 rfl ?_
    refine g_iconst dX3_adjectives_17 ?_
    refine g_cVI (As := [vI 1]) (n := 1) (stk := []) (ci := 2) (b := 0) (N := 83) (hX3_fails 1 s3) (by decide +kernel) rfl rfl (lw_V q1407 q1409 qs84 q168 q1410) (by decide +kernel) rfl (by decide) hRf hRl (fun _ => (avc (inR_z (Or.inr rfl)) avn)) (Nat.le_of_ble_eq_true rfl) rfl rfl dX3_adjectives_18 (fun v4 s5 rv4 => ?_)
    refine g_goto 29 dX3_adjectives_21 (by decide) ?_
    exact g_iret rfl rfl (fun _ => rv4) dX3_adjectives_29
  · refine g_aload_n 1 dX3_adjectives_24 rfl ?_
    refine g_iload_n 0 dX3_adjectives_25 rfl ?_
    refine g_cVI (As := [vI v2]) (n := 1) (stk := []) (ci := 2) (b := 0) (N := 83) (hX3_allOf v2 s3) (by decide +kernel) rfl rfl (lw_V q1706 q1708 qs140 q168 q1709) (by decide +kernel) rfl (by decide) hRf hRl (fun _ => (avc rv2 avn)) (Nat.le_of_ble_eq_true rfl) rfl rfl dX3_adjectives_26 (fun v6 s7 rv6 => ?_)
    exact g_iret rfl rfl (fun _ => rv6) dX3_adjectives_29
end
section
variable {l : Launch} {d : Nat} {call : Nat → List Int → Sg → Option (Int × Sg)}
theorem ctX3_adjectives (p0 : Program) (e0 : Env) (s0 : State) (m0 : MethodId) (meth0 : Method) (c0 : Code) (G0 : Gm) (hd : 2 ≤ d) (hX3_closed : ∀ (a1 a2 : Int) (u : Sg), Ct l d FT clA yX3_closed cX3_closed 4 (some .int) DX3_closed rvI [vR 0, vI a1, vI a2] u (call 25 [a1, a2] u)) (hX3_fails : ∀ (a1 : Int) (u : Sg), Ct l d FT clA yX3_fails cX3_fails 2 (some .int) DX3_fails rvI [vR 0, vI a1] u (call 17 [a1] u)) (hX3_allOf : ∀ (a1 : Int) (u : Sg), Ct l d FT clA yX3_allOf cX3_allOf 6 (some .int) DX3_allOf rvI [vR 0, vI a1] u (call 91 [a1] u)) (a1 : Int) (u : Sg) : Ct l (d + 1) FT clA yX3_adjectives cX3_adjectives 3 (some .int) DX3_adjectives rvI [vR 0, vI a1] u (bX3_adjectives call a1 u) :=
  Ct_of (by decide) (Nat.le_of_ble_eq_true rfl) (fun p e R s1 m args below meth c G A ad hA hRf hRl => wX3_adjectives hd hRf hRl hX3_closed hX3_fails hX3_allOf a1 u (hA _ (List.mem_cons_of_mem _ List.mem_cons_self))) p0 e0 s0 m0 meth0 c0 G0
end
/-! RoundCheckModel.alike(II)Z -/
abbrev JX3_alike : Jm := (cX3_alike, RX3, 3, (some .boolean))
def bX3_alike (call : Nat → List Int → Sg → Option (Int × Sg)) (a1 a2 : Int) (u : Sg) : Option (Int × Sg) := jn (fun (s2 : Sg) => cl (call 17 [1] s2) fun v3 s4 => if v3 ≤ 0 then (some (0, s4)) else (some (1, s4))) fun j1 => un (sI u 0 0) fun s5 => if a1 < 0 then (j1 s5) else (if a2 < 0 then (j1 s5) else (un (gI s5 79) fun v6 => if a1 < v6 then (un (gI s5 79) fun v7 => if a2 < v7 then (ld s5 78 a1 fun v8 => ld s5 78 a2 fun v9 => if v8 = v9 then (some (1, s5)) else (some (0, s5))) else (j1 s5)) else (j1 s5)))
section
variable {p : Program} {l : Launch} {e : Env} {R : Room} {s : State} {m : MethodId} {args : Array Value} {below : List Frame} {meth : Method} {c : Code} {G : Gm} {A : Nat → Prop} {ad0 : Nat → Nat} {σ0 : Sg} {d : Nat} {call : Nat → List Int → Sg → Option (Int × Sg)}
theorem wX3_alike (hd : 2 ≤ d) (hRf : d + 1 ≤ R.frames) (hRl : 40 * (d + 1) ≤ R.locals) (hX3_fails : ∀ (a1 : Int) (u : Sg), Ct l d FT clA yX3_fails cX3_fails 2 (some .int) DX3_fails rvI [vR 0, vI a1] u (call 17 [a1] u)) (a1 a2 : Int) (u : Sg) (ra1 : inR a1) (ra2 : inR a2) : WG p l e R s m args below meth c JX3_alike DX3_alike G clA A FT ad0 σ0 rvI (bX3_alike call a1 a2 u) u 0 [(0, vR 0), (1, vI a1), (2, vI a2)] [] := by
  unfold bX3_alike
  refine g_jn (fun j1 => ∀ (s2 : Sg), WG p l e R s m args below meth c JX3_alike DX3_alike G clA A FT ad0 σ0 rvI (j1 s2) s2 29 [(0, vR 0)] []) (fun s2 => ?_) (fun j1 hj1 => ?_)
  · refine g_aload_n 0 dX3_alike_29 rfl ?_
    refine g_iconst dX3_alike_30 ?_
    refine g_cVI (As := [vI 1]) (n := 1) (stk := []) (ci := 2) (b := 0) (N := 83) (hX3_fails 1 s2) (by decide +kernel) rfl rfl (lw_V q1407 q1409 qs84 q168 q1410) (by decide +kernel) rfl (by decide) hRf hRl (fun _ => (avc (inR_z (Or.inr rfl)) avn)) (Nat.le_of_ble_eq_true rfl) rfl rfl dX3_alike_31 (fun v3 s4 rv3 => ?_)
    refine g_if_le 41 dX3_alike_34 (by decide) (fun _ => rv3) (fun _ => ?_) (fun _ => ?_)
    · refine g_iconst dX3_alike_41 ?_
      exact g_zret rfl rfl (fun _ => (Or.inl rfl)) dX3_alike_42
    · refine g_iconst dX3_alike_37 ?_
      refine g_goto 42 dX3_alike_38 (by decide) ?_
      exact g_zret rfl rfl (fun _ => (Or.inr rfl)) dX3_alike_42
  · refine g_aload_n 0 dX3_alike_0 rfl ?_
    refine g_iconst dX3_alike_1 ?_
    refine g_sIU (ci := 2) (b := 0) (N := 83) FT_ok 0 rfl rfl rfl (by decide) in_X3 tyX3 tyX3_ok nmX3 rfl rfl rfl rfl (by decide +kernel) (inR_z (Or.inl rfl)) q1132 dX3_alike_2 (fun s5 => ?_)
    refine g_iload_n 1 dX3_alike_5 rfl ?_
    refine g_if_lt 29 dX3_alike_6 (by decide) (fun _ => ra1) (fun _ => ?_) (fun _ => ?_)
    · exact g_pick [0] rfl (hj1 s5)
    · refine g_iload_n 2 dX3_alike_9 rfl ?_
      refine g_if_lt 29 dX3_alike_10 (by decide) (fun _ => ra2) (fun _ => ?_) (fun _ => ?_)
      · exact g_pick [0] rfl (hj1 s5)
      · refine g_iload_n 1 dX3_alike_13 rfl ?_
        refine g_aload_n 0 dX3_alike_14 rfl ?_
        refine g_getI (ci := 2) (b := 0) (N := 83) 79 rfl rfl rfl (by decide) in_X3 rfl rfl q1211 dX3_alike_15 (fun v6 rv6 => ?_)
        refine g_icmp_ge 29 dX3_alike_18 (by decide) (fun _ => ra1) (fun _ => rv6) (fun _ => ?_) (fun _ => ?_)
        · refine g_iload_n 2 dX3_alike_21 rfl ?_
          refine g_aload_n 0 dX3_alike_22 rfl ?_
          refine g_getI (ci := 2) (b := 0) (N := 83) 79 rfl rfl rfl (by decide) in_X3 rfl rfl q1211 dX3_alike_23 (fun v7 rv7 => ?_)
          refine g_icmp_lt 43 dX3_alike_26 (by decide) (fun _ => ra2) (fun _ => rv7) (fun _ => ?_) (fun _ => ?_)
          · refine g_aload_n 0 dX3_alike_43 rfl ?_
            refine g_get (v := vR 88) (ci := 2) (b := 0) (N := 83) 78 rfl rfl (by decide) in_X3 rfl rfl q1210 dX3_alike_44 ?_
            refine g_iload_n 1 dX3_alike_47 rfl ?_
            refine g_iald (id := 78) 50 rfl rfl dX3_alike_48 (fun v8 rv8 => ?_)
            refine g_aload_n 0 dX3_alike_49 rfl ?_
            refine g_get (v := vR 88) (ci := 2) (b := 0) (N := 83) 78 rfl rfl (by decide) in_X3 rfl rfl q1210 dX3_alike_50 ?_
            refine g_iload_n 2 dX3_alike_53 rfl ?_
            refine g_iald (id := 78) 50 rfl rfl dX3_alike_54 (fun v9 rv9 => ?_)
            refine g_icmp_ne 62 dX3_alike_55 (by decide) (fun _ => rv8) (fun _ => rv9) (fun _ => ?_) (fun _ => ?_)
            · refine g_iconst dX3_alike_58 ?_
              refine g_goto 63 dX3_alike_59 (by decide) ?_
              exact g_zret rfl rfl (fun _ => (Or.inr rfl)) dX3_alike_63
            · refine g_iconst dX3_alike_62 ?_
              exact g_zret rfl rfl (fun _ => (Or.inl rfl)) dX3_alike_63
          · exact g_pick [0] rfl (hj1 s5)
        · exact g_pick [0] rfl (hj1 s5)
end
section
variable {l : Launch} {d : Nat} {call : Nat → List Int → Sg → Option (Int × Sg)}
theorem ctX3_alike (p0 : Program) (e0 : Env) (s0 : State) (m0 : MethodId) (meth0 : Method) (c0 : Code) (G0 : Gm) (hd : 2 ≤ d) (hX3_fails : ∀ (a1 : Int) (u : Sg), Ct l d FT clA yX3_fails cX3_fails 2 (some .int) DX3_fails rvI [vR 0, vI a1] u (call 17 [a1] u)) (a1 a2 : Int) (u : Sg) : Ct l (d + 1) FT clA yX3_alike cX3_alike 3 (some .boolean) DX3_alike rvI [vR 0, vI a1, vI a2] u (bX3_alike call a1 a2 u) :=
  Ct_of (by decide) (Nat.le_of_ble_eq_true rfl) (fun p e R s1 m args below meth c G A ad hA hRf hRl => wX3_alike hd hRf hRl hX3_fails a1 a2 u (hA _ (List.mem_cons_of_mem _ List.mem_cons_self)) (hA _ (List.mem_cons_of_mem _ (List.mem_cons_of_mem _ List.mem_cons_self)))) p0 e0 s0 m0 meth0 c0 G0
end
/-! RoundCheckModel.about(II)I -/
abbrev JX3_about : Jm := (cX3_about, RX3, 10, (some .int))
def bX3_about (call : Nat → List Int → Sg → Option (Int × Sg)) (a1 a2 : Int) (u : Sg) : Option (Int × Sg) := jn (fun (s2 : Sg) => cl (call 17 [1] s2) fun v3 s4 => some (v3, s4)) fun j1 => un (sI u 0 0) fun s5 => if a1 < 0 then (j1 s5) else (un (gI s5 79) fun v6 => if a1 < v6 then (if a2 < 0 then (j1 s5) else (if a2 ≤ 3 then (ld s5 78 a1 fun v7 => cl (call 13 [v7] s5) fun v8 s9 => if a2 = 0 then (some (v8, s9)) else (if a2 = 1 then (ld s9 4 v7 fun v10 => some (v10, s9)) else (if v8 = 2 then (if a2 = 2 then (ld s9 1 v7 fun v11 => if v11 = 8 then (some (0, s9)) else (ld s9 1 v7 fun v12 => if v12 = 16 then (ld s9 3 v7 fun v13 => some (v13, s9)) else (some (1, s9)))) else (un (gI s9 8) fun v14 => un (gI s9 10) fun v15 => un (gI s9 19) fun v16 => un (sI s9 48 0) fun s17 => cl (call 55 [v7] s17) fun v18 s19 => gd (keeps [47] s17 s19 = true) (ld s19 47 v18 fun v20 => cl (call 110 [v14, v15] s19) fun v21 s22 => un (sI s22 19 v16) fun s23 => un (if v20 < 1000 then v20 else 1000) fun v24 => ar v24 fun v25 => some (v25, s23)))) else (some (0, s9))))) else (j1 s5))) else (j1 s5))
section
variable {p : Program} {l : Launch} {e : Env} {R : Room} {s : State} {m : MethodId} {args : Array Value} {below : List Frame} {meth : Method} {c : Code} {G : Gm} {A : Nat → Prop} {ad0 : Nat → Nat} {σ0 : Sg} {d : Nat} {call : Nat → List Int → Sg → Option (Int × Sg)}
theorem wX3_about (hd : 2 ≤ d) (hRf : d + 1 ≤ R.frames) (hRl : 40 * (d + 1) ≤ R.locals) (hX3_fails : ∀ (a1 : Int) (u : Sg), Ct l d FT clA yX3_fails cX3_fails 2 (some .int) DX3_fails rvI [vR 0, vI a1] u (call 17 [a1] u)) (hX3_sortOf : ∀ (a1 : Int) (u : Sg), Ct l d FT clA yX3_sortOf cX3_sortOf 2 (some .int) DX3_sortOf rvI [vR 0, vI a1] u (call 13 [a1] u)) (hX3_tree : ∀ (a1 : Int) (u : Sg), Ct l d FT clA yX3_tree cX3_tree 7 (some .int) DX3_tree rvI [vR 0, vI a1] u (call 55 [a1] u)) (hX3_forget : ∀ (a1 a2 : Int) (u : Sg), Ct l d FT clA yX3_forget cX3_forget 3 none DX3_forget rvV [vR 0, vI a1, vI a2] u (call 110 [a1, a2] u)) (a1 a2 : Int) (u : Sg) (ra1 : inR a1) (ra2 : inR a2) : WG p l e R s m args below meth c JX3_about DX3_about G clA A FT ad0 σ0 rvI (bX3_about call a1 a2 u) u 0 [(0, vR 0), (1, vI a1), (2, vI a2)] [] := by
  unfold bX3_about
  refine g_jn (fun j1 => ∀ (s2 : Sg), WG p l e R s m args below meth c JX3_about DX3_about G clA A FT ad0 σ0 rvI (j1 s2) s2 26 [(0, vR 0)] []) (fun s2 => ?_) (fun j1 hj1 => ?_)
  · refine g_aload_n 0 dX3_about_26 rfl ?_
    refine g_iconst dX3_about_27 ?_
    refine g_cVI (As := [vI 1]) (n := 1) (stk := []) (ci := 2) (b := 0) (N := 83) (hX3_fails 1 s2) (by decide +kernel) rfl rfl (lw_V q1407 q1409 qs84 q168 q1410) (by decide +kernel) rfl (by decide) hRf hRl (fun _ => (avc (inR_z (Or.inr rfl)) avn)) (Nat.le_of_ble_eq_true rfl) rfl rfl dX3_about_28 (fun v3 s4 rv3 => ?_)
    exact g_iret rfl rfl (fun _ => rv3) dX3_about_31
  · refine g_aload_n 0 dX3_about_0 rfl ?_
    refine g_iconst dX3_about_1 ?_
    refine g_sIU (ci := 2) (b := 0) (N := 83) FT_ok 0 rfl rfl rfl (by decide) in_X3 tyX3 tyX3_ok nmX3 rfl rfl rfl rfl (by decide +kernel) (inR_z (Or.inl rfl)) q1132 dX3_about_2 (fun s5 => ?_)
    refine g_iload_n 1 dX3_about_5 rfl ?_
    refine g_if_lt 26 dX3_about_6 (by decide) (fun _ => ra1) (fun _ => ?_) (fun _ => ?_)
    · exact g_pick [0] rfl (hj1 s5)
    · refine g_iload_n 1 dX3_about_9 rfl ?_
      refine g_aload_n 0 dX3_about_10 rfl ?_
      refine g_getI (ci := 2) (b := 0) (N := 83) 79 rfl rfl rfl (by decide) in_X3 rfl rfl q1211 dX3_about_11 (fun v6 rv6 => ?_)
      refine g_icmp_ge 26 dX3_about_14 (by decide) (fun _ => ra1) (fun _ => rv6) (fun _ => ?_) (fun _ => ?_)
      · refine g_iload_n 2 dX3_about_17 rfl ?_
        refine g_if_lt 26 dX3_about_18 (by decide) (fun _ => ra2) (fun _ => ?_) (fun _ => ?_)
        · exact g_pick [0] rfl (hj1 s5)
        · refine g_iload_n 2 dX3_about_21 rfl ?_
          refine g_iconst dX3_about_22 ?_
          refine g_icmp_le 32 dX3_about_23 (by decide) (fun _ => ra2) (fun _ => (by decide : inR (3))) (fun _ => ?_) (fun _ => ?_)
          · refine g_aload_n 0 dX3_about_32 rfl ?_
            refine g_get (v := vR 88) (ci := 2) (b := 0) (N := 83) 78 rfl rfl (by decide) in_X3 rfl rfl q1210 dX3_about_33 ?_
            refine g_iload_n 1 dX3_about_36 rfl ?_
            refine g_iald (id := 78) 50 rfl rfl dX3_about_37 (fun v7 rv7 => ?_)
            refine g_istore_n (loc' := [(3, vI v7), (0, vR 0), (1, vI a1), (2, vI a2)]) dX3_about_38 (by decide) rfl ?_
            refine g_aload_n 1 dX3_about_39 rfl ?_
            refine g_iload_n 0 dX3_about_40 rfl ?_
            refine g_cVI (As := [vI v7]) (n := 1) (stk := []) (ci := 2) (b := 0) (N := 83) (hX3_sortOf v7 s5) (by decide +kernel) rfl rfl (lw_V q1391 q1393 qs80 q168 q1394) (by decide +kernel) rfl (by decide) hRf hRl (fun _ => (avc rv7 avn)) (Nat.le_of_ble_eq_true rfl) rfl rfl dX3_about_41 (fun v8 s9 rv8 => ?_)
            refine g_istore (loc' := [(4, vI v8), (3, vI v7), (0, vR 0), (1, vI a1), (2, vI a2)]) dX3_about_44 (by decide) rfl ?_
            refine g_iload_n 4 dX3_about_46 rfl ?_
            refine g_if_ne 53 dX3_about_47 (by decide) (fun _ => ra2) (fun _ => ?_) (fun _ => ?_)
            · refine g_iload 0 dX3_about_50 rfl ?_
              exact g_iret rfl rfl (fun _ => rv8) dX3_about_52
            · refine g_iload_n 4 dX3_about_53 rfl ?_
              refine g_iconst dX3_about_54 ?_
              refine g_icmp_ne 65 dX3_about_55 (by decide) (fun _ => ra2) (fun _ => (inR_z (Or.inr rfl))) (fun _ => ?_) (fun _ => ?_)
              · refine g_aload_n 2 dX3_about_58 rfl ?_
                refine g_get (v := vR 14) (ci := 2) (b := 0) (N := 83) 4 rfl rfl (by decide) in_X3 rfl rfl q1136 dX3_about_59 ?_
                refine g_iload_n 1 dX3_about_62 rfl ?_
                refine g_iald (id := 4) 3 rfl rfl dX3_about_63 (fun v10 rv10 => ?_)
                exact g_iret rfl rfl (fun _ => rv10) dX3_about_64
              · refine g_iload 0 dX3_about_65 rfl ?_
                refine g_iconst dX3_about_67 ?_
                refine g_icmp_eq 73 dX3_about_68 (by decide) (fun _ => rv8) (fun _ => (by decide : inR (2))) (fun _ => ?_) (fun _ => ?_)
                · refine g_iload_n 4 dX3_about_73 rfl ?_
                  refine g_iconst dX3_about_74 ?_
                  refine g_icmp_ne 115 dX3_about_75 (by decide) (fun _ => ra2) (fun _ => (by decide : inR (2))) (fun _ => ?_) (fun _ => ?_)
                  · refine g_aload_n 2 dX3_about_78 rfl ?_
                    refine g_get (v := vR 11) (ci := 2) (b := 0) (N := 83) 1 rfl rfl (by decide) in_X3 rfl rfl q1133 dX3_about_79 ?_
                    refine g_iload_n 1 dX3_about_82 rfl ?_
                    refine g_iald (id := 1) 0 rfl rfl dX3_about_83 (fun v11 rv11 => ?_)
                    refine g_bipush (by decide +kernel) dX3_about_84 ?_
                    refine g_icmp_ne 93 dX3_about_86 (by decide) (fun _ => rv11) (fun _ => (by decide : inR (8))) (fun _ => ?_) (fun _ => ?_)
                    · refine g_iconst dX3_about_89 ?_
                      refine g_goto 114 dX3_about_90 (by decide) ?_
                      exact g_iret rfl rfl (fun _ => (inR_z (Or.inl rfl))) dX3_about_114
                    · refine g_aload_n 2 dX3_about_93 rfl ?_
                      refine g_get (v := vR 11) (ci := 2) (b := 0) (N := 83) 1 rfl rfl (by decide) in_X3 rfl rfl q1133 dX3_about_94 ?_
                      refine g_iload_n 1 dX3_about_97 rfl ?_
                      refine g_iald (id := 1) 0 rfl rfl dX3_about_98 (fun v12 rv12 => ?_)
                      refine g_bipush (by decide +kernel) dX3_about_99 ?_
                      refine g_icmp_ne 113 dX3_about_101 (by decide) (fun _ => rv12) (fun _ => (by decide : inR (16))) (fun _ => ?_) (fun _ => ?_)
                      · refine g_aload_n 2 dX3_about_104 rfl ?_
                        refine g_get (v := vR 13) (ci := 2) (b := 0) (N := 83) 3 rfl rfl (by decide) in_X3 rfl rfl q1135 dX3_about_105 ?_
                        refine g_iload_n 1 dX3_about_108 rfl ?_
                        refine g_iald (id := 3) 2 rfl rfl dX3_about_109 (fun v13 rv13 => ?_)
                        refine g_goto 114 dX3_about_110 (by decide) ?_
                        exact g_iret rfl rfl (fun _ => rv13) dX3_about_114
                      · refine g_iconst dX3_about_113 ?_
                        exact g_iret rfl rfl (fun _ => (inR_z (Or.inr rfl))) dX3_about_114
                  · refine g_aload_n 2 dX3_about_115 rfl ?_
                    refine g_getI (ci := 2) (b := 0) (N := 83) 8 rfl rfl rfl (by decide) in_X3 rfl rfl q1140 dX3_about_116 (fun v14 rv14 => ?_)
                    refine g_istore (loc' := [(5, vI v14), (4, vI v8), (3, vI v7), (0, vR 0), (1, vI a1), (2, vI a2)]) dX3_about_119 (by decide) rfl ?_
                    refine g_aload_n 3 dX3_about_121 rfl ?_
                    refine g_getI (ci := 2) (b := 0) (N := 83) 10 rfl rfl rfl (by decide) in_X3 rfl rfl q1142 dX3_about_122 (fun v15 rv15 => ?_)
                    refine g_istore (loc' := [(6, vI v15), (5, vI v14), (4, vI v8), (3, vI v7), (0, vR 0), (1, vI a1), (2, vI a2)]) dX3_about_125 (by decide) rfl ?_
                    refine g_aload_n 4 dX3_about_127 rfl ?_
                    refine g_getI (ci := 2) (b := 0) (N := 83) 19 rfl rfl rfl (by decide) in_X3 rfl rfl q1151 dX3_about_128 (fun v16 rv16 => ?_)
                    refine g_istore (loc' := [(7, vI v16), (6, vI v15), (5, vI v14), (4, vI v8), (3, vI v7), (0, vR 0), (1, vI a1), (2, vI a2)]) dX3_about_131 (by decide) rfl ?_
                    refine g_aload_n 5 dX3_about_133 rfl ?_
                    refine g_iconst dX3_about_134 ?_
                    refine g_sIU (ci := 2) (b := 0) (N := 83) FT_ok 48 rfl rfl rfl (by decide) in_X3 tyX3 tyX3_ok nmX3 rfl rfl rfl rfl (by decide +kernel) (inR_z (Or.inl rfl)) q1180 dX3_about_135 (fun s17 => ?_)
                    refine g_aload_n 5 dX3_about_138 rfl ?_
                    refine g_get (v := vR 57) (ci := 2) (b := 0) (N := 83) 47 rfl rfl (by decide) in_X3 rfl rfl q1179 dX3_about_139 ?_
                    refine g_aload_n 5 dX3_about_142 rfl ?_
                    refine g_iload_n 4 dX3_about_143 rfl ?_
                    refine g_cVIk [47] (As := [vI v7]) (n := 1) (stk := [vR 57]) (ci := 2) (b := 0) (N := 83) (hX3_tree v7 s17) (by decide +kernel) rfl rfl (lw_V q1559 q1561 qs105 q168 q1562) (by decide +kernel) rfl (by decide) hRf hRl (fun _ => (avc rv7 avn)) (Nat.le_of_ble_eq_true rfl) rfl rfl dX3_about_144 (fun v18 s19 rv18 => ?_)
                    refine g_lald (id := 47) 34 rfl rfl dX3_about_147 (fun v20 rv20 => ?_)
                    refine g_lstore (loc' := [(8, vL v20), (7, vI v16), (6, vI v15), (5, vI v14), (4, vI v8), (3, vI v7), (0, vR 0), (1, vI a1), (2, vI a2)]) dX3_about_148 (by decide) rfl ?_
                    refine g_aload_n 6 dX3_about_150 rfl ?_
                    refine g_iload 3 dX3_about_151 rfl ?_
                    refine g_iload 2 dX3_about_153 rfl ?_
                    refine g_cVV (As := [vI v14, vI v15]) (n := 2) (stk := []) (ci := 2) (b := 0) (N := 83) (hX3_forget v14 v15 s19) (by decide +kernel) rfl rfl (lw_V q1782 q1784 qs159 q168 q1785) (by decide +kernel) rfl (by decide) hRf hRl (fun _ => (avc rv14 (avc rv15 avn))) (Nat.le_of_ble_eq_true rfl) rfl rfl dX3_about_155 (fun v21 s22 => ?_)
                    refine g_aload_n 6 dX3_about_158 rfl ?_
                    refine g_iload 1 dX3_about_159 rfl ?_
                    refine g_sIU (ci := 2) (b := 0) (N := 83) FT_ok 19 rfl rfl rfl (by decide) in_X3 tyX3 tyX3_ok nmX3 rfl rfl rfl rfl (by decide +kernel) rv16 q1151 dX3_about_161 (fun s23 => ?_)
                    refine g_ldc2 (n := 1000) (by decide +kernel) q1585 dX3_about_164 ?_
                    refine g_lload 0 dX3_about_167 rfl ?_
                    refine g_mminL (by decide : inL (1000)) rv20 (Nat.le_trans (Nat.succ_le_succ (Nat.zero_le _)) hRf) (Nat.le_trans (Nat.mul_le_mul_left 40 (Nat.succ_le_succ (Nat.zero_le d))) hRl) (Nat.le_of_ble_eq_true rfl) q1568 q221 q166 q222 dX3_about_169 (fun v24 rv24 => ?_)
                    refine g_l2i rv24 dX3_about_172 (fun v25 rv25 => ?_)
                    exact g_iret rfl rfl (fun _ => rv25) dX3_about_173
                · refine g_iconst dX3_about_71 ?_
                  exact g_iret rfl rfl (fun _ => (inR_z (Or.inl rfl))) dX3_about_72
          · exact g_pick [0] rfl (hj1 s5)
      · exact g_pick [0] rfl (hj1 s5)
end
section
variable {l : Launch} {d : Nat} {call : Nat → List Int → Sg → Option (Int × Sg)}
theorem ctX3_about (p0 : Program) (e0 : Env) (s0 : State) (m0 : MethodId) (meth0 : Method) (c0 : Code) (G0 : Gm) (hd : 2 ≤ d) (hX3_fails : ∀ (a1 : Int) (u : Sg), Ct l d FT clA yX3_fails cX3_fails 2 (some .int) DX3_fails rvI [vR 0, vI a1] u (call 17 [a1] u)) (hX3_sortOf : ∀ (a1 : Int) (u : Sg), Ct l d FT clA yX3_sortOf cX3_sortOf 2 (some .int) DX3_sortOf rvI [vR 0, vI a1] u (call 13 [a1] u)) (hX3_tree : ∀ (a1 : Int) (u : Sg), Ct l d FT clA yX3_tree cX3_tree 7 (some .int) DX3_tree rvI [vR 0, vI a1] u (call 55 [a1] u)) (hX3_forget : ∀ (a1 a2 : Int) (u : Sg), Ct l d FT clA yX3_forget cX3_forget 3 none DX3_forget rvV [vR 0, vI a1, vI a2] u (call 110 [a1, a2] u)) (a1 a2 : Int) (u : Sg) : Ct l (d + 1) FT clA yX3_about cX3_about 10 (some .int) DX3_about rvI [vR 0, vI a1, vI a2] u (bX3_about call a1 a2 u) :=
  Ct_of (by decide) (Nat.le_of_ble_eq_true rfl) (fun p e R s1 m args below meth c G A ad hA hRf hRl => wX3_about hd hRf hRl hX3_fails hX3_sortOf hX3_tree hX3_forget a1 a2 u (hA _ (List.mem_cons_of_mem _ List.mem_cons_self)) (hA _ (List.mem_cons_of_mem _ (List.mem_cons_of_mem _ List.mem_cons_self)))) p0 e0 s0 m0 meth0 c0 G0
end
/-! RoundCheckModel.count(I)I -/
abbrev JX3_count : Jm := (cX3_count, RX3, 2, (some .int))
def bX3_count (call : Nat → List Int → Sg → Option (Int × Sg)) (a1 : Int) (u : Sg) : Option (Int × Sg) := un (sI u 0 0) fun s1 => if a1 = 0 then (un (gI s1 79) fun v2 => some (v2, s1)) else (if a1 = 1 then (un (gI s1 27) fun v3 => some (v3, s1)) else (if a1 = 2 then (un (gI s1 28) fun v4 => some (v4, s1)) else (if a1 = 3 then (un (gI s1 22) fun v5 => some (v5, s1)) else (if a1 = 4 then (un (gI s1 24) fun v6 => some (v6, s1)) else (if a1 = 5 then (un (gI s1 37) fun v7 => some (v7, s1)) else (if a1 = 6 then (un (gI s1 81) fun v8 => some (v8, s1)) else (if a1 = 7 then (un (gI s1 82) fun v9 => some (v9, s1)) else (cl (call 17 [1] s1) fun v10 s11 => some (v10, s11)))))))))
section
variable {p : Program} {l : Launch} {e : Env} {R : Room} {s : State} {m : MethodId} {args : Array Value} {below : List Frame} {meth : Method} {c : Code} {G : Gm} {A : Nat → Prop} {ad0 : Nat → Nat} {σ0 : Sg} {d : Nat} {call : Nat → List Int → Sg → Option (Int × Sg)}
theorem wX3_count (hd : 2 ≤ d) (hRf : d + 1 ≤ R.frames) (hRl : 40 * (d + 1) ≤ R.locals) (hX3_fails : ∀ (a1 : Int) (u : Sg), Ct l d FT clA yX3_fails cX3_fails 2 (some .int) DX3_fails rvI [vR 0, vI a1] u (call 17 [a1] u)) (a1 : Int) (u : Sg) (ra1 : inR a1) : WG p l e R s m args below meth c JX3_count DX3_count G clA A FT ad0 σ0 rvI (bX3_count call a1 u) u 0 [(0, vR 0), (1, vI a1)] [] := by
  unfold bX3_count
  refine g_aload_n 0 dX3_count_0 rfl ?_
  refine g_iconst dX3_count_1 ?_
  refine g_sIU (ci := 2) (b := 0) (N := 83) FT_ok 0 rfl rfl rfl (by decide) in_X3 tyX3 tyX3_ok nmX3 rfl rfl rfl rfl (by decide +kernel) (inR_z (Or.inl rfl)) q1132 dX3_count_2 (fun s1 => ?_)
  refine g_iload_n 1 dX3_count_5 rfl ?_
  refine WG.byc (fun e0 => ?_) (fun n0 => ?_)
  · refine g_tswIn 52 0 dX3_count_6 (by decide) rfl (by decide) e0 ?_
    refine g_aload_n 0 dX3_count_52 rfl ?_
    refine g_getI (ci := 2) (b := 0) (N := 83) 79 rfl rfl rfl (by decide) in_X3 rfl rfl q1211 dX3_count_53 (fun v2 rv2 => ?_)
    exact g_iret rfl rfl (fun _ => rv2) dX3_count_56
  · skip
    refine WG.byc (fun e1 => ?_) (fun n1 => ?_)
    · refine g_tswIn 57 1 dX3_count_6 (by decide) rfl (by decide) e1 ?_
      refine g_aload_n 0 dX3_count_57 rfl ?_
      refine g_getI (ci := 2) (b := 0) (N := 83) 27 rfl rfl rfl (by decide) in_X3 rfl rfl q1159 dX3_count_58 (fun v3 rv3 => ?_)
      exact g_iret rfl rfl (fun _ => rv3) dX3_count_61
    · skip
      refine WG.byc (fun e2 => ?_) (fun n2 => ?_)
      · refine g_tswIn 62 2 dX3_count_6 (by decide) rfl (by decide) e2 ?_
        refine g_aload_n 0 dX3_count_62 rfl ?_
        refine g_getI (ci := 2) (b := 0) (N := 83) 28 rfl rfl rfl (by decide) in_X3 rfl rfl q1160 dX3_count_63 (fun v4 rv4 => ?_)
        exact g_iret rfl rfl (fun _ => rv4) dX3_count_66
      · skip
        refine WG.byc (fun e3 => ?_) (fun n3 => ?_)
        · refine g_tswIn 67 3 dX3_count_6 (by decide) rfl (by decide) e3 ?_
          refine g_aload_n 0 dX3_count_67 rfl ?_
          refine g_getI (ci := 2) (b := 0) (N := 83) 22 rfl rfl rfl (by decide) in_X3 rfl rfl q1154 dX3_count_68 (fun v5 rv5 => ?_)
          exact g_iret rfl rfl (fun _ => rv5) dX3_count_71
        · skip
          refine WG.byc (fun e4 => ?_) (fun n4 => ?_)
          · refine g_tswIn 72 4 dX3_count_6 (by decide) rfl (by decide) e4 ?_
            refine g_aload_n 0 dX3_count_72 rfl ?_
            refine g_getI (ci := 2) (b := 0) (N := 83) 24 rfl rfl rfl (by decide) in_X3 rfl rfl q1156 dX3_count_73 (fun v6 rv6 => ?_)
            exact g_iret rfl rfl (fun _ => rv6) dX3_count_76
          · skip
            refine WG.byc (fun e5 => ?_) (fun n5 => ?_)
            · refine g_tswIn 77 5 dX3_count_6 (by decide) rfl (by decide) e5 ?_
              refine g_aload_n 0 dX3_count_77 rfl ?_
              refine g_getI (ci := 2) (b := 0) (N := 83) 37 rfl rfl rfl (by decide) in_X3 rfl rfl q1169 dX3_count_78 (fun v7 rv7 => ?_)
              exact g_iret rfl rfl (fun _ => rv7) dX3_count_81
            · skip
              refine WG.byc (fun e6 => ?_) (fun n6 => ?_)
              · refine g_tswIn 82 6 dX3_count_6 (by decide) rfl (by decide) e6 ?_
                refine g_aload_n 0 dX3_count_82 rfl ?_
                refine g_getI (ci := 2) (b := 0) (N := 83) 81 rfl rfl rfl (by decide) in_X3 rfl rfl q1213 dX3_count_83 (fun v8 rv8 => ?_)
                exact g_iret rfl rfl (fun _ => rv8) dX3_count_86
              · skip
                refine WG.byc (fun e7 => ?_) (fun n7 => ?_)
                · refine g_tswIn 87 7 dX3_count_6 (by decide) rfl (by decide) e7 ?_
                  refine g_aload_n 0 dX3_count_87 rfl ?_
                  refine g_getI (ci := 2) (b := 0) (N := 83) 82 rfl rfl rfl (by decide) in_X3 rfl rfl q1214 dX3_count_88 (fun v9 rv9 => ?_)
                  exact g_iret rfl rfl (fun _ => rv9) dX3_count_91
                · skip
                  refine g_tswOut 92 dX3_count_6 (fun _ => ra1) (by omega) (by decide) ?_
                  refine g_aload_n 0 dX3_count_92 rfl ?_
                  refine g_iconst dX3_count_93 ?_
                  refine g_cVI (As := [vI 1]) (n := 1) (stk := []) (ci := 2) (b := 0) (N := 83) (hX3_fails 1 s1) (by decide +kernel) rfl rfl (lw_V q1407 q1409 qs84 q168 q1410) (by decide +kernel) rfl (by decide) hRf hRl (fun _ => (avc (inR_z (Or.inr rfl)) avn)) (Nat.le_of_ble_eq_true rfl) rfl rfl dX3_count_94 (fun v10 s11 rv10 => ?_)
                  exact g_iret rfl rfl (fun _ => rv10) dX3_count_97
end
section
variable {l : Launch} {d : Nat} {call : Nat → List Int → Sg → Option (Int × Sg)}
theorem ctX3_count (p0 : Program) (e0 : Env) (s0 : State) (m0 : MethodId) (meth0 : Method) (c0 : Code) (G0 : Gm) (hd : 2 ≤ d) (hX3_fails : ∀ (a1 : Int) (u : Sg), Ct l d FT clA yX3_fails cX3_fails 2 (some .int) DX3_fails rvI [vR 0, vI a1] u (call 17 [a1] u)) (a1 : Int) (u : Sg) : Ct l (d + 1) FT clA yX3_count cX3_count 2 (some .int) DX3_count rvI [vR 0, vI a1] u (bX3_count call a1 u) :=
  Ct_of (by decide) (Nat.le_of_ble_eq_true rfl) (fun p e R s1 m args below meth c G A ad hA hRf hRl => wX3_count hd hRf hRl hX3_fails a1 u (hA _ (List.mem_cons_of_mem _ List.mem_cons_self))) p0 e0 s0 m0 meth0 c0 G0
end
