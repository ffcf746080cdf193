section NF
variable {p : Program} {l : Launch} {e : Env} {R : Room} {s : State} {m : MethodId} {args : Array Value} {below : List Frame} {meth : Method} {c : Code}
variable {J : Jm} {D : Nat} {G : Gm} {cl0 : List vw_C} {A : Nat → Prop} {F : Fm} {ad0 : Nat → Nat} {σ0 σ : Sg} {α : Type} {rv : α → Rs} {pc : Nat} {loc : Lc} {stk : List AV}
variable {C : String} {T : u_T} {N ci b ob index : Nat}
/-- a final field, in its class's constructor -/
theorem ng_sIF {id : Nat} {v : Int} {K : Sg → Option (α × Sg)} (hF : FOK F) (k : Nat) (hid : b + k = id) (hcl : cl0[ci]? = some (C, T, N)) (hob : F.1[ob]? = some (ci, b, N)) (hk : k < N) (hin : ∀ w ∈ u_ws C T N, w ∈ lw_all) (ty0 : Nat → FieldType) (hty : ∀ k, k < N → parseFieldDescriptor (T k).2.2.1 = some (ty0 k)) (hnm : ∀ a, a < N → ∀ b, b < N → a ≠ b → (T a).2.1 ≠ (T b).2.1) (hC : (T k).1 = C) (hkd : F.2.1 id = 0) (hti : ty0 k = .int) (hfin : (T k).2.2.2 = true) (hini : meth.name = "<init>") (hJ : J.2.1 = C) (hDk : D.testBit id = true) (hv : inR v) (hq : Cond.fieldLink J.2.1 index C (T k).2.1 (T k).2.2.1 ∈ lw_all) (d : decode J.1 pc = .ok (.putfield index, 3)) (kk : WGn p l e R s m args below meth c J D G cl0 A F ad0 σ0 rv (K (sI σ id v)) (sI σ id v) (pc + 3) loc stk) : WGn p l e R s m args below meth c J D G cl0 A F ad0 σ0 rv (un (sI σ id v) K) σ pc loc (vI v :: vR ob :: stk) := by
  subst hid
  have wf : WF F σ → WF F (sI σ (b + k) v) := fun hw => hw.sI hv (fun h => by rw [hkd] at h; cases h)
  refine ⟨PsN.back (GrN_sI hDk) wf kk.1, fun ok r σ' ho h1 h2 h3 h4 hw ad H locs ls ha hP hD hS hl => ?_⟩
  refine va_putF ok.1 ok.2.1 ok.2.2.2.2.1 hin ty0 hty hnm ok.2.2.2.1 ok.2.2.2.2.2.2.2.1 hP hD hS ob (wl_ob hob) hcl k hk (ok.2.2.2.2.1 _ hq) (fun x h => by rw [← hC]; exact h) hfin hini (hC.trans hJ.symm) ((hty k hk).trans (by rw [hti])) rfl rfl (by rw [fvs_len]; exact hk) d (fun H1 locs1 hP1 hD1 hS1 => ?_)
  exact kk.2 ok r σ' ho h1 h2 h3 h4 (wf hw) ad H1 locs1 ls ha.sI (by rw [← wl_sI hF hob hk (Or.inl hkd)]; exact hP1) (by rw [← wl_sI hF hob hk (Or.inl hkd)]; exact hD1) hS1 hl
end NF
def cs2 : Sg := (sN (sI (sN (sN (sN (sN (sN (sN (sN (sN (sN zS 0 60000 (fun _ => 0)) 1 60000 (fun _ => 0)) 2 60000 (fun _ => 0)) 3 60000 (fun _ => 0)) 4 60000 (fun _ => 0)) 5 60000 (fun _ => 0)) 6 60000 (fun _ => 0)) 7 180000 (fun _ => 0)) 8 32768 (fun _ => 0)) 9 1) 11 1024 (fun _ => 0))
abbrev JX2_init : Jm := (cX2_init, RX2, 1, none)
abbrev DrX2 : Nat := DX2_make ||| DX2_make_2 ||| (1 <<< 13) ||| (1 <<< 14)
def rest2 (call : Nat → List Int → Sg → Option (Int × Sg)) (u : Sg) : Option (Int × Sg) := cl (call 94 [9, 0, 0] u) fun v1 s1 => un (sI s1 13 v1) fun s2 => un (gI s2 13) fun w => cl (call 96 [16, 0, 0, w] s2) fun v2 s3 => un (sI s3 14 v2) fun s4 => some (0, s4)
theorem wX2_rest {p : Program} {l : Launch} {e : Env} {R : Room} {s : State} {m : MethodId} {args : Array Value} {below : List Frame} {meth : Method} {c : Code} {G : Gm} {A : Nat → Prop} {ad0 : Nat → Nat} {σ0 : Sg} {d : Nat} (hd : 5 ≤ d) (hini : meth.name = "<init>") (hRf : d + 1 ≤ R.frames) (hRl : 40 * (d + 1) ≤ R.locals) (u : Sg) : WGn p l e R s m args below meth c JX2_init DrX2 G clA A FS ad0 σ0 rvV (rest2 (runC d) u) u 90 [(0, vR 0)] [] := by
  unfold rest2
  refine ng_aload_n 0 dX2_init_90 rfl ?_
  refine ng_aload_n 0 dX2_init_91 rfl ?_
  refine ng_bipush (by decide) dX2_init_92 ?_
  refine ng_iconst dX2_init_94 ?_
  refine ng_iconst dX2_init_95 ?_
  refine ng_cVI (As := [vI 9, vI 0, vI 0]) (n := 3) (stk := [vR 0]) (ci := 0) (b := 0) (N := 21) (scX2_make (d := d) (by omega) 9 0 0 u) (by decide +kernel) rfl rfl (lw_V q191 q192 q193 q164 q194) (by decide +kernel) rfl (by decide) hRf hRl (fun _ => (avc (by decide : inR 9) (avc (by decide : inR 0) (avc (by decide : inR 0) avn)))) (Nat.le_of_ble_eq_true rfl) rfl rfl dX2_init_96 (fun v1 s1 rv1 => ?_)
  refine ng_sIF (ci := 0) (b := 0) (N := 21) FS_ok 13 rfl rfl rfl (by decide) in_X2 tyX2 tyX2_ok nmX2 rfl rfl rfl rfl hini rfl (by decide +kernel) rv1 q253 dX2_init_99 ?_
  generalize sI s1 13 v1 = s2
  refine ng_aload_n 0 dX2_init_102 rfl ?_
  refine ng_aload_n 0 dX2_init_103 rfl ?_
  refine ng_bipush (by decide) dX2_init_104 ?_
  refine ng_iconst dX2_init_106 ?_
  refine ng_iconst dX2_init_107 ?_
  refine ng_aload_n 0 dX2_init_108 rfl ?_
  refine ng_getI (ci := 0) (b := 0) (N := 21) 13 rfl rfl rfl (by decide) in_X2 rfl rfl q253 dX2_init_109 (fun w rw1 => ?_)
  refine ng_cVI (As := [vI 16, vI 0, vI 0, vI w]) (n := 4) (stk := [vR 0]) (ci := 0) (b := 0) (N := 21) (scX2_make_2 (d := d) (by omega) 16 0 0 w s2) (by decide +kernel) rfl rfl (lw_V q223 q224 q225 q164 q226) (by decide +kernel) rfl (by decide) hRf hRl (fun _ => (avc (by decide : inR 16) (avc (by decide : inR 0) (avc (by decide : inR 0) (avc rw1 avn))))) (Nat.le_of_ble_eq_true rfl) rfl rfl dX2_init_112 (fun v2 s3 rv2 => ?_)
  refine ng_sIF (ci := 0) (b := 0) (N := 21) FS_ok 14 rfl rfl rfl (by decide) in_X2 tyX2 tyX2_ok nmX2 rfl rfl rfl rfl hini rfl (by decide +kernel) rv2 q255 dX2_init_115 ?_
  exact ng_vret rfl rfl dX2_init_118
theorem psX2 {l : Launch} {d : Nat} (hd : 5 ≤ d) : PsN FS DrX2 none rvV cs2 (rest2 (runC d) cs2) := (wX2_rest (p := p00) (l := l) (e := e00) (R := { frames := d + 1, locals := 40 * (d + 1) }) (s := default) (m := default) (args := #[]) (below := []) (meth := { (default : Method) with name := "<init>" }) (c := c00) (G := ((fun _ => 0, fun _ _ => 0), 0, 0, 0)) (A := fun _ => True) (ad0 := fun _ => 0) (σ0 := cs2) hd rfl (Nat.le_refl _) (Nat.le_refl _) cs2).1
theorem zr2 : Zr FS cs2 := (((((((((((Zr_z.sN (id := 0) (by decide)).sN (id := 1) (by decide)).sN (id := 2) (by decide)).sN (id := 3) (by decide)).sN (id := 4) (by decide)).sN (id := 5) (by decide)).sN (id := 6) (by decide)).sN (id := 7) (by decide)).sN (id := 8) (by decide)).sI (id := 9) (by decide) (by decide)).sN (id := 11) (by decide))
theorem ciX2 (l : Launch) {d : Nat} (hd : 5 ≤ d) {r : Int} {σf : Sg} (hr : rest2 (runC d) cs2 = some (r, σf)) : CtI l (d + 1) FS kdC 0 0 21 0 yX2_init cX2_init σf := by
  have hzr : Zr FS cs2 := zr2
  have hps := psX2 (l := l) hd hzr.wf r σf hr
  have hC : 10 ≤ gC σf := hps.1.1.1
  have hS : 633792 ≤ gS σf := hps.1.1.2
  refine ctor_in (idx := 3) (by decide) rfl (by decide) (by omega) q187 dX2_init_0 dX2_init_1 (fun p e s m below meth c G q ok hnm ad had => ?_)
  refine bl_aload ok dX2_init_4 ?_
  refine bl_ldc (n := 60000) ok (by decide) q188 dX2_init_5 ?_
  refine bl_arr (k := 0) (id := 0) (atype := .int) (ty := .int) (t0 := 0) (n := 60000) (cA0 := G.2.1) (a0 := (60000, .inl fun _ => Int32.ofInt 0)) ok rfl (by decide) (by decide) (by decide) FC_10 (by decide) (by decide) rfl in_X2 tyX2 tyX2_ok nmX2 rfl (Or.inl rfl) q231 rfl q306 rfl (fun C h => by cases h) rfl (arz1 rfl) (fun cA => rfl) (by decide) (by decide) (Nat.le_trans (Nat.le_of_ble_eq_true rfl) hC) (Nat.le_trans (Nat.le_of_ble_eq_true rfl) hS) dX2_init_7 dX2_init_9 (fun q0 => ?_)
  refine bl_aload ok dX2_init_12 ?_
  refine bl_ldc (n := 60000) ok (by decide) q188 dX2_init_13 ?_
  refine bl_arr (k := 1) (id := 1) (atype := .int) (ty := .int) (t0 := 0) (n := 60000) (cA0 := G.2.1) (a0 := (60000, .inl fun _ => Int32.ofInt 0)) ok rfl (by decide) (by decide) (by decide) FC_10 (by decide) (by decide) rfl in_X2 tyX2 tyX2_ok nmX2 rfl (Or.inl rfl) q233 rfl q306 rfl (fun C h => by cases h) rfl (arz1 rfl) (fun cA => rfl) (by decide) (by decide) (Nat.le_trans (Nat.le_of_ble_eq_true rfl) hC) (Nat.le_trans (Nat.le_of_ble_eq_true rfl) hS) dX2_init_15 dX2_init_17 (fun q1 => ?_)
  refine bl_aload ok dX2_init_20 ?_
  refine bl_ldc (n := 60000) ok (by decide) q188 dX2_init_21 ?_
  refine bl_arr (k := 2) (id := 2) (atype := .int) (ty := .int) (t0 := 0) (n := 60000) (cA0 := G.2.1) (a0 := (60000, .inl fun _ => Int32.ofInt 0)) ok rfl (by decide) (by decide) (by decide) FC_10 (by decide) (by decide) rfl in_X2 tyX2 tyX2_ok nmX2 rfl (Or.inl rfl) q235 rfl q306 rfl (fun C h => by cases h) rfl (arz1 rfl) (fun cA => rfl) (by decide) (by decide) (Nat.le_trans (Nat.le_of_ble_eq_true rfl) hC) (Nat.le_trans (Nat.le_of_ble_eq_true rfl) hS) dX2_init_23 dX2_init_25 (fun q2 => ?_)
  refine bl_aload ok dX2_init_28 ?_
  refine bl_ldc (n := 60000) ok (by decide) q188 dX2_init_29 ?_
  refine bl_arr (k := 3) (id := 3) (atype := .int) (ty := .int) (t0 := 0) (n := 60000) (cA0 := G.2.1) (a0 := (60000, .inl fun _ => Int32.ofInt 0)) ok rfl (by decide) (by decide) (by decide) FC_10 (by decide) (by decide) rfl in_X2 tyX2 tyX2_ok nmX2 rfl (Or.inl rfl) q236 rfl q306 rfl (fun C h => by cases h) rfl (arz1 rfl) (fun cA => rfl) (by decide) (by decide) (Nat.le_trans (Nat.le_of_ble_eq_true rfl) hC) (Nat.le_trans (Nat.le_of_ble_eq_true rfl) hS) dX2_init_31 dX2_init_33 (fun q3 => ?_)
  refine bl_aload ok dX2_init_36 ?_
  refine bl_ldc (n := 60000) ok (by decide) q188 dX2_init_37 ?_
  refine bl_arr (k := 4) (id := 4) (atype := .int) (ty := .int) (t0 := 0) (n := 60000) (cA0 := G.2.1) (a0 := (60000, .inl fun _ => Int32.ofInt 0)) ok rfl (by decide) (by decide) (by decide) FC_10 (by decide) (by decide) rfl in_X2 tyX2 tyX2_ok nmX2 rfl (Or.inl rfl) q238 rfl q306 rfl (fun C h => by cases h) rfl (arz1 rfl) (fun cA => rfl) (by decide) (by decide) (Nat.le_trans (Nat.le_of_ble_eq_true rfl) hC) (Nat.le_trans (Nat.le_of_ble_eq_true rfl) hS) dX2_init_39 dX2_init_41 (fun q4 => ?_)
  refine bl_aload ok dX2_init_44 ?_
  refine bl_ldc (n := 60000) ok (by decide) q188 dX2_init_45 ?_
  refine bl_arr (k := 5) (id := 5) (atype := .int) (ty := .int) (t0 := 0) (n := 60000) (cA0 := G.2.1) (a0 := (60000, .inl fun _ => Int32.ofInt 0)) ok rfl (by decide) (by decide) (by decide) FC_10 (by decide) (by decide) rfl in_X2 tyX2 tyX2_ok nmX2 rfl (Or.inl rfl) q240 rfl q306 rfl (fun C h => by cases h) rfl (arz1 rfl) (fun cA => rfl) (by decide) (by decide) (Nat.le_trans (Nat.le_of_ble_eq_true rfl) hC) (Nat.le_trans (Nat.le_of_ble_eq_true rfl) hS) dX2_init_47 dX2_init_49 (fun q5 => ?_)
  refine bl_aload ok dX2_init_52 ?_
  refine bl_ldc (n := 60000) ok (by decide) q188 dX2_init_53 ?_
  refine bl_arr (k := 6) (id := 6) (atype := .int) (ty := .int) (t0 := 0) (n := 60000) (cA0 := G.2.1) (a0 := (60000, .inl fun _ => Int32.ofInt 0)) ok rfl (by decide) (by decide) (by decide) FC_10 (by decide) (by decide) rfl in_X2 tyX2 tyX2_ok nmX2 rfl (Or.inl rfl) q242 rfl q306 rfl (fun C h => by cases h) rfl (arz1 rfl) (fun cA => rfl) (by decide) (by decide) (Nat.le_trans (Nat.le_of_ble_eq_true rfl) hC) (Nat.le_trans (Nat.le_of_ble_eq_true rfl) hS) dX2_init_55 dX2_init_57 (fun q6 => ?_)
  refine bl_aload ok dX2_init_60 ?_
  refine bl_ldc (n := 180000) ok (by decide) q189 dX2_init_61 ?_
  refine bl_arr (k := 7) (id := 7) (atype := .int) (ty := .int) (t0 := 0) (n := 180000) (cA0 := G.2.1) (a0 := (180000, .inl fun _ => Int32.ofInt 0)) ok rfl (by decide) (by decide) (by decide) FC_10 (by decide) (by decide) rfl in_X2 tyX2 tyX2_ok nmX2 rfl (Or.inl rfl) q243 rfl q306 rfl (fun C h => by cases h) rfl (arz1 rfl) (fun cA => rfl) (by decide) (by decide) (Nat.le_trans (Nat.le_of_ble_eq_true rfl) hC) (Nat.le_trans (Nat.le_of_ble_eq_true rfl) hS) dX2_init_63 dX2_init_65 (fun q7 => ?_)
  refine bl_aload ok dX2_init_68 ?_
  refine bl_ldc (n := 32768) ok (by decide) q190 dX2_init_69 ?_
  refine bl_arr (k := 8) (id := 8) (atype := .int) (ty := .int) (t0 := 0) (n := 32768) (cA0 := G.2.1) (a0 := (32768, .inl fun _ => Int32.ofInt 0)) ok rfl (by decide) (by decide) (by decide) FC_10 (by decide) (by decide) rfl in_X2 tyX2 tyX2_ok nmX2 rfl (Or.inr ⟨rfl, hnm⟩) q244 rfl q306 rfl (fun C h => by cases h) rfl (arz1 rfl) (fun cA => rfl) (by decide) (by decide) (Nat.le_trans (Nat.le_of_ble_eq_true rfl) hC) (Nat.le_trans (Nat.le_of_ble_eq_true rfl) hS) dX2_init_71 dX2_init_73 (fun q8 => ?_)
  refine bl_aload ok dX2_init_76 ?_
  refine bl_iconst ok dX2_init_77 ?_
  refine bl_int (k := 9) (id := 9) ok rfl (by decide) rfl rfl in_X2 tyX2 tyX2_ok nmX2 rfl rfl q245 rfl dX2_init_78 ?_
  refine bl_aload ok dX2_init_81 ?_
  refine bl_sipush ok (by decide) dX2_init_82 ?_
  refine bl_arr (k := 11) (id := 11) (atype := .int) (ty := .int) (t0 := 0) (n := 1024) (cA0 := G.2.1) (a0 := (1024, .inl fun _ => Int32.ofInt 0)) ok rfl (by decide) (by decide) (by decide) FC_10 (by decide) (by decide) rfl in_X2 tyX2 tyX2_ok nmX2 rfl (Or.inl rfl) q250 rfl q306 rfl (fun C h => by cases h) rfl (arz1 rfl) (fun cA => rfl) (by decide) (by decide) (Nat.le_trans (Nat.le_of_ble_eq_true rfl) hC) (Nat.le_trans (Nat.le_of_ble_eq_true rfl) hS) dX2_init_85 dX2_init_87 (fun q11 => ?_)
  intro H locs ls hP hD hS1 hl
  have hpm := bw_end (F := FS) (G := G) (ci := 0) (b := 0) (N := 21) (ad := (va_up (va_up (va_up (va_up (va_up (va_up (va_up (va_up (va_up (va_up ad (10 + 0) q0) (10 + 1) q1) (10 + 2) q2) (10 + 3) q3) (10 + 4) q4) (10 + 5) q5) (10 + 6) q6) (10 + 7) q7) (10 + 8) q8) (10 + 11) q11)) (σ := cs2) (set := [11, 8, 7, 6, 5, 4, 3, 2, 1, 0]) (arrs := [0, 1, 2, 3, 4, 5, 6, 7, 8, 11]) rfl (by decide) (by decide +kernel)
  refine W_mono ((wX2_rest (σ0 := (cs2.1, cs2.2.1, 0, 0)) (ad0 := (va_up (va_up (va_up (va_up (va_up (va_up (va_up (va_up (va_up (va_up ad (10 + 0) q0) (10 + 1) q1) (10 + 2) q2) (10 + 3) q3) (10 + 4) q4) (10 + 5) q5) (10 + 6) q6) (10 + 7) q7) (10 + 8) q8) (10 + 11) q11)) hd hnm (Nat.le_refl _) (Nat.le_refl _) cs2).2 ok r σf hr (Nat.zero_le _) (Nat.zero_le _) rfl rfl hzr.wf _ H locs ls ⟨fun _ _ => rfl, fun _ => ⟨Nat.le_refl _, fun _ => rfl⟩⟩ (va_P_perm hpm hP) (va_D_perm hpm hD) hS1 hl) (fun t h => Qx_ini (ad0 := (va_up (va_up (va_up (va_up (va_up (va_up (va_up (va_up (va_up (va_up ad (10 + 0) q0) (10 + 1) q1) (10 + 2) q2) (10 + 3) q3) (10 + 4) q4) (10 + 5) q5) (10 + 6) q6) (10 + 7) q7) (10 + 8) q8) (10 + 11) q11)) (by decide) (by simp only [vu0]; exact had) t h)
