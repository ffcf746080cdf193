/-! RoundCheckModel.q(I)I -/
abbrev JX3_q : Jm := (cX3_q, RX3, 4, (some .int))
def bX3_q (call : Nat → List Int → Sg → Option (Int × Sg)) (a1 : Int) (u : Sg) : Option (Int × Sg) := jn (fun (a1 : Int) (s2 : Sg) => un (gI s2 48) fun v3 => stA s2 43 v3 a1 fun s4 => un (gI s4 48) fun v5 => stA s4 44 v5 0 fun s6 => un (gI s6 48) fun v7 => stA s6 45 v7 0 fun s8 => un (gI s8 48) fun v9 => stA s8 46 v9 0 fun s10 => un (gI s10 48) fun v11 => some (v11, s10)) fun j1 => un (gI u 48) fun v12 => ar (v12 + 1) fun v13 => un (sI u 48 v13) fun s14 => un (gI s14 48) fun v15 => mor s14 43 v15 fun s16 => un (gI s16 48) fun v17 => mor s16 44 v17 fun s18 => un (gI s18 48) fun v19 => mor s18 45 v19 fun s20 => un (gI s20 48) fun v21 => mor s20 46 v21 fun s22 => un (gI s22 48) fun v23 => un (gL s22 47 : Int) fun v24 => if v23 < v24 then (j1 a1 s22) else (un (gI s22 48) fun v25 => ar (2 * v25) fun v26 => grL s22 47 48 v26 fun s27 => j1 a1 s27)
section
variable {p : Program} {l : Launch} {e : Env} {R : Room} {s : State} {m : MethodId} {args : Array Value} {below : List Frame} {meth : Method} {c : Code} {G : Gm} {A : Nat → Prop} {ad0 : Nat → Nat} {σ0 : Sg} {d : Nat} {call : Nat → List Int → Sg → Option (Int × Sg)}
theorem wX3_q (hd : 2 ≤ d) (hRf : d + 1 ≤ R.frames) (hRl : 40 * (d + 1) ≤ R.locals) (a1 : Int) (u : Sg) (ra1 : inR a1) : WG p l e R s m args below meth c JX3_q DX3_q G clA A FT ad0 σ0 rvI (bX3_q call a1 u) u 0 [(0, vR 0), (1, vI a1)] [] := by
  unfold bX3_q
  refine g_jn (fun j1 => ∀ (a1 : Int) (s2 : Sg), inR a1 → WG p l e R s m args below meth c JX3_q DX3_q G clA A FT ad0 σ0 rvI (j1 a1 s2) s2 121 [(0, vR 0), (1, vI a1)] []) (fun a1 s2 ra1 => ?_) (fun j1 hj1 => ?_)
  · refine g_aload_n 0 dX3_q_121 rfl ?_
    refine g_get (v := vR 53) (ci := 2) (b := 0) (N := 83) 43 rfl rfl (by decide) in_X3 rfl rfl q1175 dX3_q_122 ?_
    refine g_aload_n 0 dX3_q_125 rfl ?_
    refine g_getI (ci := 2) (b := 0) (N := 83) 48 rfl rfl rfl (by decide) in_X3 rfl rfl q1180 dX3_q_126 (fun v3 rv3 => ?_)
    refine g_iload_n 1 dX3_q_129 rfl ?_
    refine g_iastU (id := 43) FT_ok 30 rfl rfl (by decide +kernel) ra1 dX3_q_130 (fun s4 => ?_)
    refine g_aload_n 0 dX3_q_131 rfl ?_
    refine g_get (v := vR 54) (ci := 2) (b := 0) (N := 83) 44 rfl rfl (by decide) in_X3 rfl rfl q1176 dX3_q_132 ?_
    refine g_aload_n 0 dX3_q_135 rfl ?_
    refine g_getI (ci := 2) (b := 0) (N := 83) 48 rfl rfl rfl (by decide) in_X3 rfl rfl q1180 dX3_q_136 (fun v5 rv5 => ?_)
    refine g_iconst dX3_q_139 ?_
    refine g_iastU (id := 44) FT_ok 31 rfl rfl (by decide +kernel) (inR_z (Or.inl rfl)) dX3_q_140 (fun s6 => ?_)
    refine g_aload_n 0 dX3_q_141 rfl ?_
    refine g_get (v := vR 55) (ci := 2) (b := 0) (N := 83) 45 rfl rfl (by decide) in_X3 rfl rfl q1177 dX3_q_142 ?_
    refine g_aload_n 0 dX3_q_145 rfl ?_
    refine g_getI (ci := 2) (b := 0) (N := 83) 48 rfl rfl rfl (by decide) in_X3 rfl rfl q1180 dX3_q_146 (fun v7 rv7 => ?_)
    refine g_iconst dX3_q_149 ?_
    refine g_iastU (id := 45) FT_ok 32 rfl rfl (by decide +kernel) (inR_z (Or.inl rfl)) dX3_q_150 (fun s8 => ?_)
    refine g_aload_n 0 dX3_q_151 rfl ?_
    refine g_get (v := vR 56) (ci := 2) (b := 0) (N := 83) 46 rfl rfl (by decide) in_X3 rfl rfl q1178 dX3_q_152 ?_
    refine g_aload_n 0 dX3_q_155 rfl ?_
    refine g_getI (ci := 2) (b := 0) (N := 83) 48 rfl rfl rfl (by decide) in_X3 rfl rfl q1180 dX3_q_156 (fun v9 rv9 => ?_)
    refine g_iconst dX3_q_159 ?_
    refine g_iastU (id := 46) FT_ok 33 rfl rfl (by decide +kernel) (inR_z (Or.inl rfl)) dX3_q_160 (fun s10 => ?_)
    refine g_aload_n 0 dX3_q_161 rfl ?_
    refine g_getI (ci := 2) (b := 0) (N := 83) 48 rfl rfl rfl (by decide) in_X3 rfl rfl q1180 dX3_q_162 (fun v11 rv11 => ?_)
    exact g_iret rfl rfl (fun _ => rv11) dX3_q_165
  · refine g_aload_n 0 dX3_q_0 rfl ?_
    refine g_dup rfl dX3_q_1 ?_
    refine g_getI (ci := 2) (b := 0) (N := 83) 48 rfl rfl rfl (by decide) in_X3 rfl rfl q1180 dX3_q_2 (fun v12 rv12 => ?_)
    refine g_iconst dX3_q_5 ?_
    refine g_iadd dX3_q_6 (fun v13 rv13 => ?_)
    refine g_sIU (ci := 2) (b := 0) (N := 83) FT_ok 48 rfl rfl rfl (by decide) in_X3 tyX3 tyX3_ok nmX3 rfl rfl rfl rfl (by decide +kernel) rv13 q1180 dX3_q_7 (fun s14 => ?_)
    refine g_aload_n 0 dX3_q_10 rfl ?_
    refine g_aload_n 0 dX3_q_11 rfl ?_
    refine g_get (v := vR 53) (ci := 2) (b := 0) (N := 83) 43 rfl rfl (by decide) in_X3 rfl rfl q1175 dX3_q_12 ?_
    refine g_aload_n 0 dX3_q_15 rfl ?_
    refine g_getI (ci := 2) (b := 0) (N := 83) 48 rfl rfl rfl (by decide) in_X3 rfl rfl q1180 dX3_q_16 (fun v15 rv15 => ?_)
    refine g_more (ci := 2) (b := 0) (N := 83) FT_ok FT_10 rfl 43 30 rfl rfl rfl rfl (by decide) in_X3 tyX3 tyX3_ok nmX3 rfl rfl rfl rfl (by decide +kernel) rv15 q1104 q1175 hRf hRl hd (Nat.le_of_ble_eq_true rfl) rfl rfl dX3_q_19 dX3_q_22 (fun s16 => ?_)
    refine g_aload_n 0 dX3_q_25 rfl ?_
    refine g_aload_n 0 dX3_q_26 rfl ?_
    refine g_get (v := vR 54) (ci := 2) (b := 0) (N := 83) 44 rfl rfl (by decide) in_X3 rfl rfl q1176 dX3_q_27 ?_
    refine g_aload_n 0 dX3_q_30 rfl ?_
    refine g_getI (ci := 2) (b := 0) (N := 83) 48 rfl rfl rfl (by decide) in_X3 rfl rfl q1180 dX3_q_31 (fun v17 rv17 => ?_)
    refine g_more (ci := 2) (b := 0) (N := 83) FT_ok FT_10 rfl 44 31 rfl rfl rfl rfl (by decide) in_X3 tyX3 tyX3_ok nmX3 rfl rfl rfl rfl (by decide +kernel) rv17 q1104 q1176 hRf hRl hd (Nat.le_of_ble_eq_true rfl) rfl rfl dX3_q_34 dX3_q_37 (fun s18 => ?_)
    refine g_aload_n 0 dX3_q_40 rfl ?_
    refine g_aload_n 0 dX3_q_41 rfl ?_
    refine g_get (v := vR 55) (ci := 2) (b := 0) (N := 83) 45 rfl rfl (by decide) in_X3 rfl rfl q1177 dX3_q_42 ?_
    refine g_aload_n 0 dX3_q_45 rfl ?_
    refine g_getI (ci := 2) (b := 0) (N := 83) 48 rfl rfl rfl (by decide) in_X3 rfl rfl q1180 dX3_q_46 (fun v19 rv19 => ?_)
    refine g_more (ci := 2) (b := 0) (N := 83) FT_ok FT_10 rfl 45 32 rfl rfl rfl rfl (by decide) in_X3 tyX3 tyX3_ok nmX3 rfl rfl rfl rfl (by decide +kernel) rv19 q1104 q1177 hRf hRl hd (Nat.le_of_ble_eq_true rfl) rfl rfl dX3_q_49 dX3_q_52 (fun s20 => ?_)
    refine g_aload_n 0 dX3_q_55 rfl ?_
    refine g_aload_n 0 dX3_q_56 rfl ?_
    refine g_get (v := vR 56) (ci := 2) (b := 0) (N := 83) 46 rfl rfl (by decide) in_X3 rfl rfl q1178 dX3_q_57 ?_
    refine g_aload_n 0 dX3_q_60 rfl ?_
    refine g_getI (ci := 2) (b := 0) (N := 83) 48 rfl rfl rfl (by decide) in_X3 rfl rfl q1180 dX3_q_61 (fun v21 rv21 => ?_)
    refine g_more (ci := 2) (b := 0) (N := 83) FT_ok FT_10 rfl 46 33 rfl rfl rfl rfl (by decide) in_X3 tyX3 tyX3_ok nmX3 rfl rfl rfl rfl (by decide +kernel) rv21 q1104 q1178 hRf hRl hd (Nat.le_of_ble_eq_true rfl) rfl rfl dX3_q_64 dX3_q_67 (fun s22 => ?_)
    refine g_aload_n 0 dX3_q_70 rfl ?_
    refine g_getI (ci := 2) (b := 0) (N := 83) 48 rfl rfl rfl (by decide) in_X3 rfl rfl q1180 dX3_q_71 (fun v23 rv23 => ?_)
    refine g_aload_n 0 dX3_q_74 rfl ?_
    refine g_get (v := vR 57) (ci := 2) (b := 0) (N := 83) 47 rfl rfl (by decide) in_X3 rfl rfl q1179 dX3_q_75 ?_
    refine g_alenU (id := 47) 34 rfl (Or.inr (Or.inl rfl)) dX3_q_78 (fun v24 rv24 => ?_)
    refine g_icmp_lt 121 dX3_q_79 (by decide) (fun _ => rv23) (fun _ => rv24) (fun _ => ?_) (fun _ => ?_)
    · exact g_pick [0, 1] rfl (hj1 a1 s22 ra1)
    · refine g_iconst dX3_q_82 ?_
      refine g_aload_n 0 dX3_q_83 rfl ?_
      refine g_getI (ci := 2) (b := 0) (N := 83) 48 rfl rfl rfl (by decide) in_X3 rfl rfl q1180 dX3_q_84 (fun v25 rv25 => ?_)
      refine g_imul dX3_q_87 (fun v26 rv26 => ?_)
      refine g_growq hd hRf hRl rv26 (by decide +kernel) (fun s27 => ?_)
      exact g_pick [0, 1] rfl (hj1 a1 s27 ra1)
end
section
variable {l : Launch} {d : Nat} {call : Nat → List Int → Sg → Option (Int × Sg)}
theorem ctX3_q (p0 : Program) (e0 : Env) (s0 : State) (m0 : MethodId) (meth0 : Method) (c0 : Code) (G0 : Gm) (hd : 2 ≤ d) (a1 : Int) (u : Sg) : Ct l (d + 1) FT clA yX3_q cX3_q 4 (some .int) DX3_q rvI [vR 0, vI a1] u (bX3_q call a1 u) :=
  Ct_of (by decide) (Nat.le_of_ble_eq_true rfl) (fun p e R s1 m args below meth c G A ad hA hRf hRl => wX3_q hd hRf hRl a1 u (hA _ (List.mem_cons_of_mem _ List.mem_cons_self))) p0 e0 s0 m0 meth0 c0 G0
end
