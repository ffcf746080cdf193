/-! RoundCheckModel.counted(I)I -/
abbrev JX3_counted : Jm := (cX3_counted, RX3, 6, (some .int))
def bX3_counted_L27 (call : Nat → List Int → Sg → Option (Int × Sg)) : Nat → Int → Int → Int → Int → Sg → (Int → Int → Int → Sg → Option (Int × Sg)) → Option (Int × Sg)
  | 0, _, _, _, _, _, _ => none
  | n + 1, a1, a2, a4, a5, u, x123 => if a5 ≤ 0 then (x123 a1 a2 a4 u) else (jn (fun (a1 a2 a4 a5 : Int) (s2 : Sg) => ld s2 45 a5 fun v3 => bX3_counted_L27 call n a1 a2 a4 v3 s2 x123) fun j1 => ld u 43 a1 fun v4 => if v4 = 2 then (ld u 47 a5 fun v5 => arL (a2 + v5) fun v6 => un (if v6 < 1099511627776 then v6 else 1099511627776) fun v7 => j1 a1 v7 a4 a5 u) else (ld u 47 a5 fun v8 => un (o_cmp v8 0) fun v9 => if v9 = 0 then (j1 a1 a2 1 a5 u) else (jn (fun (a1 a4 a5 t0 : Int) (s11 : Sg) => j1 a1 t0 a4 a5 s11) fun j10 => ld u 47 a5 fun v12 => gd (v12 ≠ 0) (arL (Int.tdiv 1099511627776 v12) fun v13 => un (o_cmp a2 v13) fun v14 => if v14 < 0 then (ld u 47 a5 fun v15 => arL (a2 * v15) fun v16 => j10 a1 a4 a5 v16 u) else (j10 a1 a4 a5 1099511627776 u)))))
def bX3_counted (call : Nat → List Int → Sg → Option (Int × Sg)) (a1 : Int) (u : Sg) : Option (Int × Sg) := jn (fun (a1 t0 : Int) (s2 : Sg) => ld s2 44 a1 fun v3 => bX3_counted_L27 call KF a1 t0 0 v3 s2 (fun v5 v6 v7 s4 => jn (fun (a1 t1 t2 : Int) (s9 : Sg) => stA s9 47 t1 t2 fun s10 => some (a1, s10)) fun j8 => if v7 = 0 then (j8 v5 v5 v6 s4) else (j8 v5 v5 0 s4))) fun j1 => ld u 43 a1 fun v11 => if v11 = 1 then (j1 a1 1 u) else (j1 a1 0 u)
section
variable {p : Program} {l : Launch} {e : Env} {R : Room} {s : State} {m : MethodId} {args : Array Value} {below : List Frame} {meth : Method} {c : Code} {G : Gm} {A : Nat → Prop} {ad0 : Nat → Nat} {σ0 : Sg} {d : Nat} {call : Nat → List Int → Sg → Option (Int × Sg)}
theorem wX3_counted_L27 (hd : 2 ≤ d) (hRf : d + 1 ≤ R.frames) (hRl : 40 * (d + 1) ≤ R.locals) (x123 : Int → Int → Int → Sg → Option (Int × Sg)) (hx123 : ∀ (a1 a2 a4 : Int) (u : Sg), inR a1 → inL a2 → (a4 = 0 ∨ a4 = 1) → WG p l e R s m args below meth c JX3_counted DX3_counted G clA A FT ad0 σ0 rvI (x123 a1 a2 a4 u) u 123 [(0, vR 0), (1, vI a1), (2, vL a2), (4, vI a4)] []) : ∀ (n : Nat) (a1 a2 a4 a5 : Int) (u : Sg), inR a1 → inL a2 → (a4 = 0 ∨ a4 = 1) → inR a5 → WG p l e R s m args below meth c JX3_counted DX3_counted G clA A FT ad0 σ0 rvI (bX3_counted_L27 call n a1 a2 a4 a5 u x123) u 27 [(0, vR 0), (1, vI a1), (2, vL a2), (4, vI a4), (5, vI a5)] [] := by
  intro n
  induction n with
  | zero =>
    intro a1 a2 a4 a5 u ra1 ra2 za4 ra5
    exact g_none
  | succ n ih =>
    intro a1 a2 a4 a5 u ra1 ra2 za4 ra5
    rw [bX3_counted_L27]
    refine g_iload 4 dX3_counted_27 rfl ?_
    refine g_if_le 123 dX3_counted_29 (by decide) (fun _ => ra5) (fun _ => ?_) (fun _ => ?_)
    · exact g_pick [0, 1, 2, 3] rfl (hx123 a1 a2 a4 u ra1 ra2 za4)
    · refine g_jn (fun j1 => ∀ (a1 a2 a4 a5 : Int) (s2 : Sg), inR a1 → inL a2 → (a4 = 0 ∨ a4 = 1) → inR a5 → WG p l e R s m args below meth c JX3_counted DX3_counted G clA A FT ad0 σ0 rvI (j1 a1 a2 a4 a5 s2) s2 111 [(0, vR 0), (1, vI a1), (2, vL a2), (4, vI a4), (5, vI a5)] []) (fun a1 a2 a4 a5 s2 ra1 ra2 za4 ra5 => ?_) (fun j1 hj1 => ?_)
      · refine g_aload_n 0 dX3_counted_111 rfl ?_
        refine g_get (v := vR 55) (ci := 2) (b := 0) (N := 83) 45 rfl rfl (by decide) in_X3 rfl rfl q1177 dX3_counted_112 ?_
        refine g_iload 4 dX3_counted_115 rfl ?_
        refine g_iald (id := 45) 32 rfl rfl dX3_counted_117 (fun v3 rv3 => ?_)
        refine g_istore (loc' := [(5, vI v3), (0, vR 0), (1, vI a1), (2, vL a2), (4, vI a4)]) dX3_counted_118 (by decide) rfl ?_
        refine g_goto 27 dX3_counted_120 (by decide) ?_
        exact g_pick [1, 2, 3, 4, 0] rfl (ih a1 a2 a4 v3 s2 ra1 ra2 za4 rv3)
      · refine g_aload_n 0 dX3_counted_32 rfl ?_
        refine g_get (v := vR 53) (ci := 2) (b := 0) (N := 83) 43 rfl rfl (by decide) in_X3 rfl rfl q1175 dX3_counted_33 ?_
        refine g_iload_n 1 dX3_counted_36 rfl ?_
        refine g_iald (id := 43) 30 rfl rfl dX3_counted_37 (fun v4 rv4 => ?_)
        refine g_iconst dX3_counted_38 ?_
        refine g_icmp_ne 61 dX3_counted_39 (by decide) (fun _ => rv4) (fun _ => (by decide : inR (2))) (fun _ => ?_) (fun _ => ?_)
        · refine g_ldc2 (n := 1099511627776) (by decide +kernel) q1567 dX3_counted_42 ?_
          refine g_lload_n 2 dX3_counted_45 rfl ?_
          refine g_aload_n 0 dX3_counted_46 rfl ?_
          refine g_get (v := vR 57) (ci := 2) (b := 0) (N := 83) 47 rfl rfl (by decide) in_X3 rfl rfl q1179 dX3_counted_47 ?_
          refine g_iload 4 dX3_counted_50 rfl ?_
          refine g_lald (id := 47) 34 rfl rfl dX3_counted_52 (fun v5 rv5 => ?_)
          refine g_ladd dX3_counted_53 (fun v6 rv6 => ?_)
          refine g_mminL (by decide : inL (1099511627776)) rv6 (Nat.le_trans (Nat.succ_le_succ (Nat.zero_le _)) hRf) (Nat.le_trans (Nat.mul_le_mul_left 40 (Nat.succ_le_succ (Nat.zero_le d))) hRl) (Nat.le_of_ble_eq_true rfl) q1568 q221 q166 q222 dX3_counted_54 (fun v7 rv7 => ?_)
          refine g_lstore_n (loc' := [(2, vL v7), (0, vR 0), (1, vI a1), (4, vI a4), (5, vI a5)]) dX3_counted_57 (by decide) rfl ?_
          refine g_goto 111 dX3_counted_58 (by decide) ?_
          exact g_pick [1, 2, 0, 3, 4] rfl (hj1 a1 v7 a4 a5 u ra1 rv7 za4 ra5)
        · refine g_aload_n 0 dX3_counted_61 rfl ?_
          refine g_get (v := vR 57) (ci := 2) (b := 0) (N := 83) 47 rfl rfl (by decide) in_X3 rfl rfl q1179 dX3_counted_62 ?_
          refine g_iload 4 dX3_counted_65 rfl ?_
          refine g_lald (id := 47) 34 rfl rfl dX3_counted_67 (fun v8 rv8 => ?_)
          refine g_lconst (v := 0) (by decide +kernel) dX3_counted_68 ?_
          refine g_lcmpU rv8 (by decide : inL (0)) dX3_counted_69 (fun v9 rv9 => ?_)
          refine g_if_ne 79 dX3_counted_70 (by decide) (fun _ => rv9) (fun _ => ?_) (fun _ => ?_)
          · refine g_iconst dX3_counted_73 ?_
            refine g_istore (loc' := [(4, vI 1), (0, vR 0), (1, vI a1), (2, vL a2), (5, vI a5)]) dX3_counted_74 (by decide) rfl ?_
            refine g_goto 111 dX3_counted_76 (by decide) ?_
            exact g_pick [1, 2, 3, 0, 4] rfl (hj1 a1 a2 1 a5 u ra1 ra2 (Or.inr rfl) ra5)
          · refine g_jn (fun j10 => ∀ (a1 a4 a5 t0 : Int) (s11 : Sg), inR a1 → (a4 = 0 ∨ a4 = 1) → inR a5 → inL t0 → WG p l e R s m args below meth c JX3_counted DX3_counted G clA A FT ad0 σ0 rvI (j10 a1 a4 a5 t0 s11) s11 110 [(0, vR 0), (1, vI a1), (4, vI a4), (5, vI a5)] [vL t0]) (fun a1 a4 a5 t0 s11 ra1 za4 ra5 rt0 => ?_) (fun j10 hj10 => ?_)
            · refine g_lstore_n (loc' := [(2, vL t0), (0, vR 0), (1, vI a1), (4, vI a4), (5, vI a5)]) dX3_counted_110 (by decide) rfl ?_
              exact g_pick [1, 2, 0, 3, 4] rfl (hj1 a1 t0 a4 a5 s11 ra1 rt0 za4 ra5)
            · refine g_lload_n 2 dX3_counted_79 rfl ?_
              refine g_ldc2 (n := 1099511627776) (by decide +kernel) q1567 dX3_counted_80 ?_
              refine g_aload_n 0 dX3_counted_83 rfl ?_
              refine g_get (v := vR 57) (ci := 2) (b := 0) (N := 83) 47 rfl rfl (by decide) in_X3 rfl rfl q1179 dX3_counted_84 ?_
              refine g_iload 4 dX3_counted_87 rfl ?_
              refine g_lald (id := 47) 34 rfl rfl dX3_counted_89 (fun v12 rv12 => ?_)
              refine g_ldiv (by decide : inL (1099511627776)) rv12 dX3_counted_90 (fun v13 rv13 => ?_)
              refine g_lcmpU ra2 rv13 dX3_counted_91 (fun v14 rv14 => ?_)
              refine g_if_lt 101 dX3_counted_92 (by decide) (fun _ => rv14) (fun _ => ?_) (fun _ => ?_)
              · refine g_lload_n 2 dX3_counted_101 rfl ?_
                refine g_aload_n 0 dX3_counted_102 rfl ?_
                refine g_get (v := vR 57) (ci := 2) (b := 0) (N := 83) 47 rfl rfl (by decide) in_X3 rfl rfl q1179 dX3_counted_103 ?_
                refine g_iload 4 dX3_counted_106 rfl ?_
                refine g_lald (id := 47) 34 rfl rfl dX3_counted_108 (fun v15 rv15 => ?_)
                refine g_lmul dX3_counted_109 (fun v16 rv16 => ?_)
                exact g_pick [0, 1, 3, 4] rfl (hj10 a1 a4 a5 v16 u ra1 za4 ra5 rv16)
              · refine g_ldc2 (n := 1099511627776) (by decide +kernel) q1567 dX3_counted_95 ?_
                refine g_goto 110 dX3_counted_98 (by decide) ?_
                exact g_pick [0, 1, 3, 4] rfl (hj10 a1 a4 a5 1099511627776 u ra1 za4 ra5 (by decide : inL (1099511627776)))
theorem wX3_counted (hd : 2 ≤ d) (hRf : d + 1 ≤ R.frames) (hRl : 40 * (d + 1) ≤ R.locals) (a1 : Int) (u : Sg) (ra1 : inR a1) : WG p l e R s m args below meth c JX3_counted DX3_counted G clA A FT ad0 σ0 rvI (bX3_counted call a1 u) u 0 [(0, vR 0), (1, vI a1)] [] := by
  unfold bX3_counted
  refine g_jn (fun j1 => ∀ (a1 t0 : Int) (s2 : Sg), inR a1 → inL t0 → WG p l e R s m args below meth c JX3_counted DX3_counted G clA A FT ad0 σ0 rvI (j1 a1 t0 s2) s2 15 [(0, vR 0), (1, vI a1)] [vL t0]) (fun a1 t0 s2 ra1 rt0 => ?_) (fun j1 hj1 => ?_)
  · refine g_lstore_n (loc' := [(2, vL t0), (0, vR 0), (1, vI a1)]) dX3_counted_15 (by decide) rfl ?_
    refine g_iconst dX3_counted_16 ?_
    refine g_istore (loc' := [(4, vI 0), (2, vL t0), (0, vR 0), (1, vI a1)]) dX3_counted_17 (by decide) rfl ?_
    refine g_aload_n 2 dX3_counted_19 rfl ?_
    refine g_get (v := vR 54) (ci := 2) (b := 0) (N := 83) 44 rfl rfl (by decide) in_X3 rfl rfl q1176 dX3_counted_20 ?_
    refine g_iload_n 3 dX3_counted_23 rfl ?_
    refine g_iald (id := 44) 31 rfl rfl dX3_counted_24 (fun v3 rv3 => ?_)
    refine g_istore (loc' := [(5, vI v3), (4, vI 0), (2, vL t0), (0, vR 0), (1, vI a1)]) dX3_counted_25 (by decide) rfl ?_
    refine g_pick [3, 4, 2, 1, 0] rfl (wX3_counted_L27 hd hRf hRl _ (fun v5 v6 v7 s4 rv5 rv6 zv7 => ?_) KF a1 t0 0 v3 s2 ra1 rt0 (Or.inl rfl) rv3)
    · refine g_jn (fun j8 => ∀ (a1 t1 t2 : Int) (s9 : Sg), inR a1 → inR t1 → inL t2 → WG p l e R s m args below meth c JX3_counted DX3_counted G clA A FT ad0 σ0 rvI (j8 a1 t1 t2 s9) s9 138 [(1, vI a1)] [vL t2, vI t1, vR 57]) (fun a1 t1 t2 s9 ra1 rt1 rt2 => ?_) (fun j8 hj8 => ?_)
      · refine g_lastU (id := 47) FT_ok 34 rfl rfl (by decide +kernel) rt2 dX3_counted_138 (fun s10 => ?_)
        refine g_iload_n 0 dX3_counted_139 rfl ?_
        exact g_iret rfl rfl (fun _ => ra1) dX3_counted_140
      · refine g_aload_n 0 dX3_counted_123 rfl ?_
        refine g_get (v := vR 57) (ci := 2) (b := 0) (N := 83) 47 rfl rfl (by decide) in_X3 rfl rfl q1179 dX3_counted_124 ?_
        refine g_iload_n 1 dX3_counted_127 rfl ?_
        refine g_iload 3 dX3_counted_128 rfl ?_
        refine g_if_eq 137 dX3_counted_130 (by decide) (fun _ => (inR_z zv7)) (fun _ => ?_) (fun _ => ?_)
        · refine g_lload_n 2 dX3_counted_137 rfl ?_
          exact g_pick [1] rfl (hj8 v5 v5 v6 s4 rv5 rv5 rv6)
        · refine g_lconst (v := 0) (by decide +kernel) dX3_counted_133 ?_
          refine g_goto 138 dX3_counted_134 (by decide) ?_
          exact g_pick [1] rfl (hj8 v5 v5 0 s4 rv5 rv5 (by decide : inL (0)))
  · refine g_aload_n 0 dX3_counted_0 rfl ?_
    refine g_get (v := vR 53) (ci := 2) (b := 0) (N := 83) 43 rfl rfl (by decide) in_X3 rfl rfl q1175 dX3_counted_1 ?_
    refine g_iload_n 1 dX3_counted_4 rfl ?_
    refine g_iald (id := 43) 30 rfl rfl dX3_counted_5 (fun v11 rv11 => ?_)
    refine g_iconst dX3_counted_6 ?_
    refine g_icmp_ne 14 dX3_counted_7 (by decide) (fun _ => rv11) (fun _ => (inR_z (Or.inr rfl))) (fun _ => ?_) (fun _ => ?_)
    · refine g_lconst (v := 1) (by decide +kernel) dX3_counted_10 ?_
      refine g_goto 15 dX3_counted_11 (by decide) ?_
      exact g_pick [0, 1] rfl (hj1 a1 1 u ra1 (by decide : inL (1)))
    · refine g_lconst (v := 0) (by decide +kernel) dX3_counted_14 ?_
      exact g_pick [0, 1] rfl (hj1 a1 0 u ra1 (by decide : inL (0)))
end
section
variable {l : Launch} {d : Nat} {call : Nat → List Int → Sg → Option (Int × Sg)}
theorem ctX3_counted (p0 : Program) (e0 : Env) (s0 : State) (m0 : MethodId) (meth0 : Method) (c0 : Code) (G0 : Gm) (hd : 2 ≤ d) (a1 : Int) (u : Sg) : Ct l (d + 1) FT clA yX3_counted cX3_counted 6 (some .int) DX3_counted rvI [vR 0, vI a1] u (bX3_counted call a1 u) :=
  Ct_of (by decide) (Nat.le_of_ble_eq_true rfl) (fun p e R s1 m args below meth c G A ad hA hRf hRl => wX3_counted hd hRf hRl a1 u (hA _ (List.mem_cons_of_mem _ List.mem_cons_self))) p0 e0 s0 m0 meth0 c0 G0
end
/-! RoundCheckModel.hang(III)I -/
abbrev JX3_hang : Jm := (cX3_hang, RX3, 4, (some .int))
def bX3_hang (call : Nat → List Int → Sg → Option (Int × Sg)) (a1 a2 a3 : Int) (u : Sg) : Option (Int × Sg) := if a2 = 0 then (stA u 44 a1 a3 fun s1 => some (a3, s1)) else (stA u 45 a2 a3 fun s2 => some (a3, s2))
section
variable {p : Program} {l : Launch} {e : Env} {R : Room} {s : State} {m : MethodId} {args : Array Value} {below : List Frame} {meth : Method} {c : Code} {G : Gm} {A : Nat → Prop} {ad0 : Nat → Nat} {σ0 : Sg} {d : Nat} {call : Nat → List Int → Sg → Option (Int × Sg)}
theorem wX3_hang (hd : 2 ≤ d) (hRf : d + 1 ≤ R.frames) (hRl : 40 * (d + 1) ≤ R.locals) (a1 a2 a3 : Int) (u : Sg) (ra1 : inR a1) (ra2 : inR a2) (ra3 : inR a3) : WG p l e R s m args below meth c JX3_hang DX3_hang G clA A FT ad0 σ0 rvI (bX3_hang call a1 a2 a3 u) u 0 [(0, vR 0), (1, vI a1), (2, vI a2), (3, vI a3)] [] := by
  unfold bX3_hang
  refine g_iload_n 2 dX3_hang_0 rfl ?_
  refine g_if_ne 14 dX3_hang_1 (by decide) (fun _ => ra2) (fun _ => ?_) (fun _ => ?_)
  · refine g_aload_n 0 dX3_hang_4 rfl ?_
    refine g_get (v := vR 54) (ci := 2) (b := 0) (N := 83) 44 rfl rfl (by decide) in_X3 rfl rfl q1176 dX3_hang_5 ?_
    refine g_iload_n 1 dX3_hang_8 rfl ?_
    refine g_iload_n 3 dX3_hang_9 rfl ?_
    refine g_iastU (id := 44) FT_ok 31 rfl rfl (by decide +kernel) ra3 dX3_hang_10 (fun s1 => ?_)
    refine g_goto 21 dX3_hang_11 (by decide) ?_
    refine g_iload_n 3 dX3_hang_21 rfl ?_
    exact g_iret rfl rfl (fun _ => ra3) dX3_hang_22
  · refine g_aload_n 0 dX3_hang_14 rfl ?_
    refine g_get (v := vR 55) (ci := 2) (b := 0) (N := 83) 45 rfl rfl (by decide) in_X3 rfl rfl q1177 dX3_hang_15 ?_
    refine g_iload_n 2 dX3_hang_18 rfl ?_
    refine g_iload_n 3 dX3_hang_19 rfl ?_
    refine g_iastU (id := 45) FT_ok 32 rfl rfl (by decide +kernel) ra3 dX3_hang_20 (fun s2 => ?_)
    refine g_iload_n 3 dX3_hang_21 rfl ?_
    exact g_iret rfl rfl (fun _ => ra3) dX3_hang_22
end
section
variable {l : Launch} {d : Nat} {call : Nat → List Int → Sg → Option (Int × Sg)}
theorem ctX3_hang (p0 : Program) (e0 : Env) (s0 : State) (m0 : MethodId) (meth0 : Method) (c0 : Code) (G0 : Gm) (hd : 2 ≤ d) (a1 a2 a3 : Int) (u : Sg) : Ct l (d + 1) FT clA yX3_hang cX3_hang 4 (some .int) DX3_hang rvI [vR 0, vI a1, vI a2, vI a3] u (bX3_hang call a1 a2 a3 u) :=
  Ct_of (by decide) (Nat.le_of_ble_eq_true rfl) (fun p e R s1 m args below meth c G A ad hA hRf hRl => wX3_hang hd hRf hRl a1 a2 a3 u (hA _ (List.mem_cons_of_mem _ List.mem_cons_self)) (hA _ (List.mem_cons_of_mem _ (List.mem_cons_of_mem _ List.mem_cons_self))) (hA _ (List.mem_cons_of_mem _ (List.mem_cons_of_mem _ (List.mem_cons_of_mem _ List.mem_cons_self))))) p0 e0 s0 m0 meth0 c0 G0
end
/-! RoundCheckModel.put(III)I -/
abbrev JX3_put : Jm := (cX3_put, RX3, 8, (some .int))
def bX3_put_L67 (call : Nat → List Int → Sg → Option (Int × Sg)) : Nat → Int → Int → Int → Int → Int → Int → Sg → (Int → Int → Sg → Option (Int × Sg)) → Option (Int × Sg)
  | 0, _, _, _, _, _, _, _, _ => none
  | n + 1, a1, a2, a3, a4, a5, a6, u, x144 => ld u 3 a1 fun v1 => if a6 < v1 then (jn (fun (a1 a2 a3 a4 a5 a6 t1 : Int) (s3 : Sg) => cl (call 3 [t1] s3) fun v4 s5 => ar (a6 + 1) fun v6 => bX3_put_L67 call n a1 a2 a3 a4 a5 v6 s5 x144) fun j2 => cl (call 16 [a1, a6] u) fun v7 s8 => if v7 = 0 then (cl (call 7 [a1, a6] s8) fun v9 s10 => j2 a1 a2 a3 a4 a5 a6 v9 s10) else (jn (fun (a1 a2 a3 a4 a5 a6 t2 t3 : Int) (s12 : Sg) => cl (call 58 [t2, t3, a3] s12) fun v13 s14 => j2 a1 a2 a3 a4 a5 a6 v13 s14) fun j11 => jn (fun (a1 a2 a3 a4 a5 a6 t2 : Int) (s16 : Sg) => j11 a1 a2 a3 a4 a5 a6 t2 a2 s16) fun j15 => cl (call 7 [a1, a6] s8) fun v17 s18 => if a4 = 17 then (if a6 = 1 then (ar (a2 + 1) fun v19 => j11 a1 a2 a3 a4 a5 a6 v17 v19 s18) else (j15 a1 a2 a3 a4 a5 a6 v17 s18)) else (j15 a1 a2 a3 a4 a5 a6 v17 s18))) else (x144 a1 a5 u)
def bX3_put (call : Nat → List Int → Sg → Option (Int × Sg)) (a1 a2 a3 : Int) (u : Sg) : Option (Int × Sg) := ld u 5 a1 fun v1 => if v1 ≤ a2 then (some (a1, u)) else (ld u 1 a1 fun v2 => if v2 = 1 then (cl (call 7 [a1, 0] u) fun v3 s4 => if v3 = a2 then (cl (call 59 [a3, a2] s4) fun v5 s6 => some (v5, s6)) else (ar (v3 - 1) fun v7 => cl (call 42 [v7] s4) fun v8 s9 => some (v8, s9))) else (un (gI u 13) fun v10 => bX3_put_L67 call KF a1 a2 a3 v2 v10 0 u (fun v12 v13 s11 => cl (call 43 [v12, v13] s11) fun v14 s15 => some (v14, s15))))
section
variable {p : Program} {l : Launch} {e : Env} {R : Room} {s : State} {m : MethodId} {args : Array Value} {below : List Frame} {meth : Method} {c : Code} {G : Gm} {A : Nat → Prop} {ad0 : Nat → Nat} {σ0 : Sg} {d : Nat} {call : Nat → List Int → Sg → Option (Int × Sg)}
theorem wX3_put_L67 (hd : 2 ≤ d) (hRf : d + 1 ≤ R.frames) (hRl : 40 * (d + 1) ≤ R.locals) (hX3_get : ∀ (a1 a2 : Int) (u : Sg), Ct l d FT clA yX3_get cX3_get 3 (some .int) DX3_get rvI [vR 0, vI a1, vI a2] u (call 7 [a1, a2] u)) (hX3_lift : ∀ (a1 a2 : Int) (u : Sg), Ct l d FT clA yX3_lift cX3_lift 3 (some .int) DX3_lift rvI [vR 0, vI a1, vI a2] u (call 59 [a1, a2] u)) (hX3_bound : ∀ (a1 : Int) (u : Sg), Ct l d FT clA yX3_bound cX3_bound 2 (some .int) DX3_bound rvI [vR 0, vI a1] u (call 42 [a1] u)) (hX3_give : ∀ (a1 : Int) (u : Sg), Ct l d FT clA yX3_give cX3_give 2 none DX3_give rvV [vR 0, vI a1] u (call 3 [a1] u)) (hX3_isPart : ∀ (a1 a2 : Int) (u : Sg), Ct l d FT clA yX3_isPart cX3_isPart 4 (some .boolean) DX3_isPart rvI [vR 0, vI a1, vI a2] u (call 16 [a1, a2] u)) (hX3_put : ∀ (a1 a2 a3 : Int) (u : Sg), Ct l d FT clA yX3_put cX3_put 8 (some .int) DX3_put rvI [vR 0, vI a1, vI a2, vI a3] u (call 58 [a1, a2, a3] u)) (hX3_again : ∀ (a1 a2 : Int) (u : Sg), Ct l d FT clA yX3_again cX3_again 5 (some .int) DX3_again rvI [vR 0, vI a1, vI a2] u (call 43 [a1, a2] u)) (x144 : Int → Int → Sg → Option (Int × Sg)) (hx144 : ∀ (a1 a5 : Int) (u : Sg), inR a1 → inR a5 → WG p l e R s m args below meth c JX3_put DX3_put G clA A FT ad0 σ0 rvI (x144 a1 a5 u) u 144 [(0, vR 0), (1, vI a1), (5, vI a5)] []) : ∀ (n : Nat) (a1 a2 a3 a4 a5 a6 : Int) (u : Sg), inR a1 → inR a2 → inR a3 → inR a4 → inR a5 → inR a6 → WG p l e R s m args below meth c JX3_put DX3_put G clA A FT ad0 σ0 rvI (bX3_put_L67 call n a1 a2 a3 a4 a5 a6 u x144) u 67 [(0, vR 0), (1, vI a1), (2, vI a2), (3, vI a3), (4, vI a4), (5, vI a5), (6, vI a6)] [] := by
  intro n
  induction n with
  | zero =>
    intro a1 a2 a3 a4 a5 a6 u ra1 ra2 ra3 ra4 ra5 ra6
    exact g_none
  | succ n ih =>
    intro a1 a2 a3 a4 a5 a6 u ra1 ra2 ra3 ra4 ra5 ra6
    rw [bX3_put_L67]
    refine g_iload 6 dX3_put_67 rfl ?_
    refine g_aload_n 0 dX3_put_69 rfl ?_
    refine g_get (v := vR 13) (ci := 2) (b := 0) (N := 83) 3 rfl rfl (by decide) in_X3 rfl rfl q1135 dX3_put_70 ?_
    refine g_iload_n 1 dX3_put_73 rfl ?_
    refine g_iald (id := 3) 2 rfl rfl dX3_put_74 (fun v1 rv1 => ?_)
    refine g_icmp_ge 144 dX3_put_75 (by decide) (fun _ => ra6) (fun _ => rv1) (fun _ => ?_) (fun _ => ?_)
    · refine g_jn (fun j2 => ∀ (a1 a2 a3 a4 a5 a6 t1 : Int) (s3 : Sg), inR a1 → inR a2 → inR a3 → inR a4 → inR a5 → inR a6 → inR t1 → WG p l e R s m args below meth c JX3_put DX3_put G clA A FT ad0 σ0 rvI (j2 a1 a2 a3 a4 a5 a6 t1 s3) s3 135 [(0, vR 0), (1, vI a1), (2, vI a2), (3, vI a3), (4, vI a4), (5, vI a5), (6, vI a6)] [vI t1, vR 0]) (fun a1 a2 a3 a4 a5 a6 t1 s3 ra1 ra2 ra3 ra4 ra5 ra6 rt1 => ?_) (fun j2 hj2 => ?_)
      · refine g_cVV (As := [vI t1]) (n := 1) (stk := []) (ci := 2) (b := 0) (N := 83) (hX3_give t1 s3) (by decide +kernel) rfl rfl (lw_V q1100 q1102 qs73 q168 q1103) (by decide +kernel) rfl (by decide) hRf hRl (fun _ => (avc rt1 avn)) (Nat.le_of_ble_eq_true rfl) rfl rfl dX3_put_135 (fun v4 s5 => ?_)
        refine g_iinc 6 (loc' := fun v6 => [(6, vI v6), (0, vR 0), (1, vI a1), (2, vI a2), (3, vI a3), (4, vI a4), (5, vI a5)]) dX3_put_138 rfl (by decide) (fun _ => rfl) (fun v6 rv6 => ?_)
        refine g_goto 67 dX3_put_141 (by decide) ?_
        exact g_pick [1, 2, 3, 4, 5, 6, 0] rfl (ih a1 a2 a3 a4 a5 v6 s5 ra1 ra2 ra3 ra4 ra5 rv6)
      · refine g_aload_n 0 dX3_put_78 rfl ?_
        refine g_iload_n 1 dX3_put_79 rfl ?_
        refine g_iload 6 dX3_put_80 rfl ?_
        refine g_cVZ (As := [vI a1, vI a6]) (n := 2) (stk := []) (ci := 2) (b := 0) (N := 83) (hX3_isPart a1 a6 u) (by decide +kernel) rfl rfl (lw_V q1403 q1405 qs83 q168 q1406) (by decide +kernel) rfl (by decide) hRf hRl (fun _ => (avc ra1 (avc ra6 avn))) (Nat.le_of_ble_eq_true rfl) rfl rfl dX3_put_82 (fun v7 s8 zv7 => ?_)
        refine g_istore (loc' := [(7, vI v7), (0, vR 0), (1, vI a1), (2, vI a2), (3, vI a3), (4, vI a4), (5, vI a5), (6, vI a6)]) dX3_put_85 (by decide) rfl ?_
        refine g_aload_n 1 dX3_put_87 rfl ?_
        refine g_iload 0 dX3_put_88 rfl ?_
        refine g_if_eq 128 dX3_put_90 (by decide) (fun _ => (inR_z zv7)) (fun _ => ?_) (fun _ => ?_)
        · refine g_aload_n 1 dX3_put_128 rfl ?_
          refine g_iload_n 2 dX3_put_129 rfl ?_
          refine g_iload 7 dX3_put_130 rfl ?_
          refine g_cVI (As := [vI a1, vI a6]) (n := 2) (stk := [vR 0]) (ci := 2) (b := 0) (N := 83) (hX3_get a1 a6 s8) (by decide +kernel) rfl rfl (lw_V q1116 q1118 qs76 q168 q1119) (by decide +kernel) rfl (by decide) hRf hRl (fun _ => (avc ra1 (avc ra6 avn))) (Nat.le_of_ble_eq_true rfl) rfl rfl dX3_put_132 (fun v9 s10 rv9 => ?_)
          exact g_pick [1, 2, 3, 4, 5, 6, 7] rfl (hj2 a1 a2 a3 a4 a5 a6 v9 s10 ra1 ra2 ra3 ra4 ra5 ra6 rv9)
        · refine g_jn (fun j11 => ∀ (a1 a2 a3 a4 a5 a6 t2 t3 : Int) (s12 : Sg), inR a1 → inR a2 → inR a3 → inR a4 → inR a5 → inR a6 → inR t2 → inR t3 → WG p l e R s m args below meth c JX3_put DX3_put G clA A FT ad0 σ0 rvI (j11 a1 a2 a3 a4 a5 a6 t2 t3 s12) s12 121 [(0, vR 0), (1, vI a1), (2, vI a2), (3, vI a3), (4, vI a4), (5, vI a5), (6, vI a6)] [vI t3, vI t2, vR 0, vR 0]) (fun a1 a2 a3 a4 a5 a6 t2 t3 s12 ra1 ra2 ra3 ra4 ra5 ra6 rt2 rt3 => ?_) (fun j11 hj11 => ?_)
          · refine g_iload_n 3 dX3_put_121 rfl ?_
            refine g_cVI (As := [vI t2, vI t3, vI a3]) (n := 3) (stk := [vR 0]) (ci := 2) (b := 0) (N := 83) (hX3_put t2 t3 a3 s12) (by decide +kernel) rfl rfl (lw_V q1573 q1575 qs108 q168 q1576) (by decide +kernel) rfl (by decide) hRf hRl (fun _ => (avc rt2 (avc rt3 (avc ra3 avn)))) (Nat.le_of_ble_eq_true rfl) rfl rfl dX3_put_122 (fun v13 s14 rv13 => ?_)
            refine g_goto 135 dX3_put_125 (by decide) ?_
            exact g_pick [0, 1, 2, 3, 4, 5, 6] rfl (hj2 a1 a2 a3 a4 a5 a6 v13 s14 ra1 ra2 ra3 ra4 ra5 ra6 rv13)
          · refine g_jn (fun j15 => ∀ (a1 a2 a3 a4 a5 a6 t2 : Int) (s16 : Sg), inR a1 → inR a2 → inR a3 → inR a4 → inR a5 → inR a6 → inR t2 → WG p l e R s m args below meth c JX3_put DX3_put G clA A FT ad0 σ0 rvI (j15 a1 a2 a3 a4 a5 a6 t2 s16) s16 120 [(0, vR 0), (1, vI a1), (2, vI a2), (3, vI a3), (4, vI a4), (5, vI a5), (6, vI a6)] [vI t2, vR 0, vR 0]) (fun a1 a2 a3 a4 a5 a6 t2 s16 ra1 ra2 ra3 ra4 ra5 ra6 rt2 => ?_) (fun j15 hj15 => ?_)
            · refine g_iload_n 2 dX3_put_120 rfl ?_
              exact g_pick [0, 1, 2, 3, 4, 5, 6] rfl (hj11 a1 a2 a3 a4 a5 a6 t2 a2 s16 ra1 ra2 ra3 ra4 ra5 ra6 rt2 ra2)
            · refine g_aload_n 1 dX3_put_93 rfl ?_
              refine g_aload_n 1 dX3_put_94 rfl ?_
              refine g_iload_n 2 dX3_put_95 rfl ?_
              refine g_iload 7 dX3_put_96 rfl ?_
              refine g_cVI (As := [vI a1, vI a6]) (n := 2) (stk := [vR 0, vR 0]) (ci := 2) (b := 0) (N := 83) (hX3_get a1 a6 s8) (by decide +kernel) rfl rfl (lw_V q1116 q1118 qs76 q168 q1119) (by decide +kernel) rfl (by decide) hRf hRl (fun _ => (avc ra1 (avc ra6 avn))) (Nat.le_of_ble_eq_true rfl) rfl rfl dX3_put_98 (fun v17 s18 rv17 => ?_)
              refine g_iload 5 dX3_put_101 rfl ?_
              refine g_bipush (by decide +kernel) dX3_put_103 ?_
              refine g_icmp_ne 120 dX3_put_105 (by decide) (fun _ => ra4) (fun _ => (by decide : inR (17))) (fun _ => ?_) (fun _ => ?_)
              · refine g_iload 7 dX3_put_108 rfl ?_
                refine g_iconst dX3_put_110 ?_
                refine g_icmp_ne 120 dX3_put_111 (by decide) (fun _ => ra6) (fun _ => (inR_z (Or.inr rfl))) (fun _ => ?_) (fun _ => ?_)
                · refine g_iload_n 3 dX3_put_114 rfl ?_
                  refine g_iconst dX3_put_115 ?_
                  refine g_iadd dX3_put_116 (fun v19 rv19 => ?_)
                  refine g_goto 121 dX3_put_117 (by decide) ?_
                  exact g_pick [1, 2, 3, 4, 5, 6, 7] rfl (hj11 a1 a2 a3 a4 a5 a6 v17 v19 s18 ra1 ra2 ra3 ra4 ra5 ra6 rv17 rv19)
                · exact g_pick [1, 2, 3, 4, 5, 6, 7] rfl (hj15 a1 a2 a3 a4 a5 a6 v17 s18 ra1 ra2 ra3 ra4 ra5 ra6 rv17)
              · exact g_pick [1, 2, 3, 4, 5, 6, 7] rfl (hj15 a1 a2 a3 a4 a5 a6 v17 s18 ra1 ra2 ra3 ra4 ra5 ra6 rv17)
    · exact g_pick [0, 1, 5] rfl (hx144 a1 a5 u ra1 ra5)
theorem wX3_put (hd : 2 ≤ d) (hRf : d + 1 ≤ R.frames) (hRl : 40 * (d + 1) ≤ R.locals) (hX3_get : ∀ (a1 a2 : Int) (u : Sg), Ct l d FT clA yX3_get cX3_get 3 (some .int) DX3_get rvI [vR 0, vI a1, vI a2] u (call 7 [a1, a2] u)) (hX3_lift : ∀ (a1 a2 : Int) (u : Sg), Ct l d FT clA yX3_lift cX3_lift 3 (some .int) DX3_lift rvI [vR 0, vI a1, vI a2] u (call 59 [a1, a2] u)) (hX3_bound : ∀ (a1 : Int) (u : Sg), Ct l d FT clA yX3_bound cX3_bound 2 (some .int) DX3_bound rvI [vR 0, vI a1] u (call 42 [a1] u)) (hX3_give : ∀ (a1 : Int) (u : Sg), Ct l d FT clA yX3_give cX3_give 2 none DX3_give rvV [vR 0, vI a1] u (call 3 [a1] u)) (hX3_isPart : ∀ (a1 a2 : Int) (u : Sg), Ct l d FT clA yX3_isPart cX3_isPart 4 (some .boolean) DX3_isPart rvI [vR 0, vI a1, vI a2] u (call 16 [a1, a2] u)) (hX3_put : ∀ (a1 a2 a3 : Int) (u : Sg), Ct l d FT clA yX3_put cX3_put 8 (some .int) DX3_put rvI [vR 0, vI a1, vI a2, vI a3] u (call 58 [a1, a2, a3] u)) (hX3_again : ∀ (a1 a2 : Int) (u : Sg), Ct l d FT clA yX3_again cX3_again 5 (some .int) DX3_again rvI [vR 0, vI a1, vI a2] u (call 43 [a1, a2] u)) (a1 a2 a3 : Int) (u : Sg) (ra1 : inR a1) (ra2 : inR a2) (ra3 : inR a3) : WG p l e R s m args below meth c JX3_put DX3_put G clA A FT ad0 σ0 rvI (bX3_put call a1 a2 a3 u) u 0 [(0, vR 0), (1, vI a1), (2, vI a2), (3, vI a3)] [] := by
  unfold bX3_put
  refine g_aload_n 0 dX3_put_0 rfl ?_
  refine g_get (v := vR 15) (ci := 2) (b := 0) (N := 83) 5 rfl rfl (by decide) in_X3 rfl rfl q1137 dX3_put_1 ?_
  refine g_iload_n 1 dX3_put_4 rfl ?_
  refine g_iald (id := 5) 4 rfl rfl dX3_put_5 (fun v1 rv1 => ?_)
  refine g_iload_n 2 dX3_put_6 rfl ?_
  refine g_icmp_gt 12 dX3_put_7 (by decide) (fun _ => rv1) (fun _ => ra2) (fun _ => ?_) (fun _ => ?_)
  · refine g_iload_n 1 dX3_put_10 rfl ?_
    exact g_iret rfl rfl (fun _ => ra1) dX3_put_11
  · refine g_aload_n 0 dX3_put_12 rfl ?_
    refine g_get (v := vR 11) (ci := 2) (b := 0) (N := 83) 1 rfl rfl (by decide) in_X3 rfl rfl q1133 dX3_put_13 ?_
    refine g_iload_n 1 dX3_put_16 rfl ?_
    refine g_iald (id := 1) 0 rfl rfl dX3_put_17 (fun v2 rv2 => ?_)
    refine g_istore (loc' := [(4, vI v2), (0, vR 0), (1, vI a1), (2, vI a2), (3, vI a3)]) dX3_put_18 (by decide) rfl ?_
    refine g_iload 0 dX3_put_20 rfl ?_
    refine g_iconst dX3_put_22 ?_
    refine g_icmp_ne 58 dX3_put_23 (by decide) (fun _ => rv2) (fun _ => (inR_z (Or.inr rfl))) (fun _ => ?_) (fun _ => ?_)
    · refine g_aload_n 1 dX3_put_26 rfl ?_
      refine g_iload_n 2 dX3_put_27 rfl ?_
      refine g_iconst dX3_put_28 ?_
      refine g_cVI (As := [vI a1, vI 0]) (n := 2) (stk := []) (ci := 2) (b := 0) (N := 83) (hX3_get a1 0 u) (by decide +kernel) rfl rfl (lw_V q1116 q1118 qs76 q168 q1119) (by decide +kernel) rfl (by decide) hRf hRl (fun _ => (avc ra1 (avc (inR_z (Or.inl rfl)) avn))) (Nat.le_of_ble_eq_true rfl) rfl rfl dX3_put_29 (fun v3 s4 rv3 => ?_)
      refine g_istore (loc' := [(5, vI v3), (4, vI v2), (0, vR 0), (1, vI a1), (2, vI a2), (3, vI a3)]) dX3_put_32 (by decide) rfl ?_
      refine g_iload 0 dX3_put_34 rfl ?_
      refine g_iload_n 4 dX3_put_36 rfl ?_
      refine g_icmp_ne 49 dX3_put_37 (by decide) (fun _ => rv3) (fun _ => ra2) (fun _ => ?_) (fun _ => ?_)
      · refine g_aload_n 2 dX3_put_40 rfl ?_
        refine g_iload_n 5 dX3_put_41 rfl ?_
        refine g_iload_n 4 dX3_put_42 rfl ?_
        refine g_cVI (As := [vI a3, vI a2]) (n := 2) (stk := []) (ci := 2) (b := 0) (N := 83) (hX3_lift a3 a2 s4) (by decide +kernel) rfl rfl (lw_V q1577 q1579 qs109 q168 q1580) (by decide +kernel) rfl (by decide) hRf hRl (fun _ => (avc ra3 (avc ra2 avn))) (Nat.le_of_ble_eq_true rfl) rfl rfl dX3_put_43 (fun v5 s6 rv5 => ?_)
        refine g_goto 57 dX3_put_46 (by decide) ?_
        exact g_iret rfl rfl (fun _ => rv5) dX3_put_57
      · refine g_aload_n 2 dX3_put_49 rfl ?_
        refine g_iload 0 dX3_put_50 rfl ?_
        refine g_iconst dX3_put_52 ?_
        refine g_isub dX3_put_53 (fun v7 rv7 => ?_)
        refine g_cVI (As := [vI v7]) (n := 1) (stk := []) (ci := 2) (b := 0) (N := 83) (hX3_bound v7 s4) (by decide +kernel) rfl rfl (lw_V q1507 q1509 qs98 q168 q1510) (by decide +kernel) rfl (by decide) hRf hRl (fun _ => (avc rv7 avn)) (Nat.le_of_ble_eq_true rfl) rfl rfl dX3_put_54 (fun v8 s9 rv8 => ?_)
        exact g_iret rfl rfl (fun _ => rv8) dX3_put_57
    · refine g_aload_n 1 dX3_put_58 rfl ?_
      refine g_getI (ci := 2) (b := 0) (N := 83) 13 rfl rfl rfl (by decide) in_X3 rfl rfl q1145 dX3_put_59 (fun v10 rv10 => ?_)
      refine g_istore (loc' := [(5, vI v10), (4, vI v2), (0, vR 0), (1, vI a1), (2, vI a2), (3, vI a3)]) dX3_put_62 (by decide) rfl ?_
      refine g_iconst dX3_put_64 ?_
      refine g_istore (loc' := [(6, vI 0), (5, vI v10), (4, vI v2), (0, vR 0), (1, vI a1), (2, vI a2), (3, vI a3)]) dX3_put_65 (by decide) rfl ?_
      refine g_pick [3, 4, 5, 6, 2, 1, 0] rfl (wX3_put_L67 hd hRf hRl hX3_get hX3_lift hX3_bound hX3_give hX3_isPart hX3_put hX3_again _ (fun v12 v13 s11 rv12 rv13 => ?_) KF a1 a2 a3 v2 v10 0 u ra1 ra2 ra3 rv2 rv10 (inR_z (Or.inl rfl)))
      · refine g_aload_n 0 dX3_put_144 rfl ?_
        refine g_iload_n 1 dX3_put_145 rfl ?_
        refine g_iload 2 dX3_put_146 rfl ?_
        refine g_cVI (As := [vI v12, vI v13]) (n := 2) (stk := []) (ci := 2) (b := 0) (N := 83) (hX3_again v12 v13 s11) (by decide +kernel) rfl rfl (lw_V q1511 q1513 qs99 q168 q1514) (by decide +kernel) rfl (by decide) hRf hRl (fun _ => (avc rv12 (avc rv13 avn))) (Nat.le_of_ble_eq_true rfl) rfl rfl dX3_put_148 (fun v14 s15 rv14 => ?_)
        exact g_iret rfl rfl (fun _ => rv14) dX3_put_151
end
section
variable {l : Launch} {d : Nat} {call : Nat → List Int → Sg → Option (Int × Sg)}
theorem ctX3_put (p0 : Program) (e0 : Env) (s0 : State) (m0 : MethodId) (meth0 : Method) (c0 : Code) (G0 : Gm) (hd : 2 ≤ d) (hX3_get : ∀ (a1 a2 : Int) (u : Sg), Ct l d FT clA yX3_get cX3_get 3 (some .int) DX3_get rvI [vR 0, vI a1, vI a2] u (call 7 [a1, a2] u)) (hX3_lift : ∀ (a1 a2 : Int) (u : Sg), Ct l d FT clA yX3_lift cX3_lift 3 (some .int) DX3_lift rvI [vR 0, vI a1, vI a2] u (call 59 [a1, a2] u)) (hX3_bound : ∀ (a1 : Int) (u : Sg), Ct l d FT clA yX3_bound cX3_bound 2 (some .int) DX3_bound rvI [vR 0, vI a1] u (call 42 [a1] u)) (hX3_give : ∀ (a1 : Int) (u : Sg), Ct l d FT clA yX3_give cX3_give 2 none DX3_give rvV [vR 0, vI a1] u (call 3 [a1] u)) (hX3_isPart : ∀ (a1 a2 : Int) (u : Sg), Ct l d FT clA yX3_isPart cX3_isPart 4 (some .boolean) DX3_isPart rvI [vR 0, vI a1, vI a2] u (call 16 [a1, a2] u)) (hX3_put : ∀ (a1 a2 a3 : Int) (u : Sg), Ct l d FT clA yX3_put cX3_put 8 (some .int) DX3_put rvI [vR 0, vI a1, vI a2, vI a3] u (call 58 [a1, a2, a3] u)) (hX3_again : ∀ (a1 a2 : Int) (u : Sg), Ct l d FT clA yX3_again cX3_again 5 (some .int) DX3_again rvI [vR 0, vI a1, vI a2] u (call 43 [a1, a2] u)) (a1 a2 a3 : Int) (u : Sg) : Ct l (d + 1) FT clA yX3_put cX3_put 8 (some .int) DX3_put rvI [vR 0, vI a1, vI a2, vI a3] u (bX3_put call a1 a2 a3 u) :=
  Ct_of (by decide) (Nat.le_of_ble_eq_true rfl) (fun p e R s1 m args below meth c G A ad hA hRf hRl => wX3_put hd hRf hRl hX3_get hX3_lift hX3_bound hX3_give hX3_isPart hX3_put hX3_again a1 a2 a3 u (hA _ (List.mem_cons_of_mem _ List.mem_cons_self)) (hA _ (List.mem_cons_of_mem _ (List.mem_cons_of_mem _ List.mem_cons_self))) (hA _ (List.mem_cons_of_mem _ (List.mem_cons_of_mem _ (List.mem_cons_of_mem _ List.mem_cons_self))))) p0 e0 s0 m0 meth0 c0 G0
end
/-! RoundCheckModel.lift(II)I -/
abbrev JX3_lift : Jm := (cX3_lift, RX3, 3, (some .int))
def bX3_lift (call : Nat → List Int → Sg → Option (Int × Sg)) (a1 a2 : Int) (u : Sg) : Option (Int × Sg) := jn (fun (a1 : Int) (s2 : Sg) => some (a1, s2)) fun j1 => if a2 = 0 then (j1 a1 u) else (ld u 5 a1 fun v3 => if v3 = 0 then (j1 a1 u) else (cl (call 60 [a1, a2, 0] u) fun v4 s5 => some (v4, s5)))
section
variable {p : Program} {l : Launch} {e : Env} {R : Room} {s : State} {m : MethodId} {args : Array Value} {below : List Frame} {meth : Method} {c : Code} {G : Gm} {A : Nat → Prop} {ad0 : Nat → Nat} {σ0 : Sg} {d : Nat} {call : Nat → List Int → Sg → Option (Int × Sg)}
theorem wX3_lift (hd : 2 ≤ d) (hRf : d + 1 ≤ R.frames) (hRl : 40 * (d + 1) ≤ R.locals) (hX3_lift_2 : ∀ (a1 a2 a3 : Int) (u : Sg), Ct l d FT clA yX3_lift_2 cX3_lift_2 6 (some .int) DX3_lift_2 rvI [vR 0, vI a1, vI a2, vI a3] u (call 60 [a1, a2, a3] u)) (a1 a2 : Int) (u : Sg) (ra1 : inR a1) (ra2 : inR a2) : WG p l e R s m args below meth c JX3_lift DX3_lift G clA A FT ad0 σ0 rvI (bX3_lift call a1 a2 u) u 0 [(0, vR 0), (1, vI a1), (2, vI a2)] [] := by
  unfold bX3_lift
  refine g_jn (fun j1 => ∀ (a1 : Int) (s2 : Sg), inR a1 → WG p l e R s m args below meth c JX3_lift DX3_lift G clA A FT ad0 σ0 rvI (j1 a1 s2) s2 13 [(1, vI a1)] []) (fun a1 s2 ra1 => ?_) (fun j1 hj1 => ?_)
  · refine g_iload_n 0 dX3_lift_13 rfl ?_
    refine g_goto 24 dX3_lift_14 (by decide) ?_
    exact g_iret rfl rfl (fun _ => ra1) dX3_lift_24
  · refine g_iload_n 2 dX3_lift_0 rfl ?_
    refine g_if_eq 13 dX3_lift_1 (by decide) (fun _ => ra2) (fun _ => ?_) (fun _ => ?_)
    · exact g_pick [1] rfl (hj1 a1 u ra1)
    · refine g_aload_n 0 dX3_lift_4 rfl ?_
      refine g_get (v := vR 15) (ci := 2) (b := 0) (N := 83) 5 rfl rfl (by decide) in_X3 rfl rfl q1137 dX3_lift_5 ?_
      refine g_iload_n 1 dX3_lift_8 rfl ?_
      refine g_iald (id := 5) 4 rfl rfl dX3_lift_9 (fun v3 rv3 => ?_)
      refine g_if_ne 17 dX3_lift_10 (by decide) (fun _ => rv3) (fun _ => ?_) (fun _ => ?_)
      · exact g_pick [1] rfl (hj1 a1 u ra1)
      · refine g_aload_n 0 dX3_lift_17 rfl ?_
        refine g_iload_n 1 dX3_lift_18 rfl ?_
        refine g_iload_n 2 dX3_lift_19 rfl ?_
        refine g_iconst dX3_lift_20 ?_
        refine g_cVI (As := [vI a1, vI a2, vI 0]) (n := 3) (stk := []) (ci := 2) (b := 0) (N := 83) (hX3_lift_2 a1 a2 0 u) (by decide +kernel) rfl rfl (lw_V q1581 q1583 qs110 q168 q1584) (by decide +kernel) rfl (by decide) hRf hRl (fun _ => (avc ra1 (avc ra2 (avc (inR_z (Or.inl rfl)) avn)))) (Nat.le_of_ble_eq_true rfl) rfl rfl dX3_lift_21 (fun v4 s5 rv4 => ?_)
        exact g_iret rfl rfl (fun _ => rv4) dX3_lift_24
end
section
variable {l : Launch} {d : Nat} {call : Nat → List Int → Sg → Option (Int × Sg)}
theorem ctX3_lift (p0 : Program) (e0 : Env) (s0 : State) (m0 : MethodId) (meth0 : Method) (c0 : Code) (G0 : Gm) (hd : 2 ≤ d) (hX3_lift_2 : ∀ (a1 a2 a3 : Int) (u : Sg), Ct l d FT clA yX3_lift_2 cX3_lift_2 6 (some .int) DX3_lift_2 rvI [vR 0, vI a1, vI a2, vI a3] u (call 60 [a1, a2, a3] u)) (a1 a2 : Int) (u : Sg) : Ct l (d + 1) FT clA yX3_lift cX3_lift 3 (some .int) DX3_lift rvI [vR 0, vI a1, vI a2] u (bX3_lift call a1 a2 u) :=
  Ct_of (by decide) (Nat.le_of_ble_eq_true rfl) (fun p e R s1 m args below meth c G A ad hA hRf hRl => wX3_lift hd hRf hRl hX3_lift_2 a1 a2 u (hA _ (List.mem_cons_of_mem _ List.mem_cons_self)) (hA _ (List.mem_cons_of_mem _ (List.mem_cons_of_mem _ List.mem_cons_self)))) p0 e0 s0 m0 meth0 c0 G0
end
/-! RoundCheckModel.lift(III)I -/
abbrev JX3_lift_2 : Jm := (cX3_lift_2, RX3, 6, (some .int))
def bX3_lift_2_L44 (call : Nat → List Int → Sg → Option (Int × Sg)) : Nat → Int → Int → Int → Int → Int → Sg → (Int → Int → Sg → Option (Int × Sg)) → Option (Int × Sg)
  | 0, _, _, _, _, _, _, _ => none
  | n + 1, a1, a2, a3, a4, a5, u, x121 => ld u 3 a1 fun v1 => if a5 < v1 then (jn (fun (a1 a2 a3 a4 a5 t1 : Int) (s3 : Sg) => cl (call 3 [t1] s3) fun v4 s5 => ar (a5 + 1) fun v6 => bX3_lift_2_L44 call n a1 a2 a3 a4 v6 s5 x121) fun j2 => cl (call 16 [a1, a5] u) fun v7 s8 => if v7 = 0 then (cl (call 7 [a1, a5] s8) fun v9 s10 => j2 a1 a2 a3 a4 a5 v9 s10) else (jn (fun (a1 a2 a3 a4 a5 t2 t3 t4 : Int) (s12 : Sg) => cl (call 60 [t2, t3, t4] s12) fun v13 s14 => j2 a1 a2 a3 a4 a5 v13 s14) fun j11 => jn (fun (a1 a2 a3 a4 a5 t2 t3 : Int) (s16 : Sg) => j11 a1 a2 a3 a4 a5 t2 t3 a3 s16) fun j15 => cl (call 7 [a1, a5] s8) fun v17 s18 => ld s18 1 a1 fun v19 => if v19 = 17 then (if a5 = 1 then (ar (a3 + 1) fun v20 => j11 a1 a2 a3 a4 a5 v17 a2 v20 s18) else (j15 a1 a2 a3 a4 a5 v17 a2 s18)) else (j15 a1 a2 a3 a4 a5 v17 a2 s18))) else (x121 a1 a4 u)
def bX3_lift_2 (call : Nat → List Int → Sg → Option (Int × Sg)) (a1 a2 a3 : Int) (u : Sg) : Option (Int × Sg) := ld u 5 a1 fun v1 => if v1 ≤ a3 then (some (a1, u)) else (ld u 1 a1 fun v2 => if v2 = 1 then (cl (call 7 [a1, 0] u) fun v3 s4 => ar (v3 + a2) fun v5 => cl (call 42 [v5] s4) fun v6 s7 => some (v6, s7)) else (un (gI u 13) fun v8 => bX3_lift_2_L44 call KF a1 a2 a3 v8 0 u (fun v10 v11 s9 => cl (call 43 [v10, v11] s9) fun v12 s13 => some (v12, s13))))
section
variable {p : Program} {l : Launch} {e : Env} {R : Room} {s : State} {m : MethodId} {args : Array Value} {below : List Frame} {meth : Method} {c : Code} {G : Gm} {A : Nat → Prop} {ad0 : Nat → Nat} {σ0 : Sg} {d : Nat} {call : Nat → List Int → Sg → Option (Int × Sg)}
theorem wX3_lift_2_L44 (hd : 2 ≤ d) (hRf : d + 1 ≤ R.frames) (hRl : 40 * (d + 1) ≤ R.locals) (hX3_get : ∀ (a1 a2 : Int) (u : Sg), Ct l d FT clA yX3_get cX3_get 3 (some .int) DX3_get rvI [vR 0, vI a1, vI a2] u (call 7 [a1, a2] u)) (hX3_bound : ∀ (a1 : Int) (u : Sg), Ct l d FT clA yX3_bound cX3_bound 2 (some .int) DX3_bound rvI [vR 0, vI a1] u (call 42 [a1] u)) (hX3_give : ∀ (a1 : Int) (u : Sg), Ct l d FT clA yX3_give cX3_give 2 none DX3_give rvV [vR 0, vI a1] u (call 3 [a1] u)) (hX3_isPart : ∀ (a1 a2 : Int) (u : Sg), Ct l d FT clA yX3_isPart cX3_isPart 4 (some .boolean) DX3_isPart rvI [vR 0, vI a1, vI a2] u (call 16 [a1, a2] u)) (hX3_lift_2 : ∀ (a1 a2 a3 : Int) (u : Sg), Ct l d FT clA yX3_lift_2 cX3_lift_2 6 (some .int) DX3_lift_2 rvI [vR 0, vI a1, vI a2, vI a3] u (call 60 [a1, a2, a3] u)) (hX3_again : ∀ (a1 a2 : Int) (u : Sg), Ct l d FT clA yX3_again cX3_again 5 (some .int) DX3_again rvI [vR 0, vI a1, vI a2] u (call 43 [a1, a2] u)) (x121 : Int → Int → Sg → Option (Int × Sg)) (hx121 : ∀ (a1 a4 : Int) (u : Sg), inR a1 → inR a4 → WG p l e R s m args below meth c JX3_lift_2 DX3_lift_2 G clA A FT ad0 σ0 rvI (x121 a1 a4 u) u 121 [(0, vR 0), (1, vI a1), (4, vI a4)] []) : ∀ (n : Nat) (a1 a2 a3 a4 a5 : Int) (u : Sg), inR a1 → inR a2 → inR a3 → inR a4 → inR a5 → WG p l e R s m args below meth c JX3_lift_2 DX3_lift_2 G clA A FT ad0 σ0 rvI (bX3_lift_2_L44 call n a1 a2 a3 a4 a5 u x121) u 44 [(0, vR 0), (1, vI a1), (2, vI a2), (3, vI a3), (4, vI a4), (5, vI a5)] [] := by
  intro n
  induction n with
  | zero =>
    intro a1 a2 a3 a4 a5 u ra1 ra2 ra3 ra4 ra5
    exact g_none
  | succ n ih =>
    intro a1 a2 a3 a4 a5 u ra1 ra2 ra3 ra4 ra5
    rw [bX3_lift_2_L44]
    refine g_iload 5 dX3_lift_2_44 rfl ?_
    refine g_aload_n 0 dX3_lift_2_46 rfl ?_
    refine g_get (v := vR 13) (ci := 2) (b := 0) (N := 83) 3 rfl rfl (by decide) in_X3 rfl rfl q1135 dX3_lift_2_47 ?_
    refine g_iload_n 1 dX3_lift_2_50 rfl ?_
    refine g_iald (id := 3) 2 rfl rfl dX3_lift_2_51 (fun v1 rv1 => ?_)
    refine g_icmp_ge 121 dX3_lift_2_52 (by decide) (fun _ => ra5) (fun _ => rv1) (fun _ => ?_) (fun _ => ?_)
    · refine g_jn (fun j2 => ∀ (a1 a2 a3 a4 a5 t1 : Int) (s3 : Sg), inR a1 → inR a2 → inR a3 → inR a4 → inR a5 → inR t1 → WG p l e R s m args below meth c JX3_lift_2 DX3_lift_2 G clA A FT ad0 σ0 rvI (j2 a1 a2 a3 a4 a5 t1 s3) s3 112 [(0, vR 0), (1, vI a1), (2, vI a2), (3, vI a3), (4, vI a4), (5, vI a5)] [vI t1, vR 0]) (fun a1 a2 a3 a4 a5 t1 s3 ra1 ra2 ra3 ra4 ra5 rt1 => ?_) (fun j2 hj2 => ?_)
      · refine g_cVV (As := [vI t1]) (n := 1) (stk := []) (ci := 2) (b := 0) (N := 83) (hX3_give t1 s3) (by decide +kernel) rfl rfl (lw_V q1100 q1102 qs73 q168 q1103) (by decide +kernel) rfl (by decide) hRf hRl (fun _ => (avc rt1 avn)) (Nat.le_of_ble_eq_true rfl) rfl rfl dX3_lift_2_112 (fun v4 s5 => ?_)
        refine g_iinc 5 (loc' := fun v6 => [(5, vI v6), (0, vR 0), (1, vI a1), (2, vI a2), (3, vI a3), (4, vI a4)]) dX3_lift_2_115 rfl (by decide) (fun _ => rfl) (fun v6 rv6 => ?_)
        refine g_goto 44 dX3_lift_2_118 (by decide) ?_
        exact g_pick [1, 2, 3, 4, 5, 0] rfl (ih a1 a2 a3 a4 v6 s5 ra1 ra2 ra3 ra4 rv6)
      · refine g_aload_n 0 dX3_lift_2_55 rfl ?_
        refine g_aload_n 0 dX3_lift_2_56 rfl ?_
        refine g_iload_n 1 dX3_lift_2_57 rfl ?_
        refine g_iload 5 dX3_lift_2_58 rfl ?_
        refine g_cVZ (As := [vI a1, vI a5]) (n := 2) (stk := [vR 0]) (ci := 2) (b := 0) (N := 83) (hX3_isPart a1 a5 u) (by decide +kernel) rfl rfl (lw_V q1403 q1405 qs83 q168 q1406) (by decide +kernel) rfl (by decide) hRf hRl (fun _ => (avc ra1 (avc ra5 avn))) (Nat.le_of_ble_eq_true rfl) rfl rfl dX3_lift_2_60 (fun v7 s8 zv7 => ?_)
        refine g_if_eq 105 dX3_lift_2_63 (by decide) (fun _ => (inR_z zv7)) (fun _ => ?_) (fun _ => ?_)
        · refine g_aload_n 0 dX3_lift_2_105 rfl ?_
          refine g_iload_n 1 dX3_lift_2_106 rfl ?_
          refine g_iload 5 dX3_lift_2_107 rfl ?_
          refine g_cVI (As := [vI a1, vI a5]) (n := 2) (stk := [vR 0]) (ci := 2) (b := 0) (N := 83) (hX3_get a1 a5 s8) (by decide +kernel) rfl rfl (lw_V q1116 q1118 qs76 q168 q1119) (by decide +kernel) rfl (by decide) hRf hRl (fun _ => (avc ra1 (avc ra5 avn))) (Nat.le_of_ble_eq_true rfl) rfl rfl dX3_lift_2_109 (fun v9 s10 rv9 => ?_)
          exact g_pick [0, 1, 2, 3, 4, 5] rfl (hj2 a1 a2 a3 a4 a5 v9 s10 ra1 ra2 ra3 ra4 ra5 rv9)
        · refine g_jn (fun j11 => ∀ (a1 a2 a3 a4 a5 t2 t3 t4 : Int) (s12 : Sg), inR a1 → inR a2 → inR a3 → inR a4 → inR a5 → inR t2 → inR t3 → inR t4 → WG p l e R s m args below meth c JX3_lift_2 DX3_lift_2 G clA A FT ad0 σ0 rvI (j11 a1 a2 a3 a4 a5 t2 t3 t4 s12) s12 99 [(0, vR 0), (1, vI a1), (2, vI a2), (3, vI a3), (4, vI a4), (5, vI a5)] [vI t4, vI t3, vI t2, vR 0, vR 0]) (fun a1 a2 a3 a4 a5 t2 t3 t4 s12 ra1 ra2 ra3 ra4 ra5 rt2 rt3 rt4 => ?_) (fun j11 hj11 => ?_)
          · refine g_cVI (As := [vI t2, vI t3, vI t4]) (n := 3) (stk := [vR 0]) (ci := 2) (b := 0) (N := 83) (hX3_lift_2 t2 t3 t4 s12) (by decide +kernel) rfl rfl (lw_V q1581 q1583 qs110 q168 q1584) (by decide +kernel) rfl (by decide) hRf hRl (fun _ => (avc rt2 (avc rt3 (avc rt4 avn)))) (Nat.le_of_ble_eq_true rfl) rfl rfl dX3_lift_2_99 (fun v13 s14 rv13 => ?_)
            refine g_goto 112 dX3_lift_2_102 (by decide) ?_
            exact g_pick [0, 1, 2, 3, 4, 5] rfl (hj2 a1 a2 a3 a4 a5 v13 s14 ra1 ra2 ra3 ra4 ra5 rv13)
          · refine g_jn (fun j15 => ∀ (a1 a2 a3 a4 a5 t2 t3 : Int) (s16 : Sg), inR a1 → inR a2 → inR a3 → inR a4 → inR a5 → inR t2 → inR t3 → WG p l e R s m args below meth c JX3_lift_2 DX3_lift_2 G clA A FT ad0 σ0 rvI (j15 a1 a2 a3 a4 a5 t2 t3 s16) s16 98 [(0, vR 0), (1, vI a1), (2, vI a2), (3, vI a3), (4, vI a4), (5, vI a5)] [vI t3, vI t2, vR 0, vR 0]) (fun a1 a2 a3 a4 a5 t2 t3 s16 ra1 ra2 ra3 ra4 ra5 rt2 rt3 => ?_) (fun j15 hj15 => ?_)
            · refine g_iload_n 3 dX3_lift_2_98 rfl ?_
              exact g_pick [0, 1, 2, 3, 4, 5] rfl (hj11 a1 a2 a3 a4 a5 t2 t3 a3 s16 ra1 ra2 ra3 ra4 ra5 rt2 rt3 ra3)
            · refine g_aload_n 0 dX3_lift_2_66 rfl ?_
              refine g_aload_n 0 dX3_lift_2_67 rfl ?_
              refine g_iload_n 1 dX3_lift_2_68 rfl ?_
              refine g_iload 5 dX3_lift_2_69 rfl ?_
              refine g_cVI (As := [vI a1, vI a5]) (n := 2) (stk := [vR 0, vR 0]) (ci := 2) (b := 0) (N := 83) (hX3_get a1 a5 s8) (by decide +kernel) rfl rfl (lw_V q1116 q1118 qs76 q168 q1119) (by decide +kernel) rfl (by decide) hRf hRl (fun _ => (avc ra1 (avc ra5 avn))) (Nat.le_of_ble_eq_true rfl) rfl rfl dX3_lift_2_71 (fun v17 s18 rv17 => ?_)
              refine g_iload_n 2 dX3_lift_2_74 rfl ?_
              refine g_aload_n 0 dX3_lift_2_75 rfl ?_
              refine g_get (v := vR 11) (ci := 2) (b := 0) (N := 83) 1 rfl rfl (by decide) in_X3 rfl rfl q1133 dX3_lift_2_76 ?_
              refine g_iload_n 1 dX3_lift_2_79 rfl ?_
              refine g_iald (id := 1) 0 rfl rfl dX3_lift_2_80 (fun v19 rv19 => ?_)
              refine g_bipush (by decide +kernel) dX3_lift_2_81 ?_
              refine g_icmp_ne 98 dX3_lift_2_83 (by decide) (fun _ => rv19) (fun _ => (by decide : inR (17))) (fun _ => ?_) (fun _ => ?_)
              · refine g_iload 5 dX3_lift_2_86 rfl ?_
                refine g_iconst dX3_lift_2_88 ?_
                refine g_icmp_ne 98 dX3_lift_2_89 (by decide) (fun _ => ra5) (fun _ => (inR_z (Or.inr rfl))) (fun _ => ?_) (fun _ => ?_)
                · refine g_iload_n 3 dX3_lift_2_92 rfl ?_
                  refine g_iconst dX3_lift_2_93 ?_
                  refine g_iadd dX3_lift_2_94 (fun v20 rv20 => ?_)
                  refine g_goto 99 dX3_lift_2_95 (by decide) ?_
                  exact g_pick [0, 1, 2, 3, 4, 5] rfl (hj11 a1 a2 a3 a4 a5 v17 a2 v20 s18 ra1 ra2 ra3 ra4 ra5 rv17 ra2 rv20)
                · exact g_pick [0, 1, 2, 3, 4, 5] rfl (hj15 a1 a2 a3 a4 a5 v17 a2 s18 ra1 ra2 ra3 ra4 ra5 rv17 ra2)
              · exact g_pick [0, 1, 2, 3, 4, 5] rfl (hj15 a1 a2 a3 a4 a5 v17 a2 s18 ra1 ra2 ra3 ra4 ra5 rv17 ra2)
    · exact g_pick [0, 1, 4] rfl (hx121 a1 a4 u ra1 ra4)
theorem wX3_lift_2 (hd : 2 ≤ d) (hRf : d + 1 ≤ R.frames) (hRl : 40 * (d + 1) ≤ R.locals) (hX3_get : ∀ (a1 a2 : Int) (u : Sg), Ct l d FT clA yX3_get cX3_get 3 (some .int) DX3_get rvI [vR 0, vI a1, vI a2] u (call 7 [a1, a2] u)) (hX3_bound : ∀ (a1 : Int) (u : Sg), Ct l d FT clA yX3_bound cX3_bound 2 (some .int) DX3_bound rvI [vR 0, vI a1] u (call 42 [a1] u)) (hX3_give : ∀ (a1 : Int) (u : Sg), Ct l d FT clA yX3_give cX3_give 2 none DX3_give rvV [vR 0, vI a1] u (call 3 [a1] u)) (hX3_isPart : ∀ (a1 a2 : Int) (u : Sg), Ct l d FT clA yX3_isPart cX3_isPart 4 (some .boolean) DX3_isPart rvI [vR 0, vI a1, vI a2] u (call 16 [a1, a2] u)) (hX3_lift_2 : ∀ (a1 a2 a3 : Int) (u : Sg), Ct l d FT clA yX3_lift_2 cX3_lift_2 6 (some .int) DX3_lift_2 rvI [vR 0, vI a1, vI a2, vI a3] u (call 60 [a1, a2, a3] u)) (hX3_again : ∀ (a1 a2 : Int) (u : Sg), Ct l d FT clA yX3_again cX3_again 5 (some .int) DX3_again rvI [vR 0, vI a1, vI a2] u (call 43 [a1, a2] u)) (a1 a2 a3 : Int) (u : Sg) (ra1 : inR a1) (ra2 : inR a2) (ra3 : inR a3) : WG p l e R s m args below meth c JX3_lift_2 DX3_lift_2 G clA A FT ad0 σ0 rvI (bX3_lift_2 call a1 a2 a3 u) u 0 [(0, vR 0), (1, vI a1), (2, vI a2), (3, vI a3)] [] := by
  unfold bX3_lift_2
  refine g_aload_n 0 dX3_lift_2_0 rfl ?_
  refine g_get (v := vR 15) (ci := 2) (b := 0) (N := 83) 5 rfl rfl (by decide) in_X3 rfl rfl q1137 dX3_lift_2_1 ?_
  refine g_iload_n 1 dX3_lift_2_4 rfl ?_
  refine g_iald (id := 5) 4 rfl rfl dX3_lift_2_5 (fun v1 rv1 => ?_)
  refine g_iload_n 3 dX3_lift_2_6 rfl ?_
  refine g_icmp_gt 12 dX3_lift_2_7 (by decide) (fun _ => rv1) (fun _ => ra3) (fun _ => ?_) (fun _ => ?_)
  · refine g_iload_n 1 dX3_lift_2_10 rfl ?_
    exact g_iret rfl rfl (fun _ => ra1) dX3_lift_2_11
  · refine g_aload_n 0 dX3_lift_2_12 rfl ?_
    refine g_get (v := vR 11) (ci := 2) (b := 0) (N := 83) 1 rfl rfl (by decide) in_X3 rfl rfl q1133 dX3_lift_2_13 ?_
    refine g_iload_n 1 dX3_lift_2_16 rfl ?_
    refine g_iald (id := 1) 0 rfl rfl dX3_lift_2_17 (fun v2 rv2 => ?_)
    refine g_iconst dX3_lift_2_18 ?_
    refine g_icmp_ne 35 dX3_lift_2_19 (by decide) (fun _ => rv2) (fun _ => (inR_z (Or.inr rfl))) (fun _ => ?_) (fun _ => ?_)
    · refine g_aload_n 0 dX3_lift_2_22 rfl ?_
      refine g_aload_n 0 dX3_lift_2_23 rfl ?_
      refine g_iload_n 1 dX3_lift_2_24 rfl ?_
      refine g_iconst dX3_lift_2_25 ?_
      refine g_cVI (As := [vI a1, vI 0]) (n := 2) (stk := [vR 0]) (ci := 2) (b := 0) (N := 83) (hX3_get a1 0 u) (by decide +kernel) rfl rfl (lw_V q1116 q1118 qs76 q168 q1119) (by decide +kernel) rfl (by decide) hRf hRl (fun _ => (avc ra1 (avc (inR_z (Or.inl rfl)) avn))) (Nat.le_of_ble_eq_true rfl) rfl rfl dX3_lift_2_26 (fun v3 s4 rv3 => ?_)
      refine g_iload_n 2 dX3_lift_2_29 rfl ?_
      refine g_iadd dX3_lift_2_30 (fun v5 rv5 => ?_)
      refine g_cVI (As := [vI v5]) (n := 1) (stk := []) (ci := 2) (b := 0) (N := 83) (hX3_bound v5 s4) (by decide +kernel) rfl rfl (lw_V q1507 q1509 qs98 q168 q1510) (by decide +kernel) rfl (by decide) hRf hRl (fun _ => (avc rv5 avn)) (Nat.le_of_ble_eq_true rfl) rfl rfl dX3_lift_2_31 (fun v6 s7 rv6 => ?_)
      exact g_iret rfl rfl (fun _ => rv6) dX3_lift_2_34
    · refine g_aload_n 0 dX3_lift_2_35 rfl ?_
      refine g_getI (ci := 2) (b := 0) (N := 83) 13 rfl rfl rfl (by decide) in_X3 rfl rfl q1145 dX3_lift_2_36 (fun v8 rv8 => ?_)
      refine g_istore (loc' := [(4, vI v8), (0, vR 0), (1, vI a1), (2, vI a2), (3, vI a3)]) dX3_lift_2_39 (by decide) rfl ?_
      refine g_iconst dX3_lift_2_41 ?_
      refine g_istore (loc' := [(5, vI 0), (4, vI v8), (0, vR 0), (1, vI a1), (2, vI a2), (3, vI a3)]) dX3_lift_2_42 (by decide) rfl ?_
      refine g_pick [2, 3, 4, 5, 1, 0] rfl (wX3_lift_2_L44 hd hRf hRl hX3_get hX3_bound hX3_give hX3_isPart hX3_lift_2 hX3_again _ (fun v10 v11 s9 rv10 rv11 => ?_) KF a1 a2 a3 v8 0 u ra1 ra2 ra3 rv8 (inR_z (Or.inl rfl)))
      · refine g_aload_n 0 dX3_lift_2_121 rfl ?_
        refine g_iload_n 1 dX3_lift_2_122 rfl ?_
        refine g_iload 2 dX3_lift_2_123 rfl ?_
        refine g_cVI (As := [vI v10, vI v11]) (n := 2) (stk := []) (ci := 2) (b := 0) (N := 83) (hX3_again v10 v11 s9) (by decide +kernel) rfl rfl (lw_V q1511 q1513 qs99 q168 q1514) (by decide +kernel) rfl (by decide) hRf hRl (fun _ => (avc rv10 (avc rv11 avn))) (Nat.le_of_ble_eq_true rfl) rfl rfl dX3_lift_2_125 (fun v12 s13 rv12 => ?_)
        exact g_iret rfl rfl (fun _ => rv12) dX3_lift_2_128
end
section
variable {l : Launch} {d : Nat} {call : Nat → List Int → Sg → Option (Int × Sg)}
theorem ctX3_lift_2 (p0 : Program) (e0 : Env) (s0 : State) (m0 : MethodId) (meth0 : Method) (c0 : Code) (G0 : Gm) (hd : 2 ≤ d) (hX3_get : ∀ (a1 a2 : Int) (u : Sg), Ct l d FT clA yX3_get cX3_get 3 (some .int) DX3_get rvI [vR 0, vI a1, vI a2] u (call 7 [a1, a2] u)) (hX3_bound : ∀ (a1 : Int) (u : Sg), Ct l d FT clA yX3_bound cX3_bound 2 (some .int) DX3_bound rvI [vR 0, vI a1] u (call 42 [a1] u)) (hX3_give : ∀ (a1 : Int) (u : Sg), Ct l d FT clA yX3_give cX3_give 2 none DX3_give rvV [vR 0, vI a1] u (call 3 [a1] u)) (hX3_isPart : ∀ (a1 a2 : Int) (u : Sg), Ct l d FT clA yX3_isPart cX3_isPart 4 (some .boolean) DX3_isPart rvI [vR 0, vI a1, vI a2] u (call 16 [a1, a2] u)) (hX3_lift_2 : ∀ (a1 a2 a3 : Int) (u : Sg), Ct l d FT clA yX3_lift_2 cX3_lift_2 6 (some .int) DX3_lift_2 rvI [vR 0, vI a1, vI a2, vI a3] u (call 60 [a1, a2, a3] u)) (hX3_again : ∀ (a1 a2 : Int) (u : Sg), Ct l d FT clA yX3_again cX3_again 5 (some .int) DX3_again rvI [vR 0, vI a1, vI a2] u (call 43 [a1, a2] u)) (a1 a2 a3 : Int) (u : Sg) : Ct l (d + 1) FT clA yX3_lift_2 cX3_lift_2 6 (some .int) DX3_lift_2 rvI [vR 0, vI a1, vI a2, vI a3] u (bX3_lift_2 call a1 a2 a3 u) :=
  Ct_of (by decide) (Nat.le_of_ble_eq_true rfl) (fun p e R s1 m args below meth c G A ad hA hRf hRl => wX3_lift_2 hd hRf hRl hX3_get hX3_bound hX3_give hX3_isPart hX3_lift_2 hX3_again a1 a2 a3 u (hA _ (List.mem_cons_of_mem _ List.mem_cons_self)) (hA _ (List.mem_cons_of_mem _ (List.mem_cons_of_mem _ List.mem_cons_self))) (hA _ (List.mem_cons_of_mem _ (List.mem_cons_of_mem _ (List.mem_cons_of_mem _ List.mem_cons_self))))) p0 e0 s0 m0 meth0 c0 G0
end
/-! RoundCheckModel.caseOf(IJ)I -/
abbrev JX3_caseOf : Jm := (cX3_caseOf, RX3, 8, (some .int))
def bX3_caseOf_L49 (call : Nat → List Int → Sg → Option (Int × Sg)) : Nat → Int → Sg → (Sg → Option (Int × Sg)) → Option (Int × Sg)
  | 0, _, _, _ => none
  | n + 1, a4, u, x84 => un (gI u 50) fun v1 => if a4 < v1 then (un (gI u 57) fun v2 => if v2 ≤ 100 then (ld u 49 a4 fun v3 => cl (call 64 [v3] u) fun v4 s5 => ar (a4 + 1) fun v6 => bX3_caseOf_L49 call n v6 s5 x84) else (x84 u)) else (x84 u)
def bX3_caseOf_L159 (call : Nat → List Int → Sg → Option (Int × Sg)) : Nat → Int → Int → Sg → (Int → Sg → Option (Int × Sg)) → Option (Int × Sg)
  | 0, _, _, _, _ => none
  | n + 1, a4, a7, u, x185 => un (gI u 70) fun v1 => if a7 < v1 then (ld u 69 a7 fun v2 => cl (call 64 [v2] u) fun v3 s4 => ar (a7 + 1) fun v5 => bX3_caseOf_L159 call n a4 v5 s4 x185) else (x185 a4 u)
def bX3_caseOf_L100 (call : Nat → List Int → Sg → Option (Int × Sg)) : Nat → Int → Sg → (Sg → Option (Int × Sg)) → (Sg → Option (Int × Sg)) → (Sg → Option (Int × Sg)) → (Sg → Option (Int × Sg)) → Option (Int × Sg)
  | 0, _, _, _, _, _, _ => none
  | n + 1, a4, u, x113, x122, x153, x202 => cl (call 67 [] u) fun v1 s2 => un (gI s2 57) fun v3 => if v3 ≤ 100 then (cl (call 99 [] s2) fun v4 s5 => if v4 = 0 then (un (gI s5 50) fun v6 => un (gI s5 70) fun v7 => cl (call 104 [v6, v7] s5) fun v8 s9 => un (gI s9 50) fun v10 => if v10 = v6 then (x153 s9) else (bX3_caseOf_L159 call KF a4 v7 s9 (fun v12 s11 => if v12 = 17 then (x202 s11) else (un (gI s11 50) fun v13 => if v13 ≤ 400 then (ar (v12 + 1) fun v14 => bX3_caseOf_L100 call n v14 s11 x113 x122 x153 x202) else (x202 s11))))) else (x122 s5)) else (x113 s2)
def bX3_caseOf (call : Nat → List Int → Sg → Option (Int × Sg)) (a1 a2 : Int) (u : Sg) : Option (Int × Sg) := un (gI u 54) fun v1 => ar (v1 + 1) fun v2 => un (sI u 54 v2) fun s3 => un (sI s3 50 0) fun s4 => un (sI s4 57 0) fun s5 => un (sI s5 62 0) fun s6 => un (sI s6 65 0) fun s7 => un (sI s7 67 0) fun s8 => un (sI s8 68 0) fun s9 => cl (call 62 [a1, a2] s9) fun v10 s11 => bX3_caseOf_L49 call KF 0 s11 (fun s12 => un (gI s12 57) fun v13 => un (sI s12 58 v13) fun s14 => un (sI s14 70 0) fun s15 => bX3_caseOf_L100 call KF 1 s15 (fun s16 => some (2, s16)) (fun s17 => some (1, s17)) (fun s18 => some (0, s18)) (fun s19 => some (2, s19)))
section
variable {p : Program} {l : Launch} {e : Env} {R : Room} {s : State} {m : MethodId} {args : Array Value} {below : List Frame} {meth : Method} {c : Code} {G : Gm} {A : Nat → Prop} {ad0 : Nat → Nat} {σ0 : Sg} {d : Nat} {call : Nat → List Int → Sg → Option (Int × Sg)}
theorem wX3_caseOf_L49 (hd : 2 ≤ d) (hRf : d + 1 ≤ R.frames) (hRl : 40 * (d + 1) ≤ R.locals) (hX3_leavesOf : ∀ (a1 a2 : Int) (u : Sg), Ct l d FT clA yX3_leavesOf cX3_leavesOf 5 none DX3_leavesOf rvV [vR 0, vI a1, vL a2] u (call 62 [a1, a2] u)) (hX3_terms : ∀ (a1 : Int) (u : Sg), Ct l d FT clA yX3_terms cX3_terms 4 none DX3_terms rvV [vR 0, vI a1] u (call 64 [a1] u)) (hX3_closing : ∀ (u : Sg), Ct l d FT clA yX3_closing cX3_closing 4 none DX3_closing rvV [vR 0] u (call 67 [] u)) (hX3_isContradictory : ∀ (u : Sg), Ct l d FT clA yX3_isContradictory cX3_isContradictory 4 (some .boolean) DX3_isContradictory rvI [vR 0] u (call 99 [] u)) (hX3_brings : ∀ (a1 a2 : Int) (u : Sg), Ct l d FT clA yX3_brings cX3_brings 4 none DX3_brings rvV [vR 0, vI a1, vI a2] u (call 104 [a1, a2] u)) (x84 : Sg → Option (Int × Sg)) (hx84 : ∀ (u : Sg), WG p l e R s m args below meth c JX3_caseOf DX3_caseOf G clA A FT ad0 σ0 rvI (x84 u) u 84 [(0, vR 0)] []) : ∀ (n : Nat) (a4 : Int) (u : Sg), inR a4 → WG p l e R s m args below meth c JX3_caseOf DX3_caseOf G clA A FT ad0 σ0 rvI (bX3_caseOf_L49 call n a4 u x84) u 49 [(0, vR 0), (4, vI a4)] [] := by
  intro n
  induction n with
  | zero =>
    intro a4 u ra4
    exact g_none
  | succ n ih =>
    intro a4 u ra4
    rw [bX3_caseOf_L49]
    refine g_iload 1 dX3_caseOf_49 rfl ?_
    refine g_aload_n 0 dX3_caseOf_51 rfl ?_
    refine g_getI (ci := 2) (b := 0) (N := 83) 50 rfl rfl rfl (by decide) in_X3 rfl rfl q1182 dX3_caseOf_52 (fun v1 rv1 => ?_)
    refine g_icmp_ge 84 dX3_caseOf_55 (by decide) (fun _ => ra4) (fun _ => rv1) (fun _ => ?_) (fun _ => ?_)
    · refine g_aload_n 0 dX3_caseOf_58 rfl ?_
      refine g_getI (ci := 2) (b := 0) (N := 83) 57 rfl rfl rfl (by decide) in_X3 rfl rfl q1189 dX3_caseOf_59 (fun v2 rv2 => ?_)
      refine g_bipush (by decide +kernel) dX3_caseOf_62 ?_
      refine g_icmp_gt 84 dX3_caseOf_64 (by decide) (fun _ => rv2) (fun _ => (by decide : inR (100))) (fun _ => ?_) (fun _ => ?_)
      · refine g_aload_n 0 dX3_caseOf_67 rfl ?_
        refine g_aload_n 0 dX3_caseOf_68 rfl ?_
        refine g_get (v := vR 59) (ci := 2) (b := 0) (N := 83) 49 rfl rfl (by decide) in_X3 rfl rfl q1181 dX3_caseOf_69 ?_
        refine g_iload 1 dX3_caseOf_72 rfl ?_
        refine g_iald (id := 49) 35 rfl rfl dX3_caseOf_74 (fun v3 rv3 => ?_)
        refine g_cVV (As := [vI v3]) (n := 1) (stk := []) (ci := 2) (b := 0) (N := 83) (hX3_terms v3 u) (by decide +kernel) rfl rfl (lw_V q1599 q1601 qs114 q168 q1602) (by decide +kernel) rfl (by decide) hRf hRl (fun _ => (avc rv3 avn)) (Nat.le_of_ble_eq_true rfl) rfl rfl dX3_caseOf_75 (fun v4 s5 => ?_)
        refine g_iinc 1 (loc' := fun v6 => [(4, vI v6), (0, vR 0)]) dX3_caseOf_78 rfl (by decide) (fun _ => rfl) (fun v6 rv6 => ?_)
        refine g_goto 49 dX3_caseOf_81 (by decide) ?_
        exact g_pick [1, 0] rfl (ih v6 s5 rv6)
      · exact g_pick [0] rfl (hx84 u)
    · exact g_pick [0] rfl (hx84 u)
theorem wX3_caseOf_L159 (hd : 2 ≤ d) (hRf : d + 1 ≤ R.frames) (hRl : 40 * (d + 1) ≤ R.locals) (hX3_leavesOf : ∀ (a1 a2 : Int) (u : Sg), Ct l d FT clA yX3_leavesOf cX3_leavesOf 5 none DX3_leavesOf rvV [vR 0, vI a1, vL a2] u (call 62 [a1, a2] u)) (hX3_terms : ∀ (a1 : Int) (u : Sg), Ct l d FT clA yX3_terms cX3_terms 4 none DX3_terms rvV [vR 0, vI a1] u (call 64 [a1] u)) (hX3_closing : ∀ (u : Sg), Ct l d FT clA yX3_closing cX3_closing 4 none DX3_closing rvV [vR 0] u (call 67 [] u)) (hX3_isContradictory : ∀ (u : Sg), Ct l d FT clA yX3_isContradictory cX3_isContradictory 4 (some .boolean) DX3_isContradictory rvI [vR 0] u (call 99 [] u)) (hX3_brings : ∀ (a1 a2 : Int) (u : Sg), Ct l d FT clA yX3_brings cX3_brings 4 none DX3_brings rvV [vR 0, vI a1, vI a2] u (call 104 [a1, a2] u)) (x185 : Int → Sg → Option (Int × Sg)) (hx185 : ∀ (a4 : Int) (u : Sg), inR a4 → WG p l e R s m args below meth c JX3_caseOf DX3_caseOf G clA A FT ad0 σ0 rvI (x185 a4 u) u 185 [(0, vR 0), (4, vI a4)] []) : ∀ (n : Nat) (a4 a7 : Int) (u : Sg), inR a4 → inR a7 → WG p l e R s m args below meth c JX3_caseOf DX3_caseOf G clA A FT ad0 σ0 rvI (bX3_caseOf_L159 call n a4 a7 u x185) u 159 [(0, vR 0), (4, vI a4), (7, vI a7)] [] := by
  intro n
  induction n with
  | zero =>
    intro a4 a7 u ra4 ra7
    exact g_none
  | succ n ih =>
    intro a4 a7 u ra4 ra7
    rw [bX3_caseOf_L159]
    refine g_iload 2 dX3_caseOf_159 rfl ?_
    refine g_aload_n 0 dX3_caseOf_161 rfl ?_
    refine g_getI (ci := 2) (b := 0) (N := 83) 70 rfl rfl rfl (by decide) in_X3 rfl rfl q1202 dX3_caseOf_162 (fun v1 rv1 => ?_)
    refine g_icmp_ge 185 dX3_caseOf_165 (by decide) (fun _ => ra7) (fun _ => rv1) (fun _ => ?_) (fun _ => ?_)
    · refine g_aload_n 0 dX3_caseOf_168 rfl ?_
      refine g_aload_n 0 dX3_caseOf_169 rfl ?_
      refine g_get (v := vR 79) (ci := 2) (b := 0) (N := 83) 69 rfl rfl (by decide) in_X3 rfl rfl q1201 dX3_caseOf_170 ?_
      refine g_iload 2 dX3_caseOf_173 rfl ?_
      refine g_iald (id := 69) 46 rfl rfl dX3_caseOf_175 (fun v2 rv2 => ?_)
      refine g_cVV (As := [vI v2]) (n := 1) (stk := []) (ci := 2) (b := 0) (N := 83) (hX3_terms v2 u) (by decide +kernel) rfl rfl (lw_V q1599 q1601 qs114 q168 q1602) (by decide +kernel) rfl (by decide) hRf hRl (fun _ => (avc rv2 avn)) (Nat.le_of_ble_eq_true rfl) rfl rfl dX3_caseOf_176 (fun v3 s4 => ?_)
      refine g_iinc 2 (loc' := fun v5 => [(7, vI v5), (0, vR 0), (4, vI a4)]) dX3_caseOf_179 rfl (by decide) (fun _ => rfl) (fun v5 rv5 => ?_)
      refine g_goto 159 dX3_caseOf_182 (by decide) ?_
      exact g_pick [1, 2, 0] rfl (ih a4 v5 s4 ra4 rv5)
    · exact g_pick [0, 1] rfl (hx185 a4 u ra4)
theorem wX3_caseOf_L100 (hd : 2 ≤ d) (hRf : d + 1 ≤ R.frames) (hRl : 40 * (d + 1) ≤ R.locals) (hX3_leavesOf : ∀ (a1 a2 : Int) (u : Sg), Ct l d FT clA yX3_leavesOf cX3_leavesOf 5 none DX3_leavesOf rvV [vR 0, vI a1, vL a2] u (call 62 [a1, a2] u)) (hX3_terms : ∀ (a1 : Int) (u : Sg), Ct l d FT clA yX3_terms cX3_terms 4 none DX3_terms rvV [vR 0, vI a1] u (call 64 [a1] u)) (hX3_closing : ∀ (u : Sg), Ct l d FT clA yX3_closing cX3_closing 4 none DX3_closing rvV [vR 0] u (call 67 [] u)) (hX3_isContradictory : ∀ (u : Sg), Ct l d FT clA yX3_isContradictory cX3_isContradictory 4 (some .boolean) DX3_isContradictory rvI [vR 0] u (call 99 [] u)) (hX3_brings : ∀ (a1 a2 : Int) (u : Sg), Ct l d FT clA yX3_brings cX3_brings 4 none DX3_brings rvV [vR 0, vI a1, vI a2] u (call 104 [a1, a2] u)) (x113 : Sg → Option (Int × Sg)) (x122 : Sg → Option (Int × Sg)) (x153 : Sg → Option (Int × Sg)) (x202 : Sg → Option (Int × Sg)) (hx113 : ∀ (u : Sg), WG p l e R s m args below meth c JX3_caseOf DX3_caseOf G clA A FT ad0 σ0 rvI (x113 u) u 113 [] []) (hx122 : ∀ (u : Sg), WG p l e R s m args below meth c JX3_caseOf DX3_caseOf G clA A FT ad0 σ0 rvI (x122 u) u 122 [] []) (hx153 : ∀ (u : Sg), WG p l e R s m args below meth c JX3_caseOf DX3_caseOf G clA A FT ad0 σ0 rvI (x153 u) u 153 [] []) (hx202 : ∀ (u : Sg), WG p l e R s m args below meth c JX3_caseOf DX3_caseOf G clA A FT ad0 σ0 rvI (x202 u) u 202 [] []) : ∀ (n : Nat) (a4 : Int) (u : Sg), inR a4 → WG p l e R s m args below meth c JX3_caseOf DX3_caseOf G clA A FT ad0 σ0 rvI (bX3_caseOf_L100 call n a4 u x113 x122 x153 x202) u 100 [(0, vR 0), (4, vI a4)] [] := by
  intro n
  induction n with
  | zero =>
    intro a4 u ra4
    exact g_none
  | succ n ih =>
    intro a4 u ra4
    rw [bX3_caseOf_L100]
    refine g_aload_n 0 dX3_caseOf_100 rfl ?_
    refine g_cVV (As := []) (n := 0) (stk := []) (ci := 2) (b := 0) (N := 83) (hX3_closing  u) (by decide +kernel) rfl rfl (lw_V q1610 q1612 qs116 q168 q1613) (by decide +kernel) rfl (by decide) hRf hRl (fun _ => avn) (Nat.le_of_ble_eq_true rfl) rfl rfl dX3_caseOf_101 (fun v1 s2 => ?_)
    refine g_aload_n 0 dX3_caseOf_104 rfl ?_
    refine g_getI (ci := 2) (b := 0) (N := 83) 57 rfl rfl rfl (by decide) in_X3 rfl rfl q1189 dX3_caseOf_105 (fun v3 rv3 => ?_)
    refine g_bipush (by decide +kernel) dX3_caseOf_108 ?_
    refine g_icmp_le 115 dX3_caseOf_110 (by decide) (fun _ => rv3) (fun _ => (by decide : inR (100))) (fun _ => ?_) (fun _ => ?_)
    · refine g_aload_n 0 dX3_caseOf_115 rfl ?_
      refine g_cVZ (As := []) (n := 0) (stk := []) (ci := 2) (b := 0) (N := 83) (hX3_isContradictory  s2) (by decide +kernel) rfl rfl (lw_V q1738 q1740 qs148 q168 q1741) (by decide +kernel) rfl (by decide) hRf hRl (fun _ => avn) (Nat.le_of_ble_eq_true rfl) rfl rfl dX3_caseOf_116 (fun v4 s5 zv4 => ?_)
      refine g_if_eq 124 dX3_caseOf_119 (by decide) (fun _ => (inR_z zv4)) (fun _ => ?_) (fun _ => ?_)
      · refine g_aload_n 0 dX3_caseOf_124 rfl ?_
        refine g_getI (ci := 2) (b := 0) (N := 83) 50 rfl rfl rfl (by decide) in_X3 rfl rfl q1182 dX3_caseOf_125 (fun v6 rv6 => ?_)
        refine g_istore (loc' := [(5, vI v6), (0, vR 0), (4, vI a4)]) dX3_caseOf_128 (by decide) rfl ?_
        refine g_aload_n 1 dX3_caseOf_130 rfl ?_
        refine g_getI (ci := 2) (b := 0) (N := 83) 70 rfl rfl rfl (by decide) in_X3 rfl rfl q1202 dX3_caseOf_131 (fun v7 rv7 => ?_)
        refine g_istore (loc' := [(6, vI v7), (5, vI v6), (0, vR 0), (4, vI a4)]) dX3_caseOf_134 (by decide) rfl ?_
        refine g_aload_n 2 dX3_caseOf_136 rfl ?_
        refine g_iload 1 dX3_caseOf_137 rfl ?_
        refine g_iload 0 dX3_caseOf_139 rfl ?_
        refine g_cVV (As := [vI v6, vI v7]) (n := 2) (stk := []) (ci := 2) (b := 0) (N := 83) (hX3_brings v6 v7 s5) (by decide +kernel) rfl rfl (lw_V q1758 q1760 qs153 q168 q1761) (by decide +kernel) rfl (by decide) hRf hRl (fun _ => (avc rv6 (avc rv7 avn))) (Nat.le_of_ble_eq_true rfl) rfl rfl dX3_caseOf_141 (fun v8 s9 => ?_)
        refine g_aload_n 2 dX3_caseOf_144 rfl ?_
        refine g_getI (ci := 2) (b := 0) (N := 83) 50 rfl rfl rfl (by decide) in_X3 rfl rfl q1182 dX3_caseOf_145 (fun v10 rv10 => ?_)
        refine g_iload 1 dX3_caseOf_148 rfl ?_
        refine g_icmp_ne 155 dX3_caseOf_150 (by decide) (fun _ => rv10) (fun _ => rv6) (fun _ => ?_) (fun _ => ?_)
        · exact g_pick [] rfl (hx153 s9)
        · refine g_iload 0 dX3_caseOf_155 rfl ?_
          refine g_istore (loc' := [(7, vI v7), (6, vI v7), (5, vI v6), (0, vR 0), (4, vI a4)]) dX3_caseOf_157 (by decide) rfl ?_
          refine g_pick [3, 4, 0] rfl (wX3_caseOf_L159 hd hRf hRl hX3_leavesOf hX3_terms hX3_closing hX3_isContradictory hX3_brings _ (fun v12 s11 rv12 => ?_) KF a4 v7 s9 ra4 rv7)
          · refine g_iload 1 dX3_caseOf_185 rfl ?_
            refine g_bipush (by decide +kernel) dX3_caseOf_187 ?_
            refine g_icmp_eq 202 dX3_caseOf_189 (by decide) (fun _ => rv12) (fun _ => (by decide : inR (17))) (fun _ => ?_) (fun _ => ?_)
            · exact g_pick [] rfl (hx202 s11)
            · refine g_aload_n 0 dX3_caseOf_192 rfl ?_
              refine g_getI (ci := 2) (b := 0) (N := 83) 50 rfl rfl rfl (by decide) in_X3 rfl rfl q1182 dX3_caseOf_193 (fun v13 rv13 => ?_)
              refine g_sipush (by decide +kernel) dX3_caseOf_196 ?_
              refine g_icmp_le 204 dX3_caseOf_199 (by decide) (fun _ => rv13) (fun _ => (by decide : inR (400))) (fun _ => ?_) (fun _ => ?_)
              · refine g_iinc 1 (loc' := fun v14 => [(4, vI v14), (0, vR 0)]) dX3_caseOf_204 rfl (by decide) (fun _ => rfl) (fun v14 rv14 => ?_)
                refine g_goto 100 dX3_caseOf_207 (by decide) ?_
                exact g_pick [1, 0] rfl (ih v14 s11 rv14)
              · exact g_pick [] rfl (hx202 s11)
      · exact g_pick [] rfl (hx122 s5)
    · exact g_pick [] rfl (hx113 s2)
theorem wX3_caseOf (hd : 2 ≤ d) (hRf : d + 1 ≤ R.frames) (hRl : 40 * (d + 1) ≤ R.locals) (hX3_leavesOf : ∀ (a1 a2 : Int) (u : Sg), Ct l d FT clA yX3_leavesOf cX3_leavesOf 5 none DX3_leavesOf rvV [vR 0, vI a1, vL a2] u (call 62 [a1, a2] u)) (hX3_terms : ∀ (a1 : Int) (u : Sg), Ct l d FT clA yX3_terms cX3_terms 4 none DX3_terms rvV [vR 0, vI a1] u (call 64 [a1] u)) (hX3_closing : ∀ (u : Sg), Ct l d FT clA yX3_closing cX3_closing 4 none DX3_closing rvV [vR 0] u (call 67 [] u)) (hX3_isContradictory : ∀ (u : Sg), Ct l d FT clA yX3_isContradictory cX3_isContradictory 4 (some .boolean) DX3_isContradictory rvI [vR 0] u (call 99 [] u)) (hX3_brings : ∀ (a1 a2 : Int) (u : Sg), Ct l d FT clA yX3_brings cX3_brings 4 none DX3_brings rvV [vR 0, vI a1, vI a2] u (call 104 [a1, a2] u)) (a1 a2 : Int) (u : Sg) (ra1 : inR a1) (ra2 : inL a2) : WG p l e R s m args below meth c JX3_caseOf DX3_caseOf G clA A FT ad0 σ0 rvI (bX3_caseOf call a1 a2 u) u 0 [(0, vR 0), (1, vI a1), (2, vL a2)] [] := by
  unfold bX3_caseOf
  refine g_aload_n 0 dX3_caseOf_0 rfl ?_
  refine g_dup rfl dX3_caseOf_1 ?_
  refine g_getI (ci := 2) (b := 0) (N := 83) 54 rfl rfl rfl (by decide) in_X3 rfl rfl q1186 dX3_caseOf_2 (fun v1 rv1 => ?_)
  refine g_iconst dX3_caseOf_5 ?_
  refine g_iadd dX3_caseOf_6 (fun v2 rv2 => ?_)
  refine g_sIU (ci := 2) (b := 0) (N := 83) FT_ok 54 rfl rfl rfl (by decide) in_X3 tyX3 tyX3_ok nmX3 rfl rfl rfl rfl (by decide +kernel) rv2 q1186 dX3_caseOf_7 (fun s3 => ?_)
  refine g_aload_n 0 dX3_caseOf_10 rfl ?_
  refine g_iconst dX3_caseOf_11 ?_
  refine g_sIU (ci := 2) (b := 0) (N := 83) FT_ok 50 rfl rfl rfl (by decide) in_X3 tyX3 tyX3_ok nmX3 rfl rfl rfl rfl (by decide +kernel) (inR_z (Or.inl rfl)) q1182 dX3_caseOf_12 (fun s4 => ?_)
  refine g_aload_n 0 dX3_caseOf_15 rfl ?_
  refine g_iconst dX3_caseOf_16 ?_
  refine g_sIU (ci := 2) (b := 0) (N := 83) FT_ok 57 rfl rfl rfl (by decide) in_X3 tyX3 tyX3_ok nmX3 rfl rfl rfl rfl (by decide +kernel) (inR_z (Or.inl rfl)) q1189 dX3_caseOf_17 (fun s5 => ?_)
  refine g_aload_n 0 dX3_caseOf_20 rfl ?_
  refine g_iconst dX3_caseOf_21 ?_
  refine g_sIU (ci := 2) (b := 0) (N := 83) FT_ok 62 rfl rfl rfl (by decide) in_X3 tyX3 tyX3_ok nmX3 rfl rfl rfl rfl (by decide +kernel) (inR_z (Or.inl rfl)) q1194 dX3_caseOf_22 (fun s6 => ?_)
  refine g_aload_n 0 dX3_caseOf_25 rfl ?_
  refine g_iconst dX3_caseOf_26 ?_
  refine g_sIU (ci := 2) (b := 0) (N := 83) FT_ok 65 rfl rfl rfl (by decide) in_X3 tyX3 tyX3_ok nmX3 rfl rfl rfl rfl (by decide +kernel) (inR_z (Or.inl rfl)) q1197 dX3_caseOf_27 (fun s7 => ?_)
  refine g_aload_n 0 dX3_caseOf_30 rfl ?_
  refine g_iconst dX3_caseOf_31 ?_
  refine g_sIU (ci := 2) (b := 0) (N := 83) FT_ok 67 rfl rfl rfl (by decide) in_X3 tyX3 tyX3_ok nmX3 rfl rfl rfl rfl (by decide +kernel) (inR_z (Or.inl rfl)) q1199 dX3_caseOf_32 (fun s8 => ?_)
  refine g_aload_n 0 dX3_caseOf_35 rfl ?_
  refine g_iconst dX3_caseOf_36 ?_
  refine g_sIU (ci := 2) (b := 0) (N := 83) FT_ok 68 rfl rfl rfl (by decide) in_X3 tyX3 tyX3_ok nmX3 rfl rfl rfl rfl (by decide +kernel) (inR_z (Or.inl rfl)) q1200 dX3_caseOf_37 (fun s9 => ?_)
  refine g_aload_n 0 dX3_caseOf_40 rfl ?_
  refine g_iload_n 1 dX3_caseOf_41 rfl ?_
  refine g_lload_n 2 dX3_caseOf_42 rfl ?_
  refine g_cVV (As := [vI a1, vL a2]) (n := 2) (stk := []) (ci := 2) (b := 0) (N := 83) (hX3_leavesOf a1 a2 s9) (by decide +kernel) rfl rfl (lw_V q1591 q1593 qs112 q168 q1594) (by decide +kernel) rfl (by decide) hRf hRl (fun _ => (avc ra1 (avc ra2 avn))) (Nat.le_of_ble_eq_true rfl) rfl rfl dX3_caseOf_43 (fun v10 s11 => ?_)
  refine g_iconst dX3_caseOf_46 ?_
  refine g_istore (loc' := [(4, vI 0), (0, vR 0), (1, vI a1), (2, vL a2)]) dX3_caseOf_47 (by decide) rfl ?_
  refine g_pick [1, 0] rfl (wX3_caseOf_L49 hd hRf hRl hX3_leavesOf hX3_terms hX3_closing hX3_isContradictory hX3_brings _ (fun s12 => ?_) KF 0 s11 (inR_z (Or.inl rfl)))
  · refine g_aload_n 0 dX3_caseOf_84 rfl ?_
    refine g_aload_n 0 dX3_caseOf_85 rfl ?_
    refine g_getI (ci := 2) (b := 0) (N := 83) 57 rfl rfl rfl (by decide) in_X3 rfl rfl q1189 dX3_caseOf_86 (fun v13 rv13 => ?_)
    refine g_sIU (ci := 2) (b := 0) (N := 83) FT_ok 58 rfl rfl rfl (by decide) in_X3 tyX3 tyX3_ok nmX3 rfl rfl rfl rfl (by decide +kernel) rv13 q1190 dX3_caseOf_89 (fun s14 => ?_)
    refine g_aload_n 0 dX3_caseOf_92 rfl ?_
    refine g_iconst dX3_caseOf_93 ?_
    refine g_sIU (ci := 2) (b := 0) (N := 83) FT_ok 70 rfl rfl rfl (by decide) in_X3 tyX3 tyX3_ok nmX3 rfl rfl rfl rfl (by decide +kernel) (inR_z (Or.inl rfl)) q1202 dX3_caseOf_94 (fun s15 => ?_)
    refine g_iconst dX3_caseOf_97 ?_
    refine g_istore (loc' := [(4, vI 1), (0, vR 0)]) dX3_caseOf_98 (by decide) rfl ?_
    refine g_pick [1, 0] rfl (wX3_caseOf_L100 hd hRf hRl hX3_leavesOf hX3_terms hX3_closing hX3_isContradictory hX3_brings _ _ _ _ (fun s16 => ?_) (fun s17 => ?_) (fun s18 => ?_) (fun s19 => ?_) KF 1 s15 (inR_z (Or.inr rfl)))
    · refine g_iconst dX3_caseOf_113 ?_
      exact g_iret rfl rfl (fun _ => (by decide : inR (2))) dX3_caseOf_114
    · refine g_iconst dX3_caseOf_122 ?_
      exact g_iret rfl rfl (fun _ => (inR_z (Or.inr rfl))) dX3_caseOf_123
    · refine g_iconst dX3_caseOf_153 ?_
      exact g_iret rfl rfl (fun _ => (inR_z (Or.inl rfl))) dX3_caseOf_154
    · refine g_iconst dX3_caseOf_202 ?_
      exact g_iret rfl rfl (fun _ => (by decide : inR (2))) dX3_caseOf_203
end
section
variable {l : Launch} {d : Nat} {call : Nat → List Int → Sg → Option (Int × Sg)}
theorem ctX3_caseOf (p0 : Program) (e0 : Env) (s0 : State) (m0 : MethodId) (meth0 : Method) (c0 : Code) (G0 : Gm) (hd : 2 ≤ d) (hX3_leavesOf : ∀ (a1 a2 : Int) (u : Sg), Ct l d FT clA yX3_leavesOf cX3_leavesOf 5 none DX3_leavesOf rvV [vR 0, vI a1, vL a2] u (call 62 [a1, a2] u)) (hX3_terms : ∀ (a1 : Int) (u : Sg), Ct l d FT clA yX3_terms cX3_terms 4 none DX3_terms rvV [vR 0, vI a1] u (call 64 [a1] u)) (hX3_closing : ∀ (u : Sg), Ct l d FT clA yX3_closing cX3_closing 4 none DX3_closing rvV [vR 0] u (call 67 [] u)) (hX3_isContradictory : ∀ (u : Sg), Ct l d FT clA yX3_isContradictory cX3_isContradictory 4 (some .boolean) DX3_isContradictory rvI [vR 0] u (call 99 [] u)) (hX3_brings : ∀ (a1 a2 : Int) (u : Sg), Ct l d FT clA yX3_brings cX3_brings 4 none DX3_brings rvV [vR 0, vI a1, vI a2] u (call 104 [a1, a2] u)) (a1 a2 : Int) (u : Sg) : Ct l (d + 1) FT clA yX3_caseOf cX3_caseOf 8 (some .int) DX3_caseOf rvI [vR 0, vI a1, vL a2] u (bX3_caseOf call a1 a2 u) :=
  Ct_of (by decide) (Nat.le_of_ble_eq_true rfl) (fun p e R s1 m args below meth c G A ad hA hRf hRl => wX3_caseOf hd hRf hRl hX3_leavesOf hX3_terms hX3_closing hX3_isContradictory hX3_brings a1 a2 u (hA _ (List.mem_cons_of_mem _ List.mem_cons_self)) (hA _ (List.mem_cons_of_mem _ (List.mem_cons_of_mem _ List.mem_cons_self)))) p0 e0 s0 m0 meth0 c0 G0
end
/-! RoundCheckModel.leavesOf(IJ)V -/
abbrev JX3_leavesOf : Jm := (cX3_leavesOf, RX3, 5, none)
def bX3_leavesOf_L29 (call : Nat → List Int → Sg → Option (Int × Sg)) : Nat → Int → Int → Int → Sg → (Sg → Option (Int × Sg)) → (Int → Int → Sg → Option (Int × Sg)) → Option (Int × Sg)
  | 0, _, _, _, _, _, _ => none
  | n + 1, a1, a2, a4, u, x114, x84 => if a4 ≤ 0 then (x114 u) else (jn (fun (a1 a2 a4 : Int) (s2 : Sg) => ld s2 45 a4 fun v3 => bX3_leavesOf_L29 call n a1 a2 v3 s2 x114 x84) fun j1 => ld u 43 a1 fun v4 => if v4 = 1 then (ld u 47 a4 fun v5 => gd (v5 ≠ 0 ∧ inL (Int.tdiv a2 v5)) (arL (a2 - Int.tdiv a2 v5 * v5) fun v6 => cl (call 62 [a4, v6] u) fun v7 s8 => ld s8 47 a4 fun v9 => gd (v9 ≠ 0) (arL (Int.tdiv a2 v9) fun v10 => j1 a1 v10 a4 s8))) else (ld u 47 a4 fun v11 => un (o_cmp a2 v11) fun v12 => if v12 < 0 then (x84 a2 a4 u) else (ld u 47 a4 fun v13 => arL (a2 - v13) fun v14 => j1 a1 v14 a4 u)))
def bX3_leavesOf (call : Nat → List Int → Sg → Option (Int × Sg)) (a1 a2 : Int) (u : Sg) : Option (Int × Sg) := ld u 43 a1 fun v1 => if v1 = 3 then (ld u 46 a1 fun v2 => cl (call 63 [v2] u) fun v3 s4 => some (0, s4)) else (ld u 44 a1 fun v5 => bX3_leavesOf_L29 call KF a1 a2 v5 u (fun s6 => some (0, s6)) (fun v8 v9 s7 => cl (call 62 [v9, v8] s7) fun v10 s11 => some (0, s11)))
section
variable {p : Program} {l : Launch} {e : Env} {R : Room} {s : State} {m : MethodId} {args : Array Value} {below : List Frame} {meth : Method} {c : Code} {G : Gm} {A : Nat → Prop} {ad0 : Nat → Nat} {σ0 : Sg} {d : Nat} {call : Nat → List Int → Sg → Option (Int × Sg)}
theorem wX3_leavesOf_L29 (hd : 2 ≤ d) (hRf : d + 1 ≤ R.frames) (hRl : 40 * (d + 1) ≤ R.locals) (hX3_knows : ∀ (a1 : Int) (u : Sg), Ct l d FT clA yX3_knows cX3_knows 2 none DX3_knows rvV [vR 0, vI a1] u (call 63 [a1] u)) (hX3_leavesOf : ∀ (a1 a2 : Int) (u : Sg), Ct l d FT clA yX3_leavesOf cX3_leavesOf 5 none DX3_leavesOf rvV [vR 0, vI a1, vL a2] u (call 62 [a1, a2] u)) (x114 : Sg → Option (Int × Sg)) (x84 : Int → Int → Sg → Option (Int × Sg)) (hx114 : ∀ (u : Sg), WG p l e R s m args below meth c JX3_leavesOf DX3_leavesOf G clA A FT ad0 σ0 rvV (x114 u) u 114 [] []) (hx84 : ∀ (a2 a4 : Int) (u : Sg), inL a2 → inR a4 → WG p l e R s m args below meth c JX3_leavesOf DX3_leavesOf G clA A FT ad0 σ0 rvV (x84 a2 a4 u) u 84 [(0, vR 0), (2, vL a2), (4, vI a4)] []) : ∀ (n : Nat) (a1 a2 a4 : Int) (u : Sg), inR a1 → inL a2 → inR a4 → WG p l e R s m args below meth c JX3_leavesOf DX3_leavesOf G clA A FT ad0 σ0 rvV (bX3_leavesOf_L29 call n a1 a2 a4 u x114 x84) u 29 [(0, vR 0), (1, vI a1), (2, vL a2), (4, vI a4)] [] := by
  intro n
  induction n with
  | zero =>
    intro a1 a2 a4 u ra1 ra2 ra4
    exact g_none
  | succ n ih =>
    intro a1 a2 a4 u ra1 ra2 ra4
    rw [bX3_leavesOf_L29]
    refine g_iload 3 dX3_leavesOf_29 rfl ?_
    refine g_if_le 114 dX3_leavesOf_31 (by decide) (fun _ => ra4) (fun _ => ?_) (fun _ => ?_)
    · exact g_pick [] rfl (hx114 u)
    · refine g_jn (fun j1 => ∀ (a1 a2 a4 : Int) (s2 : Sg), inR a1 → inL a2 → inR a4 → WG p l e R s m args below meth c JX3_leavesOf DX3_leavesOf G clA A FT ad0 σ0 rvV (j1 a1 a2 a4 s2) s2 102 [(0, vR 0), (1, vI a1), (2, vL a2), (4, vI a4)] []) (fun a1 a2 a4 s2 ra1 ra2 ra4 => ?_) (fun j1 hj1 => ?_)
      · refine g_aload_n 0 dX3_leavesOf_102 rfl ?_
        refine g_get (v := vR 55) (ci := 2) (b := 0) (N := 83) 45 rfl rfl (by decide) in_X3 rfl rfl q1177 dX3_leavesOf_103 ?_
        refine g_iload 3 dX3_leavesOf_106 rfl ?_
        refine g_iald (id := 45) 32 rfl rfl dX3_leavesOf_108 (fun v3 rv3 => ?_)
        refine g_istore (loc' := [(4, vI v3), (0, vR 0), (1, vI a1), (2, vL a2)]) dX3_leavesOf_109 (by decide) rfl ?_
        refine g_goto 29 dX3_leavesOf_111 (by decide) ?_
        exact g_pick [1, 2, 3, 0] rfl (ih a1 a2 v3 s2 ra1 ra2 rv3)
      · refine g_aload_n 0 dX3_leavesOf_34 rfl ?_
        refine g_get (v := vR 53) (ci := 2) (b := 0) (N := 83) 43 rfl rfl (by decide) in_X3 rfl rfl q1175 dX3_leavesOf_35 ?_
        refine g_iload_n 1 dX3_leavesOf_38 rfl ?_
        refine g_iald (id := 43) 30 rfl rfl dX3_leavesOf_39 (fun v4 rv4 => ?_)
        refine g_iconst dX3_leavesOf_40 ?_
        refine g_icmp_ne 72 dX3_leavesOf_41 (by decide) (fun _ => rv4) (fun _ => (inR_z (Or.inr rfl))) (fun _ => ?_) (fun _ => ?_)
        · refine g_aload_n 0 dX3_leavesOf_44 rfl ?_
          refine g_iload 3 dX3_leavesOf_45 rfl ?_
          refine g_lload_n 2 dX3_leavesOf_47 rfl ?_
          refine g_aload_n 0 dX3_leavesOf_48 rfl ?_
          refine g_get (v := vR 57) (ci := 2) (b := 0) (N := 83) 47 rfl rfl (by decide) in_X3 rfl rfl q1179 dX3_leavesOf_49 ?_
          refine g_iload 3 dX3_leavesOf_52 rfl ?_
          refine g_lald (id := 47) 34 rfl rfl dX3_leavesOf_54 (fun v5 rv5 => ?_)
          refine g_lrem ra2 rv5 dX3_leavesOf_55 (fun v6 rv6 => ?_)
          refine g_cVV (As := [vI a4, vL v6]) (n := 2) (stk := []) (ci := 2) (b := 0) (N := 83) (hX3_leavesOf a4 v6 u) (by decide +kernel) rfl rfl (lw_V q1591 q1593 qs112 q168 q1594) (by decide +kernel) rfl (by decide) hRf hRl (fun _ => (avc ra4 (avc rv6 avn))) (Nat.le_of_ble_eq_true rfl) rfl rfl dX3_leavesOf_56 (fun v7 s8 => ?_)
          refine g_lload_n 2 dX3_leavesOf_59 rfl ?_
          refine g_aload_n 0 dX3_leavesOf_60 rfl ?_
          refine g_get (v := vR 57) (ci := 2) (b := 0) (N := 83) 47 rfl rfl (by decide) in_X3 rfl rfl q1179 dX3_leavesOf_61 ?_
          refine g_iload 3 dX3_leavesOf_64 rfl ?_
          refine g_lald (id := 47) 34 rfl rfl dX3_leavesOf_66 (fun v9 rv9 => ?_)
          refine g_ldiv ra2 rv9 dX3_leavesOf_67 (fun v10 rv10 => ?_)
          refine g_lstore_n (loc' := [(2, vL v10), (0, vR 0), (1, vI a1), (4, vI a4)]) dX3_leavesOf_68 (by decide) rfl ?_
          refine g_goto 102 dX3_leavesOf_69 (by decide) ?_
          exact g_pick [1, 2, 0, 3] rfl (hj1 a1 v10 a4 s8 ra1 rv10 ra4)
        · refine g_lload_n 2 dX3_leavesOf_72 rfl ?_
          refine g_aload_n 0 dX3_leavesOf_73 rfl ?_
          refine g_get (v := vR 57) (ci := 2) (b := 0) (N := 83) 47 rfl rfl (by decide) in_X3 rfl rfl q1179 dX3_leavesOf_74 ?_
          refine g_iload 3 dX3_leavesOf_77 rfl ?_
          refine g_lald (id := 47) 34 rfl rfl dX3_leavesOf_79 (fun v11 rv11 => ?_)
          refine g_lcmpU ra2 rv11 dX3_leavesOf_80 (fun v12 rv12 => ?_)
          refine g_if_ge 92 dX3_leavesOf_81 (by decide) (fun _ => rv12) (fun _ => ?_) (fun _ => ?_)
          · exact g_pick [0, 2, 3] rfl (hx84 a2 a4 u ra2 ra4)
          · refine g_lload_n 2 dX3_leavesOf_92 rfl ?_
            refine g_aload_n 0 dX3_leavesOf_93 rfl ?_
            refine g_get (v := vR 57) (ci := 2) (b := 0) (N := 83) 47 rfl rfl (by decide) in_X3 rfl rfl q1179 dX3_leavesOf_94 ?_
            refine g_iload 3 dX3_leavesOf_97 rfl ?_
            refine g_lald (id := 47) 34 rfl rfl dX3_leavesOf_99 (fun v13 rv13 => ?_)
            refine g_lsub dX3_leavesOf_100 (fun v14 rv14 => ?_)
            refine g_lstore_n (loc' := [(2, vL v14), (0, vR 0), (1, vI a1), (4, vI a4)]) dX3_leavesOf_101 (by decide) rfl ?_
            exact g_pick [1, 2, 0, 3] rfl (hj1 a1 v14 a4 u ra1 rv14 ra4)
theorem wX3_leavesOf (hd : 2 ≤ d) (hRf : d + 1 ≤ R.frames) (hRl : 40 * (d + 1) ≤ R.locals) (hX3_knows : ∀ (a1 : Int) (u : Sg), Ct l d FT clA yX3_knows cX3_knows 2 none DX3_knows rvV [vR 0, vI a1] u (call 63 [a1] u)) (hX3_leavesOf : ∀ (a1 a2 : Int) (u : Sg), Ct l d FT clA yX3_leavesOf cX3_leavesOf 5 none DX3_leavesOf rvV [vR 0, vI a1, vL a2] u (call 62 [a1, a2] u)) (a1 a2 : Int) (u : Sg) (ra1 : inR a1) (ra2 : inL a2) : WG p l e R s m args below meth c JX3_leavesOf DX3_leavesOf G clA A FT ad0 σ0 rvV (bX3_leavesOf call a1 a2 u) u 0 [(0, vR 0), (1, vI a1), (2, vL a2)] [] := by
  unfold bX3_leavesOf
  refine g_aload_n 0 dX3_leavesOf_0 rfl ?_
  refine g_get (v := vR 53) (ci := 2) (b := 0) (N := 83) 43 rfl rfl (by decide) in_X3 rfl rfl q1175 dX3_leavesOf_1 ?_
  refine g_iload_n 1 dX3_leavesOf_4 rfl ?_
  refine g_iald (id := 43) 30 rfl rfl dX3_leavesOf_5 (fun v1 rv1 => ?_)
  refine g_iconst dX3_leavesOf_6 ?_
  refine g_icmp_ne 21 dX3_leavesOf_7 (by decide) (fun _ => rv1) (fun _ => (by decide : inR (3))) (fun _ => ?_) (fun _ => ?_)
  · refine g_aload_n 0 dX3_leavesOf_10 rfl ?_
    refine g_aload_n 0 dX3_leavesOf_11 rfl ?_
    refine g_get (v := vR 56) (ci := 2) (b := 0) (N := 83) 46 rfl rfl (by decide) in_X3 rfl rfl q1178 dX3_leavesOf_12 ?_
    refine g_iload_n 1 dX3_leavesOf_15 rfl ?_
    refine g_iald (id := 46) 33 rfl rfl dX3_leavesOf_16 (fun v2 rv2 => ?_)
    refine g_cVV (As := [vI v2]) (n := 1) (stk := []) (ci := 2) (b := 0) (N := 83) (hX3_knows v2 u) (by decide +kernel) rfl rfl (lw_V q1595 q1597 qs113 q168 q1598) (by decide +kernel) rfl (by decide) hRf hRl (fun _ => (avc rv2 avn)) (Nat.le_of_ble_eq_true rfl) rfl rfl dX3_leavesOf_17 (fun v3 s4 => ?_)
    exact g_vret rfl rfl dX3_leavesOf_20
  · refine g_aload_n 0 dX3_leavesOf_21 rfl ?_
    refine g_get (v := vR 54) (ci := 2) (b := 0) (N := 83) 44 rfl rfl (by decide) in_X3 rfl rfl q1176 dX3_leavesOf_22 ?_
    refine g_iload_n 1 dX3_leavesOf_25 rfl ?_
    refine g_iald (id := 44) 31 rfl rfl dX3_leavesOf_26 (fun v5 rv5 => ?_)
    refine g_istore (loc' := [(4, vI v5), (0, vR 0), (1, vI a1), (2, vL a2)]) dX3_leavesOf_27 (by decide) rfl ?_
    refine g_pick [1, 2, 3, 0] rfl (wX3_leavesOf_L29 hd hRf hRl hX3_knows hX3_leavesOf _ _ (fun s6 => ?_) (fun v8 v9 s7 rv8 rv9 => ?_) KF a1 a2 v5 u ra1 ra2 rv5)
    · exact g_vret rfl rfl dX3_leavesOf_114
    · refine g_aload_n 0 dX3_leavesOf_84 rfl ?_
      refine g_iload 2 dX3_leavesOf_85 rfl ?_
      refine g_lload_n 1 dX3_leavesOf_87 rfl ?_
      refine g_cVV (As := [vI v9, vL v8]) (n := 2) (stk := []) (ci := 2) (b := 0) (N := 83) (hX3_leavesOf v9 v8 s7) (by decide +kernel) rfl rfl (lw_V q1591 q1593 qs112 q168 q1594) (by decide +kernel) rfl (by decide) hRf hRl (fun _ => (avc rv9 (avc rv8 avn))) (Nat.le_of_ble_eq_true rfl) rfl rfl dX3_leavesOf_88 (fun v10 s11 => ?_)
      exact g_vret rfl rfl dX3_leavesOf_91
end
section
variable {l : Launch} {d : Nat} {call : Nat → List Int → Sg → Option (Int × Sg)}
theorem ctX3_leavesOf (p0 : Program) (e0 : Env) (s0 : State) (m0 : MethodId) (meth0 : Method) (c0 : Code) (G0 : Gm) (hd : 2 ≤ d) (hX3_knows : ∀ (a1 : Int) (u : Sg), Ct l d FT clA yX3_knows cX3_knows 2 none DX3_knows rvV [vR 0, vI a1] u (call 63 [a1] u)) (hX3_leavesOf : ∀ (a1 a2 : Int) (u : Sg), Ct l d FT clA yX3_leavesOf cX3_leavesOf 5 none DX3_leavesOf rvV [vR 0, vI a1, vL a2] u (call 62 [a1, a2] u)) (a1 a2 : Int) (u : Sg) : Ct l (d + 1) FT clA yX3_leavesOf cX3_leavesOf 5 none DX3_leavesOf rvV [vR 0, vI a1, vL a2] u (bX3_leavesOf call a1 a2 u) :=
  Ct_of (by decide) (Nat.le_of_ble_eq_true rfl) (fun p e R s1 m args below meth c G A ad hA hRf hRl => wX3_leavesOf hd hRf hRl hX3_knows hX3_leavesOf a1 a2 u (hA _ (List.mem_cons_of_mem _ List.mem_cons_self)) (hA _ (List.mem_cons_of_mem _ (List.mem_cons_of_mem _ List.mem_cons_self)))) p0 e0 s0 m0 meth0 c0 G0
end
/-! RoundCheckModel.knows(I)V -/
abbrev JX3_knows : Jm := (cX3_knows, RX3, 2, none)
def bX3_knows (call : Nat → List Int → Sg → Option (Int × Sg)) (a1 : Int) (u : Sg) : Option (Int × Sg) := un (gI u 8) fun v1 => mor u 51 v1 fun s2 => ld s2 51 a1 fun v3 => un (gI s2 54) fun v4 => if v3 = v4 then (some (0, s2)) else (un (gI s2 54) fun v5 => stA s2 51 a1 v5 fun s6 => un (gI s6 50) fun v7 => mor s6 49 v7 fun s8 => un (gI s8 50) fun v9 => ar (v9 + 1) fun v10 => un (sI s8 50 v10) fun s11 => stA s11 49 v9 a1 fun s12 => some (0, s12))
section
variable {p : Program} {l : Launch} {e : Env} {R : Room} {s : State} {m : MethodId} {args : Array Value} {below : List Frame} {meth : Method} {c : Code} {G : Gm} {A : Nat → Prop} {ad0 : Nat → Nat} {σ0 : Sg} {d : Nat} {call : Nat → List Int → Sg → Option (Int × Sg)}
theorem wX3_knows (hd : 2 ≤ d) (hRf : d + 1 ≤ R.frames) (hRl : 40 * (d + 1) ≤ R.locals) (a1 : Int) (u : Sg) (ra1 : inR a1) : WG p l e R s m args below meth c JX3_knows DX3_knows G clA A FT ad0 σ0 rvV (bX3_knows call a1 u) u 0 [(0, vR 0), (1, vI a1)] [] := by
  unfold bX3_knows
  refine g_aload_n 0 dX3_knows_0 rfl ?_
  refine g_aload_n 0 dX3_knows_1 rfl ?_
  refine g_get (v := vR 61) (ci := 2) (b := 0) (N := 83) 51 rfl rfl (by decide) in_X3 rfl rfl q1183 dX3_knows_2 ?_
  refine g_aload_n 0 dX3_knows_5 rfl ?_
  refine g_getI (ci := 2) (b := 0) (N := 83) 8 rfl rfl rfl (by decide) in_X3 rfl rfl q1140 dX3_knows_6 (fun v1 rv1 => ?_)
  refine g_more (ci := 2) (b := 0) (N := 83) FT_ok FT_10 rfl 51 36 rfl rfl rfl rfl (by decide) in_X3 tyX3 tyX3_ok nmX3 rfl rfl rfl rfl (by decide +kernel) rv1 q1104 q1183 hRf hRl hd (Nat.le_of_ble_eq_true rfl) rfl rfl dX3_knows_9 dX3_knows_12 (fun s2 => ?_)
  refine g_aload_n 0 dX3_knows_15 rfl ?_
  refine g_get (v := vR 61) (ci := 2) (b := 0) (N := 83) 51 rfl rfl (by decide) in_X3 rfl rfl q1183 dX3_knows_16 ?_
  refine g_iload_n 1 dX3_knows_19 rfl ?_
  refine g_iald (id := 51) 36 rfl rfl dX3_knows_20 (fun v3 rv3 => ?_)
  refine g_aload_n 0 dX3_knows_21 rfl ?_
  refine g_getI (ci := 2) (b := 0) (N := 83) 54 rfl rfl rfl (by decide) in_X3 rfl rfl q1186 dX3_knows_22 (fun v4 rv4 => ?_)
  refine g_icmp_ne 29 dX3_knows_25 (by decide) (fun _ => rv3) (fun _ => rv4) (fun _ => ?_) (fun _ => ?_)
  · exact g_vret rfl rfl dX3_knows_28
  · refine g_aload_n 0 dX3_knows_29 rfl ?_
    refine g_get (v := vR 61) (ci := 2) (b := 0) (N := 83) 51 rfl rfl (by decide) in_X3 rfl rfl q1183 dX3_knows_30 ?_
    refine g_iload_n 1 dX3_knows_33 rfl ?_
    refine g_aload_n 0 dX3_knows_34 rfl ?_
    refine g_getI (ci := 2) (b := 0) (N := 83) 54 rfl rfl rfl (by decide) in_X3 rfl rfl q1186 dX3_knows_35 (fun v5 rv5 => ?_)
    refine g_iastU (id := 51) FT_ok 36 rfl rfl (by decide +kernel) rv5 dX3_knows_38 (fun s6 => ?_)
    refine g_aload_n 0 dX3_knows_39 rfl ?_
    refine g_aload_n 0 dX3_knows_40 rfl ?_
    refine g_get (v := vR 59) (ci := 2) (b := 0) (N := 83) 49 rfl rfl (by decide) in_X3 rfl rfl q1181 dX3_knows_41 ?_
    refine g_aload_n 0 dX3_knows_44 rfl ?_
    refine g_getI (ci := 2) (b := 0) (N := 83) 50 rfl rfl rfl (by decide) in_X3 rfl rfl q1182 dX3_knows_45 (fun v7 rv7 => ?_)
    refine g_more (ci := 2) (b := 0) (N := 83) FT_ok FT_10 rfl 49 35 rfl rfl rfl rfl (by decide) in_X3 tyX3 tyX3_ok nmX3 rfl rfl rfl rfl (by decide +kernel) rv7 q1104 q1181 hRf hRl hd (Nat.le_of_ble_eq_true rfl) rfl rfl dX3_knows_48 dX3_knows_51 (fun s8 => ?_)
    refine g_aload_n 0 dX3_knows_54 rfl ?_
    refine g_get (v := vR 59) (ci := 2) (b := 0) (N := 83) 49 rfl rfl (by decide) in_X3 rfl rfl q1181 dX3_knows_55 ?_
    refine g_aload_n 0 dX3_knows_58 rfl ?_
    refine g_dup rfl dX3_knows_59 ?_
    refine g_getI (ci := 2) (b := 0) (N := 83) 50 rfl rfl rfl (by decide) in_X3 rfl rfl q1182 dX3_knows_60 (fun v9 rv9 => ?_)
    refine g_dup_x1 rfl rfl dX3_knows_63 ?_
    refine g_iconst dX3_knows_64 ?_
    refine g_iadd dX3_knows_65 (fun v10 rv10 => ?_)
    refine g_sIU (ci := 2) (b := 0) (N := 83) FT_ok 50 rfl rfl rfl (by decide) in_X3 tyX3 tyX3_ok nmX3 rfl rfl rfl rfl (by decide +kernel) rv10 q1182 dX3_knows_66 (fun s11 => ?_)
    refine g_iload_n 1 dX3_knows_69 rfl ?_
    refine g_iastU (id := 49) FT_ok 35 rfl rfl (by decide +kernel) ra1 dX3_knows_70 (fun s12 => ?_)
    exact g_vret rfl rfl dX3_knows_71
end
section
variable {l : Launch} {d : Nat} {call : Nat → List Int → Sg → Option (Int × Sg)}
theorem ctX3_knows (p0 : Program) (e0 : Env) (s0 : State) (m0 : MethodId) (meth0 : Method) (c0 : Code) (G0 : Gm) (hd : 2 ≤ d) (a1 : Int) (u : Sg) : Ct l (d + 1) FT clA yX3_knows cX3_knows 2 none DX3_knows rvV [vR 0, vI a1] u (bX3_knows call a1 u) :=
  Ct_of (by decide) (Nat.le_of_ble_eq_true rfl) (fun p e R s1 m args below meth c G A ad hA hRf hRl => wX3_knows hd hRf hRl a1 u (hA _ (List.mem_cons_of_mem _ List.mem_cons_self))) p0 e0 s0 m0 meth0 c0 G0
end
/-! RoundCheckModel.terms(I)V -/
abbrev JX3_terms : Jm := (cX3_terms, RX3, 4, none)
def bX3_terms_L208 (call : Nat → List Int → Sg → Option (Int × Sg)) : Nat → Int → Int → Sg → (Sg → Option (Int × Sg)) → Option (Int × Sg)
  | 0, _, _, _, _ => none
  | n + 1, a1, a3, u, x243 => ld u 3 a1 fun v1 => if a3 < v1 then (cl (call 16 [a1, a3] u) fun v2 s3 => if v2 = 0 then (ar (a3 + 1) fun v4 => bX3_terms_L208 call n a1 v4 s3 x243) else (cl (call 7 [a1, a3] s3) fun v5 s6 => cl (call 64 [v5] s6) fun v7 s8 => ar (a3 + 1) fun v9 => bX3_terms_L208 call n a1 v9 s8 x243)) else (x243 u)
def bX3_terms_L43 (call : Nat → List Int → Sg → Option (Int × Sg)) : Nat → Int → Int → Sg → (Int → Sg → Option (Int × Sg)) → Option (Int × Sg)
  | 0, _, _, _, _ => none
  | n + 1, a1, a3, u, x78 => ld u 3 a1 fun v1 => if a3 < v1 then (cl (call 16 [a1, a3] u) fun v2 s3 => if v2 = 0 then (ar (a3 + 1) fun v4 => bX3_terms_L43 call n a1 v4 s3 x78) else (cl (call 7 [a1, a3] s3) fun v5 s6 => cl (call 64 [v5] s6) fun v7 s8 => ar (a3 + 1) fun v9 => bX3_terms_L43 call n a1 v9 s8 x78)) else (x78 a1 u)
def bX3_terms (call : Nat → List Int → Sg → Option (Int × Sg)) (a1 : Int) (u : Sg) : Option (Int × Sg) := jn (fun (a1 : Int) (s2 : Sg) => bX3_terms_L208 call KF a1 0 s2 (fun s3 => some (0, s3))) fun j1 => ld u 1 a1 fun v4 => cl (call 65 [v4] u) fun v5 s6 => if v5 = 0 then (j1 a1 s6) else (ld s6 5 a1 fun v7 => if v7 = 0 then (cl (call 66 [a1] s6) fun v8 s9 => if v8 < 0 then (un (gI s9 57) fun v10 => if v10 ≤ 100 then (bX3_terms_L43 call KF a1 0 s9 (fun v12 s11 => cl (call 66 [v12] s11) fun v13 s14 => if v13 < 0 then (un (gI s14 8) fun v15 => mor s14 52 v15 fun s16 => un (gI s16 8) fun v17 => mor s16 53 v17 fun s18 => un (gI s18 57) fun v19 => mor s18 55 v19 fun s20 => un (gI s20 57) fun v21 => mor s20 56 v21 fun s22 => un (gI s22 54) fun v23 => stA s22 52 v12 v23 fun s24 => un (gI s24 57) fun v25 => stA s24 53 v12 v25 fun s26 => un (gI s26 57) fun v27 => stA s26 55 v27 v12 fun s28 => un (gI s28 57) fun v29 => un (gI s28 57) fun v30 => stA s28 56 v29 v30 fun s31 => un (gI s31 57) fun v32 => ar (v32 + 1) fun v33 => un (sI s31 57 v33) fun s34 => un (sI s34 66 1) fun s35 => some (0, s35)) else (some (0, s14)))) else (some (0, s9))) else (some (0, s9))) else (j1 a1 s6))
section
variable {p : Program} {l : Launch} {e : Env} {R : Room} {s : State} {m : MethodId} {args : Array Value} {below : List Frame} {meth : Method} {c : Code} {G : Gm} {A : Nat → Prop} {ad0 : Nat → Nat} {σ0 : Sg} {d : Nat} {call : Nat → List Int → Sg → Option (Int × Sg)}
theorem wX3_terms_L208 (hd : 2 ≤ d) (hRf : d + 1 ≤ R.frames) (hRl : 40 * (d + 1) ≤ R.locals) (hX3_isPart : ∀ (a1 a2 : Int) (u : Sg), Ct l d FT clA yX3_isPart cX3_isPart 4 (some .boolean) DX3_isPart rvI [vR 0, vI a1, vI a2] u (call 16 [a1, a2] u)) (hX3_get : ∀ (a1 a2 : Int) (u : Sg), Ct l d FT clA yX3_get cX3_get 3 (some .int) DX3_get rvI [vR 0, vI a1, vI a2] u (call 7 [a1, a2] u)) (hX3_terms : ∀ (a1 : Int) (u : Sg), Ct l d FT clA yX3_terms cX3_terms 4 none DX3_terms rvV [vR 0, vI a1] u (call 64 [a1] u)) (hX3_isTerm : ∀ (a1 : Int) (u : Sg), Ct l d FT clA yX3_isTerm cX3_isTerm 1 (some .boolean) DX3_isTerm rvI [vI a1] u (call 65 [a1] u)) (hX3_indexOf : ∀ (a1 : Int) (u : Sg), Ct l d FT clA yX3_indexOf cX3_indexOf 2 (some .int) DX3_indexOf rvI [vR 0, vI a1] u (call 66 [a1] u)) (x243 : Sg → Option (Int × Sg)) (hx243 : ∀ (u : Sg), WG p l e R s m args below meth c JX3_terms DX3_terms G clA A FT ad0 σ0 rvV (x243 u) u 243 [] []) : ∀ (n : Nat) (a1 a3 : Int) (u : Sg), inR a1 → inR a3 → WG p l e R s m args below meth c JX3_terms DX3_terms G clA A FT ad0 σ0 rvV (bX3_terms_L208 call n a1 a3 u x243) u 208 [(0, vR 0), (1, vI a1), (3, vI a3)] [] := by
  intro n
  induction n with
  | zero =>
    intro a1 a3 u ra1 ra3
    exact g_none
  | succ n ih =>
    intro a1 a3 u ra1 ra3
    rw [bX3_terms_L208]
    refine g_iload_n 2 dX3_terms_208 rfl ?_
    refine g_aload_n 0 dX3_terms_209 rfl ?_
    refine g_get (v := vR 13) (ci := 2) (b := 0) (N := 83) 3 rfl rfl (by decide) in_X3 rfl rfl q1135 dX3_terms_210 ?_
    refine g_iload_n 1 dX3_terms_213 rfl ?_
    refine g_iald (id := 3) 2 rfl rfl dX3_terms_214 (fun v1 rv1 => ?_)
    refine g_icmp_ge 243 dX3_terms_215 (by decide) (fun _ => ra3) (fun _ => rv1) (fun _ => ?_) (fun _ => ?_)
    · refine g_aload_n 0 dX3_terms_218 rfl ?_
      refine g_iload_n 1 dX3_terms_219 rfl ?_
      refine g_iload_n 2 dX3_terms_220 rfl ?_
      refine g_cVZ (As := [vI a1, vI a3]) (n := 2) (stk := []) (ci := 2) (b := 0) (N := 83) (hX3_isPart a1 a3 u) (by decide +kernel) rfl rfl (lw_V q1403 q1405 qs83 q168 q1406) (by decide +kernel) rfl (by decide) hRf hRl (fun _ => (avc ra1 (avc ra3 avn))) (Nat.le_of_ble_eq_true rfl) rfl rfl dX3_terms_221 (fun v2 s3 zv2 => ?_)
      refine g_if_eq 237 dX3_terms_224 (by decide) (fun _ => (inR_z zv2)) (fun _ => ?_) (fun _ => ?_)
      · refine g_iinc 2 (loc' := fun v4 => [(3, vI v4), (0, vR 0), (1, vI a1)]) dX3_terms_237 rfl (by decide) (fun _ => rfl) (fun v4 rv4 => ?_)
        refine g_goto 208 dX3_terms_240 (by decide) ?_
        exact g_pick [1, 2, 0] rfl (ih a1 v4 s3 ra1 rv4)
      · refine g_aload_n 0 dX3_terms_227 rfl ?_
        refine g_aload_n 0 dX3_terms_228 rfl ?_
        refine g_iload_n 1 dX3_terms_229 rfl ?_
        refine g_iload_n 2 dX3_terms_230 rfl ?_
        refine g_cVI (As := [vI a1, vI a3]) (n := 2) (stk := [vR 0]) (ci := 2) (b := 0) (N := 83) (hX3_get a1 a3 s3) (by decide +kernel) rfl rfl (lw_V q1116 q1118 qs76 q168 q1119) (by decide +kernel) rfl (by decide) hRf hRl (fun _ => (avc ra1 (avc ra3 avn))) (Nat.le_of_ble_eq_true rfl) rfl rfl dX3_terms_231 (fun v5 s6 rv5 => ?_)
        refine g_cVV (As := [vI v5]) (n := 1) (stk := []) (ci := 2) (b := 0) (N := 83) (hX3_terms v5 s6) (by decide +kernel) rfl rfl (lw_V q1599 q1601 qs114 q168 q1602) (by decide +kernel) rfl (by decide) hRf hRl (fun _ => (avc rv5 avn)) (Nat.le_of_ble_eq_true rfl) rfl rfl dX3_terms_234 (fun v7 s8 => ?_)
        refine g_iinc 2 (loc' := fun v9 => [(3, vI v9), (0, vR 0), (1, vI a1)]) dX3_terms_237 rfl (by decide) (fun _ => rfl) (fun v9 rv9 => ?_)
        refine g_goto 208 dX3_terms_240 (by decide) ?_
        exact g_pick [1, 2, 0] rfl (ih a1 v9 s8 ra1 rv9)
    · exact g_pick [] rfl (hx243 u)
theorem wX3_terms_L43 (hd : 2 ≤ d) (hRf : d + 1 ≤ R.frames) (hRl : 40 * (d + 1) ≤ R.locals) (hX3_isPart : ∀ (a1 a2 : Int) (u : Sg), Ct l d FT clA yX3_isPart cX3_isPart 4 (some .boolean) DX3_isPart rvI [vR 0, vI a1, vI a2] u (call 16 [a1, a2] u)) (hX3_get : ∀ (a1 a2 : Int) (u : Sg), Ct l d FT clA yX3_get cX3_get 3 (some .int) DX3_get rvI [vR 0, vI a1, vI a2] u (call 7 [a1, a2] u)) (hX3_terms : ∀ (a1 : Int) (u : Sg), Ct l d FT clA yX3_terms cX3_terms 4 none DX3_terms rvV [vR 0, vI a1] u (call 64 [a1] u)) (hX3_isTerm : ∀ (a1 : Int) (u : Sg), Ct l d FT clA yX3_isTerm cX3_isTerm 1 (some .boolean) DX3_isTerm rvI [vI a1] u (call 65 [a1] u)) (hX3_indexOf : ∀ (a1 : Int) (u : Sg), Ct l d FT clA yX3_indexOf cX3_indexOf 2 (some .int) DX3_indexOf rvI [vR 0, vI a1] u (call 66 [a1] u)) (x78 : Int → Sg → Option (Int × Sg)) (hx78 : ∀ (a1 : Int) (u : Sg), inR a1 → WG p l e R s m args below meth c JX3_terms DX3_terms G clA A FT ad0 σ0 rvV (x78 a1 u) u 78 [(0, vR 0), (1, vI a1)] []) : ∀ (n : Nat) (a1 a3 : Int) (u : Sg), inR a1 → inR a3 → WG p l e R s m args below meth c JX3_terms DX3_terms G clA A FT ad0 σ0 rvV (bX3_terms_L43 call n a1 a3 u x78) u 43 [(0, vR 0), (1, vI a1), (3, vI a3)] [] := by
  intro n
  induction n with
  | zero =>
    intro a1 a3 u ra1 ra3
    exact g_none
  | succ n ih =>
    intro a1 a3 u ra1 ra3
    rw [bX3_terms_L43]
    refine g_iload_n 2 dX3_terms_43 rfl ?_
    refine g_aload_n 0 dX3_terms_44 rfl ?_
    refine g_get (v := vR 13) (ci := 2) (b := 0) (N := 83) 3 rfl rfl (by decide) in_X3 rfl rfl q1135 dX3_terms_45 ?_
    refine g_iload_n 1 dX3_terms_48 rfl ?_
    refine g_iald (id := 3) 2 rfl rfl dX3_terms_49 (fun v1 rv1 => ?_)
    refine g_icmp_ge 78 dX3_terms_50 (by decide) (fun _ => ra3) (fun _ => rv1) (fun _ => ?_) (fun _ => ?_)
    · refine g_aload_n 0 dX3_terms_53 rfl ?_
      refine g_iload_n 1 dX3_terms_54 rfl ?_
      refine g_iload_n 2 dX3_terms_55 rfl ?_
      refine g_cVZ (As := [vI a1, vI a3]) (n := 2) (stk := []) (ci := 2) (b := 0) (N := 83) (hX3_isPart a1 a3 u) (by decide +kernel) rfl rfl (lw_V q1403 q1405 qs83 q168 q1406) (by decide +kernel) rfl (by decide) hRf hRl (fun _ => (avc ra1 (avc ra3 avn))) (Nat.le_of_ble_eq_true rfl) rfl rfl dX3_terms_56 (fun v2 s3 zv2 => ?_)
      refine g_if_eq 72 dX3_terms_59 (by decide) (fun _ => (inR_z zv2)) (fun _ => ?_) (fun _ => ?_)
      · refine g_iinc 2 (loc' := fun v4 => [(3, vI v4), (0, vR 0), (1, vI a1)]) dX3_terms_72 rfl (by decide) (fun _ => rfl) (fun v4 rv4 => ?_)
        refine g_goto 43 dX3_terms_75 (by decide) ?_
        exact g_pick [1, 2, 0] rfl (ih a1 v4 s3 ra1 rv4)
      · refine g_aload_n 0 dX3_terms_62 rfl ?_
        refine g_aload_n 0 dX3_terms_63 rfl ?_
        refine g_iload_n 1 dX3_terms_64 rfl ?_
        refine g_iload_n 2 dX3_terms_65 rfl ?_
        refine g_cVI (As := [vI a1, vI a3]) (n := 2) (stk := [vR 0]) (ci := 2) (b := 0) (N := 83) (hX3_get a1 a3 s3) (by decide +kernel) rfl rfl (lw_V q1116 q1118 qs76 q168 q1119) (by decide +kernel) rfl (by decide) hRf hRl (fun _ => (avc ra1 (avc ra3 avn))) (Nat.le_of_ble_eq_true rfl) rfl rfl dX3_terms_66 (fun v5 s6 rv5 => ?_)
        refine g_cVV (As := [vI v5]) (n := 1) (stk := []) (ci := 2) (b := 0) (N := 83) (hX3_terms v5 s6) (by decide +kernel) rfl rfl (lw_V q1599 q1601 qs114 q168 q1602) (by decide +kernel) rfl (by decide) hRf hRl (fun _ => (avc rv5 avn)) (Nat.le_of_ble_eq_true rfl) rfl rfl dX3_terms_69 (fun v7 s8 => ?_)
        refine g_iinc 2 (loc' := fun v9 => [(3, vI v9), (0, vR 0), (1, vI a1)]) dX3_terms_72 rfl (by decide) (fun _ => rfl) (fun v9 rv9 => ?_)
        refine g_goto 43 dX3_terms_75 (by decide) ?_
        exact g_pick [1, 2, 0] rfl (ih a1 v9 s8 ra1 rv9)
    · exact g_pick [0, 1] rfl (hx78 a1 u ra1)
theorem wX3_terms (hd : 2 ≤ d) (hRf : d + 1 ≤ R.frames) (hRl : 40 * (d + 1) ≤ R.locals) (hX3_isPart : ∀ (a1 a2 : Int) (u : Sg), Ct l d FT clA yX3_isPart cX3_isPart 4 (some .boolean) DX3_isPart rvI [vR 0, vI a1, vI a2] u (call 16 [a1, a2] u)) (hX3_get : ∀ (a1 a2 : Int) (u : Sg), Ct l d FT clA yX3_get cX3_get 3 (some .int) DX3_get rvI [vR 0, vI a1, vI a2] u (call 7 [a1, a2] u)) (hX3_terms : ∀ (a1 : Int) (u : Sg), Ct l d FT clA yX3_terms cX3_terms 4 none DX3_terms rvV [vR 0, vI a1] u (call 64 [a1] u)) (hX3_isTerm : ∀ (a1 : Int) (u : Sg), Ct l d FT clA yX3_isTerm cX3_isTerm 1 (some .boolean) DX3_isTerm rvI [vI a1] u (call 65 [a1] u)) (hX3_indexOf : ∀ (a1 : Int) (u : Sg), Ct l d FT clA yX3_indexOf cX3_indexOf 2 (some .int) DX3_indexOf rvI [vR 0, vI a1] u (call 66 [a1] u)) (a1 : Int) (u : Sg) (ra1 : inR a1) : WG p l e R s m args below meth c JX3_terms DX3_terms G clA A FT ad0 σ0 rvV (bX3_terms call a1 u) u 0 [(0, vR 0), (1, vI a1)] [] := by
  unfold bX3_terms
  refine g_jn (fun j1 => ∀ (a1 : Int) (s2 : Sg), inR a1 → WG p l e R s m args below meth c JX3_terms DX3_terms G clA A FT ad0 σ0 rvV (j1 a1 s2) s2 206 [(0, vR 0), (1, vI a1)] []) (fun a1 s2 ra1 => ?_) (fun j1 hj1 => ?_)
  · refine g_iconst dX3_terms_206 ?_
    refine g_istore_n (loc' := [(3, vI 0), (0, vR 0), (1, vI a1)]) dX3_terms_207 (by decide) rfl ?_
    refine g_pick [1, 2, 0] rfl (wX3_terms_L208 hd hRf hRl hX3_isPart hX3_get hX3_terms hX3_isTerm hX3_indexOf _ (fun s3 => ?_) KF a1 0 s2 ra1 (inR_z (Or.inl rfl)))
    · exact g_vret rfl rfl dX3_terms_243
  · refine g_aload_n 0 dX3_terms_0 rfl ?_
    refine g_get (v := vR 11) (ci := 2) (b := 0) (N := 83) 1 rfl rfl (by decide) in_X3 rfl rfl q1133 dX3_terms_1 ?_
    refine g_iload_n 1 dX3_terms_4 rfl ?_
    refine g_iald (id := 1) 0 rfl rfl dX3_terms_5 (fun v4 rv4 => ?_)
    refine g_istore_n (loc' := [(2, vI v4), (0, vR 0), (1, vI a1)]) dX3_terms_6 (by decide) rfl ?_
    refine g_iload_n 0 dX3_terms_7 rfl ?_
    refine g_cSZ (As := [vI v4]) (n := 1) (stk := []) (hX3_isTerm v4 u) (by decide +kernel) (lw_S q1603 q1604 q168 q1605) (by decide +kernel) rfl (by decide) hRf hRl (fun _ => (avc rv4 avn)) (Nat.le_of_ble_eq_true rfl) rfl rfl dX3_terms_8 (fun v5 s6 zv5 => ?_)
    refine g_if_eq 206 dX3_terms_11 (by decide) (fun _ => (inR_z zv5)) (fun _ => ?_) (fun _ => ?_)
    · exact g_pick [1, 2] rfl (hj1 a1 s6 ra1)
    · refine g_aload_n 1 dX3_terms_14 rfl ?_
      refine g_get (v := vR 15) (ci := 2) (b := 0) (N := 83) 5 rfl rfl (by decide) in_X3 rfl rfl q1137 dX3_terms_15 ?_
      refine g_iload_n 2 dX3_terms_18 rfl ?_
      refine g_iald (id := 5) 4 rfl rfl dX3_terms_19 (fun v7 rv7 => ?_)
      refine g_if_ne 206 dX3_terms_20 (by decide) (fun _ => rv7) (fun _ => ?_) (fun _ => ?_)
      · refine g_aload_n 1 dX3_terms_23 rfl ?_
        refine g_iload_n 2 dX3_terms_24 rfl ?_
        refine g_cVI (As := [vI a1]) (n := 1) (stk := []) (ci := 2) (b := 0) (N := 83) (hX3_indexOf a1 s6) (by decide +kernel) rfl rfl (lw_V q1606 q1608 qs115 q168 q1609) (by decide +kernel) rfl (by decide) hRf hRl (fun _ => (avc ra1 avn)) (Nat.le_of_ble_eq_true rfl) rfl rfl dX3_terms_25 (fun v8 s9 rv8 => ?_)
        refine g_if_ge 40 dX3_terms_28 (by decide) (fun _ => rv8) (fun _ => ?_) (fun _ => ?_)
        · refine g_aload_n 1 dX3_terms_31 rfl ?_
          refine g_getI (ci := 2) (b := 0) (N := 83) 57 rfl rfl rfl (by decide) in_X3 rfl rfl q1189 dX3_terms_32 (fun v10 rv10 => ?_)
          refine g_bipush (by decide +kernel) dX3_terms_35 ?_
          refine g_icmp_le 41 dX3_terms_37 (by decide) (fun _ => rv10) (fun _ => (by decide : inR (100))) (fun _ => ?_) (fun _ => ?_)
          · refine g_iconst dX3_terms_41 ?_
            refine g_istore_n (loc' := [(3, vI 0), (2, vI v4), (0, vR 0), (1, vI a1)]) dX3_terms_42 (by decide) rfl ?_
            refine g_pick [2, 3, 0] rfl (wX3_terms_L43 hd hRf hRl hX3_isPart hX3_get hX3_terms hX3_isTerm hX3_indexOf _ (fun v12 s11 rv12 => ?_) KF a1 0 s9 ra1 (inR_z (Or.inl rfl)))
            · refine g_aload_n 0 dX3_terms_78 rfl ?_
              refine g_iload_n 1 dX3_terms_79 rfl ?_
              refine g_cVI (As := [vI v12]) (n := 1) (stk := []) (ci := 2) (b := 0) (N := 83) (hX3_indexOf v12 s11) (by decide +kernel) rfl rfl (lw_V q1606 q1608 qs115 q168 q1609) (by decide +kernel) rfl (by decide) hRf hRl (fun _ => (avc rv12 avn)) (Nat.le_of_ble_eq_true rfl) rfl rfl dX3_terms_80 (fun v13 s14 rv13 => ?_)
              refine g_if_lt 87 dX3_terms_83 (by decide) (fun _ => rv13) (fun _ => ?_) (fun _ => ?_)
              · refine g_aload_n 0 dX3_terms_87 rfl ?_
                refine g_aload_n 0 dX3_terms_88 rfl ?_
                refine g_get (v := vR 62) (ci := 2) (b := 0) (N := 83) 52 rfl rfl (by decide) in_X3 rfl rfl q1184 dX3_terms_89 ?_
                refine g_aload_n 0 dX3_terms_92 rfl ?_
                refine g_getI (ci := 2) (b := 0) (N := 83) 8 rfl rfl rfl (by decide) in_X3 rfl rfl q1140 dX3_terms_93 (fun v15 rv15 => ?_)
                refine g_more (ci := 2) (b := 0) (N := 83) FT_ok FT_10 rfl 52 37 rfl rfl rfl rfl (by decide) in_X3 tyX3 tyX3_ok nmX3 rfl rfl rfl rfl (by decide +kernel) rv15 q1104 q1184 hRf hRl hd (Nat.le_of_ble_eq_true rfl) rfl rfl dX3_terms_96 dX3_terms_99 (fun s16 => ?_)
                refine g_aload_n 0 dX3_terms_102 rfl ?_
                refine g_aload_n 0 dX3_terms_103 rfl ?_
                refine g_get (v := vR 63) (ci := 2) (b := 0) (N := 83) 53 rfl rfl (by decide) in_X3 rfl rfl q1185 dX3_terms_104 ?_
                refine g_aload_n 0 dX3_terms_107 rfl ?_
                refine g_getI (ci := 2) (b := 0) (N := 83) 8 rfl rfl rfl (by decide) in_X3 rfl rfl q1140 dX3_terms_108 (fun v17 rv17 => ?_)
                refine g_more (ci := 2) (b := 0) (N := 83) FT_ok FT_10 rfl 53 38 rfl rfl rfl rfl (by decide) in_X3 tyX3 tyX3_ok nmX3 rfl rfl rfl rfl (by decide +kernel) rv17 q1104 q1185 hRf hRl hd (Nat.le_of_ble_eq_true rfl) rfl rfl dX3_terms_111 dX3_terms_114 (fun s18 => ?_)
                refine g_aload_n 0 dX3_terms_117 rfl ?_
                refine g_aload_n 0 dX3_terms_118 rfl ?_
                refine g_get (v := vR 65) (ci := 2) (b := 0) (N := 83) 55 rfl rfl (by decide) in_X3 rfl rfl q1187 dX3_terms_119 ?_
                refine g_aload_n 0 dX3_terms_122 rfl ?_
                refine g_getI (ci := 2) (b := 0) (N := 83) 57 rfl rfl rfl (by decide) in_X3 rfl rfl q1189 dX3_terms_123 (fun v19 rv19 => ?_)
                refine g_more (ci := 2) (b := 0) (N := 83) FT_ok FT_10 rfl 55 39 rfl rfl rfl rfl (by decide) in_X3 tyX3 tyX3_ok nmX3 rfl rfl rfl rfl (by decide +kernel) rv19 q1104 q1187 hRf hRl hd (Nat.le_of_ble_eq_true rfl) rfl rfl dX3_terms_126 dX3_terms_129 (fun s20 => ?_)
                refine g_aload_n 0 dX3_terms_132 rfl ?_
                refine g_aload_n 0 dX3_terms_133 rfl ?_
                refine g_get (v := vR 66) (ci := 2) (b := 0) (N := 83) 56 rfl rfl (by decide) in_X3 rfl rfl q1188 dX3_terms_134 ?_
                refine g_aload_n 0 dX3_terms_137 rfl ?_
                refine g_getI (ci := 2) (b := 0) (N := 83) 57 rfl rfl rfl (by decide) in_X3 rfl rfl q1189 dX3_terms_138 (fun v21 rv21 => ?_)
                refine g_more (ci := 2) (b := 0) (N := 83) FT_ok FT_10 rfl 56 40 rfl rfl rfl rfl (by decide) in_X3 tyX3 tyX3_ok nmX3 rfl rfl rfl rfl (by decide +kernel) rv21 q1104 q1188 hRf hRl hd (Nat.le_of_ble_eq_true rfl) rfl rfl dX3_terms_141 dX3_terms_144 (fun s22 => ?_)
                refine g_aload_n 0 dX3_terms_147 rfl ?_
                refine g_get (v := vR 62) (ci := 2) (b := 0) (N := 83) 52 rfl rfl (by decide) in_X3 rfl rfl q1184 dX3_terms_148 ?_
                refine g_iload_n 1 dX3_terms_151 rfl ?_
                refine g_aload_n 0 dX3_terms_152 rfl ?_
                refine g_getI (ci := 2) (b := 0) (N := 83) 54 rfl rfl rfl (by decide) in_X3 rfl rfl q1186 dX3_terms_153 (fun v23 rv23 => ?_)
                refine g_iastU (id := 52) FT_ok 37 rfl rfl (by decide +kernel) rv23 dX3_terms_156 (fun s24 => ?_)
                refine g_aload_n 0 dX3_terms_157 rfl ?_
                refine g_get (v := vR 63) (ci := 2) (b := 0) (N := 83) 53 rfl rfl (by decide) in_X3 rfl rfl q1185 dX3_terms_158 ?_
                refine g_iload_n 1 dX3_terms_161 rfl ?_
                refine g_aload_n 0 dX3_terms_162 rfl ?_
                refine g_getI (ci := 2) (b := 0) (N := 83) 57 rfl rfl rfl (by decide) in_X3 rfl rfl q1189 dX3_terms_163 (fun v25 rv25 => ?_)
                refine g_iastU (id := 53) FT_ok 38 rfl rfl (by decide +kernel) rv25 dX3_terms_166 (fun s26 => ?_)
                refine g_aload_n 0 dX3_terms_167 rfl ?_
                refine g_get (v := vR 65) (ci := 2) (b := 0) (N := 83) 55 rfl rfl (by decide) in_X3 rfl rfl q1187 dX3_terms_168 ?_
                refine g_aload_n 0 dX3_terms_171 rfl ?_
                refine g_getI (ci := 2) (b := 0) (N := 83) 57 rfl rfl rfl (by decide) in_X3 rfl rfl q1189 dX3_terms_172 (fun v27 rv27 => ?_)
                refine g_iload_n 1 dX3_terms_175 rfl ?_
                refine g_iastU (id := 55) FT_ok 39 rfl rfl (by decide +kernel) rv12 dX3_terms_176 (fun s28 => ?_)
                refine g_aload_n 0 dX3_terms_177 rfl ?_
                refine g_get (v := vR 66) (ci := 2) (b := 0) (N := 83) 56 rfl rfl (by decide) in_X3 rfl rfl q1188 dX3_terms_178 ?_
                refine g_aload_n 0 dX3_terms_181 rfl ?_
                refine g_getI (ci := 2) (b := 0) (N := 83) 57 rfl rfl rfl (by decide) in_X3 rfl rfl q1189 dX3_terms_182 (fun v29 rv29 => ?_)
                refine g_aload_n 0 dX3_terms_185 rfl ?_
                refine g_getI (ci := 2) (b := 0) (N := 83) 57 rfl rfl rfl (by decide) in_X3 rfl rfl q1189 dX3_terms_186 (fun v30 rv30 => ?_)
                refine g_iastU (id := 56) FT_ok 40 rfl rfl (by decide +kernel) rv30 dX3_terms_189 (fun s31 => ?_)
                refine g_aload_n 0 dX3_terms_190 rfl ?_
                refine g_dup rfl dX3_terms_191 ?_
                refine g_getI (ci := 2) (b := 0) (N := 83) 57 rfl rfl rfl (by decide) in_X3 rfl rfl q1189 dX3_terms_192 (fun v32 rv32 => ?_)
                refine g_iconst dX3_terms_195 ?_
                refine g_iadd dX3_terms_196 (fun v33 rv33 => ?_)
                refine g_sIU (ci := 2) (b := 0) (N := 83) FT_ok 57 rfl rfl rfl (by decide) in_X3 tyX3 tyX3_ok nmX3 rfl rfl rfl rfl (by decide +kernel) rv33 q1189 dX3_terms_197 (fun s34 => ?_)
                refine g_aload_n 0 dX3_terms_200 rfl ?_
                refine g_iconst dX3_terms_201 ?_
                refine g_sZU (ci := 2) (b := 0) (N := 83) FT_ok 66 rfl rfl rfl (by decide) in_X3 tyX3 tyX3_ok nmX3 rfl rfl rfl rfl (by decide +kernel) (Or.inr rfl) q1198 dX3_terms_202 (fun s35 => ?_)
                exact g_vret rfl rfl dX3_terms_205
              · exact g_vret rfl rfl dX3_terms_86
          · exact g_vret rfl rfl dX3_terms_40
        · exact g_vret rfl rfl dX3_terms_40
      · exact g_pick [1, 2] rfl (hj1 a1 s6 ra1)
end
section
variable {l : Launch} {d : Nat} {call : Nat → List Int → Sg → Option (Int × Sg)}
theorem ctX3_terms (p0 : Program) (e0 : Env) (s0 : State) (m0 : MethodId) (meth0 : Method) (c0 : Code) (G0 : Gm) (hd : 2 ≤ d) (hX3_isPart : ∀ (a1 a2 : Int) (u : Sg), Ct l d FT clA yX3_isPart cX3_isPart 4 (some .boolean) DX3_isPart rvI [vR 0, vI a1, vI a2] u (call 16 [a1, a2] u)) (hX3_get : ∀ (a1 a2 : Int) (u : Sg), Ct l d FT clA yX3_get cX3_get 3 (some .int) DX3_get rvI [vR 0, vI a1, vI a2] u (call 7 [a1, a2] u)) (hX3_terms : ∀ (a1 : Int) (u : Sg), Ct l d FT clA yX3_terms cX3_terms 4 none DX3_terms rvV [vR 0, vI a1] u (call 64 [a1] u)) (hX3_isTerm : ∀ (a1 : Int) (u : Sg), Ct l d FT clA yX3_isTerm cX3_isTerm 1 (some .boolean) DX3_isTerm rvI [vI a1] u (call 65 [a1] u)) (hX3_indexOf : ∀ (a1 : Int) (u : Sg), Ct l d FT clA yX3_indexOf cX3_indexOf 2 (some .int) DX3_indexOf rvI [vR 0, vI a1] u (call 66 [a1] u)) (a1 : Int) (u : Sg) : Ct l (d + 1) FT clA yX3_terms cX3_terms 4 none DX3_terms rvV [vR 0, vI a1] u (bX3_terms call a1 u) :=
  Ct_of (by decide) (Nat.le_of_ble_eq_true rfl) (fun p e R s1 m args below meth c G A ad hA hRf hRl => wX3_terms hd hRf hRl hX3_isPart hX3_get hX3_terms hX3_isTerm hX3_indexOf a1 u (hA _ (List.mem_cons_of_mem _ List.mem_cons_self))) p0 e0 s0 m0 meth0 c0 G0
end
/-! RoundCheckModel.isTerm(I)Z -/
abbrev JX3_isTerm : Jm := (cX3_isTerm, RX3, 1, (some .boolean))
def bX3_isTerm (call : Nat → List Int → Sg → Option (Int × Sg)) (a0 : Int) (u : Sg) : Option (Int × Sg) := jn (fun (s2 : Sg) => some (1, s2)) fun j1 => if a0 = 2 then (j1 u) else (if a0 = 4 then (j1 u) else (if a0 = 5 then (j1 u) else (some (0, u))))
section
variable {p : Program} {l : Launch} {e : Env} {R : Room} {s : State} {m : MethodId} {args : Array Value} {below : List Frame} {meth : Method} {c : Code} {G : Gm} {A : Nat → Prop} {ad0 : Nat → Nat} {σ0 : Sg} {d : Nat} {call : Nat → List Int → Sg → Option (Int × Sg)}
theorem wX3_isTerm (hd : 2 ≤ d) (hRf : d + 1 ≤ R.frames) (hRl : 40 * (d + 1) ≤ R.locals) (a0 : Int) (u : Sg) (ra0 : inR a0) : WG p l e R s m args below meth c JX3_isTerm DX3_isTerm G clA A FT ad0 σ0 rvI (bX3_isTerm call a0 u) u 0 [(0, vI a0)] [] := by
  unfold bX3_isTerm
  refine g_jn (fun j1 => ∀ (s2 : Sg), WG p l e R s m args below meth c JX3_isTerm DX3_isTerm G clA A FT ad0 σ0 rvI (j1 s2) s2 15 [] []) (fun s2 => ?_) (fun j1 hj1 => ?_)
  · refine g_iconst dX3_isTerm_15 ?_
    refine g_goto 20 dX3_isTerm_16 (by decide) ?_
    exact g_zret rfl rfl (fun _ => (Or.inr rfl)) dX3_isTerm_20
  · refine g_iload_n 0 dX3_isTerm_0 rfl ?_
    refine g_iconst dX3_isTerm_1 ?_
    refine g_icmp_eq 15 dX3_isTerm_2 (by decide) (fun _ => ra0) (fun _ => (by decide : inR (2))) (fun _ => ?_) (fun _ => ?_)
    · exact g_pick [] rfl (hj1 u)
    · refine g_iload_n 0 dX3_isTerm_5 rfl ?_
      refine g_iconst dX3_isTerm_6 ?_
      refine g_icmp_eq 15 dX3_isTerm_7 (by decide) (fun _ => ra0) (fun _ => (by decide : inR (4))) (fun _ => ?_) (fun _ => ?_)
      · exact g_pick [] rfl (hj1 u)
      · refine g_iload_n 0 dX3_isTerm_10 rfl ?_
        refine g_iconst dX3_isTerm_11 ?_
        refine g_icmp_ne 19 dX3_isTerm_12 (by decide) (fun _ => ra0) (fun _ => (by decide : inR (5))) (fun _ => ?_) (fun _ => ?_)
        · exact g_pick [] rfl (hj1 u)
        · refine g_iconst dX3_isTerm_19 ?_
          exact g_zret rfl rfl (fun _ => (Or.inl rfl)) dX3_isTerm_20
end
section
variable {l : Launch} {d : Nat} {call : Nat → List Int → Sg → Option (Int × Sg)}
theorem ctX3_isTerm (p0 : Program) (e0 : Env) (s0 : State) (m0 : MethodId) (meth0 : Method) (c0 : Code) (G0 : Gm) (hd : 2 ≤ d) (a0 : Int) (u : Sg) : Ct l (d + 1) FT clA yX3_isTerm cX3_isTerm 1 (some .boolean) DX3_isTerm rvI [vI a0] u (bX3_isTerm call a0 u) :=
  Ct_of (by decide) (Nat.le_of_ble_eq_true rfl) (fun p e R s1 m args below meth c G A ad hA hRf hRl => wX3_isTerm hd hRf hRl a0 u (hA _ List.mem_cons_self)) p0 e0 s0 m0 meth0 c0 G0
end
/-! RoundCheckModel.indexOf(I)I -/
abbrev JX3_indexOf : Jm := (cX3_indexOf, RX3, 2, (some .int))
def bX3_indexOf (call : Nat → List Int → Sg → Option (Int × Sg)) (a1 : Int) (u : Sg) : Option (Int × Sg) := jn (fun (s2 : Sg) => some ((-1), s2)) fun j1 => un (gL u 52 : Int) fun v3 => if a1 < v3 then (ld u 52 a1 fun v4 => un (gI u 54) fun v5 => if v4 = v5 then (ld u 53 a1 fun v6 => some (v6, u)) else (j1 u)) else (j1 u)
section
variable {p : Program} {l : Launch} {e : Env} {R : Room} {s : State} {m : MethodId} {args : Array Value} {below : List Frame} {meth : Method} {c : Code} {G : Gm} {A : Nat → Prop} {ad0 : Nat → Nat} {σ0 : Sg} {d : Nat} {call : Nat → List Int → Sg → Option (Int × Sg)}
theorem wX3_indexOf (hd : 2 ≤ d) (hRf : d + 1 ≤ R.frames) (hRl : 40 * (d + 1) ≤ R.locals) (a1 : Int) (u : Sg) (ra1 : inR a1) : WG p l e R s m args below meth c JX3_indexOf DX3_indexOf G clA A FT ad0 σ0 rvI (bX3_indexOf call a1 u) u 0 [(0, vR 0), (1, vI a1)] [] := by
  unfold bX3_indexOf
  refine g_jn (fun j1 => ∀ (s2 : Sg), WG p l e R s m args below meth c JX3_indexOf DX3_indexOf G clA A FT ad0 σ0 rvI (j1 s2) s2 31 [] []) (fun s2 => ?_) (fun j1 hj1 => ?_)
  · refine g_iconst dX3_indexOf_31 ?_
    exact g_iret rfl rfl (fun _ => (by decide : inR (-1))) dX3_indexOf_32
  · refine g_iload_n 1 dX3_indexOf_0 rfl ?_
    refine g_aload_n 0 dX3_indexOf_1 rfl ?_
    refine g_get (v := vR 62) (ci := 2) (b := 0) (N := 83) 52 rfl rfl (by decide) in_X3 rfl rfl q1184 dX3_indexOf_2 ?_
    refine g_alenU (id := 52) 37 rfl (Or.inl rfl) dX3_indexOf_5 (fun v3 rv3 => ?_)
    refine g_icmp_ge 31 dX3_indexOf_6 (by decide) (fun _ => ra1) (fun _ => rv3) (fun _ => ?_) (fun _ => ?_)
    · refine g_aload_n 0 dX3_indexOf_9 rfl ?_
      refine g_get (v := vR 62) (ci := 2) (b := 0) (N := 83) 52 rfl rfl (by decide) in_X3 rfl rfl q1184 dX3_indexOf_10 ?_
      refine g_iload_n 1 dX3_indexOf_13 rfl ?_
      refine g_iald (id := 52) 37 rfl rfl dX3_indexOf_14 (fun v4 rv4 => ?_)
      refine g_aload_n 0 dX3_indexOf_15 rfl ?_
      refine g_getI (ci := 2) (b := 0) (N := 83) 54 rfl rfl rfl (by decide) in_X3 rfl rfl q1186 dX3_indexOf_16 (fun v5 rv5 => ?_)
      refine g_icmp_ne 31 dX3_indexOf_19 (by decide) (fun _ => rv4) (fun _ => rv5) (fun _ => ?_) (fun _ => ?_)
      · refine g_aload_n 0 dX3_indexOf_22 rfl ?_
        refine g_get (v := vR 63) (ci := 2) (b := 0) (N := 83) 53 rfl rfl (by decide) in_X3 rfl rfl q1185 dX3_indexOf_23 ?_
        refine g_iload_n 1 dX3_indexOf_26 rfl ?_
        refine g_iald (id := 53) 38 rfl rfl dX3_indexOf_27 (fun v6 rv6 => ?_)
        refine g_goto 32 dX3_indexOf_28 (by decide) ?_
        exact g_iret rfl rfl (fun _ => rv6) dX3_indexOf_32
      · exact g_pick [] rfl (hj1 u)
    · exact g_pick [] rfl (hj1 u)
end
section
variable {l : Launch} {d : Nat} {call : Nat → List Int → Sg → Option (Int × Sg)}
theorem ctX3_indexOf (p0 : Program) (e0 : Env) (s0 : State) (m0 : MethodId) (meth0 : Method) (c0 : Code) (G0 : Gm) (hd : 2 ≤ d) (a1 : Int) (u : Sg) : Ct l (d + 1) FT clA yX3_indexOf cX3_indexOf 2 (some .int) DX3_indexOf rvI [vR 0, vI a1] u (bX3_indexOf call a1 u) :=
  Ct_of (by decide) (Nat.le_of_ble_eq_true rfl) (fun p e R s1 m args below meth c G A ad hA hRf hRl => wX3_indexOf hd hRf hRl a1 u (hA _ (List.mem_cons_of_mem _ List.mem_cons_self))) p0 e0 s0 m0 meth0 c0 G0
end
/-! RoundCheckModel.closing()V -/
abbrev JX3_closing : Jm := (cX3_closing, RX3, 4, none)
def bX3_closing_L56 (call : Nat → List Int → Sg → Option (Int × Sg)) : Nat → Int → Int → Sg → (Int → Sg → Option (Int × Sg)) → Option (Int × Sg)
  | 0, _, _, _, _ => none
  | n + 1, a1, a3, u, x105 => if a3 < a1 then (cl (call 70 [a1] u) fun v1 s2 => cl (call 70 [a3] s2) fun v3 s4 => if v1 = v3 then (ar (a3 + 1) fun v5 => bX3_closing_L56 call n a1 v5 s4 x105) else (ld s4 55 a1 fun v6 => ld s4 55 a3 fun v7 => cl (call 82 [v6, v7] s4) fun v8 s9 => if v8 = 0 then (ar (a3 + 1) fun v10 => bX3_closing_L56 call n a1 v10 s9 x105) else (cl (call 69 [a1, a3] s9) fun v11 s12 => ar (a3 + 1) fun v13 => bX3_closing_L56 call n a1 v13 s12 x105))) else (x105 a1 u)
def bX3_closing_L21 (call : Nat → List Int → Sg → Option (Int × Sg)) : Nat → Int → Sg → (Sg → Option (Int × Sg)) → Option (Int × Sg)
  | 0, _, _, _ => none
  | n + 1, a1, u, x111 => un (gI u 57) fun v1 => if a1 < v1 then (jn (fun (a1 : Int) (s3 : Sg) => bX3_closing_L56 call KF a1 0 s3 (fun v5 s4 => ar (v5 + 1) fun v6 => bX3_closing_L21 call n v6 s4 x111)) fun j2 => ld u 55 a1 fun v7 => ld u 1 v7 fun v8 => if v8 = 4 then (j2 a1 u) else (if v8 = 5 then (j2 a1 u) else (ar (a1 + 1) fun v9 => bX3_closing_L21 call n v9 u x111))) else (x111 u)
def bX3_closing_L0 (call : Nat → List Int → Sg → Option (Int × Sg)) : Nat → Sg → (Sg → Option (Int × Sg)) → (Sg → Option (Int × Sg)) → Option (Int × Sg)
  | 0, _, _, _ => none
  | n + 1, u, x18, x131 => un (sI u 66 0) fun s1 => cl (call 68 [] s1) fun v2 s3 => un (gI s3 57) fun v4 => if v4 ≤ 100 then (bX3_closing_L21 call KF 0 s3 (fun s5 => cl (call 83 [] s5) fun v6 s7 => un (gI s7 66) fun v8 => if v8 = 0 then (x131 s7) else (un (gI s7 57) fun v9 => if v9 ≤ 100 then (bX3_closing_L0 call n s7 x18 x131) else (x131 s7)))) else (x18 s3)
def bX3_closing (call : Nat → List Int → Sg → Option (Int × Sg)) (u : Sg) : Option (Int × Sg) := bX3_closing_L0 call KF u (fun s1 => some (0, s1)) (fun s2 => some (0, s2))
section
variable {p : Program} {l : Launch} {e : Env} {R : Room} {s : State} {m : MethodId} {args : Array Value} {below : List Frame} {meth : Method} {c : Code} {G : Gm} {A : Nat → Prop} {ad0 : Nat → Nat} {σ0 : Sg} {d : Nat} {call : Nat → List Int → Sg → Option (Int × Sg)}
theorem wX3_closing_L56 (hd : 2 ≤ d) (hRf : d + 1 ≤ R.frames) (hRl : 40 * (d + 1) ≤ R.locals) (hX3_takeIn : ∀ (u : Sg), Ct l d FT clA yX3_takeIn cX3_takeIn 4 none DX3_takeIn rvV [vR 0] u (call 68 [] u)) (hX3_top : ∀ (a1 : Int) (u : Sg), Ct l d FT clA yX3_top cX3_top 2 (some .int) DX3_top rvI [vR 0, vI a1] u (call 70 [a1] u)) (hX3_isCongruent : ∀ (a1 a2 : Int) (u : Sg), Ct l d FT clA yX3_isCongruent cX3_isCongruent 7 (some .boolean) DX3_isCongruent rvI [vR 0, vI a1, vI a2] u (call 82 [a1, a2] u)) (hX3_join_2 : ∀ (a1 a2 : Int) (u : Sg), Ct l d FT clA yX3_join_2 cX3_join_2 5 none DX3_join_2 rvV [vR 0, vI a1, vI a2] u (call 69 [a1, a2] u)) (hX3_byRegistrations : ∀ (u : Sg), Ct l d FT clA yX3_byRegistrations cX3_byRegistrations 5 none DX3_byRegistrations rvV [vR 0] u (call 83 [] u)) (x105 : Int → Sg → Option (Int × Sg)) (hx105 : ∀ (a1 : Int) (u : Sg), inR a1 → WG p l e R s m args below meth c JX3_closing DX3_closing G clA A FT ad0 σ0 rvV (x105 a1 u) u 105 [(0, vR 0), (1, vI a1)] []) : ∀ (n : Nat) (a1 a3 : Int) (u : Sg), inR a1 → inR a3 → WG p l e R s m args below meth c JX3_closing DX3_closing G clA A FT ad0 σ0 rvV (bX3_closing_L56 call n a1 a3 u x105) u 56 [(0, vR 0), (1, vI a1), (3, vI a3)] [] := by
  intro n
  induction n with
  | zero =>
    intro a1 a3 u ra1 ra3
    exact g_none
  | succ n ih =>
    intro a1 a3 u ra1 ra3
    rw [bX3_closing_L56]
    refine g_iload_n 2 dX3_closing_56 rfl ?_
    refine g_iload_n 1 dX3_closing_57 rfl ?_
    refine g_icmp_ge 105 dX3_closing_58 (by decide) (fun _ => ra3) (fun _ => ra1) (fun _ => ?_) (fun _ => ?_)
    · refine g_aload_n 0 dX3_closing_61 rfl ?_
      refine g_iload_n 1 dX3_closing_62 rfl ?_
      refine g_cVI (As := [vI a1]) (n := 1) (stk := []) (ci := 2) (b := 0) (N := 83) (hX3_top a1 u) (by decide +kernel) rfl rfl (lw_V q1622 q1624 qs119 q168 q1625) (by decide +kernel) rfl (by decide) hRf hRl (fun _ => (avc ra1 avn)) (Nat.le_of_ble_eq_true rfl) rfl rfl dX3_closing_63 (fun v1 s2 rv1 => ?_)
      refine g_aload_n 0 dX3_closing_66 rfl ?_
      refine g_iload_n 2 dX3_closing_67 rfl ?_
      refine g_cVI (As := [vI a3]) (n := 1) (stk := [vI v1]) (ci := 2) (b := 0) (N := 83) (hX3_top a3 s2) (by decide +kernel) rfl rfl (lw_V q1622 q1624 qs119 q168 q1625) (by decide +kernel) rfl (by decide) hRf hRl (fun _ => (avc ra3 avn)) (Nat.le_of_ble_eq_true rfl) rfl rfl dX3_closing_68 (fun v3 s4 rv3 => ?_)
      refine g_icmp_eq 99 dX3_closing_71 (by decide) (fun _ => rv1) (fun _ => rv3) (fun _ => ?_) (fun _ => ?_)
      · refine g_iinc 2 (loc' := fun v5 => [(3, vI v5), (0, vR 0), (1, vI a1)]) dX3_closing_99 rfl (by decide) (fun _ => rfl) (fun v5 rv5 => ?_)
        refine g_goto 56 dX3_closing_102 (by decide) ?_
        exact g_pick [1, 2, 0] rfl (ih a1 v5 s4 ra1 rv5)
      · refine g_aload_n 0 dX3_closing_74 rfl ?_
        refine g_aload_n 0 dX3_closing_75 rfl ?_
        refine g_get (v := vR 65) (ci := 2) (b := 0) (N := 83) 55 rfl rfl (by decide) in_X3 rfl rfl q1187 dX3_closing_76 ?_
        refine g_iload_n 1 dX3_closing_79 rfl ?_
        refine g_iald (id := 55) 39 rfl rfl dX3_closing_80 (fun v6 rv6 => ?_)
        refine g_aload_n 0 dX3_closing_81 rfl ?_
        refine g_get (v := vR 65) (ci := 2) (b := 0) (N := 83) 55 rfl rfl (by decide) in_X3 rfl rfl q1187 dX3_closing_82 ?_
        refine g_iload_n 2 dX3_closing_85 rfl ?_
        refine g_iald (id := 55) 39 rfl rfl dX3_closing_86 (fun v7 rv7 => ?_)
        refine g_cVZ (As := [vI v6, vI v7]) (n := 2) (stk := []) (ci := 2) (b := 0) (N := 83) (hX3_isCongruent v6 v7 s4) (by decide +kernel) rfl rfl (lw_V q1670 q1672 qs131 q168 q1673) (by decide +kernel) rfl (by decide) hRf hRl (fun _ => (avc rv6 (avc rv7 avn))) (Nat.le_of_ble_eq_true rfl) rfl rfl dX3_closing_87 (fun v8 s9 zv8 => ?_)
        refine g_if_eq 99 dX3_closing_90 (by decide) (fun _ => (inR_z zv8)) (fun _ => ?_) (fun _ => ?_)
        · refine g_iinc 2 (loc' := fun v10 => [(3, vI v10), (0, vR 0), (1, vI a1)]) dX3_closing_99 rfl (by decide) (fun _ => rfl) (fun v10 rv10 => ?_)
          refine g_goto 56 dX3_closing_102 (by decide) ?_
          exact g_pick [1, 2, 0] rfl (ih a1 v10 s9 ra1 rv10)
        · refine g_aload_n 0 dX3_closing_93 rfl ?_
          refine g_iload_n 1 dX3_closing_94 rfl ?_
          refine g_iload_n 2 dX3_closing_95 rfl ?_
          refine g_cVV (As := [vI a1, vI a3]) (n := 2) (stk := []) (ci := 2) (b := 0) (N := 83) (hX3_join_2 a1 a3 s9) (by decide +kernel) rfl rfl (lw_V q1618 q1620 qs118 q168 q1621) (by decide +kernel) rfl (by decide) hRf hRl (fun _ => (avc ra1 (avc ra3 avn))) (Nat.le_of_ble_eq_true rfl) rfl rfl dX3_closing_96 (fun v11 s12 => ?_)
          refine g_iinc 2 (loc' := fun v13 => [(3, vI v13), (0, vR 0), (1, vI a1)]) dX3_closing_99 rfl (by decide) (fun _ => rfl) (fun v13 rv13 => ?_)
          refine g_goto 56 dX3_closing_102 (by decide) ?_
          exact g_pick [1, 2, 0] rfl (ih a1 v13 s12 ra1 rv13)
    · exact g_pick [0, 1] rfl (hx105 a1 u ra1)
theorem wX3_closing_L21 (hd : 2 ≤ d) (hRf : d + 1 ≤ R.frames) (hRl : 40 * (d + 1) ≤ R.locals) (hX3_takeIn : ∀ (u : Sg), Ct l d FT clA yX3_takeIn cX3_takeIn 4 none DX3_takeIn rvV [vR 0] u (call 68 [] u)) (hX3_top : ∀ (a1 : Int) (u : Sg), Ct l d FT clA yX3_top cX3_top 2 (some .int) DX3_top rvI [vR 0, vI a1] u (call 70 [a1] u)) (hX3_isCongruent : ∀ (a1 a2 : Int) (u : Sg), Ct l d FT clA yX3_isCongruent cX3_isCongruent 7 (some .boolean) DX3_isCongruent rvI [vR 0, vI a1, vI a2] u (call 82 [a1, a2] u)) (hX3_join_2 : ∀ (a1 a2 : Int) (u : Sg), Ct l d FT clA yX3_join_2 cX3_join_2 5 none DX3_join_2 rvV [vR 0, vI a1, vI a2] u (call 69 [a1, a2] u)) (hX3_byRegistrations : ∀ (u : Sg), Ct l d FT clA yX3_byRegistrations cX3_byRegistrations 5 none DX3_byRegistrations rvV [vR 0] u (call 83 [] u)) (x111 : Sg → Option (Int × Sg)) (hx111 : ∀ (u : Sg), WG p l e R s m args below meth c JX3_closing DX3_closing G clA A FT ad0 σ0 rvV (x111 u) u 111 [(0, vR 0)] []) : ∀ (n : Nat) (a1 : Int) (u : Sg), inR a1 → WG p l e R s m args below meth c JX3_closing DX3_closing G clA A FT ad0 σ0 rvV (bX3_closing_L21 call n a1 u x111) u 21 [(0, vR 0), (1, vI a1)] [] := by
  intro n
  induction n with
  | zero =>
    intro a1 u ra1
    exact g_none
  | succ n ih =>
    intro a1 u ra1
    rw [bX3_closing_L21]
    refine g_iload_n 1 dX3_closing_21 rfl ?_
    refine g_aload_n 0 dX3_closing_22 rfl ?_
    refine g_getI (ci := 2) (b := 0) (N := 83) 57 rfl rfl rfl (by decide) in_X3 rfl rfl q1189 dX3_closing_23 (fun v1 rv1 => ?_)
    refine g_icmp_ge 111 dX3_closing_26 (by decide) (fun _ => ra1) (fun _ => rv1) (fun _ => ?_) (fun _ => ?_)
    · refine g_jn (fun j2 => ∀ (a1 : Int) (s3 : Sg), inR a1 → WG p l e R s m args below meth c JX3_closing DX3_closing G clA A FT ad0 σ0 rvV (j2 a1 s3) s3 54 [(0, vR 0), (1, vI a1)] []) (fun a1 s3 ra1 => ?_) (fun j2 hj2 => ?_)
      · refine g_iconst dX3_closing_54 ?_
        refine g_istore_n (loc' := [(3, vI 0), (0, vR 0), (1, vI a1)]) dX3_closing_55 (by decide) rfl ?_
        refine g_pick [1, 2, 0] rfl (wX3_closing_L56 hd hRf hRl hX3_takeIn hX3_top hX3_isCongruent hX3_join_2 hX3_byRegistrations _ (fun v5 s4 rv5 => ?_) KF a1 0 s3 ra1 (inR_z (Or.inl rfl)))
        · refine g_iinc 1 (loc' := fun v6 => [(1, vI v6), (0, vR 0)]) dX3_closing_105 rfl (by decide) (fun _ => rfl) (fun v6 rv6 => ?_)
          refine g_goto 21 dX3_closing_108 (by decide) ?_
          exact g_pick [1, 0] rfl (ih v6 s4 rv6)
      · refine g_aload_n 0 dX3_closing_29 rfl ?_
        refine g_get (v := vR 11) (ci := 2) (b := 0) (N := 83) 1 rfl rfl (by decide) in_X3 rfl rfl q1133 dX3_closing_30 ?_
        refine g_aload_n 0 dX3_closing_33 rfl ?_
        refine g_get (v := vR 65) (ci := 2) (b := 0) (N := 83) 55 rfl rfl (by decide) in_X3 rfl rfl q1187 dX3_closing_34 ?_
        refine g_iload_n 1 dX3_closing_37 rfl ?_
        refine g_iald (id := 55) 39 rfl rfl dX3_closing_38 (fun v7 rv7 => ?_)
        refine g_iald (id := 1) 0 rfl rfl dX3_closing_39 (fun v8 rv8 => ?_)
        refine g_istore_n (loc' := [(2, vI v8), (0, vR 0), (1, vI a1)]) dX3_closing_40 (by decide) rfl ?_
        refine g_iload_n 0 dX3_closing_41 rfl ?_
        refine g_iconst dX3_closing_42 ?_
        refine g_icmp_eq 54 dX3_closing_43 (by decide) (fun _ => rv8) (fun _ => (by decide : inR (4))) (fun _ => ?_) (fun _ => ?_)
        · exact g_pick [1, 2] rfl (hj2 a1 u ra1)
        · refine g_iload_n 0 dX3_closing_46 rfl ?_
          refine g_iconst dX3_closing_47 ?_
          refine g_icmp_eq 54 dX3_closing_48 (by decide) (fun _ => rv8) (fun _ => (by decide : inR (5))) (fun _ => ?_) (fun _ => ?_)
          · exact g_pick [1, 2] rfl (hj2 a1 u ra1)
          · refine g_goto 105 dX3_closing_51 (by decide) ?_
            refine g_iinc 2 (loc' := fun v9 => [(1, vI v9), (2, vI v8), (0, vR 0)]) dX3_closing_105 rfl (by decide) (fun _ => rfl) (fun v9 rv9 => ?_)
            refine g_goto 21 dX3_closing_108 (by decide) ?_
            exact g_pick [2, 0] rfl (ih v9 u rv9)
    · exact g_pick [0] rfl (hx111 u)
theorem wX3_closing_L0 (hd : 2 ≤ d) (hRf : d + 1 ≤ R.frames) (hRl : 40 * (d + 1) ≤ R.locals) (hX3_takeIn : ∀ (u : Sg), Ct l d FT clA yX3_takeIn cX3_takeIn 4 none DX3_takeIn rvV [vR 0] u (call 68 [] u)) (hX3_top : ∀ (a1 : Int) (u : Sg), Ct l d FT clA yX3_top cX3_top 2 (some .int) DX3_top rvI [vR 0, vI a1] u (call 70 [a1] u)) (hX3_isCongruent : ∀ (a1 a2 : Int) (u : Sg), Ct l d FT clA yX3_isCongruent cX3_isCongruent 7 (some .boolean) DX3_isCongruent rvI [vR 0, vI a1, vI a2] u (call 82 [a1, a2] u)) (hX3_join_2 : ∀ (a1 a2 : Int) (u : Sg), Ct l d FT clA yX3_join_2 cX3_join_2 5 none DX3_join_2 rvV [vR 0, vI a1, vI a2] u (call 69 [a1, a2] u)) (hX3_byRegistrations : ∀ (u : Sg), Ct l d FT clA yX3_byRegistrations cX3_byRegistrations 5 none DX3_byRegistrations rvV [vR 0] u (call 83 [] u)) (x18 : Sg → Option (Int × Sg)) (x131 : Sg → Option (Int × Sg)) (hx18 : ∀ (u : Sg), WG p l e R s m args below meth c JX3_closing DX3_closing G clA A FT ad0 σ0 rvV (x18 u) u 18 [] []) (hx131 : ∀ (u : Sg), WG p l e R s m args below meth c JX3_closing DX3_closing G clA A FT ad0 σ0 rvV (x131 u) u 131 [] []) : ∀ (n : Nat) (u : Sg), WG p l e R s m args below meth c JX3_closing DX3_closing G clA A FT ad0 σ0 rvV (bX3_closing_L0 call n u x18 x131) u 0 [(0, vR 0)] [] := by
  intro n
  induction n with
  | zero =>
    intro u
    exact g_none
  | succ n ih =>
    intro u
    rw [bX3_closing_L0]
    refine g_aload_n 0 dX3_closing_0 rfl ?_
    refine g_iconst dX3_closing_1 ?_
    refine g_sZU (ci := 2) (b := 0) (N := 83) FT_ok 66 rfl rfl rfl (by decide) in_X3 tyX3 tyX3_ok nmX3 rfl rfl rfl rfl (by decide +kernel) (Or.inl rfl) q1198 dX3_closing_2 (fun s1 => ?_)
    refine g_aload_n 0 dX3_closing_5 rfl ?_
    refine g_cVV (As := []) (n := 0) (stk := []) (ci := 2) (b := 0) (N := 83) (hX3_takeIn  s1) (by decide +kernel) rfl rfl (lw_V q1614 q1616 qs117 q168 q1617) (by decide +kernel) rfl (by decide) hRf hRl (fun _ => avn) (Nat.le_of_ble_eq_true rfl) rfl rfl dX3_closing_6 (fun v2 s3 => ?_)
    refine g_aload_n 0 dX3_closing_9 rfl ?_
    refine g_getI (ci := 2) (b := 0) (N := 83) 57 rfl rfl rfl (by decide) in_X3 rfl rfl q1189 dX3_closing_10 (fun v4 rv4 => ?_)
    refine g_bipush (by decide +kernel) dX3_closing_13 ?_
    refine g_icmp_le 19 dX3_closing_15 (by decide) (fun _ => rv4) (fun _ => (by decide : inR (100))) (fun _ => ?_) (fun _ => ?_)
    · refine g_iconst dX3_closing_19 ?_
      refine g_istore_n (loc' := [(1, vI 0), (0, vR 0)]) dX3_closing_20 (by decide) rfl ?_
      refine g_pick [1, 0] rfl (wX3_closing_L21 hd hRf hRl hX3_takeIn hX3_top hX3_isCongruent hX3_join_2 hX3_byRegistrations _ (fun s5 => ?_) KF 0 s3 (inR_z (Or.inl rfl)))
      · refine g_aload_n 0 dX3_closing_111 rfl ?_
        refine g_cVV (As := []) (n := 0) (stk := []) (ci := 2) (b := 0) (N := 83) (hX3_byRegistrations  s5) (by decide +kernel) rfl rfl (lw_V q1674 q1676 qs132 q168 q1677) (by decide +kernel) rfl (by decide) hRf hRl (fun _ => avn) (Nat.le_of_ble_eq_true rfl) rfl rfl dX3_closing_112 (fun v6 s7 => ?_)
        refine g_aload_n 0 dX3_closing_115 rfl ?_
        refine g_getZ (ci := 2) (b := 0) (N := 83) 66 rfl rfl rfl (by decide) in_X3 rfl rfl q1198 dX3_closing_116 (fun v8 zv8 => ?_)
        refine g_if_eq 131 dX3_closing_119 (by decide) (fun _ => (inR_z zv8)) (fun _ => ?_) (fun _ => ?_)
        · exact g_pick [] rfl (hx131 s7)
        · refine g_aload_n 0 dX3_closing_122 rfl ?_
          refine g_getI (ci := 2) (b := 0) (N := 83) 57 rfl rfl rfl (by decide) in_X3 rfl rfl q1189 dX3_closing_123 (fun v9 rv9 => ?_)
          refine g_bipush (by decide +kernel) dX3_closing_126 ?_
          refine g_icmp_le 0 dX3_closing_128 (by decide) (fun _ => rv9) (fun _ => (by decide : inR (100))) (fun _ => ?_) (fun _ => ?_)
          · exact g_pick [0] rfl (ih s7)
          · exact g_pick [] rfl (hx131 s7)
    · exact g_pick [] rfl (hx18 s3)
theorem wX3_closing (hd : 2 ≤ d) (hRf : d + 1 ≤ R.frames) (hRl : 40 * (d + 1) ≤ R.locals) (hX3_takeIn : ∀ (u : Sg), Ct l d FT clA yX3_takeIn cX3_takeIn 4 none DX3_takeIn rvV [vR 0] u (call 68 [] u)) (hX3_top : ∀ (a1 : Int) (u : Sg), Ct l d FT clA yX3_top cX3_top 2 (some .int) DX3_top rvI [vR 0, vI a1] u (call 70 [a1] u)) (hX3_isCongruent : ∀ (a1 a2 : Int) (u : Sg), Ct l d FT clA yX3_isCongruent cX3_isCongruent 7 (some .boolean) DX3_isCongruent rvI [vR 0, vI a1, vI a2] u (call 82 [a1, a2] u)) (hX3_join_2 : ∀ (a1 a2 : Int) (u : Sg), Ct l d FT clA yX3_join_2 cX3_join_2 5 none DX3_join_2 rvV [vR 0, vI a1, vI a2] u (call 69 [a1, a2] u)) (hX3_byRegistrations : ∀ (u : Sg), Ct l d FT clA yX3_byRegistrations cX3_byRegistrations 5 none DX3_byRegistrations rvV [vR 0] u (call 83 [] u)) (u : Sg) : WG p l e R s m args below meth c JX3_closing DX3_closing G clA A FT ad0 σ0 rvV (bX3_closing call u) u 0 [(0, vR 0)] [] := by
  unfold bX3_closing
  refine g_pick [0] rfl (wX3_closing_L0 hd hRf hRl hX3_takeIn hX3_top hX3_isCongruent hX3_join_2 hX3_byRegistrations _ _ (fun s1 => ?_) (fun s2 => ?_) KF u)
  · exact g_vret rfl rfl dX3_closing_18
  · exact g_vret rfl rfl dX3_closing_131
end
section
variable {l : Launch} {d : Nat} {call : Nat → List Int → Sg → Option (Int × Sg)}
theorem ctX3_closing (p0 : Program) (e0 : Env) (s0 : State) (m0 : MethodId) (meth0 : Method) (c0 : Code) (G0 : Gm) (hd : 2 ≤ d) (hX3_takeIn : ∀ (u : Sg), Ct l d FT clA yX3_takeIn cX3_takeIn 4 none DX3_takeIn rvV [vR 0] u (call 68 [] u)) (hX3_top : ∀ (a1 : Int) (u : Sg), Ct l d FT clA yX3_top cX3_top 2 (some .int) DX3_top rvI [vR 0, vI a1] u (call 70 [a1] u)) (hX3_isCongruent : ∀ (a1 a2 : Int) (u : Sg), Ct l d FT clA yX3_isCongruent cX3_isCongruent 7 (some .boolean) DX3_isCongruent rvI [vR 0, vI a1, vI a2] u (call 82 [a1, a2] u)) (hX3_join_2 : ∀ (a1 a2 : Int) (u : Sg), Ct l d FT clA yX3_join_2 cX3_join_2 5 none DX3_join_2 rvV [vR 0, vI a1, vI a2] u (call 69 [a1, a2] u)) (hX3_byRegistrations : ∀ (u : Sg), Ct l d FT clA yX3_byRegistrations cX3_byRegistrations 5 none DX3_byRegistrations rvV [vR 0] u (call 83 [] u)) (u : Sg) : Ct l (d + 1) FT clA yX3_closing cX3_closing 4 none DX3_closing rvV [vR 0] u (bX3_closing call u) :=
  Ct_of (by decide) (Nat.le_of_ble_eq_true rfl) (fun p e R s1 m args below meth c G A ad hA hRf hRl => wX3_closing hd hRf hRl hX3_takeIn hX3_top hX3_isCongruent hX3_join_2 hX3_byRegistrations u) p0 e0 s0 m0 meth0 c0 G0
end
