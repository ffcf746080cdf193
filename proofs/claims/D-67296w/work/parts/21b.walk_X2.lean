/-! RoundCheck$Store.has(II)Z -/
abbrev JX2_has : Jm := (cX2_has, RX2, 5, (some .boolean))
def bX2_has_L32 (call : Nat → List Int → Sg → Option (Int × Sg)) : Nat → Int → Int → Int → Int → Sg → (Sg → Option (Int × Sg)) → (Sg → Option (Int × Sg)) → Option (Int × Sg)
  | 0, _, _, _, _, _, _, _ => none
  | n + 1, a1, a2, a3, a4, u, x71, x63 => if a4 < a3 then (cl (call 98 [a1, a4] u) fun v1 s2 => if v1 = 0 then (ar (a4 + 1) fun v3 => bX2_has_L32 call n a1 a2 a3 v3 s2 x71 x63) else (cl (call 98 [a1, a4] s2) fun v4 s5 => cl (call 112 [v4, a2] s5) fun v6 s7 => if v6 = 0 then (ar (a4 + 1) fun v8 => bX2_has_L32 call n a1 a2 a3 v8 s7 x71 x63) else (x63 s7))) else (x71 u)
def bX2_has (call : Nat → List Int → Sg → Option (Int × Sg)) (a1 a2 : Int) (u : Sg) : Option (Int × Sg) := if a1 = a2 then (some (1, u)) else (jn (fun (a1 a2 t0 : Int) (s2 : Sg) => bX2_has_L32 call KF a1 a2 t0 0 s2 (fun s3 => some (0, s3)) (fun s4 => some (1, s4))) fun j1 => ld u 0 a1 fun v5 => if v5 = 8 then (j1 a1 a2 1 u) else (ld u 3 a1 fun v6 => j1 a1 a2 v6 u))
section
variable {p : Program} {l : Launch} {e : Env} {R : Room} {s : State} {m : MethodId} {args : Array Value} {below : List Frame} {meth : Method} {c : Code} {G : Gm} {A : Nat → Prop} {ad0 : Nat → Nat} {σ0 : Sg} {d : Nat} {call : Nat → List Int → Sg → Option (Int × Sg)}
theorem wX2_has_L32 (hd : 2 ≤ d) (hRf : d + 1 ≤ R.frames) (hRl : 40 * (d + 1) ≤ R.locals) (hX2_at : ∀ (a1 a2 : Int) (u : Sg), Ct l d FC clA yX2_at cX2_at 3 (some .int) DX2_at rvI [vR 0, vI a1, vI a2] u (call 98 [a1, a2] u)) (hX2_has : ∀ (a1 a2 : Int) (u : Sg), Ct l d FC clA yX2_has cX2_has 5 (some .boolean) DX2_has rvI [vR 0, vI a1, vI a2] u (call 112 [a1, a2] u)) (x71 : Sg → Option (Int × Sg)) (x63 : Sg → Option (Int × Sg)) (hx71 : ∀ (u : Sg), WG p l e R s m args below meth c JX2_has DX2_has G clA A FC ad0 σ0 rvI (x71 u) u 71 [] []) (hx63 : ∀ (u : Sg), WG p l e R s m args below meth c JX2_has DX2_has G clA A FC ad0 σ0 rvI (x63 u) u 63 [] []) : ∀ (n : Nat) (a1 a2 a3 a4 : Int) (u : Sg), inR a1 → inR a2 → inR a3 → inR a4 → WG p l e R s m args below meth c JX2_has DX2_has G clA A FC ad0 σ0 rvI (bX2_has_L32 call n a1 a2 a3 a4 u x71 x63) u 32 [(0, vR 0), (1, vI a1), (2, vI a2), (3, vI a3), (4, vI a4)] [] := by
  intro n
  induction n with
  | zero =>
    intro a1 a2 a3 a4 u ra1 ra2 ra3 ra4
    exact g_none
  | succ n ih =>
    intro a1 a2 a3 a4 u ra1 ra2 ra3 ra4
    rw [bX2_has_L32]
    refine g_iload 4 dX2_has_32 rfl ?_
    refine g_iload_n 3 dX2_has_34 rfl ?_
    refine g_icmp_ge 71 dX2_has_35 (by decide) (fun _ => ra4) (fun _ => ra3) (fun _ => ?_) (fun _ => ?_)
    · refine g_aload_n 0 dX2_has_38 rfl ?_
      refine g_iload_n 1 dX2_has_39 rfl ?_
      refine g_iload 4 dX2_has_40 rfl ?_
      refine g_cVI (As := [vI a1, vI a4]) (n := 2) (stk := []) (ci := 0) (b := 0) (N := 21) (hX2_at a1 a4 u) (by decide +kernel) rfl rfl (lw_V q723 q572 q573 q164 q574) (by decide +kernel) rfl (by decide) hRf hRl (fun _ => (avc ra1 (avc ra4 avn))) (Nat.le_of_ble_eq_true rfl) rfl rfl dX2_has_42 (fun v1 s2 rv1 => ?_)
      refine g_if_eq 65 dX2_has_45 (by decide) (fun _ => rv1) (fun _ => ?_) (fun _ => ?_)
      · refine g_iinc 4 (loc' := fun v3 => [(4, vI v3), (0, vR 0), (1, vI a1), (2, vI a2), (3, vI a3)]) dX2_has_65 rfl (by decide) (fun _ => rfl) (fun v3 rv3 => ?_)
        refine g_goto 32 dX2_has_68 (by decide) ?_
        exact g_pick [1, 2, 3, 4, 0] rfl (ih a1 a2 a3 v3 s2 ra1 ra2 ra3 rv3)
      · refine g_aload_n 0 dX2_has_48 rfl ?_
        refine g_aload_n 0 dX2_has_49 rfl ?_
        refine g_iload_n 1 dX2_has_50 rfl ?_
        refine g_iload 4 dX2_has_51 rfl ?_
        refine g_cVI (As := [vI a1, vI a4]) (n := 2) (stk := [vR 0]) (ci := 0) (b := 0) (N := 21) (hX2_at a1 a4 s2) (by decide +kernel) rfl rfl (lw_V q723 q572 q573 q164 q574) (by decide +kernel) rfl (by decide) hRf hRl (fun _ => (avc ra1 (avc ra4 avn))) (Nat.le_of_ble_eq_true rfl) rfl rfl dX2_has_53 (fun v4 s5 rv4 => ?_)
        refine g_iload_n 2 dX2_has_56 rfl ?_
        refine g_cVZ (As := [vI v4, vI a2]) (n := 2) (stk := []) (ci := 0) (b := 0) (N := 21) (hX2_has v4 a2 s5) (by decide +kernel) rfl rfl (lw_V q896 q893 q894 q164 q895) (by decide +kernel) rfl (by decide) hRf hRl (fun _ => (avc rv4 (avc ra2 avn))) (Nat.le_of_ble_eq_true rfl) rfl rfl dX2_has_57 (fun v6 s7 zv6 => ?_)
        refine g_if_eq 65 dX2_has_60 (by decide) (fun _ => (inR_z zv6)) (fun _ => ?_) (fun _ => ?_)
        · refine g_iinc 4 (loc' := fun v8 => [(4, vI v8), (0, vR 0), (1, vI a1), (2, vI a2), (3, vI a3)]) dX2_has_65 rfl (by decide) (fun _ => rfl) (fun v8 rv8 => ?_)
          refine g_goto 32 dX2_has_68 (by decide) ?_
          exact g_pick [1, 2, 3, 4, 0] rfl (ih a1 a2 a3 v8 s7 ra1 ra2 ra3 rv8)
        · exact g_pick [] rfl (hx63 s7)
    · exact g_pick [] rfl (hx71 u)
theorem wX2_has (hd : 2 ≤ d) (hRf : d + 1 ≤ R.frames) (hRl : 40 * (d + 1) ≤ R.locals) (hX2_at : ∀ (a1 a2 : Int) (u : Sg), Ct l d FC clA yX2_at cX2_at 3 (some .int) DX2_at rvI [vR 0, vI a1, vI a2] u (call 98 [a1, a2] u)) (hX2_has : ∀ (a1 a2 : Int) (u : Sg), Ct l d FC clA yX2_has cX2_has 5 (some .boolean) DX2_has rvI [vR 0, vI a1, vI a2] u (call 112 [a1, a2] u)) (a1 a2 : Int) (u : Sg) (ra1 : inR a1) (ra2 : inR a2) : WG p l e R s m args below meth c JX2_has DX2_has G clA A FC ad0 σ0 rvI (bX2_has call a1 a2 u) u 0 [(0, vR 0), (1, vI a1), (2, vI a2)] [] := by
  unfold bX2_has
  refine g_iload_n 1 dX2_has_0 rfl ?_
  refine g_iload_n 2 dX2_has_1 rfl ?_
  refine g_icmp_ne 7 dX2_has_2 (by decide) (fun _ => ra1) (fun _ => ra2) (fun _ => ?_) (fun _ => ?_)
  · refine g_iconst dX2_has_5 ?_
    exact g_zret rfl rfl (fun _ => (Or.inr rfl)) dX2_has_6
  · refine g_jn (fun j1 => ∀ (a1 a2 t0 : Int) (s2 : Sg), inR a1 → inR a2 → inR t0 → WG p l e R s m args below meth c JX2_has DX2_has G clA A FC ad0 σ0 rvI (j1 a1 a2 t0 s2) s2 28 [(0, vR 0), (1, vI a1), (2, vI a2)] [vI t0]) (fun a1 a2 t0 s2 ra1 ra2 rt0 => ?_) (fun j1 hj1 => ?_)
    · refine g_istore_n (loc' := [(3, vI t0), (0, vR 0), (1, vI a1), (2, vI a2)]) dX2_has_28 (by decide) rfl ?_
      refine g_iconst dX2_has_29 ?_
      refine g_istore (loc' := [(4, vI 0), (3, vI t0), (0, vR 0), (1, vI a1), (2, vI a2)]) dX2_has_30 (by decide) rfl ?_
      refine g_pick [2, 3, 4, 1, 0] rfl (wX2_has_L32 hd hRf hRl hX2_at hX2_has _ _ (fun s3 => ?_) (fun s4 => ?_) KF a1 a2 t0 0 s2 ra1 ra2 rt0 (inR_z (Or.inl rfl)))
      · refine g_iconst dX2_has_71 ?_
        exact g_zret rfl rfl (fun _ => (Or.inl rfl)) dX2_has_72
      · refine g_iconst dX2_has_63 ?_
        exact g_zret rfl rfl (fun _ => (Or.inr rfl)) dX2_has_64
    · refine g_aload_n 0 dX2_has_7 rfl ?_
      refine g_get (v := vR 10) (ci := 0) (b := 0) (N := 21) 0 rfl rfl (by decide) in_X2 rfl rfl q231 dX2_has_8 ?_
      refine g_iload_n 1 dX2_has_11 rfl ?_
      refine g_iald (id := 0) 0 rfl rfl dX2_has_12 (fun v5 rv5 => ?_)
      refine g_bipush (by decide +kernel) dX2_has_13 ?_
      refine g_icmp_ne 22 dX2_has_15 (by decide) (fun _ => rv5) (fun _ => (by decide : inR (8))) (fun _ => ?_) (fun _ => ?_)
      · refine g_iconst dX2_has_18 ?_
        refine g_goto 28 dX2_has_19 (by decide) ?_
        exact g_pick [0, 1, 2] rfl (hj1 a1 a2 1 u ra1 ra2 (inR_z (Or.inr rfl)))
      · refine g_aload_n 0 dX2_has_22 rfl ?_
        refine g_get (v := vR 13) (ci := 0) (b := 0) (N := 21) 3 rfl rfl (by decide) in_X2 rfl rfl q236 dX2_has_23 ?_
        refine g_iload_n 1 dX2_has_26 rfl ?_
        refine g_iald (id := 3) 3 rfl rfl dX2_has_27 (fun v6 rv6 => ?_)
        exact g_pick [0, 1, 2] rfl (hj1 a1 a2 v6 u ra1 ra2 rv6)
end
section
variable {l : Launch} {d : Nat} {call : Nat → List Int → Sg → Option (Int × Sg)}
theorem ctX2_has (p0 : Program) (e0 : Env) (s0 : State) (m0 : MethodId) (meth0 : Method) (c0 : Code) (G0 : Gm) (hd : 2 ≤ d) (hX2_at : ∀ (a1 a2 : Int) (u : Sg), Ct l d FC clA yX2_at cX2_at 3 (some .int) DX2_at rvI [vR 0, vI a1, vI a2] u (call 98 [a1, a2] u)) (hX2_has : ∀ (a1 a2 : Int) (u : Sg), Ct l d FC clA yX2_has cX2_has 5 (some .boolean) DX2_has rvI [vR 0, vI a1, vI a2] u (call 112 [a1, a2] u)) (a1 a2 : Int) (u : Sg) : Ct l (d + 1) FC clA yX2_has cX2_has 5 (some .boolean) DX2_has rvI [vR 0, vI a1, vI a2] u (bX2_has call a1 a2 u) :=
  Ct_of (by decide) (Nat.le_of_ble_eq_true rfl) (fun p e R s1 m args below meth c G A ad hA hRf hRl => wX2_has hd hRf hRl hX2_at hX2_has a1 a2 u (hA _ (List.mem_cons_of_mem _ List.mem_cons_self)) (hA _ (List.mem_cons_of_mem _ (List.mem_cons_of_mem _ List.mem_cons_self)))) p0 e0 s0 m0 meth0 c0 G0
end
/-! RoundCheck$Store.seek(III)I -/
abbrev JX2_seek : Jm := (cX2_seek, RX2, 8, (some .int))
def bX2_seek_L75 (call : Nat → List Int → Sg → Option (Int × Sg)) : Nat → Int → Int → Int → Int → Int → Int → Int → Sg → (Int → Int → Int → Int → Int → Int → Sg → Option (Int × Sg)) → Option (Int × Sg)
  | 0, _, _, _, _, _, _, _, _, _ => none
  | n + 1, a1, a2, a3, a4, a5, a6, a7, u, x127 => if a7 < a4 then (if a6 = 0 then (x127 a1 a2 a3 a4 a5 a6 u) else (jn (fun (a1 a2 a3 a4 a5 a7 t0 : Int) (s2 : Sg) => ar (a7 + 1) fun v3 => bX2_seek_L75 call n a1 a2 a3 a4 a5 t0 v3 s2 x127) fun j1 => ld u 2 a5 fun v4 => ar (v4 + a7) fun v5 => ld u 7 v5 fun v6 => ar (a3 + a7) fun v7 => ld u 11 v7 fun v8 => if v6 = v8 then (j1 a1 a2 a3 a4 a5 a7 1 u) else (j1 a1 a2 a3 a4 a5 a7 0 u))) else (x127 a1 a2 a3 a4 a5 a6 u)
def bX2_seek_L27 (call : Nat → List Int → Sg → Option (Int × Sg)) : Nat → Int → Int → Int → Int → Int → Sg → (Sg → Option (Int × Sg)) → (Int → Sg → Option (Int × Sg)) → Option (Int × Sg)
  | 0, _, _, _, _, _, _, _, _ => none
  | n + 1, a1, a2, a3, a4, a5, u, x147, x132 => if a5 = 0 then (x147 u) else (jn (fun (a1 a2 a3 a4 a5 : Int) (s2 : Sg) => ld s2 6 a5 fun v3 => bX2_seek_L27 call n a1 a2 a3 a4 v3 s2 x147 x132) fun j1 => ld u 0 a5 fun v4 => if v4 = a1 then (ld u 1 a5 fun v5 => if v5 = a2 then (ld u 3 a5 fun v6 => if v6 = a4 then (bX2_seek_L75 call KF a1 a2 a3 a4 a5 1 0 u (fun v8 v9 v10 v11 v12 v13 s7 => if v13 = 0 then (j1 v8 v9 v10 v11 v12 s7) else (x132 v12 s7))) else (j1 a1 a2 a3 a4 a5 u)) else (j1 a1 a2 a3 a4 a5 u)) else (j1 a1 a2 a3 a4 a5 u))
def bX2_seek (call : Nat → List Int → Sg → Option (Int × Sg)) (a1 a2 a3 : Int) (u : Sg) : Option (Int × Sg) := un (gI u 12) fun v1 => ar (v1 - a3) fun v2 => cl (call 95 [a1, a2, a3] u) fun v3 s4 => gd (keeps [8] u s4 = true) (ld s4 8 v3 fun v5 => un (sI s4 12 a3) fun s6 => bX2_seek_L27 call KF a1 a2 a3 v2 v5 s6 (fun s7 => some (0, s7)) (fun v9 s8 => some (v9, s8)))
section
variable {p : Program} {l : Launch} {e : Env} {R : Room} {s : State} {m : MethodId} {args : Array Value} {below : List Frame} {meth : Method} {c : Code} {G : Gm} {A : Nat → Prop} {ad0 : Nat → Nat} {σ0 : Sg} {d : Nat} {call : Nat → List Int → Sg → Option (Int × Sg)}
theorem wX2_seek_L75 (hd : 2 ≤ d) (hRf : d + 1 ≤ R.frames) (hRl : 40 * (d + 1) ≤ R.locals) (hX2_hash : ∀ (a1 a2 a3 : Int) (u : Sg), Ct l d FC clA yX2_hash cX2_hash 6 (some .int) DX2_hash rvI [vR 0, vI a1, vI a2, vI a3] u (call 95 [a1, a2, a3] u)) (x127 : Int → Int → Int → Int → Int → Int → Sg → Option (Int × Sg)) (hx127 : ∀ (a1 a2 a3 a4 a5 a6 : Int) (u : Sg), inR a1 → inR a2 → inR a3 → inR a4 → inR a5 → (a6 = 0 ∨ a6 = 1) → WG p l e R s m args below meth c JX2_seek DX2_seek G clA A FC ad0 σ0 rvI (x127 a1 a2 a3 a4 a5 a6 u) u 127 [(0, vR 0), (1, vI a1), (2, vI a2), (3, vI a3), (4, vI a4), (5, vI a5), (6, vI a6)] []) : ∀ (n : Nat) (a1 a2 a3 a4 a5 a6 a7 : Int) (u : Sg), inR a1 → inR a2 → inR a3 → inR a4 → inR a5 → (a6 = 0 ∨ a6 = 1) → inR a7 → WG p l e R s m args below meth c JX2_seek DX2_seek G clA A FC ad0 σ0 rvI (bX2_seek_L75 call n a1 a2 a3 a4 a5 a6 a7 u x127) u 75 [(0, vR 0), (1, vI a1), (2, vI a2), (3, vI a3), (4, vI a4), (5, vI a5), (6, vI a6), (7, vI a7)] [] := by
  intro n
  induction n with
  | zero =>
    intro a1 a2 a3 a4 a5 a6 a7 u ra1 ra2 ra3 ra4 ra5 za6 ra7
    exact g_none
  | succ n ih =>
    intro a1 a2 a3 a4 a5 a6 a7 u ra1 ra2 ra3 ra4 ra5 za6 ra7
    rw [bX2_seek_L75]
    refine g_iload 7 dX2_seek_75 rfl ?_
    refine g_iload 4 dX2_seek_77 rfl ?_
    refine g_icmp_ge 127 dX2_seek_79 (by decide) (fun _ => ra7) (fun _ => ra4) (fun _ => ?_) (fun _ => ?_)
    · refine g_iload 6 dX2_seek_82 rfl ?_
      refine g_if_eq 127 dX2_seek_84 (by decide) (fun _ => (inR_z za6)) (fun _ => ?_) (fun _ => ?_)
      · exact g_pick [0, 1, 2, 3, 4, 5, 6] rfl (hx127 a1 a2 a3 a4 a5 a6 u ra1 ra2 ra3 ra4 ra5 za6)
      · refine g_jn (fun j1 => ∀ (a1 a2 a3 a4 a5 a7 t0 : Int) (s2 : Sg), inR a1 → inR a2 → inR a3 → inR a4 → inR a5 → inR a7 → (t0 = 0 ∨ t0 = 1) → WG p l e R s m args below meth c JX2_seek DX2_seek G clA A FC ad0 σ0 rvI (j1 a1 a2 a3 a4 a5 a7 t0 s2) s2 119 [(0, vR 0), (1, vI a1), (2, vI a2), (3, vI a3), (4, vI a4), (5, vI a5), (7, vI a7)] [vI t0]) (fun a1 a2 a3 a4 a5 a7 t0 s2 ra1 ra2 ra3 ra4 ra5 ra7 zt0 => ?_) (fun j1 hj1 => ?_)
        · refine g_istore (loc' := [(6, vI t0), (0, vR 0), (1, vI a1), (2, vI a2), (3, vI a3), (4, vI a4), (5, vI a5), (7, vI a7)]) dX2_seek_119 (by decide) rfl ?_
          refine g_iinc 7 (loc' := fun v3 => [(7, vI v3), (6, vI t0), (0, vR 0), (1, vI a1), (2, vI a2), (3, vI a3), (4, vI a4), (5, vI a5)]) dX2_seek_121 rfl (by decide) (fun _ => rfl) (fun v3 rv3 => ?_)
          refine g_goto 75 dX2_seek_124 (by decide) ?_
          exact g_pick [2, 3, 4, 5, 6, 7, 1, 0] rfl (ih a1 a2 a3 a4 a5 t0 v3 s2 ra1 ra2 ra3 ra4 ra5 zt0 rv3)
        · refine g_aload_n 0 dX2_seek_87 rfl ?_
          refine g_get (v := vR 17) (ci := 0) (b := 0) (N := 21) 7 rfl rfl (by decide) in_X2 rfl rfl q243 dX2_seek_88 ?_
          refine g_aload_n 0 dX2_seek_91 rfl ?_
          refine g_get (v := vR 12) (ci := 0) (b := 0) (N := 21) 2 rfl rfl (by decide) in_X2 rfl rfl q235 dX2_seek_92 ?_
          refine g_iload 5 dX2_seek_95 rfl ?_
          refine g_iald (id := 2) 2 rfl rfl dX2_seek_97 (fun v4 rv4 => ?_)
          refine g_iload 7 dX2_seek_98 rfl ?_
          refine g_iadd dX2_seek_100 (fun v5 rv5 => ?_)
          refine g_iald (id := 7) 7 rfl rfl dX2_seek_101 (fun v6 rv6 => ?_)
          refine g_aload_n 0 dX2_seek_102 rfl ?_
          refine g_get (v := vR 21) (ci := 0) (b := 0) (N := 21) 11 rfl rfl (by decide) in_X2 rfl rfl q250 dX2_seek_103 ?_
          refine g_iload_n 3 dX2_seek_106 rfl ?_
          refine g_iload 7 dX2_seek_107 rfl ?_
          refine g_iadd dX2_seek_109 (fun v7 rv7 => ?_)
          refine g_iald (id := 11) 9 rfl rfl dX2_seek_110 (fun v8 rv8 => ?_)
          refine g_icmp_ne 118 dX2_seek_111 (by decide) (fun _ => rv6) (fun _ => rv8) (fun _ => ?_) (fun _ => ?_)
          · refine g_iconst dX2_seek_114 ?_
            refine g_goto 119 dX2_seek_115 (by decide) ?_
            exact g_pick [0, 1, 2, 3, 4, 5, 7] rfl (hj1 a1 a2 a3 a4 a5 a7 1 u ra1 ra2 ra3 ra4 ra5 ra7 (Or.inr rfl))
          · refine g_iconst dX2_seek_118 ?_
            exact g_pick [0, 1, 2, 3, 4, 5, 7] rfl (hj1 a1 a2 a3 a4 a5 a7 0 u ra1 ra2 ra3 ra4 ra5 ra7 (Or.inl rfl))
    · exact g_pick [0, 1, 2, 3, 4, 5, 6] rfl (hx127 a1 a2 a3 a4 a5 a6 u ra1 ra2 ra3 ra4 ra5 za6)
theorem wX2_seek_L27 (hd : 2 ≤ d) (hRf : d + 1 ≤ R.frames) (hRl : 40 * (d + 1) ≤ R.locals) (hX2_hash : ∀ (a1 a2 a3 : Int) (u : Sg), Ct l d FC clA yX2_hash cX2_hash 6 (some .int) DX2_hash rvI [vR 0, vI a1, vI a2, vI a3] u (call 95 [a1, a2, a3] u)) (x147 : Sg → Option (Int × Sg)) (x132 : Int → Sg → Option (Int × Sg)) (hx147 : ∀ (u : Sg), WG p l e R s m args below meth c JX2_seek DX2_seek G clA A FC ad0 σ0 rvI (x147 u) u 147 [] []) (hx132 : ∀ (a5 : Int) (u : Sg), inR a5 → WG p l e R s m args below meth c JX2_seek DX2_seek G clA A FC ad0 σ0 rvI (x132 a5 u) u 132 [(5, vI a5)] []) : ∀ (n : Nat) (a1 a2 a3 a4 a5 : Int) (u : Sg), inR a1 → inR a2 → inR a3 → inR a4 → inR a5 → WG p l e R s m args below meth c JX2_seek DX2_seek G clA A FC ad0 σ0 rvI (bX2_seek_L27 call n a1 a2 a3 a4 a5 u x147 x132) u 27 [(0, vR 0), (1, vI a1), (2, vI a2), (3, vI a3), (4, vI a4), (5, vI a5)] [] := by
  intro n
  induction n with
  | zero =>
    intro a1 a2 a3 a4 a5 u ra1 ra2 ra3 ra4 ra5
    exact g_none
  | succ n ih =>
    intro a1 a2 a3 a4 a5 u ra1 ra2 ra3 ra4 ra5
    rw [bX2_seek_L27]
    refine g_iload 5 dX2_seek_27 rfl ?_
    refine g_if_eq 147 dX2_seek_29 (by decide) (fun _ => ra5) (fun _ => ?_) (fun _ => ?_)
    · exact g_pick [] rfl (hx147 u)
    · refine g_jn (fun j1 => ∀ (a1 a2 a3 a4 a5 : Int) (s2 : Sg), inR a1 → inR a2 → inR a3 → inR a4 → inR a5 → WG p l e R s m args below meth c JX2_seek DX2_seek G clA A FC ad0 σ0 rvI (j1 a1 a2 a3 a4 a5 s2) s2 135 [(0, vR 0), (1, vI a1), (2, vI a2), (3, vI a3), (4, vI a4), (5, vI a5)] []) (fun a1 a2 a3 a4 a5 s2 ra1 ra2 ra3 ra4 ra5 => ?_) (fun j1 hj1 => ?_)
      · refine g_aload_n 0 dX2_seek_135 rfl ?_
        refine g_get (v := vR 16) (ci := 0) (b := 0) (N := 21) 6 rfl rfl (by decide) in_X2 rfl rfl q242 dX2_seek_136 ?_
        refine g_iload 5 dX2_seek_139 rfl ?_
        refine g_iald (id := 6) 6 rfl rfl dX2_seek_141 (fun v3 rv3 => ?_)
        refine g_istore (loc' := [(5, vI v3), (0, vR 0), (1, vI a1), (2, vI a2), (3, vI a3), (4, vI a4)]) dX2_seek_142 (by decide) rfl ?_
        refine g_goto 27 dX2_seek_144 (by decide) ?_
        exact g_pick [1, 2, 3, 4, 5, 0] rfl (ih a1 a2 a3 a4 v3 s2 ra1 ra2 ra3 ra4 rv3)
      · refine g_aload_n 0 dX2_seek_32 rfl ?_
        refine g_get (v := vR 10) (ci := 0) (b := 0) (N := 21) 0 rfl rfl (by decide) in_X2 rfl rfl q231 dX2_seek_33 ?_
        refine g_iload 5 dX2_seek_36 rfl ?_
        refine g_iald (id := 0) 0 rfl rfl dX2_seek_38 (fun v4 rv4 => ?_)
        refine g_iload_n 1 dX2_seek_39 rfl ?_
        refine g_icmp_ne 135 dX2_seek_40 (by decide) (fun _ => rv4) (fun _ => ra1) (fun _ => ?_) (fun _ => ?_)
        · refine g_aload_n 0 dX2_seek_43 rfl ?_
          refine g_get (v := vR 11) (ci := 0) (b := 0) (N := 21) 1 rfl rfl (by decide) in_X2 rfl rfl q233 dX2_seek_44 ?_
          refine g_iload 5 dX2_seek_47 rfl ?_
          refine g_iald (id := 1) 1 rfl rfl dX2_seek_49 (fun v5 rv5 => ?_)
          refine g_iload_n 2 dX2_seek_50 rfl ?_
          refine g_icmp_ne 135 dX2_seek_51 (by decide) (fun _ => rv5) (fun _ => ra2) (fun _ => ?_) (fun _ => ?_)
          · refine g_aload_n 0 dX2_seek_54 rfl ?_
            refine g_get (v := vR 13) (ci := 0) (b := 0) (N := 21) 3 rfl rfl (by decide) in_X2 rfl rfl q236 dX2_seek_55 ?_
            refine g_iload 5 dX2_seek_58 rfl ?_
            refine g_iald (id := 3) 3 rfl rfl dX2_seek_60 (fun v6 rv6 => ?_)
            refine g_iload 4 dX2_seek_61 rfl ?_
            refine g_icmp_eq 69 dX2_seek_63 (by decide) (fun _ => rv6) (fun _ => ra4) (fun _ => ?_) (fun _ => ?_)
            · refine g_iconst dX2_seek_69 ?_
              refine g_istore (loc' := [(6, vI 1), (0, vR 0), (1, vI a1), (2, vI a2), (3, vI a3), (4, vI a4), (5, vI a5)]) dX2_seek_70 (by decide) rfl ?_
              refine g_iconst dX2_seek_72 ?_
              refine g_istore (loc' := [(7, vI 0), (6, vI 1), (0, vR 0), (1, vI a1), (2, vI a2), (3, vI a3), (4, vI a4), (5, vI a5)]) dX2_seek_73 (by decide) rfl ?_
              refine g_pick [2, 3, 4, 5, 6, 7, 1, 0] rfl (wX2_seek_L75 hd hRf hRl hX2_hash _ (fun v8 v9 v10 v11 v12 v13 s7 rv8 rv9 rv10 rv11 rv12 zv13 => ?_) KF a1 a2 a3 a4 a5 1 0 u ra1 ra2 ra3 ra4 ra5 (Or.inr rfl) (inR_z (Or.inl rfl)))
              · refine g_iload 6 dX2_seek_127 rfl ?_
                refine g_if_eq 135 dX2_seek_129 (by decide) (fun _ => (inR_z zv13)) (fun _ => ?_) (fun _ => ?_)
                · exact g_pick [0, 1, 2, 3, 4, 5] rfl (hj1 v8 v9 v10 v11 v12 s7 rv8 rv9 rv10 rv11 rv12)
                · exact g_pick [5] rfl (hx132 v12 s7 rv12)
            · refine g_goto 135 dX2_seek_66 (by decide) ?_
              exact g_pick [0, 1, 2, 3, 4, 5] rfl (hj1 a1 a2 a3 a4 a5 u ra1 ra2 ra3 ra4 ra5)
          · exact g_pick [0, 1, 2, 3, 4, 5] rfl (hj1 a1 a2 a3 a4 a5 u ra1 ra2 ra3 ra4 ra5)
        · exact g_pick [0, 1, 2, 3, 4, 5] rfl (hj1 a1 a2 a3 a4 a5 u ra1 ra2 ra3 ra4 ra5)
theorem wX2_seek (hd : 2 ≤ d) (hRf : d + 1 ≤ R.frames) (hRl : 40 * (d + 1) ≤ R.locals) (hX2_hash : ∀ (a1 a2 a3 : Int) (u : Sg), Ct l d FC clA yX2_hash cX2_hash 6 (some .int) DX2_hash rvI [vR 0, vI a1, vI a2, vI a3] u (call 95 [a1, a2, a3] u)) (a1 a2 a3 : Int) (u : Sg) (ra1 : inR a1) (ra2 : inR a2) (ra3 : inR a3) : WG p l e R s m args below meth c JX2_seek DX2_seek G clA A FC ad0 σ0 rvI (bX2_seek call a1 a2 a3 u) u 0 [(0, vR 0), (1, vI a1), (2, vI a2), (3, vI a3)] [] := by
  unfold bX2_seek
  refine g_aload_n 0 dX2_seek_0 rfl ?_
  refine g_getI (ci := 0) (b := 0) (N := 21) 12 rfl rfl rfl (by decide) in_X2 rfl rfl q252 dX2_seek_1 (fun v1 rv1 => ?_)
  refine g_iload_n 3 dX2_seek_4 rfl ?_
  refine g_isub dX2_seek_5 (fun v2 rv2 => ?_)
  refine g_istore (loc' := [(4, vI v2), (0, vR 0), (1, vI a1), (2, vI a2), (3, vI a3)]) dX2_seek_6 (by decide) rfl ?_
  refine g_aload_n 1 dX2_seek_8 rfl ?_
  refine g_get (v := vR 18) (ci := 0) (b := 0) (N := 21) 8 rfl rfl (by decide) in_X2 rfl rfl q244 dX2_seek_9 ?_
  refine g_aload_n 1 dX2_seek_12 rfl ?_
  refine g_iload_n 2 dX2_seek_13 rfl ?_
  refine g_iload_n 3 dX2_seek_14 rfl ?_
  refine g_iload_n 4 dX2_seek_15 rfl ?_
  refine g_cVIk [8] (As := [vI a1, vI a2, vI a3]) (n := 3) (stk := [vR 18]) (ci := 0) (b := 0) (N := 21) (hX2_hash a1 a2 a3 u) (by decide +kernel) rfl rfl (lw_V q195 q197 qs0 q164 q198) (by decide +kernel) rfl (by decide) hRf hRl (fun _ => (avc ra1 (avc ra2 (avc ra3 avn)))) (Nat.le_of_ble_eq_true rfl) rfl rfl dX2_seek_16 (fun v3 s4 rv3 => ?_)
  refine g_iald (id := 8) 8 rfl rfl dX2_seek_19 (fun v5 rv5 => ?_)
  refine g_istore (loc' := [(5, vI v5), (4, vI v2), (0, vR 0), (1, vI a1), (2, vI a2), (3, vI a3)]) dX2_seek_20 (by decide) rfl ?_
  refine g_aload_n 2 dX2_seek_22 rfl ?_
  refine g_iload_n 5 dX2_seek_23 rfl ?_
  refine g_sIU (ci := 0) (b := 0) (N := 21) FC_ok 12 rfl rfl rfl (by decide) in_X2 tyX2 tyX2_ok nmX2 rfl rfl rfl rfl (by decide +kernel) ra3 q252 dX2_seek_24 (fun s6 => ?_)
  refine g_pick [2, 3, 4, 5, 1, 0] rfl (wX2_seek_L27 hd hRf hRl hX2_hash _ _ (fun s7 => ?_) (fun v9 s8 rv9 => ?_) KF a1 a2 a3 v2 v5 s6 ra1 ra2 ra3 rv2 rv5)
  · refine g_iconst dX2_seek_147 ?_
    exact g_iret rfl rfl (fun _ => (inR_z (Or.inl rfl))) dX2_seek_148
  · refine g_iload 0 dX2_seek_132 rfl ?_
    exact g_iret rfl rfl (fun _ => rv9) dX2_seek_134
end
section
variable {l : Launch} {d : Nat} {call : Nat → List Int → Sg → Option (Int × Sg)}
theorem ctX2_seek (p0 : Program) (e0 : Env) (s0 : State) (m0 : MethodId) (meth0 : Method) (c0 : Code) (G0 : Gm) (hd : 2 ≤ d) (hX2_hash : ∀ (a1 a2 a3 : Int) (u : Sg), Ct l d FC clA yX2_hash cX2_hash 6 (some .int) DX2_hash rvI [vR 0, vI a1, vI a2, vI a3] u (call 95 [a1, a2, a3] u)) (a1 a2 a3 : Int) (u : Sg) : Ct l (d + 1) FC clA yX2_seek cX2_seek 8 (some .int) DX2_seek rvI [vR 0, vI a1, vI a2, vI a3] u (bX2_seek call a1 a2 a3 u) :=
  Ct_of (by decide) (Nat.le_of_ble_eq_true rfl) (fun p e R s1 m args below meth c G A ad hA hRf hRl => wX2_seek hd hRf hRl hX2_hash a1 a2 a3 u (hA _ (List.mem_cons_of_mem _ List.mem_cons_self)) (hA _ (List.mem_cons_of_mem _ (List.mem_cons_of_mem _ List.mem_cons_self))) (hA _ (List.mem_cons_of_mem _ (List.mem_cons_of_mem _ (List.mem_cons_of_mem _ List.mem_cons_self))))) p0 e0 s0 m0 meth0 c0 G0
end
/-! RoundCheck$Store.partsOf(I)I -/
abbrev JX2_partsOf : Jm := (cX2_partsOf, RX2, 2, (some .int))
def bX2_partsOf (call : Nat → List Int → Sg → Option (Int × Sg)) (a1 : Int) (u : Sg) : Option (Int × Sg) := un (gI u 13) fun v1 => if a1 = v1 then (some (0, u)) else (ld u 0 a1 fun v2 => if v2 = 17 then (ld u 3 a1 fun v3 => some (v3, u)) else (some (1, u)))
section
variable {p : Program} {l : Launch} {e : Env} {R : Room} {s : State} {m : MethodId} {args : Array Value} {below : List Frame} {meth : Method} {c : Code} {G : Gm} {A : Nat → Prop} {ad0 : Nat → Nat} {σ0 : Sg} {d : Nat} {call : Nat → List Int → Sg → Option (Int × Sg)}
theorem wX2_partsOf (hd : 2 ≤ d) (hRf : d + 1 ≤ R.frames) (hRl : 40 * (d + 1) ≤ R.locals) (a1 : Int) (u : Sg) (ra1 : inR a1) : WG p l e R s m args below meth c JX2_partsOf DX2_partsOf G clA A FC ad0 σ0 rvI (bX2_partsOf call a1 u) u 0 [(0, vR 0), (1, vI a1)] [] := by
  unfold bX2_partsOf
  refine g_iload_n 1 dX2_partsOf_0 rfl ?_
  refine g_aload_n 0 dX2_partsOf_1 rfl ?_
  refine g_getI (ci := 0) (b := 0) (N := 21) 13 rfl rfl rfl (by decide) in_X2 rfl rfl q253 dX2_partsOf_2 (fun v1 rv1 => ?_)
  refine g_icmp_ne 12 dX2_partsOf_5 (by decide) (fun _ => ra1) (fun _ => rv1) (fun _ => ?_) (fun _ => ?_)
  · refine g_iconst dX2_partsOf_8 ?_
    refine g_goto 33 dX2_partsOf_9 (by decide) ?_
    exact g_iret rfl rfl (fun _ => (inR_z (Or.inl rfl))) dX2_partsOf_33
  · refine g_aload_n 0 dX2_partsOf_12 rfl ?_
    refine g_get (v := vR 10) (ci := 0) (b := 0) (N := 21) 0 rfl rfl (by decide) in_X2 rfl rfl q231 dX2_partsOf_13 ?_
    refine g_iload_n 1 dX2_partsOf_16 rfl ?_
    refine g_iald (id := 0) 0 rfl rfl dX2_partsOf_17 (fun v2 rv2 => ?_)
    refine g_bipush (by decide +kernel) dX2_partsOf_18 ?_
    refine g_icmp_ne 32 dX2_partsOf_20 (by decide) (fun _ => rv2) (fun _ => (by decide : inR (17))) (fun _ => ?_) (fun _ => ?_)
    · refine g_aload_n 0 dX2_partsOf_23 rfl ?_
      refine g_get (v := vR 13) (ci := 0) (b := 0) (N := 21) 3 rfl rfl (by decide) in_X2 rfl rfl q236 dX2_partsOf_24 ?_
      refine g_iload_n 1 dX2_partsOf_27 rfl ?_
      refine g_iald (id := 3) 3 rfl rfl dX2_partsOf_28 (fun v3 rv3 => ?_)
      refine g_goto 33 dX2_partsOf_29 (by decide) ?_
      exact g_iret rfl rfl (fun _ => rv3) dX2_partsOf_33
    · refine g_iconst dX2_partsOf_32 ?_
      exact g_iret rfl rfl (fun _ => (inR_z (Or.inr rfl))) dX2_partsOf_33
end
section
variable {l : Launch} {d : Nat} {call : Nat → List Int → Sg → Option (Int × Sg)}
theorem ctX2_partsOf (p0 : Program) (e0 : Env) (s0 : State) (m0 : MethodId) (meth0 : Method) (c0 : Code) (G0 : Gm) (hd : 2 ≤ d) (a1 : Int) (u : Sg) : Ct l (d + 1) FC clA yX2_partsOf cX2_partsOf 2 (some .int) DX2_partsOf rvI [vR 0, vI a1] u (bX2_partsOf call a1 u) :=
  Ct_of (by decide) (Nat.le_of_ble_eq_true rfl) (fun p e R s1 m args below meth c G A ad hA hRf hRl => wX2_partsOf hd hRf hRl a1 u (hA _ (List.mem_cons_of_mem _ List.mem_cons_self))) p0 e0 s0 m0 meth0 c0 G0
end
