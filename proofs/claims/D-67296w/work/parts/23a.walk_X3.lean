/-! RoundCheckModel.thrown()I -/
abbrev JX3_thrown : Jm := (cX3_thrown, RX3, 1, (some .int))
def bX3_thrown (call : Nat → List Int → Sg → Option (Int × Sg)) (u : Sg) : Option (Int × Sg) := un (gI u 0) fun v1 => some (v1, u)
section
variable {p : Program} {l : Launch} {e : Env} {R : Room} {s : State} {m : MethodId} {args : Array Value} {below : List Frame} {meth : Method} {c : Code} {G : Gm} {A : Nat → Prop} {ad0 : Nat → Nat} {σ0 : Sg} {d : Nat} {call : Nat → List Int → Sg → Option (Int × Sg)}
theorem wX3_thrown (hd : 2 ≤ d) (hRf : d + 1 ≤ R.frames) (hRl : 40 * (d + 1) ≤ R.locals) (u : Sg) : WG p l e R s m args below meth c JX3_thrown DX3_thrown G clA A FT ad0 σ0 rvI (bX3_thrown call u) u 0 [(0, vR 0)] [] := by
  unfold bX3_thrown
  refine g_aload_n 0 dX3_thrown_0 rfl ?_
  refine g_getI (ci := 2) (b := 0) (N := 83) 0 rfl rfl rfl (by decide) in_X3 rfl rfl q1132 dX3_thrown_1 (fun v1 rv1 => ?_)
  exact g_iret rfl rfl (fun _ => rv1) dX3_thrown_4
end
section
variable {l : Launch} {d : Nat} {call : Nat → List Int → Sg → Option (Int × Sg)}
theorem ctX3_thrown (p0 : Program) (e0 : Env) (s0 : State) (m0 : MethodId) (meth0 : Method) (c0 : Code) (G0 : Gm) (hd : 2 ≤ d) (u : Sg) : Ct l (d + 1) FT clA yX3_thrown cX3_thrown 1 (some .int) DX3_thrown rvI [vR 0] u (bX3_thrown call u) :=
  Ct_of (by decide) (Nat.le_of_ble_eq_true rfl) (fun p e R s1 m args below meth c G A ad hA hRf hRl => wX3_thrown hd hRf hRl u) p0 e0 s0 m0 meth0 c0 G0
end
/-! RoundCheckModel.plain(II)I -/
abbrev JX3_plain : Jm := (cX3_plain, RX3, 3, (some .int))
def bX3_plain (call : Nat → List Int → Sg → Option (Int × Sg)) (a1 a2 : Int) (u : Sg) : Option (Int × Sg) := un (gI u 13) fun v1 => cl (call 2 [a1, a2, v1] u) fun v2 s3 => some (v2, s3)
section
variable {p : Program} {l : Launch} {e : Env} {R : Room} {s : State} {m : MethodId} {args : Array Value} {below : List Frame} {meth : Method} {c : Code} {G : Gm} {A : Nat → Prop} {ad0 : Nat → Nat} {σ0 : Sg} {d : Nat} {call : Nat → List Int → Sg → Option (Int × Sg)}
theorem wX3_plain (hd : 2 ≤ d) (hRf : d + 1 ≤ R.frames) (hRl : 40 * (d + 1) ≤ R.locals) (hX3_typed : ∀ (a1 a2 a3 : Int) (u : Sg), Ct l d FT clA yX3_typed cX3_typed 8 (some .int) DX3_typed rvI [vR 0, vI a1, vI a2, vI a3] u (call 2 [a1, a2, a3] u)) (a1 a2 : Int) (u : Sg) (ra1 : inR a1) (ra2 : inR a2) : WG p l e R s m args below meth c JX3_plain DX3_plain G clA A FT ad0 σ0 rvI (bX3_plain call a1 a2 u) u 0 [(0, vR 0), (1, vI a1), (2, vI a2)] [] := by
  unfold bX3_plain
  refine g_aload_n 0 dX3_plain_0 rfl ?_
  refine g_iload_n 1 dX3_plain_1 rfl ?_
  refine g_iload_n 2 dX3_plain_2 rfl ?_
  refine g_aload_n 0 dX3_plain_3 rfl ?_
  refine g_getI (ci := 2) (b := 0) (N := 83) 13 rfl rfl rfl (by decide) in_X3 rfl rfl q1145 dX3_plain_4 (fun v1 rv1 => ?_)
  refine g_cVI (As := [vI a1, vI a2, vI v1]) (n := 3) (stk := []) (ci := 2) (b := 0) (N := 83) (hX3_typed a1 a2 v1 u) (by decide +kernel) rfl rfl (lw_V q1096 q1098 qs72 q168 q1099) (by decide +kernel) rfl (by decide) hRf hRl (fun _ => (avc ra1 (avc ra2 (avc rv1 avn)))) (Nat.le_of_ble_eq_true rfl) rfl rfl dX3_plain_7 (fun v2 s3 rv2 => ?_)
  exact g_iret rfl rfl (fun _ => rv2) dX3_plain_10
end
section
variable {l : Launch} {d : Nat} {call : Nat → List Int → Sg → Option (Int × Sg)}
theorem ctX3_plain (p0 : Program) (e0 : Env) (s0 : State) (m0 : MethodId) (meth0 : Method) (c0 : Code) (G0 : Gm) (hd : 2 ≤ d) (hX3_typed : ∀ (a1 a2 a3 : Int) (u : Sg), Ct l d FT clA yX3_typed cX3_typed 8 (some .int) DX3_typed rvI [vR 0, vI a1, vI a2, vI a3] u (call 2 [a1, a2, a3] u)) (a1 a2 : Int) (u : Sg) : Ct l (d + 1) FT clA yX3_plain cX3_plain 3 (some .int) DX3_plain rvI [vR 0, vI a1, vI a2] u (bX3_plain call a1 a2 u) :=
  Ct_of (by decide) (Nat.le_of_ble_eq_true rfl) (fun p e R s1 m args below meth c G A ad hA hRf hRl => wX3_plain hd hRf hRl hX3_typed a1 a2 u (hA _ (List.mem_cons_of_mem _ List.mem_cons_self)) (hA _ (List.mem_cons_of_mem _ (List.mem_cons_of_mem _ List.mem_cons_self)))) p0 e0 s0 m0 meth0 c0 G0
end
/-! RoundCheckModel.typed(III)I -/
abbrev JX3_typed : Jm := (cX3_typed, RX3, 8, (some .int))
def bX3_typed_L31 (call : Nat → List Int → Sg → Option (Int × Sg)) : Nat → Int → Int → Int → Int → Int → Int → Int → Sg → (Int → Int → Int → Int → Int → Int → Int → Sg → Option (Int × Sg)) → Option (Int × Sg)
  | 0, _, _, _, _, _, _, _, _, _ => none
  | n + 1, a1, a2, a3, a4, a5, a6, a7, u, x73 => if a7 ≤ a3 then (x73 a1 a2 a3 a4 a5 a6 a7 u) else (ar (a7 - 1) fun v1 => ld u 12 v1 fun v2 => if v2 ≤ a6 then (x73 a1 a2 a3 a4 a5 a6 a7 u) else (ar (a7 - 1) fun v3 => ld u 12 v3 fun v4 => stA u 12 a7 v4 fun s5 => ar (a7 + (-1)) fun v6 => bX3_typed_L31 call n a1 a2 a3 a4 a5 a6 v6 s5 x73))
def bX3_typed_L11 (call : Nat → List Int → Sg → Option (Int × Sg)) : Nat → Int → Int → Int → Int → Int → Sg → (Int → Int → Int → Int → Sg → Option (Int × Sg)) → Option (Int × Sg)
  | 0, _, _, _, _, _, _, _ => none
  | n + 1, a1, a2, a3, a4, a5, u, x88 => if a5 < a4 then (ld u 12 a5 fun v1 => bX3_typed_L31 call KF a1 a2 a3 a4 a5 v1 a5 u (fun v3 v4 v5 v6 v7 v8 v9 s2 => stA s2 12 v9 v8 fun s10 => ar (v7 + 1) fun v11 => bX3_typed_L11 call n v3 v4 v5 v6 v11 s10 x88)) else (x88 a1 a2 a3 a4 u)
def bX3_typed_L94 (call : Nat → List Int → Sg → Option (Int × Sg)) : Nat → Int → Int → Int → Int → Int → Int → Sg → (Int → Int → Int → Int → Sg → Option (Int × Sg)) → Option (Int × Sg)
  | 0, _, _, _, _, _, _, _, _ => none
  | n + 1, a1, a2, a3, a4, a5, a6, u, x149 => if a6 < a4 then (jn (fun (a1 a2 a3 a4 a5 a6 : Int) (s2 : Sg) => ar (a5 + 1) fun v3 => ld s2 12 a6 fun v4 => stA s2 12 a5 v4 fun s5 => ar (a6 + 1) fun v6 => bX3_typed_L94 call n a1 a2 a3 a4 v3 v6 s5 x149) fun j1 => if a6 = a3 then (j1 a1 a2 a3 a4 a5 a6 u) else (ld u 12 a6 fun v7 => ar (a6 - 1) fun v8 => ld u 12 v8 fun v9 => if v7 = v9 then (ar (a6 + 1) fun v10 => bX3_typed_L94 call n a1 a2 a3 a4 a5 v10 u x149) else (j1 a1 a2 a3 a4 a5 a6 u))) else (x149 a1 a2 a3 a5 u)
def bX3_typed_L174 (call : Nat → List Int → Sg → Option (Int × Sg)) : Nat → Int → Int → Int → Int → Sg → (Int → Int → Sg → Option (Int × Sg)) → Option (Int × Sg)
  | 0, _, _, _, _, _, _ => none
  | n + 1, a3, a5, a6, a7, u, x198 => if a7 < a5 then (ld u 12 a7 fun v1 => cl (call 3 [v1] u) fun v2 s3 => ar (a7 + 1) fun v4 => bX3_typed_L174 call n a3 a5 a6 v4 s3 x198) else (x198 a3 a6 u)
def bX3_typed (call : Nat → List Int → Sg → Option (Int × Sg)) (a1 a2 a3 : Int) (u : Sg) : Option (Int × Sg) := un (gI u 13) fun v1 => ar (a3 + 1) fun v2 => bX3_typed_L11 call KF a1 a2 a3 v1 v2 u (fun v4 v5 v6 v7 s3 => bX3_typed_L94 call KF v4 v5 v6 v7 v6 v6 s3 (fun v9 v10 v11 v12 s8 => un (sI s8 13 v12) fun s13 => un (gI s13 13) fun v14 => cl (call 3 [v9] s13) fun v15 s16 => cl (call 3 [v10] s16) fun v17 s18 => bX3_typed_L174 call KF v11 v12 v14 v11 s18 (fun v20 v21 s19 => cl (call 5 [7, v21] s19) fun v22 s23 => un (sI s23 13 v20) fun s24 => some (v22, s24))))
section
variable {p : Program} {l : Launch} {e : Env} {R : Room} {s : State} {m : MethodId} {args : Array Value} {below : List Frame} {meth : Method} {c : Code} {G : Gm} {A : Nat → Prop} {ad0 : Nat → Nat} {σ0 : Sg} {d : Nat} {call : Nat → List Int → Sg → Option (Int × Sg)}
theorem wX3_typed_L31 (hd : 2 ≤ d) (hRf : d + 1 ≤ R.frames) (hRl : 40 * (d + 1) ≤ R.locals) (hX3_give : ∀ (a1 : Int) (u : Sg), Ct l d FT clA yX3_give cX3_give 2 none DX3_give rvV [vR 0, vI a1] u (call 3 [a1] u)) (hX3_node : ∀ (a1 a2 : Int) (u : Sg), Ct l d FT clA yX3_node cX3_node 7 (some .int) DX3_node rvI [vR 0, vI a1, vI a2] u (call 5 [a1, a2] u)) (x73 : Int → Int → Int → Int → Int → Int → Int → Sg → Option (Int × Sg)) (hx73 : ∀ (a1 a2 a3 a4 a5 a6 a7 : Int) (u : Sg), inR a1 → inR a2 → inR a3 → inR a4 → inR a5 → inR a6 → inR a7 → WG p l e R s m args below meth c JX3_typed DX3_typed G clA A FT ad0 σ0 rvI (x73 a1 a2 a3 a4 a5 a6 a7 u) u 73 [(0, vR 0), (1, vI a1), (2, vI a2), (3, vI a3), (4, vI a4), (5, vI a5), (6, vI a6), (7, vI a7)] []) : ∀ (n : Nat) (a1 a2 a3 a4 a5 a6 a7 : Int) (u : Sg), inR a1 → inR a2 → inR a3 → inR a4 → inR a5 → inR a6 → inR a7 → WG p l e R s m args below meth c JX3_typed DX3_typed G clA A FT ad0 σ0 rvI (bX3_typed_L31 call n a1 a2 a3 a4 a5 a6 a7 u x73) u 31 [(0, vR 0), (1, vI a1), (2, vI a2), (3, vI a3), (4, vI a4), (5, vI a5), (6, vI a6), (7, vI a7)] [] := by
  intro n
  induction n with
  | zero =>
    intro a1 a2 a3 a4 a5 a6 a7 u ra1 ra2 ra3 ra4 ra5 ra6 ra7
    exact g_none
  | succ n ih =>
    intro a1 a2 a3 a4 a5 a6 a7 u ra1 ra2 ra3 ra4 ra5 ra6 ra7
    rw [bX3_typed_L31]
    refine g_iload 7 dX3_typed_31 rfl ?_
    refine g_iload_n 3 dX3_typed_33 rfl ?_
    refine g_icmp_le 73 dX3_typed_34 (by decide) (fun _ => ra7) (fun _ => ra3) (fun _ => ?_) (fun _ => ?_)
    · exact g_pick [0, 1, 2, 3, 4, 5, 6, 7] rfl (hx73 a1 a2 a3 a4 a5 a6 a7 u ra1 ra2 ra3 ra4 ra5 ra6 ra7)
    · refine g_aload_n 0 dX3_typed_37 rfl ?_
      refine g_get (v := vR 22) (ci := 2) (b := 0) (N := 83) 12 rfl rfl (by decide) in_X3 rfl rfl q1144 dX3_typed_38 ?_
      refine g_iload 7 dX3_typed_41 rfl ?_
      refine g_iconst dX3_typed_43 ?_
      refine g_isub dX3_typed_44 (fun v1 rv1 => ?_)
      refine g_iald (id := 12) 9 rfl rfl dX3_typed_45 (fun v2 rv2 => ?_)
      refine g_iload 6 dX3_typed_46 rfl ?_
      refine g_icmp_le 73 dX3_typed_48 (by decide) (fun _ => rv2) (fun _ => ra6) (fun _ => ?_) (fun _ => ?_)
      · exact g_pick [0, 1, 2, 3, 4, 5, 6, 7] rfl (hx73 a1 a2 a3 a4 a5 a6 a7 u ra1 ra2 ra3 ra4 ra5 ra6 ra7)
      · refine g_aload_n 0 dX3_typed_51 rfl ?_
        refine g_get (v := vR 22) (ci := 2) (b := 0) (N := 83) 12 rfl rfl (by decide) in_X3 rfl rfl q1144 dX3_typed_52 ?_
        refine g_iload 7 dX3_typed_55 rfl ?_
        refine g_aload_n 0 dX3_typed_57 rfl ?_
        refine g_get (v := vR 22) (ci := 2) (b := 0) (N := 83) 12 rfl rfl (by decide) in_X3 rfl rfl q1144 dX3_typed_58 ?_
        refine g_iload 7 dX3_typed_61 rfl ?_
        refine g_iconst dX3_typed_63 ?_
        refine g_isub dX3_typed_64 (fun v3 rv3 => ?_)
        refine g_iald (id := 12) 9 rfl rfl dX3_typed_65 (fun v4 rv4 => ?_)
        refine g_iastU (id := 12) FT_ok 9 rfl rfl (by decide +kernel) rv4 dX3_typed_66 (fun s5 => ?_)
        refine g_iinc 7 (loc' := fun v6 => [(7, vI v6), (0, vR 0), (1, vI a1), (2, vI a2), (3, vI a3), (4, vI a4), (5, vI a5), (6, vI a6)]) dX3_typed_67 rfl (by decide) (fun _ => rfl) (fun v6 rv6 => ?_)
        refine g_goto 31 dX3_typed_70 (by decide) ?_
        exact g_pick [1, 2, 3, 4, 5, 6, 7, 0] rfl (ih a1 a2 a3 a4 a5 a6 v6 s5 ra1 ra2 ra3 ra4 ra5 ra6 rv6)
theorem wX3_typed_L11 (hd : 2 ≤ d) (hRf : d + 1 ≤ R.frames) (hRl : 40 * (d + 1) ≤ R.locals) (hX3_give : ∀ (a1 : Int) (u : Sg), Ct l d FT clA yX3_give cX3_give 2 none DX3_give rvV [vR 0, vI a1] u (call 3 [a1] u)) (hX3_node : ∀ (a1 a2 : Int) (u : Sg), Ct l d FT clA yX3_node cX3_node 7 (some .int) DX3_node rvI [vR 0, vI a1, vI a2] u (call 5 [a1, a2] u)) (x88 : Int → Int → Int → Int → Sg → Option (Int × Sg)) (hx88 : ∀ (a1 a2 a3 a4 : Int) (u : Sg), inR a1 → inR a2 → inR a3 → inR a4 → WG p l e R s m args below meth c JX3_typed DX3_typed G clA A FT ad0 σ0 rvI (x88 a1 a2 a3 a4 u) u 88 [(0, vR 0), (1, vI a1), (2, vI a2), (3, vI a3), (4, vI a4)] []) : ∀ (n : Nat) (a1 a2 a3 a4 a5 : Int) (u : Sg), inR a1 → inR a2 → inR a3 → inR a4 → inR a5 → WG p l e R s m args below meth c JX3_typed DX3_typed G clA A FT ad0 σ0 rvI (bX3_typed_L11 call n a1 a2 a3 a4 a5 u x88) u 11 [(0, vR 0), (1, vI a1), (2, vI a2), (3, vI a3), (4, vI a4), (5, vI a5)] [] := by
  intro n
  induction n with
  | zero =>
    intro a1 a2 a3 a4 a5 u ra1 ra2 ra3 ra4 ra5
    exact g_none
  | succ n ih =>
    intro a1 a2 a3 a4 a5 u ra1 ra2 ra3 ra4 ra5
    rw [bX3_typed_L11]
    refine g_iload 5 dX3_typed_11 rfl ?_
    refine g_iload 4 dX3_typed_13 rfl ?_
    refine g_icmp_ge 88 dX3_typed_15 (by decide) (fun _ => ra5) (fun _ => ra4) (fun _ => ?_) (fun _ => ?_)
    · refine g_aload_n 0 dX3_typed_18 rfl ?_
      refine g_get (v := vR 22) (ci := 2) (b := 0) (N := 83) 12 rfl rfl (by decide) in_X3 rfl rfl q1144 dX3_typed_19 ?_
      refine g_iload 5 dX3_typed_22 rfl ?_
      refine g_iald (id := 12) 9 rfl rfl dX3_typed_24 (fun v1 rv1 => ?_)
      refine g_istore (loc' := [(6, vI v1), (0, vR 0), (1, vI a1), (2, vI a2), (3, vI a3), (4, vI a4), (5, vI a5)]) dX3_typed_25 (by decide) rfl ?_
      refine g_iload 6 dX3_typed_27 rfl ?_
      refine g_istore (loc' := [(7, vI a5), (6, vI v1), (0, vR 0), (1, vI a1), (2, vI a2), (3, vI a3), (4, vI a4), (5, vI a5)]) dX3_typed_29 (by decide) rfl ?_
      refine g_pick [2, 3, 4, 5, 6, 7, 1, 0] rfl (wX3_typed_L31 hd hRf hRl hX3_give hX3_node _ (fun v3 v4 v5 v6 v7 v8 v9 s2 rv3 rv4 rv5 rv6 rv7 rv8 rv9 => ?_) KF a1 a2 a3 a4 a5 v1 a5 u ra1 ra2 ra3 ra4 ra5 rv1 ra5)
      · refine g_aload_n 0 dX3_typed_73 rfl ?_
        refine g_get (v := vR 22) (ci := 2) (b := 0) (N := 83) 12 rfl rfl (by decide) in_X3 rfl rfl q1144 dX3_typed_74 ?_
        refine g_iload 7 dX3_typed_77 rfl ?_
        refine g_iload 6 dX3_typed_79 rfl ?_
        refine g_iastU (id := 12) FT_ok 9 rfl rfl (by decide +kernel) rv8 dX3_typed_81 (fun s10 => ?_)
        refine g_iinc 5 (loc' := fun v11 => [(5, vI v11), (0, vR 0), (1, vI v3), (2, vI v4), (3, vI v5), (4, vI v6), (6, vI v8), (7, vI v9)]) dX3_typed_82 rfl (by decide) (fun _ => rfl) (fun v11 rv11 => ?_)
        refine g_goto 11 dX3_typed_85 (by decide) ?_
        exact g_pick [1, 2, 3, 4, 5, 0] rfl (ih v3 v4 v5 v6 v11 s10 rv3 rv4 rv5 rv6 rv11)
    · exact g_pick [0, 1, 2, 3, 4] rfl (hx88 a1 a2 a3 a4 u ra1 ra2 ra3 ra4)
theorem wX3_typed_L94 (hd : 2 ≤ d) (hRf : d + 1 ≤ R.frames) (hRl : 40 * (d + 1) ≤ R.locals) (hX3_give : ∀ (a1 : Int) (u : Sg), Ct l d FT clA yX3_give cX3_give 2 none DX3_give rvV [vR 0, vI a1] u (call 3 [a1] u)) (hX3_node : ∀ (a1 a2 : Int) (u : Sg), Ct l d FT clA yX3_node cX3_node 7 (some .int) DX3_node rvI [vR 0, vI a1, vI a2] u (call 5 [a1, a2] u)) (x149 : Int → Int → Int → Int → Sg → Option (Int × Sg)) (hx149 : ∀ (a1 a2 a3 a5 : Int) (u : Sg), inR a1 → inR a2 → inR a3 → inR a5 → WG p l e R s m args below meth c JX3_typed DX3_typed G clA A FT ad0 σ0 rvI (x149 a1 a2 a3 a5 u) u 149 [(0, vR 0), (1, vI a1), (2, vI a2), (3, vI a3), (5, vI a5)] []) : ∀ (n : Nat) (a1 a2 a3 a4 a5 a6 : Int) (u : Sg), inR a1 → inR a2 → inR a3 → inR a4 → inR a5 → inR a6 → WG p l e R s m args below meth c JX3_typed DX3_typed G clA A FT ad0 σ0 rvI (bX3_typed_L94 call n a1 a2 a3 a4 a5 a6 u x149) u 94 [(0, vR 0), (1, vI a1), (2, vI a2), (3, vI a3), (4, vI a4), (5, vI a5), (6, vI a6)] [] := by
  intro n
  induction n with
  | zero =>
    intro a1 a2 a3 a4 a5 a6 u ra1 ra2 ra3 ra4 ra5 ra6
    exact g_none
  | succ n ih =>
    intro a1 a2 a3 a4 a5 a6 u ra1 ra2 ra3 ra4 ra5 ra6
    rw [bX3_typed_L94]
    refine g_iload 6 dX3_typed_94 rfl ?_
    refine g_iload 4 dX3_typed_96 rfl ?_
    refine g_icmp_ge 149 dX3_typed_98 (by decide) (fun _ => ra6) (fun _ => ra4) (fun _ => ?_) (fun _ => ?_)
    · refine g_jn (fun j1 => ∀ (a1 a2 a3 a4 a5 a6 : Int) (s2 : Sg), inR a1 → inR a2 → inR a3 → inR a4 → inR a5 → inR a6 → WG p l e R s m args below meth c JX3_typed DX3_typed G clA A FT ad0 σ0 rvI (j1 a1 a2 a3 a4 a5 a6 s2) s2 126 [(0, vR 0), (1, vI a1), (2, vI a2), (3, vI a3), (4, vI a4), (5, vI a5), (6, vI a6)] []) (fun a1 a2 a3 a4 a5 a6 s2 ra1 ra2 ra3 ra4 ra5 ra6 => ?_) (fun j1 hj1 => ?_)
      · refine g_aload_n 0 dX3_typed_126 rfl ?_
        refine g_get (v := vR 22) (ci := 2) (b := 0) (N := 83) 12 rfl rfl (by decide) in_X3 rfl rfl q1144 dX3_typed_127 ?_
        refine g_iload 5 dX3_typed_130 rfl ?_
        refine g_iinc 5 (loc' := fun v3 => [(5, vI v3), (0, vR 0), (1, vI a1), (2, vI a2), (3, vI a3), (4, vI a4), (6, vI a6)]) dX3_typed_132 rfl (by decide) (fun _ => rfl) (fun v3 rv3 => ?_)
        refine g_aload_n 1 dX3_typed_135 rfl ?_
        refine g_get (v := vR 22) (ci := 2) (b := 0) (N := 83) 12 rfl rfl (by decide) in_X3 rfl rfl q1144 dX3_typed_136 ?_
        refine g_iload 6 dX3_typed_139 rfl ?_
        refine g_iald (id := 12) 9 rfl rfl dX3_typed_141 (fun v4 rv4 => ?_)
        refine g_iastU (id := 12) FT_ok 9 rfl rfl (by decide +kernel) rv4 dX3_typed_142 (fun s5 => ?_)
        refine g_iinc 6 (loc' := fun v6 => [(6, vI v6), (5, vI v3), (0, vR 0), (1, vI a1), (2, vI a2), (3, vI a3), (4, vI a4)]) dX3_typed_143 rfl (by decide) (fun _ => rfl) (fun v6 rv6 => ?_)
        refine g_goto 94 dX3_typed_146 (by decide) ?_
        exact g_pick [2, 3, 4, 5, 6, 1, 0] rfl (ih a1 a2 a3 a4 v3 v6 s5 ra1 ra2 ra3 ra4 rv3 rv6)
      · refine g_iload 6 dX3_typed_101 rfl ?_
        refine g_iload_n 3 dX3_typed_103 rfl ?_
        refine g_icmp_eq 126 dX3_typed_104 (by decide) (fun _ => ra6) (fun _ => ra3) (fun _ => ?_) (fun _ => ?_)
        · exact g_pick [0, 1, 2, 3, 4, 5, 6] rfl (hj1 a1 a2 a3 a4 a5 a6 u ra1 ra2 ra3 ra4 ra5 ra6)
        · refine g_aload_n 0 dX3_typed_107 rfl ?_
          refine g_get (v := vR 22) (ci := 2) (b := 0) (N := 83) 12 rfl rfl (by decide) in_X3 rfl rfl q1144 dX3_typed_108 ?_
          refine g_iload 6 dX3_typed_111 rfl ?_
          refine g_iald (id := 12) 9 rfl rfl dX3_typed_113 (fun v7 rv7 => ?_)
          refine g_aload_n 0 dX3_typed_114 rfl ?_
          refine g_get (v := vR 22) (ci := 2) (b := 0) (N := 83) 12 rfl rfl (by decide) in_X3 rfl rfl q1144 dX3_typed_115 ?_
          refine g_iload 6 dX3_typed_118 rfl ?_
          refine g_iconst dX3_typed_120 ?_
          refine g_isub dX3_typed_121 (fun v8 rv8 => ?_)
          refine g_iald (id := 12) 9 rfl rfl dX3_typed_122 (fun v9 rv9 => ?_)
          refine g_icmp_eq 143 dX3_typed_123 (by decide) (fun _ => rv7) (fun _ => rv9) (fun _ => ?_) (fun _ => ?_)
          · refine g_iinc 6 (loc' := fun v10 => [(6, vI v10), (0, vR 0), (1, vI a1), (2, vI a2), (3, vI a3), (4, vI a4), (5, vI a5)]) dX3_typed_143 rfl (by decide) (fun _ => rfl) (fun v10 rv10 => ?_)
            refine g_goto 94 dX3_typed_146 (by decide) ?_
            exact g_pick [1, 2, 3, 4, 5, 6, 0] rfl (ih a1 a2 a3 a4 a5 v10 u ra1 ra2 ra3 ra4 ra5 rv10)
          · exact g_pick [0, 1, 2, 3, 4, 5, 6] rfl (hj1 a1 a2 a3 a4 a5 a6 u ra1 ra2 ra3 ra4 ra5 ra6)
    · exact g_pick [0, 1, 2, 3, 5] rfl (hx149 a1 a2 a3 a5 u ra1 ra2 ra3 ra5)
theorem wX3_typed_L174 (hd : 2 ≤ d) (hRf : d + 1 ≤ R.frames) (hRl : 40 * (d + 1) ≤ R.locals) (hX3_give : ∀ (a1 : Int) (u : Sg), Ct l d FT clA yX3_give cX3_give 2 none DX3_give rvV [vR 0, vI a1] u (call 3 [a1] u)) (hX3_node : ∀ (a1 a2 : Int) (u : Sg), Ct l d FT clA yX3_node cX3_node 7 (some .int) DX3_node rvI [vR 0, vI a1, vI a2] u (call 5 [a1, a2] u)) (x198 : Int → Int → Sg → Option (Int × Sg)) (hx198 : ∀ (a3 a6 : Int) (u : Sg), inR a3 → inR a6 → WG p l e R s m args below meth c JX3_typed DX3_typed G clA A FT ad0 σ0 rvI (x198 a3 a6 u) u 198 [(0, vR 0), (3, vI a3), (6, vI a6)] []) : ∀ (n : Nat) (a3 a5 a6 a7 : Int) (u : Sg), inR a3 → inR a5 → inR a6 → inR a7 → WG p l e R s m args below meth c JX3_typed DX3_typed G clA A FT ad0 σ0 rvI (bX3_typed_L174 call n a3 a5 a6 a7 u x198) u 174 [(0, vR 0), (3, vI a3), (5, vI a5), (6, vI a6), (7, vI a7)] [] := by
  intro n
  induction n with
  | zero =>
    intro a3 a5 a6 a7 u ra3 ra5 ra6 ra7
    exact g_none
  | succ n ih =>
    intro a3 a5 a6 a7 u ra3 ra5 ra6 ra7
    rw [bX3_typed_L174]
    refine g_iload 4 dX3_typed_174 rfl ?_
    refine g_iload 2 dX3_typed_176 rfl ?_
    refine g_icmp_ge 198 dX3_typed_178 (by decide) (fun _ => ra7) (fun _ => ra5) (fun _ => ?_) (fun _ => ?_)
    · refine g_aload_n 0 dX3_typed_181 rfl ?_
      refine g_aload_n 0 dX3_typed_182 rfl ?_
      refine g_get (v := vR 22) (ci := 2) (b := 0) (N := 83) 12 rfl rfl (by decide) in_X3 rfl rfl q1144 dX3_typed_183 ?_
      refine g_iload 4 dX3_typed_186 rfl ?_
      refine g_iald (id := 12) 9 rfl rfl dX3_typed_188 (fun v1 rv1 => ?_)
      refine g_cVV (As := [vI v1]) (n := 1) (stk := []) (ci := 2) (b := 0) (N := 83) (hX3_give v1 u) (by decide +kernel) rfl rfl (lw_V q1100 q1102 qs73 q168 q1103) (by decide +kernel) rfl (by decide) hRf hRl (fun _ => (avc rv1 avn)) (Nat.le_of_ble_eq_true rfl) rfl rfl dX3_typed_189 (fun v2 s3 => ?_)
      refine g_iinc 4 (loc' := fun v4 => [(7, vI v4), (0, vR 0), (3, vI a3), (5, vI a5), (6, vI a6)]) dX3_typed_192 rfl (by decide) (fun _ => rfl) (fun v4 rv4 => ?_)
      refine g_goto 174 dX3_typed_195 (by decide) ?_
      exact g_pick [1, 2, 3, 4, 0] rfl (ih a3 a5 a6 v4 s3 ra3 ra5 ra6 rv4)
    · exact g_pick [0, 1, 3] rfl (hx198 a3 a6 u ra3 ra6)
theorem wX3_typed (hd : 2 ≤ d) (hRf : d + 1 ≤ R.frames) (hRl : 40 * (d + 1) ≤ R.locals) (hX3_give : ∀ (a1 : Int) (u : Sg), Ct l d FT clA yX3_give cX3_give 2 none DX3_give rvV [vR 0, vI a1] u (call 3 [a1] u)) (hX3_node : ∀ (a1 a2 : Int) (u : Sg), Ct l d FT clA yX3_node cX3_node 7 (some .int) DX3_node rvI [vR 0, vI a1, vI a2] u (call 5 [a1, a2] u)) (a1 a2 a3 : Int) (u : Sg) (ra1 : inR a1) (ra2 : inR a2) (ra3 : inR a3) : WG p l e R s m args below meth c JX3_typed DX3_typed G clA A FT ad0 σ0 rvI (bX3_typed call a1 a2 a3 u) u 0 [(0, vR 0), (1, vI a1), (2, vI a2), (3, vI a3)] [] := by
  unfold bX3_typed
  refine g_aload_n 0 dX3_typed_0 rfl ?_
  refine g_getI (ci := 2) (b := 0) (N := 83) 13 rfl rfl rfl (by decide) in_X3 rfl rfl q1145 dX3_typed_1 (fun v1 rv1 => ?_)
  refine g_istore (loc' := [(4, vI v1), (0, vR 0), (1, vI a1), (2, vI a2), (3, vI a3)]) dX3_typed_4 (by decide) rfl ?_
  refine g_iload_n 4 dX3_typed_6 rfl ?_
  refine g_iconst dX3_typed_7 ?_
  refine g_iadd dX3_typed_8 (fun v2 rv2 => ?_)
  refine g_istore (loc' := [(5, vI v2), (4, vI v1), (0, vR 0), (1, vI a1), (2, vI a2), (3, vI a3)]) dX3_typed_9 (by decide) rfl ?_
  refine g_pick [2, 3, 4, 5, 1, 0] rfl (wX3_typed_L11 hd hRf hRl hX3_give hX3_node _ (fun v4 v5 v6 v7 s3 rv4 rv5 rv6 rv7 => ?_) KF a1 a2 a3 v1 v2 u ra1 ra2 ra3 rv1 rv2)
  · refine g_iload_n 3 dX3_typed_88 rfl ?_
    refine g_istore (loc' := [(5, vI v6), (0, vR 0), (1, vI v4), (2, vI v5), (3, vI v6), (4, vI v7)]) dX3_typed_89 (by decide) rfl ?_
    refine g_iload_n 4 dX3_typed_91 rfl ?_
    refine g_istore (loc' := [(6, vI v6), (5, vI v6), (0, vR 0), (1, vI v4), (2, vI v5), (3, vI v6), (4, vI v7)]) dX3_typed_92 (by decide) rfl ?_
    refine g_pick [2, 3, 4, 5, 6, 1, 0] rfl (wX3_typed_L94 hd hRf hRl hX3_give hX3_node _ (fun v9 v10 v11 v12 s8 rv9 rv10 rv11 rv12 => ?_) KF v4 v5 v6 v7 v6 v6 s3 rv4 rv5 rv6 rv7 rv6 rv6)
    · refine g_aload_n 0 dX3_typed_149 rfl ?_
      refine g_iload 4 dX3_typed_150 rfl ?_
      refine g_sIU (ci := 2) (b := 0) (N := 83) FT_ok 13 rfl rfl rfl (by decide) in_X3 tyX3 tyX3_ok nmX3 rfl rfl rfl rfl (by decide +kernel) rv12 q1145 dX3_typed_152 (fun s13 => ?_)
      refine g_aload_n 0 dX3_typed_155 rfl ?_
      refine g_getI (ci := 2) (b := 0) (N := 83) 13 rfl rfl rfl (by decide) in_X3 rfl rfl q1145 dX3_typed_156 (fun v14 rv14 => ?_)
      refine g_istore (loc' := [(6, vI v14), (0, vR 0), (1, vI v9), (2, vI v10), (3, vI v11), (5, vI v12)]) dX3_typed_159 (by decide) rfl ?_
      refine g_aload_n 1 dX3_typed_161 rfl ?_
      refine g_iload_n 2 dX3_typed_162 rfl ?_
      refine g_cVV (As := [vI v9]) (n := 1) (stk := []) (ci := 2) (b := 0) (N := 83) (hX3_give v9 s13) (by decide +kernel) rfl rfl (lw_V q1100 q1102 qs73 q168 q1103) (by decide +kernel) rfl (by decide) hRf hRl (fun _ => (avc rv9 avn)) (Nat.le_of_ble_eq_true rfl) rfl rfl dX3_typed_163 (fun v15 s16 => ?_)
      refine g_aload_n 1 dX3_typed_166 rfl ?_
      refine g_iload_n 3 dX3_typed_167 rfl ?_
      refine g_cVV (As := [vI v10]) (n := 1) (stk := []) (ci := 2) (b := 0) (N := 83) (hX3_give v10 s16) (by decide +kernel) rfl rfl (lw_V q1100 q1102 qs73 q168 q1103) (by decide +kernel) rfl (by decide) hRf hRl (fun _ => (avc rv10 avn)) (Nat.le_of_ble_eq_true rfl) rfl rfl dX3_typed_168 (fun v17 s18 => ?_)
      refine g_iload_n 4 dX3_typed_171 rfl ?_
      refine g_istore (loc' := [(7, vI v11), (6, vI v14), (0, vR 0), (1, vI v9), (2, vI v10), (3, vI v11), (5, vI v12)]) dX3_typed_172 (by decide) rfl ?_
      refine g_pick [2, 5, 6, 1, 0] rfl (wX3_typed_L174 hd hRf hRl hX3_give hX3_node _ (fun v20 v21 s19 rv20 rv21 => ?_) KF v11 v12 v14 v11 s18 rv11 rv12 rv14 rv11)
      · refine g_aload_n 0 dX3_typed_198 rfl ?_
        refine g_bipush (by decide +kernel) dX3_typed_199 ?_
        refine g_iload 2 dX3_typed_201 rfl ?_
        refine g_cVI (As := [vI 7, vI v21]) (n := 2) (stk := []) (ci := 2) (b := 0) (N := 83) (hX3_node 7 v21 s19) (by decide +kernel) rfl rfl (lw_V q1108 q1110 qs74 q168 q1111) (by decide +kernel) rfl (by decide) hRf hRl (fun _ => (avc (by decide : inR (7)) (avc rv21 avn))) (Nat.le_of_ble_eq_true rfl) rfl rfl dX3_typed_203 (fun v22 s23 rv22 => ?_)
        refine g_istore (loc' := [(7, vI v22), (0, vR 0), (3, vI v20), (6, vI v21)]) dX3_typed_206 (by decide) rfl ?_
        refine g_aload_n 1 dX3_typed_208 rfl ?_
        refine g_iload_n 2 dX3_typed_209 rfl ?_
        refine g_sIU (ci := 2) (b := 0) (N := 83) FT_ok 13 rfl rfl rfl (by decide) in_X3 tyX3 tyX3_ok nmX3 rfl rfl rfl rfl (by decide +kernel) rv20 q1145 dX3_typed_210 (fun s24 => ?_)
        refine g_iload 0 dX3_typed_213 rfl ?_
        exact g_iret rfl rfl (fun _ => rv22) dX3_typed_215
end
section
variable {l : Launch} {d : Nat} {call : Nat → List Int → Sg → Option (Int × Sg)}
theorem ctX3_typed (p0 : Program) (e0 : Env) (s0 : State) (m0 : MethodId) (meth0 : Method) (c0 : Code) (G0 : Gm) (hd : 2 ≤ d) (hX3_give : ∀ (a1 : Int) (u : Sg), Ct l d FT clA yX3_give cX3_give 2 none DX3_give rvV [vR 0, vI a1] u (call 3 [a1] u)) (hX3_node : ∀ (a1 a2 : Int) (u : Sg), Ct l d FT clA yX3_node cX3_node 7 (some .int) DX3_node rvI [vR 0, vI a1, vI a2] u (call 5 [a1, a2] u)) (a1 a2 a3 : Int) (u : Sg) : Ct l (d + 1) FT clA yX3_typed cX3_typed 8 (some .int) DX3_typed rvI [vR 0, vI a1, vI a2, vI a3] u (bX3_typed call a1 a2 a3 u) :=
  Ct_of (by decide) (Nat.le_of_ble_eq_true rfl) (fun p e R s1 m args below meth c G A ad hA hRf hRl => wX3_typed hd hRf hRl hX3_give hX3_node a1 a2 a3 u (hA _ (List.mem_cons_of_mem _ List.mem_cons_self)) (hA _ (List.mem_cons_of_mem _ (List.mem_cons_of_mem _ List.mem_cons_self))) (hA _ (List.mem_cons_of_mem _ (List.mem_cons_of_mem _ (List.mem_cons_of_mem _ List.mem_cons_self))))) p0 e0 s0 m0 meth0 c0 G0
end
/-! RoundCheckModel.give(I)V -/
abbrev JX3_give : Jm := (cX3_give, RX3, 2, none)
def bX3_give (call : Nat → List Int → Sg → Option (Int × Sg)) (a1 : Int) (u : Sg) : Option (Int × Sg) := un (gI u 13) fun v1 => mor u 12 v1 fun s2 => un (gI s2 13) fun v3 => ar (v3 + 1) fun v4 => un (sI s2 13 v4) fun s5 => stA s5 12 v3 a1 fun s6 => some (0, s6)
section
variable {p : Program} {l : Launch} {e : Env} {R : Room} {s : State} {m : MethodId} {args : Array Value} {below : List Frame} {meth : Method} {c : Code} {G : Gm} {A : Nat → Prop} {ad0 : Nat → Nat} {σ0 : Sg} {d : Nat} {call : Nat → List Int → Sg → Option (Int × Sg)}
theorem wX3_give (hd : 2 ≤ d) (hRf : d + 1 ≤ R.frames) (hRl : 40 * (d + 1) ≤ R.locals) (a1 : Int) (u : Sg) (ra1 : inR a1) : WG p l e R s m args below meth c JX3_give DX3_give G clA A FT ad0 σ0 rvV (bX3_give call a1 u) u 0 [(0, vR 0), (1, vI a1)] [] := by
  unfold bX3_give
  refine g_aload_n 0 dX3_give_0 rfl ?_
  refine g_aload_n 0 dX3_give_1 rfl ?_
  refine g_get (v := vR 22) (ci := 2) (b := 0) (N := 83) 12 rfl rfl (by decide) in_X3 rfl rfl q1144 dX3_give_2 ?_
  refine g_aload_n 0 dX3_give_5 rfl ?_
  refine g_getI (ci := 2) (b := 0) (N := 83) 13 rfl rfl rfl (by decide) in_X3 rfl rfl q1145 dX3_give_6 (fun v1 rv1 => ?_)
  refine g_more (ci := 2) (b := 0) (N := 83) FT_ok FT_10 rfl 12 9 rfl rfl rfl rfl (by decide) in_X3 tyX3 tyX3_ok nmX3 rfl rfl rfl rfl (by decide +kernel) rv1 q1104 q1144 hRf hRl hd (Nat.le_of_ble_eq_true rfl) rfl rfl dX3_give_9 dX3_give_12 (fun s2 => ?_)
  refine g_aload_n 0 dX3_give_15 rfl ?_
  refine g_get (v := vR 22) (ci := 2) (b := 0) (N := 83) 12 rfl rfl (by decide) in_X3 rfl rfl q1144 dX3_give_16 ?_
  refine g_aload_n 0 dX3_give_19 rfl ?_
  refine g_dup rfl dX3_give_20 ?_
  refine g_getI (ci := 2) (b := 0) (N := 83) 13 rfl rfl rfl (by decide) in_X3 rfl rfl q1145 dX3_give_21 (fun v3 rv3 => ?_)
  refine g_dup_x1 rfl rfl dX3_give_24 ?_
  refine g_iconst dX3_give_25 ?_
  refine g_iadd dX3_give_26 (fun v4 rv4 => ?_)
  refine g_sIU (ci := 2) (b := 0) (N := 83) FT_ok 13 rfl rfl rfl (by decide) in_X3 tyX3 tyX3_ok nmX3 rfl rfl rfl rfl (by decide +kernel) rv4 q1145 dX3_give_27 (fun s5 => ?_)
  refine g_iload_n 1 dX3_give_30 rfl ?_
  refine g_iastU (id := 12) FT_ok 9 rfl rfl (by decide +kernel) ra1 dX3_give_31 (fun s6 => ?_)
  exact g_vret rfl rfl dX3_give_32
end
section
variable {l : Launch} {d : Nat} {call : Nat → List Int → Sg → Option (Int × Sg)}
theorem ctX3_give (p0 : Program) (e0 : Env) (s0 : State) (m0 : MethodId) (meth0 : Method) (c0 : Code) (G0 : Gm) (hd : 2 ≤ d) (a1 : Int) (u : Sg) : Ct l (d + 1) FT clA yX3_give cX3_give 2 none DX3_give rvV [vR 0, vI a1] u (bX3_give call a1 u) :=
  Ct_of (by decide) (Nat.le_of_ble_eq_true rfl) (fun p e R s1 m args below meth c G A ad hA hRf hRl => wX3_give hd hRf hRl a1 u (hA _ (List.mem_cons_of_mem _ List.mem_cons_self))) p0 e0 s0 m0 meth0 c0 G0
end
/-! RoundCheckModel.node(II)I -/
abbrev JX3_node : Jm := (cX3_node, RX3, 7, (some .int))
def bX3_node_L13 (call : Nat → List Int → Sg → Option (Int × Sg)) : Nat → Int → Int → Int → Int → Int → Sg → (Int → Int → Int → Int → Sg → Option (Int × Sg)) → Option (Int × Sg)
  | 0, _, _, _, _, _, _, _ => none
  | n + 1, a1, a2, a3, a4, a5, u, x43 => un (gI u 13) fun v1 => if a5 < v1 then (un (wrap (31 * a4)) fun v2 => ld u 12 a5 fun v3 => un (wrap (v2 + v3)) fun v4 => ar (a5 + 1) fun v5 => bX3_node_L13 call n a1 a2 a3 v4 v5 u x43) else (x43 a1 a2 a3 a4 u)
def bX3_node_L103 (call : Nat → List Int → Sg → Option (Int × Sg)) : Nat → Int → Int → Int → Int → Int → Int → Sg → (Int → Int → Int → Int → Int → Int → Sg → Option (Int × Sg)) → Option (Int × Sg)
  | 0, _, _, _, _, _, _, _, _ => none
  | n + 1, a1, a2, a3, a4, a5, a6, u, x142 => if a6 < a3 then (ld u 2 a5 fun v1 => un (wrap (v1 + a6)) fun v2 => ld u 9 v2 fun v3 => un (wrap (a2 + a6)) fun v4 => ld u 12 v4 fun v5 => if v3 = v5 then (ar (a6 + 1) fun v6 => bX3_node_L103 call n a1 a2 a3 a4 a5 v6 u x142) else (x142 a1 a2 a3 a4 a5 a6 u)) else (x142 a1 a2 a3 a4 a5 a6 u)
def bX3_node_L70 (call : Nat → List Int → Sg → Option (Int × Sg)) : Nat → Int → Int → Int → Int → Int → Sg → (Int → Int → Int → Int → Sg → Option (Int × Sg)) → (Int → Int → Sg → Option (Int × Sg)) → Option (Int × Sg)
  | 0, _, _, _, _, _, _, _, _ => none
  | n + 1, a1, a2, a3, a4, a5, u, x171, x151 => if a5 ≤ 0 then (x171 a1 a2 a3 a4 u) else (jn (fun (a1 a2 a3 a4 a5 : Int) (s2 : Sg) => ld s2 6 a5 fun v3 => bX3_node_L70 call n a1 a2 a3 a4 v3 s2 x171 x151) fun j1 => ld u 1 a5 fun v4 => if v4 = a1 then (ld u 3 a5 fun v5 => if v5 = a3 then (bX3_node_L103 call KF a1 a2 a3 a4 a5 0 u (fun v7 v8 v9 v10 v11 v12 s6 => if v12 < v9 then (j1 v7 v8 v9 v10 v11 s6) else (x151 v8 v11 s6))) else (j1 a1 a2 a3 a4 a5 u)) else (j1 a1 a2 a3 a4 a5 u))
def bX3_node_L339 (call : Nat → List Int → Sg → Option (Int × Sg)) : Nat → Int → Int → Int → Int → Sg → (Int → Int → Int → Sg → Option (Int × Sg)) → Option (Int × Sg)
  | 0, _, _, _, _, _, _ => none
  | n + 1, a2, a3, a4, a5, u, x372 => if a5 < a3 then (un (gI u 10) fun v1 => un (wrap (v1 + a5)) fun v2 => un (wrap (a2 + a5)) fun v3 => ld u 12 v3 fun v4 => stA u 9 v2 v4 fun s5 => ar (a5 + 1) fun v6 => bX3_node_L339 call n a2 a3 a4 v6 s5 x372) else (x372 a2 a3 a4 u)
def bX3_node (call : Nat → List Int → Sg → Option (Int × Sg)) (a1 a2 : Int) (u : Sg) : Option (Int × Sg) := un (gI u 13) fun v1 => ar (v1 - a2) fun v2 => bX3_node_L13 call KF a1 a2 v2 a1 a2 u (fun v4 v5 v6 v7 s3 => un (o_ushr v7 13) fun v8 => un (o_xor v7 v8) fun v9 => un (gL s3 11 : Int) fun v10 => ar (v10 - 1) fun v11 => un (o_and v9 v11) fun v12 => ld s3 11 v12 fun v13 => bX3_node_L70 call KF v4 v5 v6 v12 v13 s3 (fun v15 v16 v17 v18 s14 => un (gI s14 8) fun v19 => un (wrap (v19 + 1)) fun v20 => un (sI s14 8 v20) fun s21 => un (gI s21 8) fun v22 => mor s21 1 v22 fun s23 => un (gI s23 8) fun v24 => mor s23 2 v24 fun s25 => un (gI s25 8) fun v26 => mor s25 3 v26 fun s27 => un (gI s27 8) fun v28 => mor s27 4 v28 fun s29 => un (gI s29 8) fun v30 => mor s29 5 v30 fun s31 => un (gI s31 8) fun v32 => mor s31 6 v32 fun s33 => un (gI s33 8) fun v34 => mor s33 7 v34 fun s35 => un (gI s35 10) fun v36 => un (wrap (v36 + v17)) fun v37 => mor s35 9 v37 fun s38 => un (gI s38 8) fun v39 => stA s38 1 v39 v15 fun s40 => un (gI s40 8) fun v41 => un (gI s40 10) fun v42 => stA s40 2 v41 v42 fun s43 => un (gI s43 8) fun v44 => stA s43 3 v44 v17 fun s45 => bX3_node_L339 call KF v16 v17 v18 0 s45 (fun v47 v48 v49 s46 => un (gI s46 10) fun v50 => un (wrap (v50 + v48)) fun v51 => un (sI s46 10 v51) fun s52 => un (sI s52 13 v47) fun s53 => un (gI s53 8) fun v54 => ld s53 11 v49 fun v55 => stA s53 6 v54 v55 fun s56 => un (gI s56 8) fun v57 => stA s56 7 v57 v49 fun s58 => un (gI s58 8) fun v59 => stA s58 11 v49 v59 fun s60 => un (gI s60 8) fun v61 => cl (call 6 [v61] s60) fun v62 s63 => un (gI s63 8) fun v64 => some (v64, s63))) (fun v66 v67 s65 => un (sI s65 13 v66) fun s68 => some (v67, s68)))
section
variable {p : Program} {l : Launch} {e : Env} {R : Room} {s : State} {m : MethodId} {args : Array Value} {below : List Frame} {meth : Method} {c : Code} {G : Gm} {A : Nat → Prop} {ad0 : Nat → Nat} {σ0 : Sg} {d : Nat} {call : Nat → List Int → Sg → Option (Int × Sg)}
theorem wX3_node_L13 (hd : 2 ≤ d) (hRf : d + 1 ≤ R.frames) (hRl : 40 * (d + 1) ≤ R.locals) (hX3_measure : ∀ (a1 : Int) (u : Sg), Ct l d FT clA yX3_measure cX3_measure 8 none DX3_measure rvV [vR 0, vI a1] u (call 6 [a1] u)) (x43 : Int → Int → Int → Int → Sg → Option (Int × Sg)) (hx43 : ∀ (a1 a2 a3 a4 : Int) (u : Sg), inR a1 → inR a2 → inR a3 → inR a4 → WG p l e R s m args below meth c JX3_node DX3_node G clA A FT ad0 σ0 rvI (x43 a1 a2 a3 a4 u) u 43 [(0, vR 0), (1, vI a1), (2, vI a2), (3, vI a3), (4, vI a4)] []) : ∀ (n : Nat) (a1 a2 a3 a4 a5 : Int) (u : Sg), inR a1 → inR a2 → inR a3 → inR a4 → inR a5 → WG p l e R s m args below meth c JX3_node DX3_node G clA A FT ad0 σ0 rvI (bX3_node_L13 call n a1 a2 a3 a4 a5 u x43) u 13 [(0, vR 0), (1, vI a1), (2, vI a2), (3, vI a3), (4, vI a4), (5, vI a5)] [] := by
  intro n
  induction n with
  | zero =>
    intro a1 a2 a3 a4 a5 u ra1 ra2 ra3 ra4 ra5
    exact g_none
  | succ n ih =>
    intro a1 a2 a3 a4 a5 u ra1 ra2 ra3 ra4 ra5
    rw [bX3_node_L13]
    refine g_iload 5 dX3_node_13 rfl ?_
    refine g_aload_n 0 dX3_node_15 rfl ?_
    refine g_getI (ci := 2) (b := 0) (N := 83) 13 rfl rfl rfl (by decide) in_X3 rfl rfl q1145 dX3_node_16 (fun v1 rv1 => ?_)
    refine g_icmp_ge 43 dX3_node_19 (by decide) (fun _ => ra5) (fun _ => rv1) (fun _ => ?_) (fun _ => ?_)
    · refine g_bipush (by decide +kernel) dX3_node_22 ?_
      refine g_iload 4 dX3_node_24 rfl ?_
      refine g_imulWU dX3_node_26 (fun v2 rv2 => ?_)
      refine g_aload_n 0 dX3_node_27 rfl ?_
      refine g_get (v := vR 22) (ci := 2) (b := 0) (N := 83) 12 rfl rfl (by decide) in_X3 rfl rfl q1144 dX3_node_28 ?_
      refine g_iload 5 dX3_node_31 rfl ?_
      refine g_iald (id := 12) 9 rfl rfl dX3_node_33 (fun v3 rv3 => ?_)
      refine g_iaddWU dX3_node_34 (fun v4 rv4 => ?_)
      refine g_istore (loc' := [(4, vI v4), (0, vR 0), (1, vI a1), (2, vI a2), (3, vI a3), (5, vI a5)]) dX3_node_35 (by decide) rfl ?_
      refine g_iinc 5 (loc' := fun v5 => [(5, vI v5), (4, vI v4), (0, vR 0), (1, vI a1), (2, vI a2), (3, vI a3)]) dX3_node_37 rfl (by decide) (fun _ => rfl) (fun v5 rv5 => ?_)
      refine g_goto 13 dX3_node_40 (by decide) ?_
      exact g_pick [2, 3, 4, 5, 1, 0] rfl (ih a1 a2 a3 v4 v5 u ra1 ra2 ra3 rv4 rv5)
    · exact g_pick [0, 1, 2, 3, 4] rfl (hx43 a1 a2 a3 a4 u ra1 ra2 ra3 ra4)
theorem wX3_node_L103 (hd : 2 ≤ d) (hRf : d + 1 ≤ R.frames) (hRl : 40 * (d + 1) ≤ R.locals) (hX3_measure : ∀ (a1 : Int) (u : Sg), Ct l d FT clA yX3_measure cX3_measure 8 none DX3_measure rvV [vR 0, vI a1] u (call 6 [a1] u)) (x142 : Int → Int → Int → Int → Int → Int → Sg → Option (Int × Sg)) (hx142 : ∀ (a1 a2 a3 a4 a5 a6 : Int) (u : Sg), inR a1 → inR a2 → inR a3 → inR a4 → inR a5 → inR a6 → WG p l e R s m args below meth c JX3_node DX3_node G clA A FT ad0 σ0 rvI (x142 a1 a2 a3 a4 a5 a6 u) u 142 [(0, vR 0), (1, vI a1), (2, vI a2), (3, vI a3), (4, vI a4), (5, vI a5), (6, vI a6)] []) : ∀ (n : Nat) (a1 a2 a3 a4 a5 a6 : Int) (u : Sg), inR a1 → inR a2 → inR a3 → inR a4 → inR a5 → inR a6 → WG p l e R s m args below meth c JX3_node DX3_node G clA A FT ad0 σ0 rvI (bX3_node_L103 call n a1 a2 a3 a4 a5 a6 u x142) u 103 [(0, vR 0), (1, vI a1), (2, vI a2), (3, vI a3), (4, vI a4), (5, vI a5), (6, vI a6)] [] := by
  intro n
  induction n with
  | zero =>
    intro a1 a2 a3 a4 a5 a6 u ra1 ra2 ra3 ra4 ra5 ra6
    exact g_none
  | succ n ih =>
    intro a1 a2 a3 a4 a5 a6 u ra1 ra2 ra3 ra4 ra5 ra6
    rw [bX3_node_L103]
    refine g_iload 6 dX3_node_103 rfl ?_
    refine g_iload_n 3 dX3_node_105 rfl ?_
    refine g_icmp_ge 142 dX3_node_106 (by decide) (fun _ => ra6) (fun _ => ra3) (fun _ => ?_) (fun _ => ?_)
    · refine g_aload_n 0 dX3_node_109 rfl ?_
      refine g_get (v := vR 19) (ci := 2) (b := 0) (N := 83) 9 rfl rfl (by decide) in_X3 rfl rfl q1141 dX3_node_110 ?_
      refine g_aload_n 0 dX3_node_113 rfl ?_
      refine g_get (v := vR 12) (ci := 2) (b := 0) (N := 83) 2 rfl rfl (by decide) in_X3 rfl rfl q1134 dX3_node_114 ?_
      refine g_iload 5 dX3_node_117 rfl ?_
      refine g_iald (id := 2) 1 rfl rfl dX3_node_119 (fun v1 rv1 => ?_)
      refine g_iload 6 dX3_node_120 rfl ?_
      refine g_iaddWU dX3_node_122 (fun v2 rv2 => ?_)
      refine g_iald (id := 9) 7 rfl rfl dX3_node_123 (fun v3 rv3 => ?_)
      refine g_aload_n 0 dX3_node_124 rfl ?_
      refine g_get (v := vR 22) (ci := 2) (b := 0) (N := 83) 12 rfl rfl (by decide) in_X3 rfl rfl q1144 dX3_node_125 ?_
      refine g_iload_n 2 dX3_node_128 rfl ?_
      refine g_iload 6 dX3_node_129 rfl ?_
      refine g_iaddWU dX3_node_131 (fun v4 rv4 => ?_)
      refine g_iald (id := 12) 9 rfl rfl dX3_node_132 (fun v5 rv5 => ?_)
      refine g_icmp_ne 142 dX3_node_133 (by decide) (fun _ => rv3) (fun _ => rv5) (fun _ => ?_) (fun _ => ?_)
      · refine g_iinc 6 (loc' := fun v6 => [(6, vI v6), (0, vR 0), (1, vI a1), (2, vI a2), (3, vI a3), (4, vI a4), (5, vI a5)]) dX3_node_136 rfl (by decide) (fun _ => rfl) (fun v6 rv6 => ?_)
        refine g_goto 103 dX3_node_139 (by decide) ?_
        exact g_pick [1, 2, 3, 4, 5, 6, 0] rfl (ih a1 a2 a3 a4 a5 v6 u ra1 ra2 ra3 ra4 ra5 rv6)
      · exact g_pick [0, 1, 2, 3, 4, 5, 6] rfl (hx142 a1 a2 a3 a4 a5 a6 u ra1 ra2 ra3 ra4 ra5 ra6)
    · exact g_pick [0, 1, 2, 3, 4, 5, 6] rfl (hx142 a1 a2 a3 a4 a5 a6 u ra1 ra2 ra3 ra4 ra5 ra6)
theorem wX3_node_L70 (hd : 2 ≤ d) (hRf : d + 1 ≤ R.frames) (hRl : 40 * (d + 1) ≤ R.locals) (hX3_measure : ∀ (a1 : Int) (u : Sg), Ct l d FT clA yX3_measure cX3_measure 8 none DX3_measure rvV [vR 0, vI a1] u (call 6 [a1] u)) (x171 : Int → Int → Int → Int → Sg → Option (Int × Sg)) (x151 : Int → Int → Sg → Option (Int × Sg)) (hx171 : ∀ (a1 a2 a3 a4 : Int) (u : Sg), inR a1 → inR a2 → inR a3 → inR a4 → WG p l e R s m args below meth c JX3_node DX3_node G clA A FT ad0 σ0 rvI (x171 a1 a2 a3 a4 u) u 171 [(0, vR 0), (1, vI a1), (2, vI a2), (3, vI a3), (4, vI a4)] []) (hx151 : ∀ (a2 a5 : Int) (u : Sg), inR a2 → inR a5 → WG p l e R s m args below meth c JX3_node DX3_node G clA A FT ad0 σ0 rvI (x151 a2 a5 u) u 151 [(0, vR 0), (2, vI a2), (5, vI a5)] []) : ∀ (n : Nat) (a1 a2 a3 a4 a5 : Int) (u : Sg), inR a1 → inR a2 → inR a3 → inR a4 → inR a5 → WG p l e R s m args below meth c JX3_node DX3_node G clA A FT ad0 σ0 rvI (bX3_node_L70 call n a1 a2 a3 a4 a5 u x171 x151) u 70 [(0, vR 0), (1, vI a1), (2, vI a2), (3, vI a3), (4, vI a4), (5, vI a5)] [] := by
  intro n
  induction n with
  | zero =>
    intro a1 a2 a3 a4 a5 u ra1 ra2 ra3 ra4 ra5
    exact g_none
  | succ n ih =>
    intro a1 a2 a3 a4 a5 u ra1 ra2 ra3 ra4 ra5
    rw [bX3_node_L70]
    refine g_iload 5 dX3_node_70 rfl ?_
    refine g_if_le 171 dX3_node_72 (by decide) (fun _ => ra5) (fun _ => ?_) (fun _ => ?_)
    · exact g_pick [0, 1, 2, 3, 4] rfl (hx171 a1 a2 a3 a4 u ra1 ra2 ra3 ra4)
    · refine g_jn (fun j1 => ∀ (a1 a2 a3 a4 a5 : Int) (s2 : Sg), inR a1 → inR a2 → inR a3 → inR a4 → inR a5 → WG p l e R s m args below meth c JX3_node DX3_node G clA A FT ad0 σ0 rvI (j1 a1 a2 a3 a4 a5 s2) s2 159 [(0, vR 0), (1, vI a1), (2, vI a2), (3, vI a3), (4, vI a4), (5, vI a5)] []) (fun a1 a2 a3 a4 a5 s2 ra1 ra2 ra3 ra4 ra5 => ?_) (fun j1 hj1 => ?_)
      · refine g_aload_n 0 dX3_node_159 rfl ?_
        refine g_get (v := vR 16) (ci := 2) (b := 0) (N := 83) 6 rfl rfl (by decide) in_X3 rfl rfl q1138 dX3_node_160 ?_
        refine g_iload 5 dX3_node_163 rfl ?_
        refine g_iald (id := 6) 5 rfl rfl dX3_node_165 (fun v3 rv3 => ?_)
        refine g_istore (loc' := [(5, vI v3), (0, vR 0), (1, vI a1), (2, vI a2), (3, vI a3), (4, vI a4)]) dX3_node_166 (by decide) rfl ?_
        refine g_goto 70 dX3_node_168 (by decide) ?_
        exact g_pick [1, 2, 3, 4, 5, 0] rfl (ih a1 a2 a3 a4 v3 s2 ra1 ra2 ra3 ra4 rv3)
      · refine g_aload_n 0 dX3_node_75 rfl ?_
        refine g_get (v := vR 11) (ci := 2) (b := 0) (N := 83) 1 rfl rfl (by decide) in_X3 rfl rfl q1133 dX3_node_76 ?_
        refine g_iload 5 dX3_node_79 rfl ?_
        refine g_iald (id := 1) 0 rfl rfl dX3_node_81 (fun v4 rv4 => ?_)
        refine g_iload_n 1 dX3_node_82 rfl ?_
        refine g_icmp_ne 159 dX3_node_83 (by decide) (fun _ => rv4) (fun _ => ra1) (fun _ => ?_) (fun _ => ?_)
        · refine g_aload_n 0 dX3_node_86 rfl ?_
          refine g_get (v := vR 13) (ci := 2) (b := 0) (N := 83) 3 rfl rfl (by decide) in_X3 rfl rfl q1135 dX3_node_87 ?_
          refine g_iload 5 dX3_node_90 rfl ?_
          refine g_iald (id := 3) 2 rfl rfl dX3_node_92 (fun v5 rv5 => ?_)
          refine g_iload_n 3 dX3_node_93 rfl ?_
          refine g_icmp_eq 100 dX3_node_94 (by decide) (fun _ => rv5) (fun _ => ra3) (fun _ => ?_) (fun _ => ?_)
          · refine g_iconst dX3_node_100 ?_
            refine g_istore (loc' := [(6, vI 0), (0, vR 0), (1, vI a1), (2, vI a2), (3, vI a3), (4, vI a4), (5, vI a5)]) dX3_node_101 (by decide) rfl ?_
            refine g_pick [1, 2, 3, 4, 5, 6, 0] rfl (wX3_node_L103 hd hRf hRl hX3_measure _ (fun v7 v8 v9 v10 v11 v12 s6 rv7 rv8 rv9 rv10 rv11 rv12 => ?_) KF a1 a2 a3 a4 a5 0 u ra1 ra2 ra3 ra4 ra5 (inR_z (Or.inl rfl)))
            · refine g_iload 6 dX3_node_142 rfl ?_
              refine g_iload_n 3 dX3_node_144 rfl ?_
              refine g_icmp_ge 151 dX3_node_145 (by decide) (fun _ => rv12) (fun _ => rv9) (fun _ => ?_) (fun _ => ?_)
              · refine g_goto 159 dX3_node_148 (by decide) ?_
                exact g_pick [0, 1, 2, 3, 4, 5] rfl (hj1 v7 v8 v9 v10 v11 s6 rv7 rv8 rv9 rv10 rv11)
              · exact g_pick [0, 2, 5] rfl (hx151 v8 v11 s6 rv8 rv11)
          · refine g_goto 159 dX3_node_97 (by decide) ?_
            exact g_pick [0, 1, 2, 3, 4, 5] rfl (hj1 a1 a2 a3 a4 a5 u ra1 ra2 ra3 ra4 ra5)
        · exact g_pick [0, 1, 2, 3, 4, 5] rfl (hj1 a1 a2 a3 a4 a5 u ra1 ra2 ra3 ra4 ra5)
theorem wX3_node_L339 (hd : 2 ≤ d) (hRf : d + 1 ≤ R.frames) (hRl : 40 * (d + 1) ≤ R.locals) (hX3_measure : ∀ (a1 : Int) (u : Sg), Ct l d FT clA yX3_measure cX3_measure 8 none DX3_measure rvV [vR 0, vI a1] u (call 6 [a1] u)) (x372 : Int → Int → Int → Sg → Option (Int × Sg)) (hx372 : ∀ (a2 a3 a4 : Int) (u : Sg), inR a2 → inR a3 → inR a4 → WG p l e R s m args below meth c JX3_node DX3_node G clA A FT ad0 σ0 rvI (x372 a2 a3 a4 u) u 372 [(0, vR 0), (2, vI a2), (3, vI a3), (4, vI a4)] []) : ∀ (n : Nat) (a2 a3 a4 a5 : Int) (u : Sg), inR a2 → inR a3 → inR a4 → inR a5 → WG p l e R s m args below meth c JX3_node DX3_node G clA A FT ad0 σ0 rvI (bX3_node_L339 call n a2 a3 a4 a5 u x372) u 339 [(0, vR 0), (2, vI a2), (3, vI a3), (4, vI a4), (5, vI a5)] [] := by
  intro n
  induction n with
  | zero =>
    intro a2 a3 a4 a5 u ra2 ra3 ra4 ra5
    exact g_none
  | succ n ih =>
    intro a2 a3 a4 a5 u ra2 ra3 ra4 ra5
    rw [bX3_node_L339]
    refine g_iload 4 dX3_node_339 rfl ?_
    refine g_iload_n 2 dX3_node_341 rfl ?_
    refine g_icmp_ge 372 dX3_node_342 (by decide) (fun _ => ra5) (fun _ => ra3) (fun _ => ?_) (fun _ => ?_)
    · refine g_aload_n 0 dX3_node_345 rfl ?_
      refine g_get (v := vR 19) (ci := 2) (b := 0) (N := 83) 9 rfl rfl (by decide) in_X3 rfl rfl q1141 dX3_node_346 ?_
      refine g_aload_n 0 dX3_node_349 rfl ?_
      refine g_getI (ci := 2) (b := 0) (N := 83) 10 rfl rfl rfl (by decide) in_X3 rfl rfl q1142 dX3_node_350 (fun v1 rv1 => ?_)
      refine g_iload 4 dX3_node_353 rfl ?_
      refine g_iaddWU dX3_node_355 (fun v2 rv2 => ?_)
      refine g_aload_n 0 dX3_node_356 rfl ?_
      refine g_get (v := vR 22) (ci := 2) (b := 0) (N := 83) 12 rfl rfl (by decide) in_X3 rfl rfl q1144 dX3_node_357 ?_
      refine g_iload_n 1 dX3_node_360 rfl ?_
      refine g_iload 4 dX3_node_361 rfl ?_
      refine g_iaddWU dX3_node_363 (fun v3 rv3 => ?_)
      refine g_iald (id := 12) 9 rfl rfl dX3_node_364 (fun v4 rv4 => ?_)
      refine g_iastU (id := 9) FT_ok 7 rfl rfl (by decide +kernel) rv4 dX3_node_365 (fun s5 => ?_)
      refine g_iinc 4 (loc' := fun v6 => [(5, vI v6), (0, vR 0), (2, vI a2), (3, vI a3), (4, vI a4)]) dX3_node_366 rfl (by decide) (fun _ => rfl) (fun v6 rv6 => ?_)
      refine g_goto 339 dX3_node_369 (by decide) ?_
      exact g_pick [1, 2, 3, 4, 0] rfl (ih a2 a3 a4 v6 s5 ra2 ra3 ra4 rv6)
    · exact g_pick [0, 1, 2, 3] rfl (hx372 a2 a3 a4 u ra2 ra3 ra4)
theorem wX3_node (hd : 2 ≤ d) (hRf : d + 1 ≤ R.frames) (hRl : 40 * (d + 1) ≤ R.locals) (hX3_measure : ∀ (a1 : Int) (u : Sg), Ct l d FT clA yX3_measure cX3_measure 8 none DX3_measure rvV [vR 0, vI a1] u (call 6 [a1] u)) (a1 a2 : Int) (u : Sg) (ra1 : inR a1) (ra2 : inR a2) : WG p l e R s m args below meth c JX3_node DX3_node G clA A FT ad0 σ0 rvI (bX3_node call a1 a2 u) u 0 [(0, vR 0), (1, vI a1), (2, vI a2)] [] := by
  unfold bX3_node
  refine g_aload_n 0 dX3_node_0 rfl ?_
  refine g_getI (ci := 2) (b := 0) (N := 83) 13 rfl rfl rfl (by decide) in_X3 rfl rfl q1145 dX3_node_1 (fun v1 rv1 => ?_)
  refine g_iload_n 2 dX3_node_4 rfl ?_
  refine g_isub dX3_node_5 (fun v2 rv2 => ?_)
  refine g_istore_n (loc' := [(3, vI v2), (0, vR 0), (1, vI a1), (2, vI a2)]) dX3_node_6 (by decide) rfl ?_
  refine g_iload_n 2 dX3_node_7 rfl ?_
  refine g_istore (loc' := [(4, vI a1), (3, vI v2), (0, vR 0), (1, vI a1), (2, vI a2)]) dX3_node_8 (by decide) rfl ?_
  refine g_iload_n 4 dX3_node_10 rfl ?_
  refine g_istore (loc' := [(5, vI a2), (4, vI a1), (3, vI v2), (0, vR 0), (1, vI a1), (2, vI a2)]) dX3_node_11 (by decide) rfl ?_
  refine g_pick [3, 4, 5, 2, 1, 0] rfl (wX3_node_L13 hd hRf hRl hX3_measure _ (fun v4 v5 v6 v7 s3 rv4 rv5 rv6 rv7 => ?_) KF a1 a2 v2 a1 a2 u ra1 ra2 rv2 ra1 ra2)
  · refine g_iload 4 dX3_node_43 rfl ?_
    refine g_iload 4 dX3_node_45 rfl ?_
    refine g_bipush (by decide +kernel) dX3_node_47 ?_
    refine g_iushrU dX3_node_49 (fun v8 rv8 => ?_)
    refine g_ixorU dX3_node_50 (fun v9 rv9 => ?_)
    refine g_aload_n 0 dX3_node_51 rfl ?_
    refine g_get (v := vR 21) (ci := 2) (b := 0) (N := 83) 11 rfl rfl (by decide) in_X3 rfl rfl q1143 dX3_node_52 ?_
    refine g_alenU (id := 11) 8 rfl (Or.inl rfl) dX3_node_55 (fun v10 rv10 => ?_)
    refine g_iconst dX3_node_56 ?_
    refine g_isub dX3_node_57 (fun v11 rv11 => ?_)
    refine g_iandU dX3_node_58 (fun v12 rv12 => ?_)
    refine g_istore (loc' := [(4, vI v12), (0, vR 0), (1, vI v4), (2, vI v5), (3, vI v6)]) dX3_node_59 (by decide) rfl ?_
    refine g_aload_n 1 dX3_node_61 rfl ?_
    refine g_get (v := vR 21) (ci := 2) (b := 0) (N := 83) 11 rfl rfl (by decide) in_X3 rfl rfl q1143 dX3_node_62 ?_
    refine g_iload 0 dX3_node_65 rfl ?_
    refine g_iald (id := 11) 8 rfl rfl dX3_node_67 (fun v13 rv13 => ?_)
    refine g_istore (loc' := [(5, vI v13), (4, vI v12), (0, vR 0), (1, vI v4), (2, vI v5), (3, vI v6)]) dX3_node_68 (by decide) rfl ?_
    refine g_pick [2, 3, 4, 5, 1, 0] rfl (wX3_node_L70 hd hRf hRl hX3_measure _ _ (fun v15 v16 v17 v18 s14 rv15 rv16 rv17 rv18 => ?_) (fun v66 v67 s65 rv66 rv67 => ?_) KF v4 v5 v6 v12 v13 s3 rv4 rv5 rv6 rv12 rv13)
    · refine g_aload_n 0 dX3_node_171 rfl ?_
      refine g_dup rfl dX3_node_172 ?_
      refine g_getI (ci := 2) (b := 0) (N := 83) 8 rfl rfl rfl (by decide) in_X3 rfl rfl q1140 dX3_node_173 (fun v19 rv19 => ?_)
      refine g_iconst dX3_node_176 ?_
      refine g_iaddWU dX3_node_177 (fun v20 rv20 => ?_)
      refine g_sIU (ci := 2) (b := 0) (N := 83) FT_ok 8 rfl rfl rfl (by decide) in_X3 tyX3 tyX3_ok nmX3 rfl rfl rfl rfl (by decide +kernel) rv20 q1140 dX3_node_178 (fun s21 => ?_)
      refine g_aload_n 0 dX3_node_181 rfl ?_
      refine g_aload_n 0 dX3_node_182 rfl ?_
      refine g_get (v := vR 11) (ci := 2) (b := 0) (N := 83) 1 rfl rfl (by decide) in_X3 rfl rfl q1133 dX3_node_183 ?_
      refine g_aload_n 0 dX3_node_186 rfl ?_
      refine g_getI (ci := 2) (b := 0) (N := 83) 8 rfl rfl rfl (by decide) in_X3 rfl rfl q1140 dX3_node_187 (fun v22 rv22 => ?_)
      refine g_more (ci := 2) (b := 0) (N := 83) FT_ok FT_10 rfl 1 0 rfl rfl rfl rfl (by decide) in_X3 tyX3 tyX3_ok nmX3 rfl rfl rfl rfl (by decide +kernel) rv22 q1104 q1133 hRf hRl hd (Nat.le_of_ble_eq_true rfl) rfl rfl dX3_node_190 dX3_node_193 (fun s23 => ?_)
      refine g_aload_n 0 dX3_node_196 rfl ?_
      refine g_aload_n 0 dX3_node_197 rfl ?_
      refine g_get (v := vR 12) (ci := 2) (b := 0) (N := 83) 2 rfl rfl (by decide) in_X3 rfl rfl q1134 dX3_node_198 ?_
      refine g_aload_n 0 dX3_node_201 rfl ?_
      refine g_getI (ci := 2) (b := 0) (N := 83) 8 rfl rfl rfl (by decide) in_X3 rfl rfl q1140 dX3_node_202 (fun v24 rv24 => ?_)
      refine g_more (ci := 2) (b := 0) (N := 83) FT_ok FT_10 rfl 2 1 rfl rfl rfl rfl (by decide) in_X3 tyX3 tyX3_ok nmX3 rfl rfl rfl rfl (by decide +kernel) rv24 q1104 q1134 hRf hRl hd (Nat.le_of_ble_eq_true rfl) rfl rfl dX3_node_205 dX3_node_208 (fun s25 => ?_)
      refine g_aload_n 0 dX3_node_211 rfl ?_
      refine g_aload_n 0 dX3_node_212 rfl ?_
      refine g_get (v := vR 13) (ci := 2) (b := 0) (N := 83) 3 rfl rfl (by decide) in_X3 rfl rfl q1135 dX3_node_213 ?_
      refine g_aload_n 0 dX3_node_216 rfl ?_
      refine g_getI (ci := 2) (b := 0) (N := 83) 8 rfl rfl rfl (by decide) in_X3 rfl rfl q1140 dX3_node_217 (fun v26 rv26 => ?_)
      refine g_more (ci := 2) (b := 0) (N := 83) FT_ok FT_10 rfl 3 2 rfl rfl rfl rfl (by decide) in_X3 tyX3 tyX3_ok nmX3 rfl rfl rfl rfl (by decide +kernel) rv26 q1104 q1135 hRf hRl hd (Nat.le_of_ble_eq_true rfl) rfl rfl dX3_node_220 dX3_node_223 (fun s27 => ?_)
      refine g_aload_n 0 dX3_node_226 rfl ?_
      refine g_aload_n 0 dX3_node_227 rfl ?_
      refine g_get (v := vR 14) (ci := 2) (b := 0) (N := 83) 4 rfl rfl (by decide) in_X3 rfl rfl q1136 dX3_node_228 ?_
      refine g_aload_n 0 dX3_node_231 rfl ?_
      refine g_getI (ci := 2) (b := 0) (N := 83) 8 rfl rfl rfl (by decide) in_X3 rfl rfl q1140 dX3_node_232 (fun v28 rv28 => ?_)
      refine g_more (ci := 2) (b := 0) (N := 83) FT_ok FT_10 rfl 4 3 rfl rfl rfl rfl (by decide) in_X3 tyX3 tyX3_ok nmX3 rfl rfl rfl rfl (by decide +kernel) rv28 q1104 q1136 hRf hRl hd (Nat.le_of_ble_eq_true rfl) rfl rfl dX3_node_235 dX3_node_238 (fun s29 => ?_)
      refine g_aload_n 0 dX3_node_241 rfl ?_
      refine g_aload_n 0 dX3_node_242 rfl ?_
      refine g_get (v := vR 15) (ci := 2) (b := 0) (N := 83) 5 rfl rfl (by decide) in_X3 rfl rfl q1137 dX3_node_243 ?_
      refine g_aload_n 0 dX3_node_246 rfl ?_
      refine g_getI (ci := 2) (b := 0) (N := 83) 8 rfl rfl rfl (by decide) in_X3 rfl rfl q1140 dX3_node_247 (fun v30 rv30 => ?_)
      refine g_more (ci := 2) (b := 0) (N := 83) FT_ok FT_10 rfl 5 4 rfl rfl rfl rfl (by decide) in_X3 tyX3 tyX3_ok nmX3 rfl rfl rfl rfl (by decide +kernel) rv30 q1104 q1137 hRf hRl hd (Nat.le_of_ble_eq_true rfl) rfl rfl dX3_node_250 dX3_node_253 (fun s31 => ?_)
      refine g_aload_n 0 dX3_node_256 rfl ?_
      refine g_aload_n 0 dX3_node_257 rfl ?_
      refine g_get (v := vR 16) (ci := 2) (b := 0) (N := 83) 6 rfl rfl (by decide) in_X3 rfl rfl q1138 dX3_node_258 ?_
      refine g_aload_n 0 dX3_node_261 rfl ?_
      refine g_getI (ci := 2) (b := 0) (N := 83) 8 rfl rfl rfl (by decide) in_X3 rfl rfl q1140 dX3_node_262 (fun v32 rv32 => ?_)
      refine g_more (ci := 2) (b := 0) (N := 83) FT_ok FT_10 rfl 6 5 rfl rfl rfl rfl (by decide) in_X3 tyX3 tyX3_ok nmX3 rfl rfl rfl rfl (by decide +kernel) rv32 q1104 q1138 hRf hRl hd (Nat.le_of_ble_eq_true rfl) rfl rfl dX3_node_265 dX3_node_268 (fun s33 => ?_)
      refine g_aload_n 0 dX3_node_271 rfl ?_
      refine g_aload_n 0 dX3_node_272 rfl ?_
      refine g_get (v := vR 17) (ci := 2) (b := 0) (N := 83) 7 rfl rfl (by decide) in_X3 rfl rfl q1139 dX3_node_273 ?_
      refine g_aload_n 0 dX3_node_276 rfl ?_
      refine g_getI (ci := 2) (b := 0) (N := 83) 8 rfl rfl rfl (by decide) in_X3 rfl rfl q1140 dX3_node_277 (fun v34 rv34 => ?_)
      refine g_more (ci := 2) (b := 0) (N := 83) FT_ok FT_10 rfl 7 6 rfl rfl rfl rfl (by decide) in_X3 tyX3 tyX3_ok nmX3 rfl rfl rfl rfl (by decide +kernel) rv34 q1104 q1139 hRf hRl hd (Nat.le_of_ble_eq_true rfl) rfl rfl dX3_node_280 dX3_node_283 (fun s35 => ?_)
      refine g_aload_n 0 dX3_node_286 rfl ?_
      refine g_aload_n 0 dX3_node_287 rfl ?_
      refine g_get (v := vR 19) (ci := 2) (b := 0) (N := 83) 9 rfl rfl (by decide) in_X3 rfl rfl q1141 dX3_node_288 ?_
      refine g_aload_n 0 dX3_node_291 rfl ?_
      refine g_getI (ci := 2) (b := 0) (N := 83) 10 rfl rfl rfl (by decide) in_X3 rfl rfl q1142 dX3_node_292 (fun v36 rv36 => ?_)
      refine g_iload_n 3 dX3_node_295 rfl ?_
      refine g_iaddWU dX3_node_296 (fun v37 rv37 => ?_)
      refine g_more (ci := 2) (b := 0) (N := 83) FT_ok FT_10 rfl 9 7 rfl rfl rfl rfl (by decide) in_X3 tyX3 tyX3_ok nmX3 rfl rfl rfl rfl (by decide +kernel) rv37 q1104 q1141 hRf hRl hd (Nat.le_of_ble_eq_true rfl) rfl rfl dX3_node_297 dX3_node_300 (fun s38 => ?_)
      refine g_aload_n 0 dX3_node_303 rfl ?_
      refine g_get (v := vR 11) (ci := 2) (b := 0) (N := 83) 1 rfl rfl (by decide) in_X3 rfl rfl q1133 dX3_node_304 ?_
      refine g_aload_n 0 dX3_node_307 rfl ?_
      refine g_getI (ci := 2) (b := 0) (N := 83) 8 rfl rfl rfl (by decide) in_X3 rfl rfl q1140 dX3_node_308 (fun v39 rv39 => ?_)
      refine g_iload_n 1 dX3_node_311 rfl ?_
      refine g_iastU (id := 1) FT_ok 0 rfl rfl (by decide +kernel) rv15 dX3_node_312 (fun s40 => ?_)
      refine g_aload_n 0 dX3_node_313 rfl ?_
      refine g_get (v := vR 12) (ci := 2) (b := 0) (N := 83) 2 rfl rfl (by decide) in_X3 rfl rfl q1134 dX3_node_314 ?_
      refine g_aload_n 0 dX3_node_317 rfl ?_
      refine g_getI (ci := 2) (b := 0) (N := 83) 8 rfl rfl rfl (by decide) in_X3 rfl rfl q1140 dX3_node_318 (fun v41 rv41 => ?_)
      refine g_aload_n 0 dX3_node_321 rfl ?_
      refine g_getI (ci := 2) (b := 0) (N := 83) 10 rfl rfl rfl (by decide) in_X3 rfl rfl q1142 dX3_node_322 (fun v42 rv42 => ?_)
      refine g_iastU (id := 2) FT_ok 1 rfl rfl (by decide +kernel) rv42 dX3_node_325 (fun s43 => ?_)
      refine g_aload_n 0 dX3_node_326 rfl ?_
      refine g_get (v := vR 13) (ci := 2) (b := 0) (N := 83) 3 rfl rfl (by decide) in_X3 rfl rfl q1135 dX3_node_327 ?_
      refine g_aload_n 0 dX3_node_330 rfl ?_
      refine g_getI (ci := 2) (b := 0) (N := 83) 8 rfl rfl rfl (by decide) in_X3 rfl rfl q1140 dX3_node_331 (fun v44 rv44 => ?_)
      refine g_iload_n 3 dX3_node_334 rfl ?_
      refine g_iastU (id := 3) FT_ok 2 rfl rfl (by decide +kernel) rv17 dX3_node_335 (fun s45 => ?_)
      refine g_iconst dX3_node_336 ?_
      refine g_istore (loc' := [(5, vI 0), (0, vR 0), (1, vI v15), (2, vI v16), (3, vI v17), (4, vI v18)]) dX3_node_337 (by decide) rfl ?_
      refine g_pick [1, 3, 4, 5, 0] rfl (wX3_node_L339 hd hRf hRl hX3_measure _ (fun v47 v48 v49 s46 rv47 rv48 rv49 => ?_) KF v16 v17 v18 0 s45 rv16 rv17 rv18 (inR_z (Or.inl rfl)))
      · refine g_aload_n 0 dX3_node_372 rfl ?_
        refine g_dup rfl dX3_node_373 ?_
        refine g_getI (ci := 2) (b := 0) (N := 83) 10 rfl rfl rfl (by decide) in_X3 rfl rfl q1142 dX3_node_374 (fun v50 rv50 => ?_)
        refine g_iload_n 2 dX3_node_377 rfl ?_
        refine g_iaddWU dX3_node_378 (fun v51 rv51 => ?_)
        refine g_sIU (ci := 2) (b := 0) (N := 83) FT_ok 10 rfl rfl rfl (by decide) in_X3 tyX3 tyX3_ok nmX3 rfl rfl rfl rfl (by decide +kernel) rv51 q1142 dX3_node_379 (fun s52 => ?_)
        refine g_aload_n 0 dX3_node_382 rfl ?_
        refine g_iload_n 1 dX3_node_383 rfl ?_
        refine g_sIU (ci := 2) (b := 0) (N := 83) FT_ok 13 rfl rfl rfl (by decide) in_X3 tyX3 tyX3_ok nmX3 rfl rfl rfl rfl (by decide +kernel) rv47 q1145 dX3_node_384 (fun s53 => ?_)
        refine g_aload_n 0 dX3_node_387 rfl ?_
        refine g_get (v := vR 16) (ci := 2) (b := 0) (N := 83) 6 rfl rfl (by decide) in_X3 rfl rfl q1138 dX3_node_388 ?_
        refine g_aload_n 0 dX3_node_391 rfl ?_
        refine g_getI (ci := 2) (b := 0) (N := 83) 8 rfl rfl rfl (by decide) in_X3 rfl rfl q1140 dX3_node_392 (fun v54 rv54 => ?_)
        refine g_aload_n 0 dX3_node_395 rfl ?_
        refine g_get (v := vR 21) (ci := 2) (b := 0) (N := 83) 11 rfl rfl (by decide) in_X3 rfl rfl q1143 dX3_node_396 ?_
        refine g_iload 3 dX3_node_399 rfl ?_
        refine g_iald (id := 11) 8 rfl rfl dX3_node_401 (fun v55 rv55 => ?_)
        refine g_iastU (id := 6) FT_ok 5 rfl rfl (by decide +kernel) rv55 dX3_node_402 (fun s56 => ?_)
        refine g_aload_n 0 dX3_node_403 rfl ?_
        refine g_get (v := vR 17) (ci := 2) (b := 0) (N := 83) 7 rfl rfl (by decide) in_X3 rfl rfl q1139 dX3_node_404 ?_
        refine g_aload_n 0 dX3_node_407 rfl ?_
        refine g_getI (ci := 2) (b := 0) (N := 83) 8 rfl rfl rfl (by decide) in_X3 rfl rfl q1140 dX3_node_408 (fun v57 rv57 => ?_)
        refine g_iload 3 dX3_node_411 rfl ?_
        refine g_iastU (id := 7) FT_ok 6 rfl rfl (by decide +kernel) rv49 dX3_node_413 (fun s58 => ?_)
        refine g_aload_n 0 dX3_node_414 rfl ?_
        refine g_get (v := vR 21) (ci := 2) (b := 0) (N := 83) 11 rfl rfl (by decide) in_X3 rfl rfl q1143 dX3_node_415 ?_
        refine g_iload 3 dX3_node_418 rfl ?_
        refine g_aload_n 0 dX3_node_420 rfl ?_
        refine g_getI (ci := 2) (b := 0) (N := 83) 8 rfl rfl rfl (by decide) in_X3 rfl rfl q1140 dX3_node_421 (fun v59 rv59 => ?_)
        refine g_iastU (id := 11) FT_ok 8 rfl rfl (by decide +kernel) rv59 dX3_node_424 (fun s60 => ?_)
        refine g_aload_n 0 dX3_node_425 rfl ?_
        refine g_aload_n 0 dX3_node_426 rfl ?_
        refine g_getI (ci := 2) (b := 0) (N := 83) 8 rfl rfl rfl (by decide) in_X3 rfl rfl q1140 dX3_node_427 (fun v61 rv61 => ?_)
        refine g_cVV (As := [vI v61]) (n := 1) (stk := []) (ci := 2) (b := 0) (N := 83) (hX3_measure v61 s60) (by decide +kernel) rfl rfl (lw_V q1112 q1114 qs75 q168 q1115) (by decide +kernel) rfl (by decide) hRf hRl (fun _ => (avc rv61 avn)) (Nat.le_of_ble_eq_true rfl) rfl rfl dX3_node_430 (fun v62 s63 => ?_)
        refine g_aload_n 0 dX3_node_433 rfl ?_
        refine g_getI (ci := 2) (b := 0) (N := 83) 8 rfl rfl rfl (by decide) in_X3 rfl rfl q1140 dX3_node_434 (fun v64 rv64 => ?_)
        exact g_iret rfl rfl (fun _ => rv64) dX3_node_437
    · refine g_aload_n 0 dX3_node_151 rfl ?_
      refine g_iload_n 1 dX3_node_152 rfl ?_
      refine g_sIU (ci := 2) (b := 0) (N := 83) FT_ok 13 rfl rfl rfl (by decide) in_X3 tyX3 tyX3_ok nmX3 rfl rfl rfl rfl (by decide +kernel) rv66 q1145 dX3_node_153 (fun s68 => ?_)
      refine g_iload 2 dX3_node_156 rfl ?_
      exact g_iret rfl rfl (fun _ => rv67) dX3_node_158
end
section
variable {l : Launch} {d : Nat} {call : Nat → List Int → Sg → Option (Int × Sg)}
theorem ctX3_node (p0 : Program) (e0 : Env) (s0 : State) (m0 : MethodId) (meth0 : Method) (c0 : Code) (G0 : Gm) (hd : 2 ≤ d) (hX3_measure : ∀ (a1 : Int) (u : Sg), Ct l d FT clA yX3_measure cX3_measure 8 none DX3_measure rvV [vR 0, vI a1] u (call 6 [a1] u)) (a1 a2 : Int) (u : Sg) : Ct l (d + 1) FT clA yX3_node cX3_node 7 (some .int) DX3_node rvI [vR 0, vI a1, vI a2] u (bX3_node call a1 a2 u) :=
  Ct_of (by decide) (Nat.le_of_ble_eq_true rfl) (fun p e R s1 m args below meth c G A ad hA hRf hRl => wX3_node hd hRf hRl hX3_measure a1 a2 u (hA _ (List.mem_cons_of_mem _ List.mem_cons_self)) (hA _ (List.mem_cons_of_mem _ (List.mem_cons_of_mem _ List.mem_cons_self)))) p0 e0 s0 m0 meth0 c0 G0
end
/-! RoundCheckModel.measure(I)V -/
abbrev JX3_measure : Jm := (cX3_measure, RX3, 8, none)
def bX3_measure_L108 (call : Nat → List Int → Sg → Option (Int × Sg)) : Nat → Int → Int → Int → Int → Int → Sg → (Int → Int → Int → Sg → Option (Int × Sg)) → Option (Int × Sg)
  | 0, _, _, _, _, _, _, _ => none
  | n + 1, a1, a2, a3, a4, a5, u, x190 => ld u 3 a1 fun v1 => if a5 < v1 then (cl (call 7 [a1, a5] u) fun v2 s3 => if v2 = 0 then (ar (a5 + 1) fun v4 => bX3_measure_L108 call n a1 a2 a3 a4 v4 s3 x190) else (jn (fun (a1 a2 a3 a4 a5 t0 t1 : Int) (s6 : Sg) => ar (t0 - t1) fun v7 => if v7 ≤ a4 then (ar (a5 + 1) fun v8 => bX3_measure_L108 call n a1 a2 a3 a4 v8 s6 x190) else (ar (a5 + 1) fun v9 => bX3_measure_L108 call n a1 a2 a3 v7 v9 s6 x190)) fun j5 => jn (fun (a1 a2 a3 a4 a5 t0 : Int) (s11 : Sg) => j5 a1 a2 a3 a4 a5 t0 0 s11) fun j10 => ld s3 4 v2 fun v12 => un (wrap (a3 + v12)) fun v13 => ld s3 5 v2 fun v14 => if a2 = 17 then (if a5 = 1 then (j5 a1 a2 v13 a4 a5 v14 1 s3) else (j10 a1 a2 v13 a4 a5 v14 s3)) else (j10 a1 a2 v13 a4 a5 v14 s3))) else (x190 a1 a3 a4 u)
def bX3_measure (call : Nat → List Int → Sg → Option (Int × Sg)) (a1 : Int) (u : Sg) : Option (Int × Sg) := jn (fun (a1 a3 a4 : Int) (s2 : Sg) => stA s2 4 a1 a3 fun s3 => stA s3 5 a1 a4 fun s4 => some (0, s4)) fun j1 => ld u 1 a1 fun v5 => if v5 = 1 then (cl (call 7 [a1, 0] u) fun v6 s7 => un (wrap (v6 + 1)) fun v8 => j1 a1 1 v8 s7) else (if v5 = 7 then (ld u 3 a1 fun v9 => ar (v9 - 2) fun v10 => un (wrap (1 + v10)) fun v11 => cl (call 7 [a1, 1] u) fun v12 s13 => if v12 ≤ 0 then (j1 a1 v11 0 s13) else (cl (call 7 [a1, 1] s13) fun v14 s15 => gd (keeps [4] s13 s15 = true) (ld s15 4 v14 fun v16 => un (wrap (v11 + v16)) fun v17 => cl (call 7 [a1, 1] s15) fun v18 s19 => gd (keeps [5] s15 s19 = true) (ld s19 5 v18 fun v20 => j1 a1 v17 v20 s19)))) else (if v5 = 2 then (j1 a1 1 0 u) else (if v5 = 3 then (j1 a1 1 0 u) else (if v5 = 8 then (j1 a1 1 0 u) else (cl (call 8 [v5] u) fun v21 s22 => bX3_measure_L108 call KF a1 v5 1 0 v21 s22 (fun v24 v25 v26 s23 => j1 v24 v25 v26 s23))))))
section
variable {p : Program} {l : Launch} {e : Env} {R : Room} {s : State} {m : MethodId} {args : Array Value} {below : List Frame} {meth : Method} {c : Code} {G : Gm} {A : Nat → Prop} {ad0 : Nat → Nat} {σ0 : Sg} {d : Nat} {call : Nat → List Int → Sg → Option (Int × Sg)}
theorem wX3_measure_L108 (hd : 2 ≤ d) (hRf : d + 1 ≤ R.frames) (hRl : 40 * (d + 1) ≤ R.locals) (hX3_get : ∀ (a1 a2 : Int) (u : Sg), Ct l d FT clA yX3_get cX3_get 3 (some .int) DX3_get rvI [vR 0, vI a1, vI a2] u (call 7 [a1, a2] u)) (hX3_first : ∀ (a1 : Int) (u : Sg), Ct l d FT clA yX3_first cX3_first 1 (some .int) DX3_first rvI [vI a1] u (call 8 [a1] u)) (x190 : Int → Int → Int → Sg → Option (Int × Sg)) (hx190 : ∀ (a1 a3 a4 : Int) (u : Sg), inR a1 → inR a3 → inR a4 → WG p l e R s m args below meth c JX3_measure DX3_measure G clA A FT ad0 σ0 rvV (x190 a1 a3 a4 u) u 190 [(0, vR 0), (1, vI a1), (3, vI a3), (4, vI a4)] []) : ∀ (n : Nat) (a1 a2 a3 a4 a5 : Int) (u : Sg), inR a1 → inR a2 → inR a3 → inR a4 → inR a5 → WG p l e R s m args below meth c JX3_measure DX3_measure G clA A FT ad0 σ0 rvV (bX3_measure_L108 call n a1 a2 a3 a4 a5 u x190) u 108 [(0, vR 0), (1, vI a1), (2, vI a2), (3, vI a3), (4, vI a4), (5, vI a5)] [] := by
  intro n
  induction n with
  | zero =>
    intro a1 a2 a3 a4 a5 u ra1 ra2 ra3 ra4 ra5
    exact g_none
  | succ n ih =>
    intro a1 a2 a3 a4 a5 u ra1 ra2 ra3 ra4 ra5
    rw [bX3_measure_L108]
    refine g_iload 5 dX3_measure_108 rfl ?_
    refine g_aload_n 0 dX3_measure_110 rfl ?_
    refine g_get (v := vR 13) (ci := 2) (b := 0) (N := 83) 3 rfl rfl (by decide) in_X3 rfl rfl q1135 dX3_measure_111 ?_
    refine g_iload_n 1 dX3_measure_114 rfl ?_
    refine g_iald (id := 3) 2 rfl rfl dX3_measure_115 (fun v1 rv1 => ?_)
    refine g_icmp_ge 190 dX3_measure_116 (by decide) (fun _ => ra5) (fun _ => rv1) (fun _ => ?_) (fun _ => ?_)
    · refine g_aload_n 0 dX3_measure_119 rfl ?_
      refine g_iload_n 1 dX3_measure_120 rfl ?_
      refine g_iload 5 dX3_measure_121 rfl ?_
      refine g_cVI (As := [vI a1, vI a5]) (n := 2) (stk := []) (ci := 2) (b := 0) (N := 83) (hX3_get a1 a5 u) (by decide +kernel) rfl rfl (lw_V q1116 q1118 qs76 q168 q1119) (by decide +kernel) rfl (by decide) hRf hRl (fun _ => (avc ra1 (avc ra5 avn))) (Nat.le_of_ble_eq_true rfl) rfl rfl dX3_measure_123 (fun v2 s3 rv2 => ?_)
      refine g_istore (loc' := [(6, vI v2), (0, vR 0), (1, vI a1), (2, vI a2), (3, vI a3), (4, vI a4), (5, vI a5)]) dX3_measure_126 (by decide) rfl ?_
      refine g_iload 0 dX3_measure_128 rfl ?_
      refine g_if_ne 136 dX3_measure_130 (by decide) (fun _ => rv2) (fun _ => ?_) (fun _ => ?_)
      · refine g_goto 184 dX3_measure_133 (by decide) ?_
        refine g_iinc 6 (loc' := fun v4 => [(5, vI v4), (6, vI v2), (0, vR 0), (1, vI a1), (2, vI a2), (3, vI a3), (4, vI a4)]) dX3_measure_184 rfl (by decide) (fun _ => rfl) (fun v4 rv4 => ?_)
        refine g_goto 108 dX3_measure_187 (by decide) ?_
        exact g_pick [2, 3, 4, 5, 6, 0] rfl (ih a1 a2 a3 a4 v4 s3 ra1 ra2 ra3 ra4 rv4)
      · refine g_jn (fun j5 => ∀ (a1 a2 a3 a4 a5 t0 t1 : Int) (s6 : Sg), inR a1 → inR a2 → inR a3 → inR a4 → inR a5 → inR t0 → (t1 = 0 ∨ t1 = 1) → WG p l e R s m args below meth c JX3_measure DX3_measure G clA A FT ad0 σ0 rvV (j5 a1 a2 a3 a4 a5 t0 t1 s6) s6 170 [(0, vR 0), (1, vI a1), (2, vI a2), (3, vI a3), (4, vI a4), (5, vI a5)] [vI t1, vI t0]) (fun a1 a2 a3 a4 a5 t0 t1 s6 ra1 ra2 ra3 ra4 ra5 rt0 zt1 => ?_) (fun j5 hj5 => ?_)
        · refine g_isub dX3_measure_170 (fun v7 rv7 => ?_)
          refine g_istore (loc' := [(7, vI v7), (0, vR 0), (1, vI a1), (2, vI a2), (3, vI a3), (4, vI a4), (5, vI a5)]) dX3_measure_171 (by decide) rfl ?_
          refine g_iload 0 dX3_measure_173 rfl ?_
          refine g_iload 5 dX3_measure_175 rfl ?_
          refine g_icmp_le 184 dX3_measure_177 (by decide) (fun _ => rv7) (fun _ => ra4) (fun _ => ?_) (fun _ => ?_)
          · refine g_iinc 6 (loc' := fun v8 => [(5, vI v8), (7, vI v7), (0, vR 0), (1, vI a1), (2, vI a2), (3, vI a3), (4, vI a4)]) dX3_measure_184 rfl (by decide) (fun _ => rfl) (fun v8 rv8 => ?_)
            refine g_goto 108 dX3_measure_187 (by decide) ?_
            exact g_pick [2, 3, 4, 5, 6, 0] rfl (ih a1 a2 a3 a4 v8 s6 ra1 ra2 ra3 ra4 rv8)
          · refine g_iload 0 dX3_measure_180 rfl ?_
            refine g_istore (loc' := [(4, vI v7), (7, vI v7), (0, vR 0), (1, vI a1), (2, vI a2), (3, vI a3), (5, vI a5)]) dX3_measure_182 (by decide) rfl ?_
            refine g_iinc 6 (loc' := fun v9 => [(5, vI v9), (4, vI v7), (7, vI v7), (0, vR 0), (1, vI a1), (2, vI a2), (3, vI a3)]) dX3_measure_184 rfl (by decide) (fun _ => rfl) (fun v9 rv9 => ?_)
            refine g_goto 108 dX3_measure_187 (by decide) ?_
            exact g_pick [3, 4, 5, 6, 1, 0] rfl (ih a1 a2 a3 v7 v9 s6 ra1 ra2 ra3 rv7 rv9)
        · refine g_jn (fun j10 => ∀ (a1 a2 a3 a4 a5 t0 : Int) (s11 : Sg), inR a1 → inR a2 → inR a3 → inR a4 → inR a5 → inR t0 → WG p l e R s m args below meth c JX3_measure DX3_measure G clA A FT ad0 σ0 rvV (j10 a1 a2 a3 a4 a5 t0 s11) s11 169 [(0, vR 0), (1, vI a1), (2, vI a2), (3, vI a3), (4, vI a4), (5, vI a5)] [vI t0]) (fun a1 a2 a3 a4 a5 t0 s11 ra1 ra2 ra3 ra4 ra5 rt0 => ?_) (fun j10 hj10 => ?_)
          · refine g_iconst dX3_measure_169 ?_
            exact g_pick [0, 1, 2, 3, 4, 5] rfl (hj5 a1 a2 a3 a4 a5 t0 0 s11 ra1 ra2 ra3 ra4 ra5 rt0 (Or.inl rfl))
          · refine g_iload_n 4 dX3_measure_136 rfl ?_
            refine g_aload_n 1 dX3_measure_137 rfl ?_
            refine g_get (v := vR 14) (ci := 2) (b := 0) (N := 83) 4 rfl rfl (by decide) in_X3 rfl rfl q1136 dX3_measure_138 ?_
            refine g_iload 0 dX3_measure_141 rfl ?_
            refine g_iald (id := 4) 3 rfl rfl dX3_measure_143 (fun v12 rv12 => ?_)
            refine g_iaddWU dX3_measure_144 (fun v13 rv13 => ?_)
            refine g_istore_n (loc' := [(3, vI v13), (6, vI v2), (0, vR 0), (1, vI a1), (2, vI a2), (4, vI a4), (5, vI a5)]) dX3_measure_145 (by decide) rfl ?_
            refine g_aload_n 2 dX3_measure_146 rfl ?_
            refine g_get (v := vR 15) (ci := 2) (b := 0) (N := 83) 5 rfl rfl (by decide) in_X3 rfl rfl q1137 dX3_measure_147 ?_
            refine g_iload 1 dX3_measure_150 rfl ?_
            refine g_iald (id := 5) 4 rfl rfl dX3_measure_152 (fun v14 rv14 => ?_)
            refine g_iload_n 4 dX3_measure_153 rfl ?_
            refine g_bipush (by decide +kernel) dX3_measure_154 ?_
            refine g_icmp_ne 169 dX3_measure_156 (by decide) (fun _ => ra2) (fun _ => (by decide : inR (17))) (fun _ => ?_) (fun _ => ?_)
            · refine g_iload 6 dX3_measure_159 rfl ?_
              refine g_iconst dX3_measure_161 ?_
              refine g_icmp_ne 169 dX3_measure_162 (by decide) (fun _ => ra5) (fun _ => (inR_z (Or.inr rfl))) (fun _ => ?_) (fun _ => ?_)
              · refine g_iconst dX3_measure_165 ?_
                refine g_goto 170 dX3_measure_166 (by decide) ?_
                exact g_pick [2, 3, 4, 0, 5, 6] rfl (hj5 a1 a2 v13 a4 a5 v14 1 s3 ra1 ra2 rv13 ra4 ra5 rv14 (Or.inr rfl))
              · exact g_pick [2, 3, 4, 0, 5, 6] rfl (hj10 a1 a2 v13 a4 a5 v14 s3 ra1 ra2 rv13 ra4 ra5 rv14)
            · exact g_pick [2, 3, 4, 0, 5, 6] rfl (hj10 a1 a2 v13 a4 a5 v14 s3 ra1 ra2 rv13 ra4 ra5 rv14)
    · exact g_pick [0, 1, 3, 4] rfl (hx190 a1 a3 a4 u ra1 ra3 ra4)
theorem wX3_measure (hd : 2 ≤ d) (hRf : d + 1 ≤ R.frames) (hRl : 40 * (d + 1) ≤ R.locals) (hX3_get : ∀ (a1 a2 : Int) (u : Sg), Ct l d FT clA yX3_get cX3_get 3 (some .int) DX3_get rvI [vR 0, vI a1, vI a2] u (call 7 [a1, a2] u)) (hX3_first : ∀ (a1 : Int) (u : Sg), Ct l d FT clA yX3_first cX3_first 1 (some .int) DX3_first rvI [vI a1] u (call 8 [a1] u)) (a1 : Int) (u : Sg) (ra1 : inR a1) : WG p l e R s m args below meth c JX3_measure DX3_measure G clA A FT ad0 σ0 rvV (bX3_measure call a1 u) u 0 [(0, vR 0), (1, vI a1)] [] := by
  unfold bX3_measure
  refine g_jn (fun j1 => ∀ (a1 a3 a4 : Int) (s2 : Sg), inR a1 → inR a3 → inR a4 → WG p l e R s m args below meth c JX3_measure DX3_measure G clA A FT ad0 σ0 rvV (j1 a1 a3 a4 s2) s2 190 [(0, vR 0), (1, vI a1), (3, vI a3), (4, vI a4)] []) (fun a1 a3 a4 s2 ra1 ra3 ra4 => ?_) (fun j1 hj1 => ?_)
  · refine g_aload_n 0 dX3_measure_190 rfl ?_
    refine g_get (v := vR 14) (ci := 2) (b := 0) (N := 83) 4 rfl rfl (by decide) in_X3 rfl rfl q1136 dX3_measure_191 ?_
    refine g_iload_n 1 dX3_measure_194 rfl ?_
    refine g_iload_n 2 dX3_measure_195 rfl ?_
    refine g_iastU (id := 4) FT_ok 3 rfl rfl (by decide +kernel) ra3 dX3_measure_196 (fun s3 => ?_)
    refine g_aload_n 0 dX3_measure_197 rfl ?_
    refine g_get (v := vR 15) (ci := 2) (b := 0) (N := 83) 5 rfl rfl (by decide) in_X3 rfl rfl q1137 dX3_measure_198 ?_
    refine g_iload_n 1 dX3_measure_201 rfl ?_
    refine g_iload 3 dX3_measure_202 rfl ?_
    refine g_iastU (id := 5) FT_ok 4 rfl rfl (by decide +kernel) ra4 dX3_measure_204 (fun s4 => ?_)
    exact g_vret rfl rfl dX3_measure_205
  · refine g_aload_n 0 dX3_measure_0 rfl ?_
    refine g_get (v := vR 11) (ci := 2) (b := 0) (N := 83) 1 rfl rfl (by decide) in_X3 rfl rfl q1133 dX3_measure_1 ?_
    refine g_iload_n 1 dX3_measure_4 rfl ?_
    refine g_iald (id := 1) 0 rfl rfl dX3_measure_5 (fun v5 rv5 => ?_)
    refine g_istore_n (loc' := [(2, vI v5), (0, vR 0), (1, vI a1)]) dX3_measure_6 (by decide) rfl ?_
    refine g_iconst dX3_measure_7 ?_
    refine g_istore_n (loc' := [(3, vI 1), (2, vI v5), (0, vR 0), (1, vI a1)]) dX3_measure_8 (by decide) rfl ?_
    refine g_iconst dX3_measure_9 ?_
    refine g_istore (loc' := [(4, vI 0), (3, vI 1), (2, vI v5), (0, vR 0), (1, vI a1)]) dX3_measure_10 (by decide) rfl ?_
    refine g_iload_n 2 dX3_measure_12 rfl ?_
    refine g_iconst dX3_measure_13 ?_
    refine g_icmp_ne 30 dX3_measure_14 (by decide) (fun _ => rv5) (fun _ => (inR_z (Or.inr rfl))) (fun _ => ?_) (fun _ => ?_)
    · refine g_aload_n 3 dX3_measure_17 rfl ?_
      refine g_iload_n 4 dX3_measure_18 rfl ?_
      refine g_iconst dX3_measure_19 ?_
      refine g_cVI (As := [vI a1, vI 0]) (n := 2) (stk := []) (ci := 2) (b := 0) (N := 83) (hX3_get a1 0 u) (by decide +kernel) rfl rfl (lw_V q1116 q1118 qs76 q168 q1119) (by decide +kernel) rfl (by decide) hRf hRl (fun _ => (avc ra1 (avc (inR_z (Or.inl rfl)) avn))) (Nat.le_of_ble_eq_true rfl) rfl rfl dX3_measure_20 (fun v6 s7 rv6 => ?_)
      refine g_iconst dX3_measure_23 ?_
      refine g_iaddWU dX3_measure_24 (fun v8 rv8 => ?_)
      refine g_istore (loc' := [(4, vI v8), (3, vI 1), (2, vI v5), (0, vR 0), (1, vI a1)]) dX3_measure_25 (by decide) rfl ?_
      refine g_goto 190 dX3_measure_27 (by decide) ?_
      exact g_pick [3, 4, 1, 0] rfl (hj1 a1 1 v8 s7 ra1 (inR_z (Or.inr rfl)) rv8)
    · refine g_iload_n 2 dX3_measure_30 rfl ?_
      refine g_bipush (by decide +kernel) dX3_measure_31 ?_
      refine g_icmp_ne 86 dX3_measure_33 (by decide) (fun _ => rv5) (fun _ => (by decide : inR (7))) (fun _ => ?_) (fun _ => ?_)
      · refine g_iload_n 1 dX3_measure_36 rfl ?_
        refine g_aload_n 3 dX3_measure_37 rfl ?_
        refine g_get (v := vR 13) (ci := 2) (b := 0) (N := 83) 3 rfl rfl (by decide) in_X3 rfl rfl q1135 dX3_measure_38 ?_
        refine g_iload_n 4 dX3_measure_41 rfl ?_
        refine g_iald (id := 3) 2 rfl rfl dX3_measure_42 (fun v9 rv9 => ?_)
        refine g_iconst dX3_measure_43 ?_
        refine g_isub dX3_measure_44 (fun v10 rv10 => ?_)
        refine g_iaddWU dX3_measure_45 (fun v11 rv11 => ?_)
        refine g_istore_n (loc' := [(3, vI v11), (4, vI 0), (2, vI v5), (0, vR 0), (1, vI a1)]) dX3_measure_46 (by decide) rfl ?_
        refine g_aload_n 3 dX3_measure_47 rfl ?_
        refine g_iload_n 4 dX3_measure_48 rfl ?_
        refine g_iconst dX3_measure_49 ?_
        refine g_cVI (As := [vI a1, vI 1]) (n := 2) (stk := []) (ci := 2) (b := 0) (N := 83) (hX3_get a1 1 u) (by decide +kernel) rfl rfl (lw_V q1116 q1118 qs76 q168 q1119) (by decide +kernel) rfl (by decide) hRf hRl (fun _ => (avc ra1 (avc (inR_z (Or.inr rfl)) avn))) (Nat.le_of_ble_eq_true rfl) rfl rfl dX3_measure_50 (fun v12 s13 rv12 => ?_)
        refine g_if_le 190 dX3_measure_53 (by decide) (fun _ => rv12) (fun _ => ?_) (fun _ => ?_)
        · exact g_pick [3, 4, 0, 1] rfl (hj1 a1 v11 0 s13 ra1 rv11 (inR_z (Or.inl rfl)))
        · refine g_iload_n 0 dX3_measure_56 rfl ?_
          refine g_aload_n 3 dX3_measure_57 rfl ?_
          refine g_get (v := vR 14) (ci := 2) (b := 0) (N := 83) 4 rfl rfl (by decide) in_X3 rfl rfl q1136 dX3_measure_58 ?_
          refine g_aload_n 3 dX3_measure_61 rfl ?_
          refine g_iload_n 4 dX3_measure_62 rfl ?_
          refine g_iconst dX3_measure_63 ?_
          refine g_cVIk [4] (As := [vI a1, vI 1]) (n := 2) (stk := [vR 14, vI v11]) (ci := 2) (b := 0) (N := 83) (hX3_get a1 1 s13) (by decide +kernel) rfl rfl (lw_V q1116 q1118 qs76 q168 q1119) (by decide +kernel) rfl (by decide) hRf hRl (fun _ => (avc ra1 (avc (inR_z (Or.inr rfl)) avn))) (Nat.le_of_ble_eq_true rfl) rfl rfl dX3_measure_64 (fun v14 s15 rv14 => ?_)
          refine g_iald (id := 4) 3 rfl rfl dX3_measure_67 (fun v16 rv16 => ?_)
          refine g_iaddWU dX3_measure_68 (fun v17 rv17 => ?_)
          refine g_istore_n (loc' := [(3, vI v17), (4, vI 0), (2, vI v5), (0, vR 0), (1, vI a1)]) dX3_measure_69 (by decide) rfl ?_
          refine g_aload_n 3 dX3_measure_70 rfl ?_
          refine g_get (v := vR 15) (ci := 2) (b := 0) (N := 83) 5 rfl rfl (by decide) in_X3 rfl rfl q1137 dX3_measure_71 ?_
          refine g_aload_n 3 dX3_measure_74 rfl ?_
          refine g_iload_n 4 dX3_measure_75 rfl ?_
          refine g_iconst dX3_measure_76 ?_
          refine g_cVIk [5] (As := [vI a1, vI 1]) (n := 2) (stk := [vR 15]) (ci := 2) (b := 0) (N := 83) (hX3_get a1 1 s15) (by decide +kernel) rfl rfl (lw_V q1116 q1118 qs76 q168 q1119) (by decide +kernel) rfl (by decide) hRf hRl (fun _ => (avc ra1 (avc (inR_z (Or.inr rfl)) avn))) (Nat.le_of_ble_eq_true rfl) rfl rfl dX3_measure_77 (fun v18 s19 rv18 => ?_)
          refine g_iald (id := 5) 4 rfl rfl dX3_measure_80 (fun v20 rv20 => ?_)
          refine g_istore (loc' := [(4, vI v20), (3, vI v17), (2, vI v5), (0, vR 0), (1, vI a1)]) dX3_measure_81 (by decide) rfl ?_
          refine g_goto 190 dX3_measure_83 (by decide) ?_
          exact g_pick [3, 4, 1, 0] rfl (hj1 a1 v17 v20 s19 ra1 rv17 rv20)
      · refine g_iload_n 2 dX3_measure_86 rfl ?_
        refine g_iconst dX3_measure_87 ?_
        refine g_icmp_eq 190 dX3_measure_88 (by decide) (fun _ => rv5) (fun _ => (by decide : inR (2))) (fun _ => ?_) (fun _ => ?_)
        · exact g_pick [3, 4, 1, 0] rfl (hj1 a1 1 0 u ra1 (inR_z (Or.inr rfl)) (inR_z (Or.inl rfl)))
        · refine g_iload_n 2 dX3_measure_91 rfl ?_
          refine g_iconst dX3_measure_92 ?_
          refine g_icmp_eq 190 dX3_measure_93 (by decide) (fun _ => rv5) (fun _ => (by decide : inR (3))) (fun _ => ?_) (fun _ => ?_)
          · exact g_pick [3, 4, 1, 0] rfl (hj1 a1 1 0 u ra1 (inR_z (Or.inr rfl)) (inR_z (Or.inl rfl)))
          · refine g_iload_n 2 dX3_measure_96 rfl ?_
            refine g_bipush (by decide +kernel) dX3_measure_97 ?_
            refine g_icmp_eq 190 dX3_measure_99 (by decide) (fun _ => rv5) (fun _ => (by decide : inR (8))) (fun _ => ?_) (fun _ => ?_)
            · exact g_pick [3, 4, 1, 0] rfl (hj1 a1 1 0 u ra1 (inR_z (Or.inr rfl)) (inR_z (Or.inl rfl)))
            · refine g_iload_n 2 dX3_measure_102 rfl ?_
              refine g_cSI (As := [vI v5]) (n := 1) (stk := []) (hX3_first v5 u) (by decide +kernel) (lw_S q1120 q1121 q168 q1122) (by decide +kernel) rfl (by decide) hRf hRl (fun _ => (avc rv5 avn)) (Nat.le_of_ble_eq_true rfl) rfl rfl dX3_measure_103 (fun v21 s22 rv21 => ?_)
              refine g_istore (loc' := [(5, vI v21), (4, vI 0), (3, vI 1), (2, vI v5), (0, vR 0), (1, vI a1)]) dX3_measure_106 (by decide) rfl ?_
              refine g_pick [4, 5, 3, 2, 1, 0] rfl (wX3_measure_L108 hd hRf hRl hX3_get hX3_first _ (fun v24 v25 v26 s23 rv24 rv25 rv26 => ?_) KF a1 v5 1 0 v21 s22 ra1 rv5 (inR_z (Or.inr rfl)) (inR_z (Or.inl rfl)) rv21)
              · exact g_pick [0, 1, 2, 3] rfl (hj1 v24 v25 v26 s23 rv24 rv25 rv26)
end
section
variable {l : Launch} {d : Nat} {call : Nat → List Int → Sg → Option (Int × Sg)}
theorem ctX3_measure (p0 : Program) (e0 : Env) (s0 : State) (m0 : MethodId) (meth0 : Method) (c0 : Code) (G0 : Gm) (hd : 2 ≤ d) (hX3_get : ∀ (a1 a2 : Int) (u : Sg), Ct l d FT clA yX3_get cX3_get 3 (some .int) DX3_get rvI [vR 0, vI a1, vI a2] u (call 7 [a1, a2] u)) (hX3_first : ∀ (a1 : Int) (u : Sg), Ct l d FT clA yX3_first cX3_first 1 (some .int) DX3_first rvI [vI a1] u (call 8 [a1] u)) (a1 : Int) (u : Sg) : Ct l (d + 1) FT clA yX3_measure cX3_measure 8 none DX3_measure rvV [vR 0, vI a1] u (bX3_measure call a1 u) :=
  Ct_of (by decide) (Nat.le_of_ble_eq_true rfl) (fun p e R s1 m args below meth c G A ad hA hRf hRl => wX3_measure hd hRf hRl hX3_get hX3_first a1 u (hA _ (List.mem_cons_of_mem _ List.mem_cons_self))) p0 e0 s0 m0 meth0 c0 G0
end
/-! RoundCheckModel.get(II)I -/
abbrev JX3_get : Jm := (cX3_get, RX3, 3, (some .int))
def bX3_get (call : Nat → List Int → Sg → Option (Int × Sg)) (a1 a2 : Int) (u : Sg) : Option (Int × Sg) := ld u 2 a1 fun v1 => ar (v1 + a2) fun v2 => ld u 9 v2 fun v3 => some (v3, u)
section
variable {p : Program} {l : Launch} {e : Env} {R : Room} {s : State} {m : MethodId} {args : Array Value} {below : List Frame} {meth : Method} {c : Code} {G : Gm} {A : Nat → Prop} {ad0 : Nat → Nat} {σ0 : Sg} {d : Nat} {call : Nat → List Int → Sg → Option (Int × Sg)}
theorem wX3_get (hd : 2 ≤ d) (hRf : d + 1 ≤ R.frames) (hRl : 40 * (d + 1) ≤ R.locals) (a1 a2 : Int) (u : Sg) (ra1 : inR a1) (ra2 : inR a2) : WG p l e R s m args below meth c JX3_get DX3_get G clA A FT ad0 σ0 rvI (bX3_get call a1 a2 u) u 0 [(0, vR 0), (1, vI a1), (2, vI a2)] [] := by
  unfold bX3_get
  refine g_aload_n 0 dX3_get_0 rfl ?_
  refine g_get (v := vR 19) (ci := 2) (b := 0) (N := 83) 9 rfl rfl (by decide) in_X3 rfl rfl q1141 dX3_get_1 ?_
  refine g_aload_n 0 dX3_get_4 rfl ?_
  refine g_get (v := vR 12) (ci := 2) (b := 0) (N := 83) 2 rfl rfl (by decide) in_X3 rfl rfl q1134 dX3_get_5 ?_
  refine g_iload_n 1 dX3_get_8 rfl ?_
  refine g_iald (id := 2) 1 rfl rfl dX3_get_9 (fun v1 rv1 => ?_)
  refine g_iload_n 2 dX3_get_10 rfl ?_
  refine g_iadd dX3_get_11 (fun v2 rv2 => ?_)
  refine g_iald (id := 9) 7 rfl rfl dX3_get_12 (fun v3 rv3 => ?_)
  exact g_iret rfl rfl (fun _ => rv3) dX3_get_13
end
section
variable {l : Launch} {d : Nat} {call : Nat → List Int → Sg → Option (Int × Sg)}
theorem ctX3_get (p0 : Program) (e0 : Env) (s0 : State) (m0 : MethodId) (meth0 : Method) (c0 : Code) (G0 : Gm) (hd : 2 ≤ d) (a1 a2 : Int) (u : Sg) : Ct l (d + 1) FT clA yX3_get cX3_get 3 (some .int) DX3_get rvI [vR 0, vI a1, vI a2] u (bX3_get call a1 a2 u) :=
  Ct_of (by decide) (Nat.le_of_ble_eq_true rfl) (fun p e R s1 m args below meth c G A ad hA hRf hRl => wX3_get hd hRf hRl a1 a2 u (hA _ (List.mem_cons_of_mem _ List.mem_cons_self)) (hA _ (List.mem_cons_of_mem _ (List.mem_cons_of_mem _ List.mem_cons_self)))) p0 e0 s0 m0 meth0 c0 G0
end
/-! RoundCheckModel.first(I)I -/
abbrev JX3_first : Jm := (cX3_first, RX3, 1, (some .int))
def bX3_first (call : Nat → List Int → Sg → Option (Int × Sg)) (a0 : Int) (u : Sg) : Option (Int × Sg) := jn (fun (s2 : Sg) => some (1, s2)) fun j1 => if a0 = 4 then (j1 u) else (if a0 = 6 then (j1 u) else (if a0 = 11 then (j1 u) else (if a0 = 14 then (j1 u) else (if a0 = 12 then (j1 u) else (if a0 = 13 then (j1 u) else (if a0 = 7 then (j1 u) else (some (0, u))))))))
section
variable {p : Program} {l : Launch} {e : Env} {R : Room} {s : State} {m : MethodId} {args : Array Value} {below : List Frame} {meth : Method} {c : Code} {G : Gm} {A : Nat → Prop} {ad0 : Nat → Nat} {σ0 : Sg} {d : Nat} {call : Nat → List Int → Sg → Option (Int × Sg)}
theorem wX3_first (hd : 2 ≤ d) (hRf : d + 1 ≤ R.frames) (hRl : 40 * (d + 1) ≤ R.locals) (a0 : Int) (u : Sg) (ra0 : inR a0) : WG p l e R s m args below meth c JX3_first DX3_first G clA A FT ad0 σ0 rvI (bX3_first call a0 u) u 0 [(0, vI a0)] [] := by
  unfold bX3_first
  refine g_jn (fun j1 => ∀ (s2 : Sg), WG p l e R s m args below meth c JX3_first DX3_first G clA A FT ad0 σ0 rvI (j1 s2) s2 41 [] []) (fun s2 => ?_) (fun j1 hj1 => ?_)
  · refine g_iconst dX3_first_41 ?_
    refine g_goto 46 dX3_first_42 (by decide) ?_
    exact g_iret rfl rfl (fun _ => (inR_z (Or.inr rfl))) dX3_first_46
  · refine g_iload_n 0 dX3_first_0 rfl ?_
    refine g_iconst dX3_first_1 ?_
    refine g_icmp_eq 41 dX3_first_2 (by decide) (fun _ => ra0) (fun _ => (by decide : inR (4))) (fun _ => ?_) (fun _ => ?_)
    · exact g_pick [] rfl (hj1 u)
    · refine g_iload_n 0 dX3_first_5 rfl ?_
      refine g_bipush (by decide +kernel) dX3_first_6 ?_
      refine g_icmp_eq 41 dX3_first_8 (by decide) (fun _ => ra0) (fun _ => (by decide : inR (6))) (fun _ => ?_) (fun _ => ?_)
      · exact g_pick [] rfl (hj1 u)
      · refine g_iload_n 0 dX3_first_11 rfl ?_
        refine g_bipush (by decide +kernel) dX3_first_12 ?_
        refine g_icmp_eq 41 dX3_first_14 (by decide) (fun _ => ra0) (fun _ => (by decide : inR (11))) (fun _ => ?_) (fun _ => ?_)
        · exact g_pick [] rfl (hj1 u)
        · refine g_iload_n 0 dX3_first_17 rfl ?_
          refine g_bipush (by decide +kernel) dX3_first_18 ?_
          refine g_icmp_eq 41 dX3_first_20 (by decide) (fun _ => ra0) (fun _ => (by decide : inR (14))) (fun _ => ?_) (fun _ => ?_)
          · exact g_pick [] rfl (hj1 u)
          · refine g_iload_n 0 dX3_first_23 rfl ?_
            refine g_bipush (by decide +kernel) dX3_first_24 ?_
            refine g_icmp_eq 41 dX3_first_26 (by decide) (fun _ => ra0) (fun _ => (by decide : inR (12))) (fun _ => ?_) (fun _ => ?_)
            · exact g_pick [] rfl (hj1 u)
            · refine g_iload_n 0 dX3_first_29 rfl ?_
              refine g_bipush (by decide +kernel) dX3_first_30 ?_
              refine g_icmp_eq 41 dX3_first_32 (by decide) (fun _ => ra0) (fun _ => (by decide : inR (13))) (fun _ => ?_) (fun _ => ?_)
              · exact g_pick [] rfl (hj1 u)
              · refine g_iload_n 0 dX3_first_35 rfl ?_
                refine g_bipush (by decide +kernel) dX3_first_36 ?_
                refine g_icmp_ne 45 dX3_first_38 (by decide) (fun _ => ra0) (fun _ => (by decide : inR (7))) (fun _ => ?_) (fun _ => ?_)
                · exact g_pick [] rfl (hj1 u)
                · refine g_iconst dX3_first_45 ?_
                  exact g_iret rfl rfl (fun _ => (inR_z (Or.inl rfl))) dX3_first_46
end
section
variable {l : Launch} {d : Nat} {call : Nat → List Int → Sg → Option (Int × Sg)}
theorem ctX3_first (p0 : Program) (e0 : Env) (s0 : State) (m0 : MethodId) (meth0 : Method) (c0 : Code) (G0 : Gm) (hd : 2 ≤ d) (a0 : Int) (u : Sg) : Ct l (d + 1) FT clA yX3_first cX3_first 1 (some .int) DX3_first rvI [vI a0] u (bX3_first call a0 u) :=
  Ct_of (by decide) (Nat.le_of_ble_eq_true rfl) (fun p e R s1 m args below meth c G A ad hA hRf hRl => wX3_first hd hRf hRl a0 u (hA _ List.mem_cons_self)) p0 e0 s0 m0 meth0 c0 G0
end
/-! RoundCheckModel.fresh(II)I -/
abbrev JX3_fresh : Jm := (cX3_fresh, RX3, 3, (some .int))
def bX3_fresh (call : Nat → List Int → Sg → Option (Int × Sg)) (a1 a2 : Int) (u : Sg) : Option (Int × Sg) := cl (call 10 [] u) fun v1 s2 => un (gI s2 19) fun v3 => mor s2 17 v3 fun s4 => un (gI s4 19) fun v5 => mor s4 18 v5 fun s6 => un (gI s6 19) fun v7 => stA s6 17 v7 a1 fun s8 => un (gI s8 19) fun v9 => stA s8 18 v9 a2 fun s10 => un (gI s10 19) fun v11 => ar (v11 + 1) fun v12 => un (sI s10 19 v12) fun s13 => some (v11, s13)
section
variable {p : Program} {l : Launch} {e : Env} {R : Room} {s : State} {m : MethodId} {args : Array Value} {below : List Frame} {meth : Method} {c : Code} {G : Gm} {A : Nat → Prop} {ad0 : Nat → Nat} {σ0 : Sg} {d : Nat} {call : Nat → List Int → Sg → Option (Int × Sg)}
theorem wX3_fresh (hd : 2 ≤ d) (hRf : d + 1 ≤ R.frames) (hRl : 40 * (d + 1) ≤ R.locals) (hX3_anew : ∀ (u : Sg), Ct l d FT clA yX3_anew cX3_anew 2 none DX3_anew rvV [vR 0] u (call 10 [] u)) (a1 a2 : Int) (u : Sg) (ra1 : inR a1) (ra2 : inR a2) : WG p l e R s m args below meth c JX3_fresh DX3_fresh G clA A FT ad0 σ0 rvI (bX3_fresh call a1 a2 u) u 0 [(0, vR 0), (1, vI a1), (2, vI a2)] [] := by
  unfold bX3_fresh
  refine g_aload_n 0 dX3_fresh_0 rfl ?_
  refine g_cVV (As := []) (n := 0) (stk := []) (ci := 2) (b := 0) (N := 83) (hX3_anew  u) (by decide +kernel) rfl rfl (lw_V q1127 q1129 qs78 q168 q1130) (by decide +kernel) rfl (by decide) hRf hRl (fun _ => avn) (Nat.le_of_ble_eq_true rfl) rfl rfl dX3_fresh_1 (fun v1 s2 => ?_)
  refine g_aload_n 0 dX3_fresh_4 rfl ?_
  refine g_aload_n 0 dX3_fresh_5 rfl ?_
  refine g_get (v := vR 27) (ci := 2) (b := 0) (N := 83) 17 rfl rfl (by decide) in_X3 rfl rfl q1149 dX3_fresh_6 ?_
  refine g_aload_n 0 dX3_fresh_9 rfl ?_
  refine g_getI (ci := 2) (b := 0) (N := 83) 19 rfl rfl rfl (by decide) in_X3 rfl rfl q1151 dX3_fresh_10 (fun v3 rv3 => ?_)
  refine g_more (ci := 2) (b := 0) (N := 83) FT_ok FT_10 rfl 17 12 rfl rfl rfl rfl (by decide) in_X3 tyX3 tyX3_ok nmX3 rfl rfl rfl rfl (by decide +kernel) rv3 q1104 q1149 hRf hRl hd (Nat.le_of_ble_eq_true rfl) rfl rfl dX3_fresh_13 dX3_fresh_16 (fun s4 => ?_)
  refine g_aload_n 0 dX3_fresh_19 rfl ?_
  refine g_aload_n 0 dX3_fresh_20 rfl ?_
  refine g_get (v := vR 28) (ci := 2) (b := 0) (N := 83) 18 rfl rfl (by decide) in_X3 rfl rfl q1150 dX3_fresh_21 ?_
  refine g_aload_n 0 dX3_fresh_24 rfl ?_
  refine g_getI (ci := 2) (b := 0) (N := 83) 19 rfl rfl rfl (by decide) in_X3 rfl rfl q1151 dX3_fresh_25 (fun v5 rv5 => ?_)
  refine g_more (ci := 2) (b := 0) (N := 83) FT_ok FT_10 rfl 18 13 rfl rfl rfl rfl (by decide) in_X3 tyX3 tyX3_ok nmX3 rfl rfl rfl rfl (by decide +kernel) rv5 q1104 q1150 hRf hRl hd (Nat.le_of_ble_eq_true rfl) rfl rfl dX3_fresh_28 dX3_fresh_31 (fun s6 => ?_)
  refine g_aload_n 0 dX3_fresh_34 rfl ?_
  refine g_get (v := vR 27) (ci := 2) (b := 0) (N := 83) 17 rfl rfl (by decide) in_X3 rfl rfl q1149 dX3_fresh_35 ?_
  refine g_aload_n 0 dX3_fresh_38 rfl ?_
  refine g_getI (ci := 2) (b := 0) (N := 83) 19 rfl rfl rfl (by decide) in_X3 rfl rfl q1151 dX3_fresh_39 (fun v7 rv7 => ?_)
  refine g_iload_n 1 dX3_fresh_42 rfl ?_
  refine g_iastU (id := 17) FT_ok 12 rfl rfl (by decide +kernel) ra1 dX3_fresh_43 (fun s8 => ?_)
  refine g_aload_n 0 dX3_fresh_44 rfl ?_
  refine g_get (v := vR 28) (ci := 2) (b := 0) (N := 83) 18 rfl rfl (by decide) in_X3 rfl rfl q1150 dX3_fresh_45 ?_
  refine g_aload_n 0 dX3_fresh_48 rfl ?_
  refine g_getI (ci := 2) (b := 0) (N := 83) 19 rfl rfl rfl (by decide) in_X3 rfl rfl q1151 dX3_fresh_49 (fun v9 rv9 => ?_)
  refine g_iload_n 2 dX3_fresh_52 rfl ?_
  refine g_iastU (id := 18) FT_ok 13 rfl rfl (by decide +kernel) ra2 dX3_fresh_53 (fun s10 => ?_)
  refine g_aload_n 0 dX3_fresh_54 rfl ?_
  refine g_dup rfl dX3_fresh_55 ?_
  refine g_getI (ci := 2) (b := 0) (N := 83) 19 rfl rfl rfl (by decide) in_X3 rfl rfl q1151 dX3_fresh_56 (fun v11 rv11 => ?_)
  refine g_dup_x1 rfl rfl dX3_fresh_59 ?_
  refine g_iconst dX3_fresh_60 ?_
  refine g_iadd dX3_fresh_61 (fun v12 rv12 => ?_)
  refine g_sIU (ci := 2) (b := 0) (N := 83) FT_ok 19 rfl rfl rfl (by decide) in_X3 tyX3 tyX3_ok nmX3 rfl rfl rfl rfl (by decide +kernel) rv12 q1151 dX3_fresh_62 (fun s13 => ?_)
  exact g_iret rfl rfl (fun _ => rv11) dX3_fresh_65
end
section
variable {l : Launch} {d : Nat} {call : Nat → List Int → Sg → Option (Int × Sg)}
theorem ctX3_fresh (p0 : Program) (e0 : Env) (s0 : State) (m0 : MethodId) (meth0 : Method) (c0 : Code) (G0 : Gm) (hd : 2 ≤ d) (hX3_anew : ∀ (u : Sg), Ct l d FT clA yX3_anew cX3_anew 2 none DX3_anew rvV [vR 0] u (call 10 [] u)) (a1 a2 : Int) (u : Sg) : Ct l (d + 1) FT clA yX3_fresh cX3_fresh 3 (some .int) DX3_fresh rvI [vR 0, vI a1, vI a2] u (bX3_fresh call a1 a2 u) :=
  Ct_of (by decide) (Nat.le_of_ble_eq_true rfl) (fun p e R s1 m args below meth c G A ad hA hRf hRl => wX3_fresh hd hRf hRl hX3_anew a1 a2 u (hA _ (List.mem_cons_of_mem _ List.mem_cons_self)) (hA _ (List.mem_cons_of_mem _ (List.mem_cons_of_mem _ List.mem_cons_self)))) p0 e0 s0 m0 meth0 c0 G0
end
/-! RoundCheckModel.anew()V -/
abbrev JX3_anew : Jm := (cX3_anew, RX3, 2, none)
def bX3_anew_L22 (call : Nat → List Int → Sg → Option (Int × Sg)) : Nat → Int → Sg → (Sg → Option (Int × Sg)) → Option (Int × Sg)
  | 0, _, _, _ => none
  | n + 1, a1, u, x44 => un (gL u 39 : Int) fun v1 => if a1 < v1 then (stA u 39 a1 0 fun s2 => ar (a1 + 1) fun v3 => bX3_anew_L22 call n v3 s2 x44) else (x44 u)
def bX3_anew (call : Nat → List Int → Sg → Option (Int × Sg)) (u : Sg) : Option (Int × Sg) := un (gI u 40) fun v1 => ar (v1 + 1) fun v2 => un (sI u 40 v2) fun s3 => un (gI s3 40) fun v4 => if v4 < 2147483647 then (some (0, s3)) else (bX3_anew_L22 call KF 0 s3 (fun s5 => un (sI s5 40 1) fun s6 => some (0, s6)))
section
variable {p : Program} {l : Launch} {e : Env} {R : Room} {s : State} {m : MethodId} {args : Array Value} {below : List Frame} {meth : Method} {c : Code} {G : Gm} {A : Nat → Prop} {ad0 : Nat → Nat} {σ0 : Sg} {d : Nat} {call : Nat → List Int → Sg → Option (Int × Sg)}
theorem wX3_anew_L22 (hd : 2 ≤ d) (hRf : d + 1 ≤ R.frames) (hRl : 40 * (d + 1) ≤ R.locals) (x44 : Sg → Option (Int × Sg)) (hx44 : ∀ (u : Sg), WG p l e R s m args below meth c JX3_anew DX3_anew G clA A FT ad0 σ0 rvV (x44 u) u 44 [(0, vR 0)] []) : ∀ (n : Nat) (a1 : Int) (u : Sg), inR a1 → WG p l e R s m args below meth c JX3_anew DX3_anew G clA A FT ad0 σ0 rvV (bX3_anew_L22 call n a1 u x44) u 22 [(0, vR 0), (1, vI a1)] [] := by
  intro n
  induction n with
  | zero =>
    intro a1 u ra1
    exact g_none
  | succ n ih =>
    intro a1 u ra1
    rw [bX3_anew_L22]
    refine g_iload_n 1 dX3_anew_22 rfl ?_
    refine g_aload_n 0 dX3_anew_23 rfl ?_
    refine g_get (v := vR 49) (ci := 2) (b := 0) (N := 83) 39 rfl rfl (by decide) in_X3 rfl rfl q1171 dX3_anew_24 ?_
    refine g_alenU (id := 39) 28 rfl (Or.inl rfl) dX3_anew_27 (fun v1 rv1 => ?_)
    refine g_icmp_ge 44 dX3_anew_28 (by decide) (fun _ => ra1) (fun _ => rv1) (fun _ => ?_) (fun _ => ?_)
    · refine g_aload_n 0 dX3_anew_31 rfl ?_
      refine g_get (v := vR 49) (ci := 2) (b := 0) (N := 83) 39 rfl rfl (by decide) in_X3 rfl rfl q1171 dX3_anew_32 ?_
      refine g_iload_n 1 dX3_anew_35 rfl ?_
      refine g_iconst dX3_anew_36 ?_
      refine g_iastU (id := 39) FT_ok 28 rfl rfl (by decide +kernel) (inR_z (Or.inl rfl)) dX3_anew_37 (fun s2 => ?_)
      refine g_iinc 1 (loc' := fun v3 => [(1, vI v3), (0, vR 0)]) dX3_anew_38 rfl (by decide) (fun _ => rfl) (fun v3 rv3 => ?_)
      refine g_goto 22 dX3_anew_41 (by decide) ?_
      exact g_pick [1, 0] rfl (ih v3 s2 rv3)
    · exact g_pick [0] rfl (hx44 u)
theorem wX3_anew (hd : 2 ≤ d) (hRf : d + 1 ≤ R.frames) (hRl : 40 * (d + 1) ≤ R.locals) (u : Sg) : WG p l e R s m args below meth c JX3_anew DX3_anew G clA A FT ad0 σ0 rvV (bX3_anew call u) u 0 [(0, vR 0)] [] := by
  unfold bX3_anew
  refine g_aload_n 0 dX3_anew_0 rfl ?_
  refine g_dup rfl dX3_anew_1 ?_
  refine g_getI (ci := 2) (b := 0) (N := 83) 40 rfl rfl rfl (by decide) in_X3 rfl rfl q1172 dX3_anew_2 (fun v1 rv1 => ?_)
  refine g_iconst dX3_anew_5 ?_
  refine g_iadd dX3_anew_6 (fun v2 rv2 => ?_)
  refine g_sIU (ci := 2) (b := 0) (N := 83) FT_ok 40 rfl rfl rfl (by decide) in_X3 tyX3 tyX3_ok nmX3 rfl rfl rfl rfl (by decide +kernel) rv2 q1172 dX3_anew_7 (fun s3 => ?_)
  refine g_aload_n 0 dX3_anew_10 rfl ?_
  refine g_getI (ci := 2) (b := 0) (N := 83) 40 rfl rfl rfl (by decide) in_X3 rfl rfl q1172 dX3_anew_11 (fun v4 rv4 => ?_)
  refine g_ldc (n := 2147483647) (by decide +kernel) q1131 dX3_anew_14 ?_
  refine g_icmp_ge 20 dX3_anew_16 (by decide) (fun _ => rv4) (fun _ => (by decide : inR (2147483647))) (fun _ => ?_) (fun _ => ?_)
  · exact g_vret rfl rfl dX3_anew_19
  · refine g_iconst dX3_anew_20 ?_
    refine g_istore_n (loc' := [(1, vI 0), (0, vR 0)]) dX3_anew_21 (by decide) rfl ?_
    refine g_pick [1, 0] rfl (wX3_anew_L22 hd hRf hRl _ (fun s5 => ?_) KF 0 s3 (inR_z (Or.inl rfl)))
    · refine g_aload_n 0 dX3_anew_44 rfl ?_
      refine g_iconst dX3_anew_45 ?_
      refine g_sIU (ci := 2) (b := 0) (N := 83) FT_ok 40 rfl rfl rfl (by decide) in_X3 tyX3 tyX3_ok nmX3 rfl rfl rfl rfl (by decide +kernel) (inR_z (Or.inr rfl)) q1172 dX3_anew_46 (fun s6 => ?_)
      exact g_vret rfl rfl dX3_anew_49
end
section
variable {l : Launch} {d : Nat} {call : Nat → List Int → Sg → Option (Int × Sg)}
theorem ctX3_anew (p0 : Program) (e0 : Env) (s0 : State) (m0 : MethodId) (meth0 : Method) (c0 : Code) (G0 : Gm) (hd : 2 ≤ d) (u : Sg) : Ct l (d + 1) FT clA yX3_anew cX3_anew 2 none DX3_anew rvV [vR 0] u (bX3_anew call u) :=
  Ct_of (by decide) (Nat.le_of_ble_eq_true rfl) (fun p e R s1 m args below meth c G A ad hA hRf hRl => wX3_anew hd hRf hRl u) p0 e0 s0 m0 meth0 c0 G0
end
/-! RoundCheckModel.mode(IZ)I -/
abbrev JX3_mode : Jm := (cX3_mode, RX3, 4, (some .int))
def bX3_mode (call : Nat → List Int → Sg → Option (Int × Sg)) (a1 a2 : Int) (u : Sg) : Option (Int × Sg) := gd (a2 = 0 ∨ a2 = 1) (jn (fun (s2 : Sg) => cl (call 17 [1] s2) fun v3 s4 => some (v3, s4)) fun j1 => un (sI u 0 0) fun s5 => cl (call 12 [a1, 1] s5) fun v6 s7 => if v6 = 0 then (j1 s7) else (jn (fun (a2 a3 t1 t2 : Int) (s9 : Sg) => cl (call 14 [t1, t2] s9) fun v10 s11 => if v10 = 0 then (j1 s11) else (un (gI s11 27) fun v12 => if v12 = 20 then (cl (call 17 [2] s11) fun v13 s14 => some (v13, s14)) else (un (gI s11 27) fun v15 => stA s11 25 v15 a3 fun s16 => un (gI s16 27) fun v17 => stA s16 26 v17 a2 fun s18 => un (gI s18 27) fun v19 => ar (v19 + 1) fun v20 => un (sI s18 27 v20) fun s21 => some (v19, s21)))) fun j8 => if a2 = 0 then (j8 a2 v6 v6 0 s7) else (j8 a2 v6 v6 1 s7)))
section
variable {p : Program} {l : Launch} {e : Env} {R : Room} {s : State} {m : MethodId} {args : Array Value} {below : List Frame} {meth : Method} {c : Code} {G : Gm} {A : Nat → Prop} {ad0 : Nat → Nat} {σ0 : Sg} {d : Nat} {call : Nat → List Int → Sg → Option (Int × Sg)}
theorem wX3_mode (hd : 2 ≤ d) (hRf : d + 1 ≤ R.frames) (hRl : 40 * (d + 1) ≤ R.locals) (hX3_fails : ∀ (a1 : Int) (u : Sg), Ct l d FT clA yX3_fails cX3_fails 2 (some .int) DX3_fails rvI [vR 0, vI a1] u (call 17 [a1] u)) (hX3_form : ∀ (a1 a2 : Int) (u : Sg), Ct l d FT clA yX3_form cX3_form 3 (some .int) DX3_form rvI [vR 0, vI a1, vI a2] u (call 12 [a1, a2] u)) (hX3_isBelow : ∀ (a1 a2 : Int) (u : Sg), Ct l d FT clA yX3_isBelow cX3_isBelow 3 (some .boolean) DX3_isBelow rvI [vR 0, vI a1, vI a2] u (call 14 [a1, a2] u)) (a1 a2 : Int) (u : Sg) (ra1 : inR a1) (ra2 : inR a2) : WG p l e R s m args below meth c JX3_mode DX3_mode G clA A FT ad0 σ0 rvI (bX3_mode call a1 a2 u) u 0 [(0, vR 0), (1, vI a1), (2, vI a2)] [] := by
  unfold bX3_mode
  refine g_gd (fun za2 => ?_)
  refine g_jn (fun j1 => ∀ (s2 : Sg), WG p l e R s m args below meth c JX3_mode DX3_mode G clA A FT ad0 σ0 rvI (j1 s2) s2 33 [(0, vR 0)] []) (fun s2 => ?_) (fun j1 hj1 => ?_)
  · refine g_aload_n 0 dX3_mode_33 rfl ?_
    refine g_iconst dX3_mode_34 ?_
    refine g_cVI (As := [vI 1]) (n := 1) (stk := []) (ci := 2) (b := 0) (N := 83) (hX3_fails 1 s2) (by decide +kernel) rfl rfl (lw_V q1407 q1409 qs84 q168 q1410) (by decide +kernel) rfl (by decide) hRf hRl (fun _ => (avc (inR_z (Or.inr rfl)) avn)) (Nat.le_of_ble_eq_true rfl) rfl rfl dX3_mode_35 (fun v3 s4 rv3 => ?_)
    exact g_iret rfl rfl (fun _ => rv3) dX3_mode_38
  · refine g_aload_n 0 dX3_mode_0 rfl ?_
    refine g_iconst dX3_mode_1 ?_
    refine g_sIU (ci := 2) (b := 0) (N := 83) FT_ok 0 rfl rfl rfl (by decide) in_X3 tyX3 tyX3_ok nmX3 rfl rfl rfl rfl (by decide +kernel) (inR_z (Or.inl rfl)) q1132 dX3_mode_2 (fun s5 => ?_)
    refine g_aload_n 0 dX3_mode_5 rfl ?_
    refine g_iload_n 1 dX3_mode_6 rfl ?_
    refine g_iconst dX3_mode_7 ?_
    refine g_cVI (As := [vI a1, vI 1]) (n := 2) (stk := []) (ci := 2) (b := 0) (N := 83) (hX3_form a1 1 s5) (by decide +kernel) rfl rfl (lw_V q1387 q1389 qs79 q168 q1390) (by decide +kernel) rfl (by decide) hRf hRl (fun _ => (avc ra1 (avc (inR_z (Or.inr rfl)) avn))) (Nat.le_of_ble_eq_true rfl) rfl rfl dX3_mode_8 (fun v6 s7 rv6 => ?_)
    refine g_istore_n (loc' := [(3, vI v6), (0, vR 0), (1, vI a1), (2, vI a2)]) dX3_mode_11 (by decide) rfl ?_
    refine g_iload_n 0 dX3_mode_12 rfl ?_
    refine g_if_eq 33 dX3_mode_13 (by decide) (fun _ => rv6) (fun _ => ?_) (fun _ => ?_)
    · exact g_pick [1] rfl (hj1 s7)
    · refine g_jn (fun j8 => ∀ (a2 a3 t1 t2 : Int) (s9 : Sg), (a2 = 0 ∨ a2 = 1) → inR a3 → inR t1 → (t2 = 0 ∨ t2 = 1) → WG p l e R s m args below meth c JX3_mode DX3_mode G clA A FT ad0 σ0 rvI (j8 a2 a3 t1 t2 s9) s9 27 [(0, vR 0), (2, vI a2), (3, vI a3)] [vI t2, vI t1, vR 0]) (fun a2 a3 t1 t2 s9 za2 ra3 rt1 zt2 => ?_) (fun j8 hj8 => ?_)
      · refine g_cVZ (As := [vI t1, vI t2]) (n := 2) (stk := []) (ci := 2) (b := 0) (N := 83) (hX3_isBelow t1 t2 s9) (by decide +kernel) rfl rfl (lw_V q1395 q1397 qs81 q168 q1398) (by decide +kernel) rfl (by decide) hRf hRl (fun _ => (avc rt1 (avc (inR_z zt2) avn))) (Nat.le_of_ble_eq_true rfl) rfl rfl dX3_mode_27 (fun v10 s11 zv10 => ?_)
        refine g_if_ne 39 dX3_mode_30 (by decide) (fun _ => (inR_z zv10)) (fun _ => ?_) (fun _ => ?_)
        · exact g_pick [0] rfl (hj1 s11)
        · refine g_aload_n 0 dX3_mode_39 rfl ?_
          refine g_getI (ci := 2) (b := 0) (N := 83) 27 rfl rfl rfl (by decide) in_X3 rfl rfl q1159 dX3_mode_40 (fun v12 rv12 => ?_)
          refine g_bipush (by decide +kernel) dX3_mode_43 ?_
          refine g_icmp_ne 54 dX3_mode_45 (by decide) (fun _ => rv12) (fun _ => (by decide : inR (20))) (fun _ => ?_) (fun _ => ?_)
          · refine g_aload_n 0 dX3_mode_48 rfl ?_
            refine g_iconst dX3_mode_49 ?_
            refine g_cVI (As := [vI 2]) (n := 1) (stk := []) (ci := 2) (b := 0) (N := 83) (hX3_fails 2 s11) (by decide +kernel) rfl rfl (lw_V q1407 q1409 qs84 q168 q1410) (by decide +kernel) rfl (by decide) hRf hRl (fun _ => (avc (by decide : inR (2)) avn)) (Nat.le_of_ble_eq_true rfl) rfl rfl dX3_mode_50 (fun v13 s14 rv13 => ?_)
            exact g_iret rfl rfl (fun _ => rv13) dX3_mode_53
          · refine g_aload_n 0 dX3_mode_54 rfl ?_
            refine g_get (v := vR 35) (ci := 2) (b := 0) (N := 83) 25 rfl rfl (by decide) in_X3 rfl rfl q1157 dX3_mode_55 ?_
            refine g_aload_n 0 dX3_mode_58 rfl ?_
            refine g_getI (ci := 2) (b := 0) (N := 83) 27 rfl rfl rfl (by decide) in_X3 rfl rfl q1159 dX3_mode_59 (fun v15 rv15 => ?_)
            refine g_iload_n 2 dX3_mode_62 rfl ?_
            refine g_iastU (id := 25) FT_ok 17 rfl rfl (by decide +kernel) ra3 dX3_mode_63 (fun s16 => ?_)
            refine g_aload_n 0 dX3_mode_64 rfl ?_
            refine g_get (v := vR 36) (ci := 2) (b := 0) (N := 83) 26 rfl rfl (by decide) in_X3 rfl rfl q1158 dX3_mode_65 ?_
            refine g_aload_n 0 dX3_mode_68 rfl ?_
            refine g_getI (ci := 2) (b := 0) (N := 83) 27 rfl rfl rfl (by decide) in_X3 rfl rfl q1159 dX3_mode_69 (fun v17 rv17 => ?_)
            refine g_iload_n 1 dX3_mode_72 rfl ?_
            refine g_zastU (id := 26) FT_ok 18 rfl rfl (by decide +kernel) za2 dX3_mode_73 (fun s18 => ?_)
            refine g_aload_n 0 dX3_mode_74 rfl ?_
            refine g_dup rfl dX3_mode_75 ?_
            refine g_getI (ci := 2) (b := 0) (N := 83) 27 rfl rfl rfl (by decide) in_X3 rfl rfl q1159 dX3_mode_76 (fun v19 rv19 => ?_)
            refine g_dup_x1 rfl rfl dX3_mode_79 ?_
            refine g_iconst dX3_mode_80 ?_
            refine g_iadd dX3_mode_81 (fun v20 rv20 => ?_)
            refine g_sIU (ci := 2) (b := 0) (N := 83) FT_ok 27 rfl rfl rfl (by decide) in_X3 tyX3 tyX3_ok nmX3 rfl rfl rfl rfl (by decide +kernel) rv20 q1159 dX3_mode_82 (fun s21 => ?_)
            exact g_iret rfl rfl (fun _ => rv19) dX3_mode_85
      · refine g_aload_n 1 dX3_mode_16 rfl ?_
        refine g_iload_n 0 dX3_mode_17 rfl ?_
        refine g_iload_n 3 dX3_mode_18 rfl ?_
        refine g_if_eq 26 dX3_mode_19 (by decide) (fun _ => (inR_z za2)) (fun _ => ?_) (fun _ => ?_)
        · refine g_iconst dX3_mode_26 ?_
          exact g_pick [1, 3, 0] rfl (hj8 a2 v6 v6 0 s7 za2 rv6 rv6 (Or.inl rfl))
        · refine g_iconst dX3_mode_22 ?_
          refine g_goto 27 dX3_mode_23 (by decide) ?_
          exact g_pick [1, 3, 0] rfl (hj8 a2 v6 v6 1 s7 za2 rv6 rv6 (Or.inr rfl))
end
section
variable {l : Launch} {d : Nat} {call : Nat → List Int → Sg → Option (Int × Sg)}
theorem ctX3_mode (p0 : Program) (e0 : Env) (s0 : State) (m0 : MethodId) (meth0 : Method) (c0 : Code) (G0 : Gm) (hd : 2 ≤ d) (hX3_fails : ∀ (a1 : Int) (u : Sg), Ct l d FT clA yX3_fails cX3_fails 2 (some .int) DX3_fails rvI [vR 0, vI a1] u (call 17 [a1] u)) (hX3_form : ∀ (a1 a2 : Int) (u : Sg), Ct l d FT clA yX3_form cX3_form 3 (some .int) DX3_form rvI [vR 0, vI a1, vI a2] u (call 12 [a1, a2] u)) (hX3_isBelow : ∀ (a1 a2 : Int) (u : Sg), Ct l d FT clA yX3_isBelow cX3_isBelow 3 (some .boolean) DX3_isBelow rvI [vR 0, vI a1, vI a2] u (call 14 [a1, a2] u)) (a1 a2 : Int) (u : Sg) : Ct l (d + 1) FT clA yX3_mode cX3_mode 4 (some .int) DX3_mode rvI [vR 0, vI a1, vI a2] u (bX3_mode call a1 a2 u) :=
  Ct_of (by decide) (Nat.le_of_ble_eq_true rfl) (fun p e R s1 m args below meth c G A ad hA hRf hRl => wX3_mode hd hRf hRl hX3_fails hX3_form hX3_isBelow a1 a2 u (hA _ (List.mem_cons_of_mem _ List.mem_cons_self)) (hA _ (List.mem_cons_of_mem _ (List.mem_cons_of_mem _ List.mem_cons_self)))) p0 e0 s0 m0 meth0 c0 G0
end
/-! RoundCheckModel.form(II)I -/
abbrev JX3_form : Jm := (cX3_form, RX3, 3, (some .int))
def bX3_form (call : Nat → List Int → Sg → Option (Int × Sg)) (a1 a2 : Int) (u : Sg) : Option (Int × Sg) := jn (fun (s2 : Sg) => some (0, s2)) fun j1 => if a1 < 0 then (j1 u) else (un (gI u 79) fun v3 => if a1 < v3 then (ld u 78 a1 fun v4 => cl (call 13 [v4] u) fun v5 s6 => if v5 = a2 then (ld s6 78 a1 fun v7 => some (v7, s6)) else (j1 s6)) else (j1 u))
section
variable {p : Program} {l : Launch} {e : Env} {R : Room} {s : State} {m : MethodId} {args : Array Value} {below : List Frame} {meth : Method} {c : Code} {G : Gm} {A : Nat → Prop} {ad0 : Nat → Nat} {σ0 : Sg} {d : Nat} {call : Nat → List Int → Sg → Option (Int × Sg)}
theorem wX3_form (hd : 2 ≤ d) (hRf : d + 1 ≤ R.frames) (hRl : 40 * (d + 1) ≤ R.locals) (hX3_sortOf : ∀ (a1 : Int) (u : Sg), Ct l d FT clA yX3_sortOf cX3_sortOf 2 (some .int) DX3_sortOf rvI [vR 0, vI a1] u (call 13 [a1] u)) (a1 a2 : Int) (u : Sg) (ra1 : inR a1) (ra2 : inR a2) : WG p l e R s m args below meth c JX3_form DX3_form G clA A FT ad0 σ0 rvI (bX3_form call a1 a2 u) u 0 [(0, vR 0), (1, vI a1), (2, vI a2)] [] := by
  unfold bX3_form
  refine g_jn (fun j1 => ∀ (s2 : Sg), WG p l e R s m args below meth c JX3_form DX3_form G clA A FT ad0 σ0 rvI (j1 s2) s2 35 [] []) (fun s2 => ?_) (fun j1 hj1 => ?_)
  · refine g_iconst dX3_form_35 ?_
    exact g_iret rfl rfl (fun _ => (inR_z (Or.inl rfl))) dX3_form_36
  · refine g_iload_n 1 dX3_form_0 rfl ?_
    refine g_if_lt 35 dX3_form_1 (by decide) (fun _ => ra1) (fun _ => ?_) (fun _ => ?_)
    · exact g_pick [] rfl (hj1 u)
    · refine g_iload_n 1 dX3_form_4 rfl ?_
      refine g_aload_n 0 dX3_form_5 rfl ?_
      refine g_getI (ci := 2) (b := 0) (N := 83) 79 rfl rfl rfl (by decide) in_X3 rfl rfl q1211 dX3_form_6 (fun v3 rv3 => ?_)
      refine g_icmp_ge 35 dX3_form_9 (by decide) (fun _ => ra1) (fun _ => rv3) (fun _ => ?_) (fun _ => ?_)
      · refine g_aload_n 0 dX3_form_12 rfl ?_
        refine g_aload_n 0 dX3_form_13 rfl ?_
        refine g_get (v := vR 88) (ci := 2) (b := 0) (N := 83) 78 rfl rfl (by decide) in_X3 rfl rfl q1210 dX3_form_14 ?_
        refine g_iload_n 1 dX3_form_17 rfl ?_
        refine g_iald (id := 78) 50 rfl rfl dX3_form_18 (fun v4 rv4 => ?_)
        refine g_cVI (As := [vI v4]) (n := 1) (stk := []) (ci := 2) (b := 0) (N := 83) (hX3_sortOf v4 u) (by decide +kernel) rfl rfl (lw_V q1391 q1393 qs80 q168 q1394) (by decide +kernel) rfl (by decide) hRf hRl (fun _ => (avc rv4 avn)) (Nat.le_of_ble_eq_true rfl) rfl rfl dX3_form_19 (fun v5 s6 rv5 => ?_)
        refine g_iload_n 2 dX3_form_22 rfl ?_
        refine g_icmp_ne 35 dX3_form_23 (by decide) (fun _ => rv5) (fun _ => ra2) (fun _ => ?_) (fun _ => ?_)
        · refine g_aload_n 0 dX3_form_26 rfl ?_
          refine g_get (v := vR 88) (ci := 2) (b := 0) (N := 83) 78 rfl rfl (by decide) in_X3 rfl rfl q1210 dX3_form_27 ?_
          refine g_iload_n 1 dX3_form_30 rfl ?_
          refine g_iald (id := 78) 50 rfl rfl dX3_form_31 (fun v7 rv7 => ?_)
          refine g_goto 36 dX3_form_32 (by decide) ?_
          exact g_iret rfl rfl (fun _ => rv7) dX3_form_36
        · exact g_pick [] rfl (hj1 s6)
      · exact g_pick [] rfl (hj1 u)
end
section
variable {l : Launch} {d : Nat} {call : Nat → List Int → Sg → Option (Int × Sg)}
theorem ctX3_form (p0 : Program) (e0 : Env) (s0 : State) (m0 : MethodId) (meth0 : Method) (c0 : Code) (G0 : Gm) (hd : 2 ≤ d) (hX3_sortOf : ∀ (a1 : Int) (u : Sg), Ct l d FT clA yX3_sortOf cX3_sortOf 2 (some .int) DX3_sortOf rvI [vR 0, vI a1] u (call 13 [a1] u)) (a1 a2 : Int) (u : Sg) : Ct l (d + 1) FT clA yX3_form cX3_form 3 (some .int) DX3_form rvI [vR 0, vI a1, vI a2] u (bX3_form call a1 a2 u) :=
  Ct_of (by decide) (Nat.le_of_ble_eq_true rfl) (fun p e R s1 m args below meth c G A ad hA hRf hRl => wX3_form hd hRf hRl hX3_sortOf a1 a2 u (hA _ (List.mem_cons_of_mem _ List.mem_cons_self)) (hA _ (List.mem_cons_of_mem _ (List.mem_cons_of_mem _ List.mem_cons_self)))) p0 e0 s0 m0 meth0 c0 G0
end
/-! RoundCheckModel.sortOf(I)I -/
abbrev JX3_sortOf : Jm := (cX3_sortOf, RX3, 2, (some .int))
def bX3_sortOf (call : Nat → List Int → Sg → Option (Int × Sg)) (a1 : Int) (u : Sg) : Option (Int × Sg) := jn (fun (s2 : Sg) => some (0, s2)) fun j1 => ld u 1 a1 fun v3 => if v3 ≤ 4 then (j1 u) else (ld u 1 a1 fun v4 => if v4 = 5 then (j1 u) else (ld u 1 a1 fun v5 => if v5 = 7 then (some (1, u)) else (some (2, u))))
section
variable {p : Program} {l : Launch} {e : Env} {R : Room} {s : State} {m : MethodId} {args : Array Value} {below : List Frame} {meth : Method} {c : Code} {G : Gm} {A : Nat → Prop} {ad0 : Nat → Nat} {σ0 : Sg} {d : Nat} {call : Nat → List Int → Sg → Option (Int × Sg)}
theorem wX3_sortOf (hd : 2 ≤ d) (hRf : d + 1 ≤ R.frames) (hRl : 40 * (d + 1) ≤ R.locals) (a1 : Int) (u : Sg) (ra1 : inR a1) : WG p l e R s m args below meth c JX3_sortOf DX3_sortOf G clA A FT ad0 σ0 rvI (bX3_sortOf call a1 u) u 0 [(0, vR 0), (1, vI a1)] [] := by
  unfold bX3_sortOf
  refine g_jn (fun j1 => ∀ (s2 : Sg), WG p l e R s m args below meth c JX3_sortOf DX3_sortOf G clA A FT ad0 σ0 rvI (j1 s2) s2 20 [] []) (fun s2 => ?_) (fun j1 hj1 => ?_)
  · refine g_iconst dX3_sortOf_20 ?_
    refine g_goto 40 dX3_sortOf_21 (by decide) ?_
    exact g_iret rfl rfl (fun _ => (inR_z (Or.inl rfl))) dX3_sortOf_40
  · refine g_aload_n 0 dX3_sortOf_0 rfl ?_
    refine g_get (v := vR 11) (ci := 2) (b := 0) (N := 83) 1 rfl rfl (by decide) in_X3 rfl rfl q1133 dX3_sortOf_1 ?_
    refine g_iload_n 1 dX3_sortOf_4 rfl ?_
    refine g_iald (id := 1) 0 rfl rfl dX3_sortOf_5 (fun v3 rv3 => ?_)
    refine g_iconst dX3_sortOf_6 ?_
    refine g_icmp_le 20 dX3_sortOf_7 (by decide) (fun _ => rv3) (fun _ => (by decide : inR (4))) (fun _ => ?_) (fun _ => ?_)
    · exact g_pick [] rfl (hj1 u)
    · refine g_aload_n 0 dX3_sortOf_10 rfl ?_
      refine g_get (v := vR 11) (ci := 2) (b := 0) (N := 83) 1 rfl rfl (by decide) in_X3 rfl rfl q1133 dX3_sortOf_11 ?_
      refine g_iload_n 1 dX3_sortOf_14 rfl ?_
      refine g_iald (id := 1) 0 rfl rfl dX3_sortOf_15 (fun v4 rv4 => ?_)
      refine g_iconst dX3_sortOf_16 ?_
      refine g_icmp_ne 24 dX3_sortOf_17 (by decide) (fun _ => rv4) (fun _ => (by decide : inR (5))) (fun _ => ?_) (fun _ => ?_)
      · exact g_pick [] rfl (hj1 u)
      · refine g_aload_n 0 dX3_sortOf_24 rfl ?_
        refine g_get (v := vR 11) (ci := 2) (b := 0) (N := 83) 1 rfl rfl (by decide) in_X3 rfl rfl q1133 dX3_sortOf_25 ?_
        refine g_iload_n 1 dX3_sortOf_28 rfl ?_
        refine g_iald (id := 1) 0 rfl rfl dX3_sortOf_29 (fun v5 rv5 => ?_)
        refine g_bipush (by decide +kernel) dX3_sortOf_30 ?_
        refine g_icmp_ne 39 dX3_sortOf_32 (by decide) (fun _ => rv5) (fun _ => (by decide : inR (7))) (fun _ => ?_) (fun _ => ?_)
        · refine g_iconst dX3_sortOf_35 ?_
          refine g_goto 40 dX3_sortOf_36 (by decide) ?_
          exact g_iret rfl rfl (fun _ => (inR_z (Or.inr rfl))) dX3_sortOf_40
        · refine g_iconst dX3_sortOf_39 ?_
          exact g_iret rfl rfl (fun _ => (by decide : inR (2))) dX3_sortOf_40
end
section
variable {l : Launch} {d : Nat} {call : Nat → List Int → Sg → Option (Int × Sg)}
theorem ctX3_sortOf (p0 : Program) (e0 : Env) (s0 : State) (m0 : MethodId) (meth0 : Method) (c0 : Code) (G0 : Gm) (hd : 2 ≤ d) (a1 : Int) (u : Sg) : Ct l (d + 1) FT clA yX3_sortOf cX3_sortOf 2 (some .int) DX3_sortOf rvI [vR 0, vI a1] u (bX3_sortOf call a1 u) :=
  Ct_of (by decide) (Nat.le_of_ble_eq_true rfl) (fun p e R s1 m args below meth c G A ad hA hRf hRl => wX3_sortOf hd hRf hRl a1 u (hA _ (List.mem_cons_of_mem _ List.mem_cons_self))) p0 e0 s0 m0 meth0 c0 G0
end
/-! RoundCheckModel.isBelow(II)Z -/
abbrev JX3_isBelow : Jm := (cX3_isBelow, RX3, 3, (some .boolean))
def bX3_isBelow (call : Nat → List Int → Sg → Option (Int × Sg)) (a1 a2 : Int) (u : Sg) : Option (Int × Sg) := jn (fun (s2 : Sg) => some (0, s2)) fun j1 => jn (fun (a1 a2 : Int) (s4 : Sg) => jn (fun (s6 : Sg) => some (1, s6)) fun j5 => if a2 ≤ 1 then (cl (call 15 [a1, 1] s4) fun v7 s8 => if v7 = 0 then (j5 s8) else (j1 s8)) else (j5 s4)) fun j3 => if a2 ≤ 0 then (cl (call 15 [a1, 0] u) fun v9 s10 => if v9 = 0 then (j3 a1 a2 s10) else (j1 s10)) else (j3 a1 a2 u)
section
variable {p : Program} {l : Launch} {e : Env} {R : Room} {s : State} {m : MethodId} {args : Array Value} {below : List Frame} {meth : Method} {c : Code} {G : Gm} {A : Nat → Prop} {ad0 : Nat → Nat} {σ0 : Sg} {d : Nat} {call : Nat → List Int → Sg → Option (Int × Sg)}
theorem wX3_isBelow (hd : 2 ≤ d) (hRf : d + 1 ≤ R.frames) (hRl : 40 * (d + 1) ≤ R.locals) (hX3_mentions : ∀ (a1 a2 : Int) (u : Sg), Ct l d FT clA yX3_mentions cX3_mentions 4 (some .boolean) DX3_mentions rvI [vR 0, vI a1, vI a2] u (call 15 [a1, a2] u)) (a1 a2 : Int) (u : Sg) (ra1 : inR a1) (ra2 : inR a2) : WG p l e R s m args below meth c JX3_isBelow DX3_isBelow G clA A FT ad0 σ0 rvI (bX3_isBelow call a1 a2 u) u 0 [(0, vR 0), (1, vI a1), (2, vI a2)] [] := by
  unfold bX3_isBelow
  refine g_jn (fun j1 => ∀ (s2 : Sg), WG p l e R s m args below meth c JX3_isBelow DX3_isBelow G clA A FT ad0 σ0 rvI (j1 s2) s2 31 [] []) (fun s2 => ?_) (fun j1 hj1 => ?_)
  · refine g_iconst dX3_isBelow_31 ?_
    exact g_zret rfl rfl (fun _ => (Or.inl rfl)) dX3_isBelow_32
  · refine g_jn (fun j3 => ∀ (a1 a2 : Int) (s4 : Sg), inR a1 → inR a2 → WG p l e R s m args below meth c JX3_isBelow DX3_isBelow G clA A FT ad0 σ0 rvI (j3 a1 a2 s4) s4 13 [(0, vR 0), (1, vI a1), (2, vI a2)] []) (fun a1 a2 s4 ra1 ra2 => ?_) (fun j3 hj3 => ?_)
    · refine g_jn (fun j5 => ∀ (s6 : Sg), WG p l e R s m args below meth c JX3_isBelow DX3_isBelow G clA A FT ad0 σ0 rvI (j5 s6) s6 27 [] []) (fun s6 => ?_) (fun j5 hj5 => ?_)
      · refine g_iconst dX3_isBelow_27 ?_
        refine g_goto 32 dX3_isBelow_28 (by decide) ?_
        exact g_zret rfl rfl (fun _ => (Or.inr rfl)) dX3_isBelow_32
      · refine g_iload_n 2 dX3_isBelow_13 rfl ?_
        refine g_iconst dX3_isBelow_14 ?_
        refine g_icmp_gt 27 dX3_isBelow_15 (by decide) (fun _ => ra2) (fun _ => (inR_z (Or.inr rfl))) (fun _ => ?_) (fun _ => ?_)
        · refine g_aload_n 0 dX3_isBelow_18 rfl ?_
          refine g_iload_n 1 dX3_isBelow_19 rfl ?_
          refine g_iconst dX3_isBelow_20 ?_
          refine g_cVZ (As := [vI a1, vI 1]) (n := 2) (stk := []) (ci := 2) (b := 0) (N := 83) (hX3_mentions a1 1 s4) (by decide +kernel) rfl rfl (lw_V q1399 q1401 qs82 q168 q1402) (by decide +kernel) rfl (by decide) hRf hRl (fun _ => (avc ra1 (avc (inR_z (Or.inr rfl)) avn))) (Nat.le_of_ble_eq_true rfl) rfl rfl dX3_isBelow_21 (fun v7 s8 zv7 => ?_)
          refine g_if_ne 31 dX3_isBelow_24 (by decide) (fun _ => (inR_z zv7)) (fun _ => ?_) (fun _ => ?_)
          · exact g_pick [] rfl (hj5 s8)
          · exact g_pick [] rfl (hj1 s8)
        · exact g_pick [] rfl (hj5 s4)
    · refine g_iload_n 2 dX3_isBelow_0 rfl ?_
      refine g_if_gt 13 dX3_isBelow_1 (by decide) (fun _ => ra2) (fun _ => ?_) (fun _ => ?_)
      · refine g_aload_n 0 dX3_isBelow_4 rfl ?_
        refine g_iload_n 1 dX3_isBelow_5 rfl ?_
        refine g_iconst dX3_isBelow_6 ?_
        refine g_cVZ (As := [vI a1, vI 0]) (n := 2) (stk := []) (ci := 2) (b := 0) (N := 83) (hX3_mentions a1 0 u) (by decide +kernel) rfl rfl (lw_V q1399 q1401 qs82 q168 q1402) (by decide +kernel) rfl (by decide) hRf hRl (fun _ => (avc ra1 (avc (inR_z (Or.inl rfl)) avn))) (Nat.le_of_ble_eq_true rfl) rfl rfl dX3_isBelow_7 (fun v9 s10 zv9 => ?_)
        refine g_if_ne 31 dX3_isBelow_10 (by decide) (fun _ => (inR_z zv9)) (fun _ => ?_) (fun _ => ?_)
        · exact g_pick [0, 1, 2] rfl (hj3 a1 a2 s10 ra1 ra2)
        · exact g_pick [] rfl (hj1 s10)
      · exact g_pick [0, 1, 2] rfl (hj3 a1 a2 u ra1 ra2)
end
section
variable {l : Launch} {d : Nat} {call : Nat → List Int → Sg → Option (Int × Sg)}
theorem ctX3_isBelow (p0 : Program) (e0 : Env) (s0 : State) (m0 : MethodId) (meth0 : Method) (c0 : Code) (G0 : Gm) (hd : 2 ≤ d) (hX3_mentions : ∀ (a1 a2 : Int) (u : Sg), Ct l d FT clA yX3_mentions cX3_mentions 4 (some .boolean) DX3_mentions rvI [vR 0, vI a1, vI a2] u (call 15 [a1, a2] u)) (a1 a2 : Int) (u : Sg) : Ct l (d + 1) FT clA yX3_isBelow cX3_isBelow 3 (some .boolean) DX3_isBelow rvI [vR 0, vI a1, vI a2] u (bX3_isBelow call a1 a2 u) :=
  Ct_of (by decide) (Nat.le_of_ble_eq_true rfl) (fun p e R s1 m args below meth c G A ad hA hRf hRl => wX3_isBelow hd hRf hRl hX3_mentions a1 a2 u (hA _ (List.mem_cons_of_mem _ List.mem_cons_self)) (hA _ (List.mem_cons_of_mem _ (List.mem_cons_of_mem _ List.mem_cons_self)))) p0 e0 s0 m0 meth0 c0 G0
end
/-! RoundCheckModel.mentions(II)Z -/
abbrev JX3_mentions : Jm := (cX3_mentions, RX3, 4, (some .boolean))
def bX3_mentions_L28 (call : Nat → List Int → Sg → Option (Int × Sg)) : Nat → Int → Int → Int → Sg → (Sg → Option (Int × Sg)) → (Sg → Option (Int × Sg)) → Option (Int × Sg)
  | 0, _, _, _, _, _, _ => none
  | n + 1, a1, a2, a3, u, x69, x61 => ld u 3 a1 fun v1 => if a3 < v1 then (cl (call 16 [a1, a3] u) fun v2 s3 => if v2 = 0 then (ar (a3 + 1) fun v4 => bX3_mentions_L28 call n a1 a2 v4 s3 x69 x61) else (cl (call 7 [a1, a3] s3) fun v5 s6 => cl (call 15 [v5, a2] s6) fun v7 s8 => if v7 = 0 then (ar (a3 + 1) fun v9 => bX3_mentions_L28 call n a1 a2 v9 s8 x69 x61) else (x61 s8))) else (x69 u)
def bX3_mentions (call : Nat → List Int → Sg → Option (Int × Sg)) (a1 a2 : Int) (u : Sg) : Option (Int × Sg) := ld u 1 a1 fun v1 => if v1 = 2 then (cl (call 7 [a1, 0] u) fun v2 s3 => if v2 = a2 then (some (1, s3)) else (some (0, s3))) else (bX3_mentions_L28 call KF a1 a2 0 u (fun s4 => some (0, s4)) (fun s5 => some (1, s5)))
section
variable {p : Program} {l : Launch} {e : Env} {R : Room} {s : State} {m : MethodId} {args : Array Value} {below : List Frame} {meth : Method} {c : Code} {G : Gm} {A : Nat → Prop} {ad0 : Nat → Nat} {σ0 : Sg} {d : Nat} {call : Nat → List Int → Sg → Option (Int × Sg)}
theorem wX3_mentions_L28 (hd : 2 ≤ d) (hRf : d + 1 ≤ R.frames) (hRl : 40 * (d + 1) ≤ R.locals) (hX3_get : ∀ (a1 a2 : Int) (u : Sg), Ct l d FT clA yX3_get cX3_get 3 (some .int) DX3_get rvI [vR 0, vI a1, vI a2] u (call 7 [a1, a2] u)) (hX3_isPart : ∀ (a1 a2 : Int) (u : Sg), Ct l d FT clA yX3_isPart cX3_isPart 4 (some .boolean) DX3_isPart rvI [vR 0, vI a1, vI a2] u (call 16 [a1, a2] u)) (hX3_mentions : ∀ (a1 a2 : Int) (u : Sg), Ct l d FT clA yX3_mentions cX3_mentions 4 (some .boolean) DX3_mentions rvI [vR 0, vI a1, vI a2] u (call 15 [a1, a2] u)) (x69 : Sg → Option (Int × Sg)) (x61 : Sg → Option (Int × Sg)) (hx69 : ∀ (u : Sg), WG p l e R s m args below meth c JX3_mentions DX3_mentions G clA A FT ad0 σ0 rvI (x69 u) u 69 [] []) (hx61 : ∀ (u : Sg), WG p l e R s m args below meth c JX3_mentions DX3_mentions G clA A FT ad0 σ0 rvI (x61 u) u 61 [] []) : ∀ (n : Nat) (a1 a2 a3 : Int) (u : Sg), inR a1 → inR a2 → inR a3 → WG p l e R s m args below meth c JX3_mentions DX3_mentions G clA A FT ad0 σ0 rvI (bX3_mentions_L28 call n a1 a2 a3 u x69 x61) u 28 [(0, vR 0), (1, vI a1), (2, vI a2), (3, vI a3)] [] := by
  intro n
  induction n with
  | zero =>
    intro a1 a2 a3 u ra1 ra2 ra3
    exact g_none
  | succ n ih =>
    intro a1 a2 a3 u ra1 ra2 ra3
    rw [bX3_mentions_L28]
    refine g_iload_n 3 dX3_mentions_28 rfl ?_
    refine g_aload_n 0 dX3_mentions_29 rfl ?_
    refine g_get (v := vR 13) (ci := 2) (b := 0) (N := 83) 3 rfl rfl (by decide) in_X3 rfl rfl q1135 dX3_mentions_30 ?_
    refine g_iload_n 1 dX3_mentions_33 rfl ?_
    refine g_iald (id := 3) 2 rfl rfl dX3_mentions_34 (fun v1 rv1 => ?_)
    refine g_icmp_ge 69 dX3_mentions_35 (by decide) (fun _ => ra3) (fun _ => rv1) (fun _ => ?_) (fun _ => ?_)
    · refine g_aload_n 0 dX3_mentions_38 rfl ?_
      refine g_iload_n 1 dX3_mentions_39 rfl ?_
      refine g_iload_n 3 dX3_mentions_40 rfl ?_
      refine g_cVZ (As := [vI a1, vI a3]) (n := 2) (stk := []) (ci := 2) (b := 0) (N := 83) (hX3_isPart a1 a3 u) (by decide +kernel) rfl rfl (lw_V q1403 q1405 qs83 q168 q1406) (by decide +kernel) rfl (by decide) hRf hRl (fun _ => (avc ra1 (avc ra3 avn))) (Nat.le_of_ble_eq_true rfl) rfl rfl dX3_mentions_41 (fun v2 s3 zv2 => ?_)
      refine g_if_eq 63 dX3_mentions_44 (by decide) (fun _ => (inR_z zv2)) (fun _ => ?_) (fun _ => ?_)
      · refine g_iinc 3 (loc' := fun v4 => [(3, vI v4), (0, vR 0), (1, vI a1), (2, vI a2)]) dX3_mentions_63 rfl (by decide) (fun _ => rfl) (fun v4 rv4 => ?_)
        refine g_goto 28 dX3_mentions_66 (by decide) ?_
        exact g_pick [1, 2, 3, 0] rfl (ih a1 a2 v4 s3 ra1 ra2 rv4)
      · refine g_aload_n 0 dX3_mentions_47 rfl ?_
        refine g_aload_n 0 dX3_mentions_48 rfl ?_
        refine g_iload_n 1 dX3_mentions_49 rfl ?_
        refine g_iload_n 3 dX3_mentions_50 rfl ?_
        refine g_cVI (As := [vI a1, vI a3]) (n := 2) (stk := [vR 0]) (ci := 2) (b := 0) (N := 83) (hX3_get a1 a3 s3) (by decide +kernel) rfl rfl (lw_V q1116 q1118 qs76 q168 q1119) (by decide +kernel) rfl (by decide) hRf hRl (fun _ => (avc ra1 (avc ra3 avn))) (Nat.le_of_ble_eq_true rfl) rfl rfl dX3_mentions_51 (fun v5 s6 rv5 => ?_)
        refine g_iload_n 2 dX3_mentions_54 rfl ?_
        refine g_cVZ (As := [vI v5, vI a2]) (n := 2) (stk := []) (ci := 2) (b := 0) (N := 83) (hX3_mentions v5 a2 s6) (by decide +kernel) rfl rfl (lw_V q1399 q1401 qs82 q168 q1402) (by decide +kernel) rfl (by decide) hRf hRl (fun _ => (avc rv5 (avc ra2 avn))) (Nat.le_of_ble_eq_true rfl) rfl rfl dX3_mentions_55 (fun v7 s8 zv7 => ?_)
        refine g_if_eq 63 dX3_mentions_58 (by decide) (fun _ => (inR_z zv7)) (fun _ => ?_) (fun _ => ?_)
        · refine g_iinc 3 (loc' := fun v9 => [(3, vI v9), (0, vR 0), (1, vI a1), (2, vI a2)]) dX3_mentions_63 rfl (by decide) (fun _ => rfl) (fun v9 rv9 => ?_)
          refine g_goto 28 dX3_mentions_66 (by decide) ?_
          exact g_pick [1, 2, 3, 0] rfl (ih a1 a2 v9 s8 ra1 ra2 rv9)
        · exact g_pick [] rfl (hx61 s8)
    · exact g_pick [] rfl (hx69 u)
theorem wX3_mentions (hd : 2 ≤ d) (hRf : d + 1 ≤ R.frames) (hRl : 40 * (d + 1) ≤ R.locals) (hX3_get : ∀ (a1 a2 : Int) (u : Sg), Ct l d FT clA yX3_get cX3_get 3 (some .int) DX3_get rvI [vR 0, vI a1, vI a2] u (call 7 [a1, a2] u)) (hX3_isPart : ∀ (a1 a2 : Int) (u : Sg), Ct l d FT clA yX3_isPart cX3_isPart 4 (some .boolean) DX3_isPart rvI [vR 0, vI a1, vI a2] u (call 16 [a1, a2] u)) (hX3_mentions : ∀ (a1 a2 : Int) (u : Sg), Ct l d FT clA yX3_mentions cX3_mentions 4 (some .boolean) DX3_mentions rvI [vR 0, vI a1, vI a2] u (call 15 [a1, a2] u)) (a1 a2 : Int) (u : Sg) (ra1 : inR a1) (ra2 : inR a2) : WG p l e R s m args below meth c JX3_mentions DX3_mentions G clA A FT ad0 σ0 rvI (bX3_mentions call a1 a2 u) u 0 [(0, vR 0), (1, vI a1), (2, vI a2)] [] := by
  unfold bX3_mentions
  refine g_aload_n 0 dX3_mentions_0 rfl ?_
  refine g_get (v := vR 11) (ci := 2) (b := 0) (N := 83) 1 rfl rfl (by decide) in_X3 rfl rfl q1133 dX3_mentions_1 ?_
  refine g_iload_n 1 dX3_mentions_4 rfl ?_
  refine g_iald (id := 1) 0 rfl rfl dX3_mentions_5 (fun v1 rv1 => ?_)
  refine g_iconst dX3_mentions_6 ?_
  refine g_icmp_ne 26 dX3_mentions_7 (by decide) (fun _ => rv1) (fun _ => (by decide : inR (2))) (fun _ => ?_) (fun _ => ?_)
  · refine g_aload_n 0 dX3_mentions_10 rfl ?_
    refine g_iload_n 1 dX3_mentions_11 rfl ?_
    refine g_iconst dX3_mentions_12 ?_
    refine g_cVI (As := [vI a1, vI 0]) (n := 2) (stk := []) (ci := 2) (b := 0) (N := 83) (hX3_get a1 0 u) (by decide +kernel) rfl rfl (lw_V q1116 q1118 qs76 q168 q1119) (by decide +kernel) rfl (by decide) hRf hRl (fun _ => (avc ra1 (avc (inR_z (Or.inl rfl)) avn))) (Nat.le_of_ble_eq_true rfl) rfl rfl dX3_mentions_13 (fun v2 s3 rv2 => ?_)
    refine g_iload_n 2 dX3_mentions_16 rfl ?_
    refine g_icmp_ne 24 dX3_mentions_17 (by decide) (fun _ => rv2) (fun _ => ra2) (fun _ => ?_) (fun _ => ?_)
    · refine g_iconst dX3_mentions_20 ?_
      refine g_goto 25 dX3_mentions_21 (by decide) ?_
      exact g_zret rfl rfl (fun _ => (Or.inr rfl)) dX3_mentions_25
    · refine g_iconst dX3_mentions_24 ?_
      exact g_zret rfl rfl (fun _ => (Or.inl rfl)) dX3_mentions_25
  · refine g_iconst dX3_mentions_26 ?_
    refine g_istore_n (loc' := [(3, vI 0), (0, vR 0), (1, vI a1), (2, vI a2)]) dX3_mentions_27 (by decide) rfl ?_
    refine g_pick [1, 2, 3, 0] rfl (wX3_mentions_L28 hd hRf hRl hX3_get hX3_isPart hX3_mentions _ _ (fun s4 => ?_) (fun s5 => ?_) KF a1 a2 0 u ra1 ra2 (inR_z (Or.inl rfl)))
    · refine g_iconst dX3_mentions_69 ?_
      exact g_zret rfl rfl (fun _ => (Or.inl rfl)) dX3_mentions_70
    · refine g_iconst dX3_mentions_61 ?_
      exact g_zret rfl rfl (fun _ => (Or.inr rfl)) dX3_mentions_62
end
section
variable {l : Launch} {d : Nat} {call : Nat → List Int → Sg → Option (Int × Sg)}
theorem ctX3_mentions (p0 : Program) (e0 : Env) (s0 : State) (m0 : MethodId) (meth0 : Method) (c0 : Code) (G0 : Gm) (hd : 2 ≤ d) (hX3_get : ∀ (a1 a2 : Int) (u : Sg), Ct l d FT clA yX3_get cX3_get 3 (some .int) DX3_get rvI [vR 0, vI a1, vI a2] u (call 7 [a1, a2] u)) (hX3_isPart : ∀ (a1 a2 : Int) (u : Sg), Ct l d FT clA yX3_isPart cX3_isPart 4 (some .boolean) DX3_isPart rvI [vR 0, vI a1, vI a2] u (call 16 [a1, a2] u)) (hX3_mentions : ∀ (a1 a2 : Int) (u : Sg), Ct l d FT clA yX3_mentions cX3_mentions 4 (some .boolean) DX3_mentions rvI [vR 0, vI a1, vI a2] u (call 15 [a1, a2] u)) (a1 a2 : Int) (u : Sg) : Ct l (d + 1) FT clA yX3_mentions cX3_mentions 4 (some .boolean) DX3_mentions rvI [vR 0, vI a1, vI a2] u (bX3_mentions call a1 a2 u) :=
  Ct_of (by decide) (Nat.le_of_ble_eq_true rfl) (fun p e R s1 m args below meth c G A ad hA hRf hRl => wX3_mentions hd hRf hRl hX3_get hX3_isPart hX3_mentions a1 a2 u (hA _ (List.mem_cons_of_mem _ List.mem_cons_self)) (hA _ (List.mem_cons_of_mem _ (List.mem_cons_of_mem _ List.mem_cons_self)))) p0 e0 s0 m0 meth0 c0 G0
end
/-! RoundCheckModel.isPart(II)Z -/
abbrev JX3_isPart : Jm := (cX3_isPart, RX3, 4, (some .boolean))
def bX3_isPart (call : Nat → List Int → Sg → Option (Int × Sg)) (a1 a2 : Int) (u : Sg) : Option (Int × Sg) := ld u 1 a1 fun v1 => if v1 = 2 then (some (0, u)) else (if v1 = 3 then (some (0, u)) else (if v1 = 1 then (some (0, u)) else (if v1 = 8 then (some (0, u)) else (if v1 = 7 then (jn (fun (s3 : Sg) => some (0, s3)) fun j2 => if a2 = 1 then (cl (call 7 [a1, 1] u) fun v4 s5 => if v4 ≤ 0 then (j2 s5) else (some (1, s5))) else (j2 u)) else (jn (fun (s7 : Sg) => some (0, s7)) fun j6 => cl (call 8 [v1] u) fun v8 s9 => if a2 < v8 then (j6 s9) else (cl (call 7 [a1, a2] s9) fun v10 s11 => if v10 ≤ 0 then (j6 s11) else (some (1, s11))))))))
section
variable {p : Program} {l : Launch} {e : Env} {R : Room} {s : State} {m : MethodId} {args : Array Value} {below : List Frame} {meth : Method} {c : Code} {G : Gm} {A : Nat → Prop} {ad0 : Nat → Nat} {σ0 : Sg} {d : Nat} {call : Nat → List Int → Sg → Option (Int × Sg)}
theorem wX3_isPart (hd : 2 ≤ d) (hRf : d + 1 ≤ R.frames) (hRl : 40 * (d + 1) ≤ R.locals) (hX3_get : ∀ (a1 a2 : Int) (u : Sg), Ct l d FT clA yX3_get cX3_get 3 (some .int) DX3_get rvI [vR 0, vI a1, vI a2] u (call 7 [a1, a2] u)) (hX3_first : ∀ (a1 : Int) (u : Sg), Ct l d FT clA yX3_first cX3_first 1 (some .int) DX3_first rvI [vI a1] u (call 8 [a1] u)) (a1 a2 : Int) (u : Sg) (ra1 : inR a1) (ra2 : inR a2) : WG p l e R s m args below meth c JX3_isPart DX3_isPart G clA A FT ad0 σ0 rvI (bX3_isPart call a1 a2 u) u 0 [(0, vR 0), (1, vI a1), (2, vI a2)] [] := by
  unfold bX3_isPart
  refine g_aload_n 0 dX3_isPart_0 rfl ?_
  refine g_get (v := vR 11) (ci := 2) (b := 0) (N := 83) 1 rfl rfl (by decide) in_X3 rfl rfl q1133 dX3_isPart_1 ?_
  refine g_iload_n 1 dX3_isPart_4 rfl ?_
  refine g_iald (id := 1) 0 rfl rfl dX3_isPart_5 (fun v1 rv1 => ?_)
  refine g_istore_n (loc' := [(3, vI v1), (0, vR 0), (1, vI a1), (2, vI a2)]) dX3_isPart_6 (by decide) rfl ?_
  refine g_iload_n 0 dX3_isPart_7 rfl ?_
  refine g_iconst dX3_isPart_8 ?_
  refine g_icmp_eq 28 dX3_isPart_9 (by decide) (fun _ => rv1) (fun _ => (by decide : inR (2))) (fun _ => ?_) (fun _ => ?_)
  · refine g_iconst dX3_isPart_28 ?_
    exact g_zret rfl rfl (fun _ => (Or.inl rfl)) dX3_isPart_29
  · refine g_iload_n 0 dX3_isPart_12 rfl ?_
    refine g_iconst dX3_isPart_13 ?_
    refine g_icmp_eq 28 dX3_isPart_14 (by decide) (fun _ => rv1) (fun _ => (by decide : inR (3))) (fun _ => ?_) (fun _ => ?_)
    · refine g_iconst dX3_isPart_28 ?_
      exact g_zret rfl rfl (fun _ => (Or.inl rfl)) dX3_isPart_29
    · refine g_iload_n 0 dX3_isPart_17 rfl ?_
      refine g_iconst dX3_isPart_18 ?_
      refine g_icmp_eq 28 dX3_isPart_19 (by decide) (fun _ => rv1) (fun _ => (inR_z (Or.inr rfl))) (fun _ => ?_) (fun _ => ?_)
      · refine g_iconst dX3_isPart_28 ?_
        exact g_zret rfl rfl (fun _ => (Or.inl rfl)) dX3_isPart_29
      · refine g_iload_n 0 dX3_isPart_22 rfl ?_
        refine g_bipush (by decide +kernel) dX3_isPart_23 ?_
        refine g_icmp_ne 30 dX3_isPart_25 (by decide) (fun _ => rv1) (fun _ => (by decide : inR (8))) (fun _ => ?_) (fun _ => ?_)
        · refine g_iconst dX3_isPart_28 ?_
          exact g_zret rfl rfl (fun _ => (Or.inl rfl)) dX3_isPart_29
        · refine g_iload_n 0 dX3_isPart_30 rfl ?_
          refine g_bipush (by decide +kernel) dX3_isPart_31 ?_
          refine g_icmp_ne 56 dX3_isPart_33 (by decide) (fun _ => rv1) (fun _ => (by decide : inR (7))) (fun _ => ?_) (fun _ => ?_)
          · refine g_jn (fun j2 => ∀ (s3 : Sg), WG p l e R s m args below meth c JX3_isPart DX3_isPart G clA A FT ad0 σ0 rvI (j2 s3) s3 54 [] []) (fun s3 => ?_) (fun j2 hj2 => ?_)
            · refine g_iconst dX3_isPart_54 ?_
              exact g_zret rfl rfl (fun _ => (Or.inl rfl)) dX3_isPart_55
            · refine g_iload_n 3 dX3_isPart_36 rfl ?_
              refine g_iconst dX3_isPart_37 ?_
              refine g_icmp_ne 54 dX3_isPart_38 (by decide) (fun _ => ra2) (fun _ => (inR_z (Or.inr rfl))) (fun _ => ?_) (fun _ => ?_)
              · refine g_aload_n 1 dX3_isPart_41 rfl ?_
                refine g_iload_n 2 dX3_isPart_42 rfl ?_
                refine g_iconst dX3_isPart_43 ?_
                refine g_cVI (As := [vI a1, vI 1]) (n := 2) (stk := []) (ci := 2) (b := 0) (N := 83) (hX3_get a1 1 u) (by decide +kernel) rfl rfl (lw_V q1116 q1118 qs76 q168 q1119) (by decide +kernel) rfl (by decide) hRf hRl (fun _ => (avc ra1 (avc (inR_z (Or.inr rfl)) avn))) (Nat.le_of_ble_eq_true rfl) rfl rfl dX3_isPart_44 (fun v4 s5 rv4 => ?_)
                refine g_if_le 54 dX3_isPart_47 (by decide) (fun _ => rv4) (fun _ => ?_) (fun _ => ?_)
                · exact g_pick [] rfl (hj2 s5)
                · refine g_iconst dX3_isPart_50 ?_
                  refine g_goto 55 dX3_isPart_51 (by decide) ?_
                  exact g_zret rfl rfl (fun _ => (Or.inr rfl)) dX3_isPart_55
              · exact g_pick [] rfl (hj2 u)
          · refine g_jn (fun j6 => ∀ (s7 : Sg), WG p l e R s m args below meth c JX3_isPart DX3_isPart G clA A FT ad0 σ0 rvI (j6 s7) s7 77 [] []) (fun s7 => ?_) (fun j6 hj6 => ?_)
            · refine g_iconst dX3_isPart_77 ?_
              exact g_zret rfl rfl (fun _ => (Or.inl rfl)) dX3_isPart_78
            · refine g_iload_n 3 dX3_isPart_56 rfl ?_
              refine g_iload_n 0 dX3_isPart_57 rfl ?_
              refine g_cSI (As := [vI v1]) (n := 1) (stk := [vI a2]) (hX3_first v1 u) (by decide +kernel) (lw_S q1120 q1121 q168 q1122) (by decide +kernel) rfl (by decide) hRf hRl (fun _ => (avc rv1 avn)) (Nat.le_of_ble_eq_true rfl) rfl rfl dX3_isPart_58 (fun v8 s9 rv8 => ?_)
              refine g_icmp_lt 77 dX3_isPart_61 (by decide) (fun _ => ra2) (fun _ => rv8) (fun _ => ?_) (fun _ => ?_)
              · exact g_pick [] rfl (hj6 s9)
              · refine g_aload_n 1 dX3_isPart_64 rfl ?_
                refine g_iload_n 2 dX3_isPart_65 rfl ?_
                refine g_iload_n 3 dX3_isPart_66 rfl ?_
                refine g_cVI (As := [vI a1, vI a2]) (n := 2) (stk := []) (ci := 2) (b := 0) (N := 83) (hX3_get a1 a2 s9) (by decide +kernel) rfl rfl (lw_V q1116 q1118 qs76 q168 q1119) (by decide +kernel) rfl (by decide) hRf hRl (fun _ => (avc ra1 (avc ra2 avn))) (Nat.le_of_ble_eq_true rfl) rfl rfl dX3_isPart_67 (fun v10 s11 rv10 => ?_)
                refine g_if_le 77 dX3_isPart_70 (by decide) (fun _ => rv10) (fun _ => ?_) (fun _ => ?_)
                · exact g_pick [] rfl (hj6 s11)
                · refine g_iconst dX3_isPart_73 ?_
                  refine g_goto 78 dX3_isPart_74 (by decide) ?_
                  exact g_zret rfl rfl (fun _ => (Or.inr rfl)) dX3_isPart_78
end
section
variable {l : Launch} {d : Nat} {call : Nat → List Int → Sg → Option (Int × Sg)}
theorem ctX3_isPart (p0 : Program) (e0 : Env) (s0 : State) (m0 : MethodId) (meth0 : Method) (c0 : Code) (G0 : Gm) (hd : 2 ≤ d) (hX3_get : ∀ (a1 a2 : Int) (u : Sg), Ct l d FT clA yX3_get cX3_get 3 (some .int) DX3_get rvI [vR 0, vI a1, vI a2] u (call 7 [a1, a2] u)) (hX3_first : ∀ (a1 : Int) (u : Sg), Ct l d FT clA yX3_first cX3_first 1 (some .int) DX3_first rvI [vI a1] u (call 8 [a1] u)) (a1 a2 : Int) (u : Sg) : Ct l (d + 1) FT clA yX3_isPart cX3_isPart 4 (some .boolean) DX3_isPart rvI [vR 0, vI a1, vI a2] u (bX3_isPart call a1 a2 u) :=
  Ct_of (by decide) (Nat.le_of_ble_eq_true rfl) (fun p e R s1 m args below meth c G A ad hA hRf hRl => wX3_isPart hd hRf hRl hX3_get hX3_first a1 a2 u (hA _ (List.mem_cons_of_mem _ List.mem_cons_self)) (hA _ (List.mem_cons_of_mem _ (List.mem_cons_of_mem _ List.mem_cons_self)))) p0 e0 s0 m0 meth0 c0 G0
end
/-! RoundCheckModel.fails(I)I -/
abbrev JX3_fails : Jm := (cX3_fails, RX3, 2, (some .int))
def bX3_fails (call : Nat → List Int → Sg → Option (Int × Sg)) (a1 : Int) (u : Sg) : Option (Int × Sg) := un (sI u 0 a1) fun s1 => some (0, s1)
section
variable {p : Program} {l : Launch} {e : Env} {R : Room} {s : State} {m : MethodId} {args : Array Value} {below : List Frame} {meth : Method} {c : Code} {G : Gm} {A : Nat → Prop} {ad0 : Nat → Nat} {σ0 : Sg} {d : Nat} {call : Nat → List Int → Sg → Option (Int × Sg)}
theorem wX3_fails (hd : 2 ≤ d) (hRf : d + 1 ≤ R.frames) (hRl : 40 * (d + 1) ≤ R.locals) (a1 : Int) (u : Sg) (ra1 : inR a1) : WG p l e R s m args below meth c JX3_fails DX3_fails G clA A FT ad0 σ0 rvI (bX3_fails call a1 u) u 0 [(0, vR 0), (1, vI a1)] [] := by
  unfold bX3_fails
  refine g_aload_n 0 dX3_fails_0 rfl ?_
  refine g_iload_n 1 dX3_fails_1 rfl ?_
  refine g_sIU (ci := 2) (b := 0) (N := 83) FT_ok 0 rfl rfl rfl (by decide) in_X3 tyX3 tyX3_ok nmX3 rfl rfl rfl rfl (by decide +kernel) ra1 q1132 dX3_fails_2 (fun s1 => ?_)
  refine g_iconst dX3_fails_5 ?_
  exact g_iret rfl rfl (fun _ => (inR_z (Or.inl rfl))) dX3_fails_6
end
section
variable {l : Launch} {d : Nat} {call : Nat → List Int → Sg → Option (Int × Sg)}
theorem ctX3_fails (p0 : Program) (e0 : Env) (s0 : State) (m0 : MethodId) (meth0 : Method) (c0 : Code) (G0 : Gm) (hd : 2 ≤ d) (a1 : Int) (u : Sg) : Ct l (d + 1) FT clA yX3_fails cX3_fails 2 (some .int) DX3_fails rvI [vR 0, vI a1] u (bX3_fails call a1 u) :=
  Ct_of (by decide) (Nat.le_of_ble_eq_true rfl) (fun p e R s1 m args below meth c G A ad hA hRf hRl => wX3_fails hd hRf hRl a1 u (hA _ (List.mem_cons_of_mem _ List.mem_cons_self))) p0 e0 s0 m0 meth0 c0 G0
end
/-! RoundCheckModel.attribute()I -/
abbrev JX3_attribute : Jm := (cX3_attribute, RX3, 1, (some .int))
def bX3_attribute (call : Nat → List Int → Sg → Option (Int × Sg)) (u : Sg) : Option (Int × Sg) := un (sI u 0 0) fun s1 => un (gI s1 28) fun v2 => if v2 = 15 then (cl (call 17 [1] s1) fun v3 s4 => some (v3, s4)) else (un (gI s1 28) fun v5 => ar (v5 + 1) fun v6 => un (sI s1 28 v6) fun s7 => some (v5, s7))
section
variable {p : Program} {l : Launch} {e : Env} {R : Room} {s : State} {m : MethodId} {args : Array Value} {below : List Frame} {meth : Method} {c : Code} {G : Gm} {A : Nat → Prop} {ad0 : Nat → Nat} {σ0 : Sg} {d : Nat} {call : Nat → List Int → Sg → Option (Int × Sg)}
theorem wX3_attribute (hd : 2 ≤ d) (hRf : d + 1 ≤ R.frames) (hRl : 40 * (d + 1) ≤ R.locals) (hX3_fails : ∀ (a1 : Int) (u : Sg), Ct l d FT clA yX3_fails cX3_fails 2 (some .int) DX3_fails rvI [vR 0, vI a1] u (call 17 [a1] u)) (u : Sg) : WG p l e R s m args below meth c JX3_attribute DX3_attribute G clA A FT ad0 σ0 rvI (bX3_attribute call u) u 0 [(0, vR 0)] [] := by
  unfold bX3_attribute
  refine g_aload_n 0 dX3_attribute_0 rfl ?_
  refine g_iconst dX3_attribute_1 ?_
  refine g_sIU (ci := 2) (b := 0) (N := 83) FT_ok 0 rfl rfl rfl (by decide) in_X3 tyX3 tyX3_ok nmX3 rfl rfl rfl rfl (by decide +kernel) (inR_z (Or.inl rfl)) q1132 dX3_attribute_2 (fun s1 => ?_)
  refine g_aload_n 0 dX3_attribute_5 rfl ?_
  refine g_getI (ci := 2) (b := 0) (N := 83) 28 rfl rfl rfl (by decide) in_X3 rfl rfl q1160 dX3_attribute_6 (fun v2 rv2 => ?_)
  refine g_bipush (by decide +kernel) dX3_attribute_9 ?_
  refine g_icmp_ne 22 dX3_attribute_11 (by decide) (fun _ => rv2) (fun _ => (by decide : inR (15))) (fun _ => ?_) (fun _ => ?_)
  · refine g_aload_n 0 dX3_attribute_14 rfl ?_
    refine g_iconst dX3_attribute_15 ?_
    refine g_cVI (As := [vI 1]) (n := 1) (stk := []) (ci := 2) (b := 0) (N := 83) (hX3_fails 1 s1) (by decide +kernel) rfl rfl (lw_V q1407 q1409 qs84 q168 q1410) (by decide +kernel) rfl (by decide) hRf hRl (fun _ => (avc (inR_z (Or.inr rfl)) avn)) (Nat.le_of_ble_eq_true rfl) rfl rfl dX3_attribute_16 (fun v3 s4 rv3 => ?_)
    refine g_goto 33 dX3_attribute_19 (by decide) ?_
    exact g_iret rfl rfl (fun _ => rv3) dX3_attribute_33
  · refine g_aload_n 0 dX3_attribute_22 rfl ?_
    refine g_dup rfl dX3_attribute_23 ?_
    refine g_getI (ci := 2) (b := 0) (N := 83) 28 rfl rfl rfl (by decide) in_X3 rfl rfl q1160 dX3_attribute_24 (fun v5 rv5 => ?_)
    refine g_dup_x1 rfl rfl dX3_attribute_27 ?_
    refine g_iconst dX3_attribute_28 ?_
    refine g_iadd dX3_attribute_29 (fun v6 rv6 => ?_)
    refine g_sIU (ci := 2) (b := 0) (N := 83) FT_ok 28 rfl rfl rfl (by decide) in_X3 tyX3 tyX3_ok nmX3 rfl rfl rfl rfl (by decide +kernel) rv6 q1160 dX3_attribute_30 (fun s7 => ?_)
    exact g_iret rfl rfl (fun _ => rv5) dX3_attribute_33
end
section
variable {l : Launch} {d : Nat} {call : Nat → List Int → Sg → Option (Int × Sg)}
theorem ctX3_attribute (p0 : Program) (e0 : Env) (s0 : State) (m0 : MethodId) (meth0 : Method) (c0 : Code) (G0 : Gm) (hd : 2 ≤ d) (hX3_fails : ∀ (a1 : Int) (u : Sg), Ct l d FT clA yX3_fails cX3_fails 2 (some .int) DX3_fails rvI [vR 0, vI a1] u (call 17 [a1] u)) (u : Sg) : Ct l (d + 1) FT clA yX3_attribute cX3_attribute 1 (some .int) DX3_attribute rvI [vR 0] u (bX3_attribute call u) :=
  Ct_of (by decide) (Nat.le_of_ble_eq_true rfl) (fun p e R s1 m args below meth c G A ad hA hRf hRl => wX3_attribute hd hRf hRl hX3_fails u) p0 e0 s0 m0 meth0 c0 G0
end
/-! RoundCheckModel.functor(II)I -/
abbrev JX3_functor : Jm := (cX3_functor, RX3, 4, (some .int))
def bX3_functor (call : Nat → List Int → Sg → Option (Int × Sg)) (a1 a2 : Int) (u : Sg) : Option (Int × Sg) := jn (fun (s2 : Sg) => cl (call 17 [1] s2) fun v3 s4 => some (v3, s4)) fun j1 => un (sI u 0 0) fun s5 => cl (call 12 [a2, 1] s5) fun v6 s7 => if a1 < 0 then (j1 s7) else (if a1 ≤ 2 then (if v6 = 0 then (j1 s7) else (cl (call 14 [v6, a1] s7) fun v8 s9 => if v8 = 0 then (j1 s9) else (un (gI s9 22) fun v10 => if v10 = 30 then (cl (call 17 [2] s9) fun v11 s12 => some (v11, s12)) else (un (gI s9 22) fun v13 => stA s9 20 v13 a1 fun s14 => un (gI s14 22) fun v15 => stA s14 21 v15 v6 fun s16 => un (gI s16 22) fun v17 => ar (v17 + 1) fun v18 => un (sI s16 22 v18) fun s19 => some (v17, s19))))) else (j1 s7))
section
variable {p : Program} {l : Launch} {e : Env} {R : Room} {s : State} {m : MethodId} {args : Array Value} {below : List Frame} {meth : Method} {c : Code} {G : Gm} {A : Nat → Prop} {ad0 : Nat → Nat} {σ0 : Sg} {d : Nat} {call : Nat → List Int → Sg → Option (Int × Sg)}
theorem wX3_functor (hd : 2 ≤ d) (hRf : d + 1 ≤ R.frames) (hRl : 40 * (d + 1) ≤ R.locals) (hX3_fails : ∀ (a1 : Int) (u : Sg), Ct l d FT clA yX3_fails cX3_fails 2 (some .int) DX3_fails rvI [vR 0, vI a1] u (call 17 [a1] u)) (hX3_form : ∀ (a1 a2 : Int) (u : Sg), Ct l d FT clA yX3_form cX3_form 3 (some .int) DX3_form rvI [vR 0, vI a1, vI a2] u (call 12 [a1, a2] u)) (hX3_isBelow : ∀ (a1 a2 : Int) (u : Sg), Ct l d FT clA yX3_isBelow cX3_isBelow 3 (some .boolean) DX3_isBelow rvI [vR 0, vI a1, vI a2] u (call 14 [a1, a2] u)) (a1 a2 : Int) (u : Sg) (ra1 : inR a1) (ra2 : inR a2) : WG p l e R s m args below meth c JX3_functor DX3_functor G clA A FT ad0 σ0 rvI (bX3_functor call a1 a2 u) u 0 [(0, vR 0), (1, vI a1), (2, vI a2)] [] := by
  unfold bX3_functor
  refine g_jn (fun j1 => ∀ (s2 : Sg), WG p l e R s m args below meth c JX3_functor DX3_functor G clA A FT ad0 σ0 rvI (j1 s2) s2 34 [(0, vR 0)] []) (fun s2 => ?_) (fun j1 hj1 => ?_)
  · refine g_aload_n 0 dX3_functor_34 rfl ?_
    refine g_iconst dX3_functor_35 ?_
    refine g_cVI (As := [vI 1]) (n := 1) (stk := []) (ci := 2) (b := 0) (N := 83) (hX3_fails 1 s2) (by decide +kernel) rfl rfl (lw_V q1407 q1409 qs84 q168 q1410) (by decide +kernel) rfl (by decide) hRf hRl (fun _ => (avc (inR_z (Or.inr rfl)) avn)) (Nat.le_of_ble_eq_true rfl) rfl rfl dX3_functor_36 (fun v3 s4 rv3 => ?_)
    exact g_iret rfl rfl (fun _ => rv3) dX3_functor_39
  · refine g_aload_n 0 dX3_functor_0 rfl ?_
    refine g_iconst dX3_functor_1 ?_
    refine g_sIU (ci := 2) (b := 0) (N := 83) FT_ok 0 rfl rfl rfl (by decide) in_X3 tyX3 tyX3_ok nmX3 rfl rfl rfl rfl (by decide +kernel) (inR_z (Or.inl rfl)) q1132 dX3_functor_2 (fun s5 => ?_)
    refine g_aload_n 0 dX3_functor_5 rfl ?_
    refine g_iload_n 2 dX3_functor_6 rfl ?_
    refine g_iconst dX3_functor_7 ?_
    refine g_cVI (As := [vI a2, vI 1]) (n := 2) (stk := []) (ci := 2) (b := 0) (N := 83) (hX3_form a2 1 s5) (by decide +kernel) rfl rfl (lw_V q1387 q1389 qs79 q168 q1390) (by decide +kernel) rfl (by decide) hRf hRl (fun _ => (avc ra2 (avc (inR_z (Or.inr rfl)) avn))) (Nat.le_of_ble_eq_true rfl) rfl rfl dX3_functor_8 (fun v6 s7 rv6 => ?_)
    refine g_istore_n (loc' := [(3, vI v6), (0, vR 0), (1, vI a1), (2, vI a2)]) dX3_functor_11 (by decide) rfl ?_
    refine g_iload_n 2 dX3_functor_12 rfl ?_
    refine g_if_lt 34 dX3_functor_13 (by decide) (fun _ => ra1) (fun _ => ?_) (fun _ => ?_)
    · exact g_pick [1] rfl (hj1 s7)
    · refine g_iload_n 2 dX3_functor_16 rfl ?_
      refine g_iconst dX3_functor_17 ?_
      refine g_icmp_gt 34 dX3_functor_18 (by decide) (fun _ => ra1) (fun _ => (by decide : inR (2))) (fun _ => ?_) (fun _ => ?_)
      · refine g_iload_n 0 dX3_functor_21 rfl ?_
        refine g_if_eq 34 dX3_functor_22 (by decide) (fun _ => rv6) (fun _ => ?_) (fun _ => ?_)
        · exact g_pick [1] rfl (hj1 s7)
        · refine g_aload_n 1 dX3_functor_25 rfl ?_
          refine g_iload_n 0 dX3_functor_26 rfl ?_
          refine g_iload_n 2 dX3_functor_27 rfl ?_
          refine g_cVZ (As := [vI v6, vI a1]) (n := 2) (stk := []) (ci := 2) (b := 0) (N := 83) (hX3_isBelow v6 a1 s7) (by decide +kernel) rfl rfl (lw_V q1395 q1397 qs81 q168 q1398) (by decide +kernel) rfl (by decide) hRf hRl (fun _ => (avc rv6 (avc ra1 avn))) (Nat.le_of_ble_eq_true rfl) rfl rfl dX3_functor_28 (fun v8 s9 zv8 => ?_)
          refine g_if_ne 40 dX3_functor_31 (by decide) (fun _ => (inR_z zv8)) (fun _ => ?_) (fun _ => ?_)
          · exact g_pick [1] rfl (hj1 s9)
          · refine g_aload_n 1 dX3_functor_40 rfl ?_
            refine g_getI (ci := 2) (b := 0) (N := 83) 22 rfl rfl rfl (by decide) in_X3 rfl rfl q1154 dX3_functor_41 (fun v10 rv10 => ?_)
            refine g_bipush (by decide +kernel) dX3_functor_44 ?_
            refine g_icmp_ne 55 dX3_functor_46 (by decide) (fun _ => rv10) (fun _ => (by decide : inR (30))) (fun _ => ?_) (fun _ => ?_)
            · refine g_aload_n 1 dX3_functor_49 rfl ?_
              refine g_iconst dX3_functor_50 ?_
              refine g_cVI (As := [vI 2]) (n := 1) (stk := []) (ci := 2) (b := 0) (N := 83) (hX3_fails 2 s9) (by decide +kernel) rfl rfl (lw_V q1407 q1409 qs84 q168 q1410) (by decide +kernel) rfl (by decide) hRf hRl (fun _ => (avc (by decide : inR (2)) avn)) (Nat.le_of_ble_eq_true rfl) rfl rfl dX3_functor_51 (fun v11 s12 rv11 => ?_)
              exact g_iret rfl rfl (fun _ => rv11) dX3_functor_54
            · refine g_aload_n 1 dX3_functor_55 rfl ?_
              refine g_get (v := vR 30) (ci := 2) (b := 0) (N := 83) 20 rfl rfl (by decide) in_X3 rfl rfl q1152 dX3_functor_56 ?_
              refine g_aload_n 1 dX3_functor_59 rfl ?_
              refine g_getI (ci := 2) (b := 0) (N := 83) 22 rfl rfl rfl (by decide) in_X3 rfl rfl q1154 dX3_functor_60 (fun v13 rv13 => ?_)
              refine g_iload_n 2 dX3_functor_63 rfl ?_
              refine g_iastU (id := 20) FT_ok 14 rfl rfl (by decide +kernel) ra1 dX3_functor_64 (fun s14 => ?_)
              refine g_aload_n 1 dX3_functor_65 rfl ?_
              refine g_get (v := vR 31) (ci := 2) (b := 0) (N := 83) 21 rfl rfl (by decide) in_X3 rfl rfl q1153 dX3_functor_66 ?_
              refine g_aload_n 1 dX3_functor_69 rfl ?_
              refine g_getI (ci := 2) (b := 0) (N := 83) 22 rfl rfl rfl (by decide) in_X3 rfl rfl q1154 dX3_functor_70 (fun v15 rv15 => ?_)
              refine g_iload_n 0 dX3_functor_73 rfl ?_
              refine g_iastU (id := 21) FT_ok 15 rfl rfl (by decide +kernel) rv6 dX3_functor_74 (fun s16 => ?_)
              refine g_aload_n 1 dX3_functor_75 rfl ?_
              refine g_dup rfl dX3_functor_76 ?_
              refine g_getI (ci := 2) (b := 0) (N := 83) 22 rfl rfl rfl (by decide) in_X3 rfl rfl q1154 dX3_functor_77 (fun v17 rv17 => ?_)
              refine g_dup_x1 rfl rfl dX3_functor_80 ?_
              refine g_iconst dX3_functor_81 ?_
              refine g_iadd dX3_functor_82 (fun v18 rv18 => ?_)
              refine g_sIU (ci := 2) (b := 0) (N := 83) FT_ok 22 rfl rfl rfl (by decide) in_X3 tyX3 tyX3_ok nmX3 rfl rfl rfl rfl (by decide +kernel) rv18 q1154 dX3_functor_83 (fun s19 => ?_)
              exact g_iret rfl rfl (fun _ => rv17) dX3_functor_86
      · exact g_pick [1] rfl (hj1 s7)
end
section
variable {l : Launch} {d : Nat} {call : Nat → List Int → Sg → Option (Int × Sg)}
theorem ctX3_functor (p0 : Program) (e0 : Env) (s0 : State) (m0 : MethodId) (meth0 : Method) (c0 : Code) (G0 : Gm) (hd : 2 ≤ d) (hX3_fails : ∀ (a1 : Int) (u : Sg), Ct l d FT clA yX3_fails cX3_fails 2 (some .int) DX3_fails rvI [vR 0, vI a1] u (call 17 [a1] u)) (hX3_form : ∀ (a1 a2 : Int) (u : Sg), Ct l d FT clA yX3_form cX3_form 3 (some .int) DX3_form rvI [vR 0, vI a1, vI a2] u (call 12 [a1, a2] u)) (hX3_isBelow : ∀ (a1 a2 : Int) (u : Sg), Ct l d FT clA yX3_isBelow cX3_isBelow 3 (some .boolean) DX3_isBelow rvI [vR 0, vI a1, vI a2] u (call 14 [a1, a2] u)) (a1 a2 : Int) (u : Sg) : Ct l (d + 1) FT clA yX3_functor cX3_functor 4 (some .int) DX3_functor rvI [vR 0, vI a1, vI a2] u (bX3_functor call a1 a2 u) :=
  Ct_of (by decide) (Nat.le_of_ble_eq_true rfl) (fun p e R s1 m args below meth c G A ad hA hRf hRl => wX3_functor hd hRf hRl hX3_fails hX3_form hX3_isBelow a1 a2 u (hA _ (List.mem_cons_of_mem _ List.mem_cons_self)) (hA _ (List.mem_cons_of_mem _ (List.mem_cons_of_mem _ List.mem_cons_self)))) p0 e0 s0 m0 meth0 c0 G0
end
/-! RoundCheckModel.predicate(I)I -/
abbrev JX3_predicate : Jm := (cX3_predicate, RX3, 2, (some .int))
def bX3_predicate (call : Nat → List Int → Sg → Option (Int × Sg)) (a1 : Int) (u : Sg) : Option (Int × Sg) := jn (fun (s2 : Sg) => cl (call 17 [1] s2) fun v3 s4 => some (v3, s4)) fun j1 => un (sI u 0 0) fun s5 => if a1 < 0 then (j1 s5) else (if a1 ≤ 2 then (un (gI s5 24) fun v6 => if v6 = 10 then (cl (call 17 [2] s5) fun v7 s8 => some (v7, s8)) else (un (gI s5 24) fun v9 => stA s5 23 v9 a1 fun s10 => un (gI s10 24) fun v11 => ar (v11 + 1) fun v12 => un (sI s10 24 v12) fun s13 => some (v11, s13))) else (j1 s5))
section
variable {p : Program} {l : Launch} {e : Env} {R : Room} {s : State} {m : MethodId} {args : Array Value} {below : List Frame} {meth : Method} {c : Code} {G : Gm} {A : Nat → Prop} {ad0 : Nat → Nat} {σ0 : Sg} {d : Nat} {call : Nat → List Int → Sg → Option (Int × Sg)}
theorem wX3_predicate (hd : 2 ≤ d) (hRf : d + 1 ≤ R.frames) (hRl : 40 * (d + 1) ≤ R.locals) (hX3_fails : ∀ (a1 : Int) (u : Sg), Ct l d FT clA yX3_fails cX3_fails 2 (some .int) DX3_fails rvI [vR 0, vI a1] u (call 17 [a1] u)) (a1 : Int) (u : Sg) (ra1 : inR a1) : WG p l e R s m args below meth c JX3_predicate DX3_predicate G clA A FT ad0 σ0 rvI (bX3_predicate call a1 u) u 0 [(0, vR 0), (1, vI a1)] [] := by
  unfold bX3_predicate
  refine g_jn (fun j1 => ∀ (s2 : Sg), WG p l e R s m args below meth c JX3_predicate DX3_predicate G clA A FT ad0 σ0 rvI (j1 s2) s2 14 [(0, vR 0)] []) (fun s2 => ?_) (fun j1 hj1 => ?_)
  · refine g_aload_n 0 dX3_predicate_14 rfl ?_
    refine g_iconst dX3_predicate_15 ?_
    refine g_cVI (As := [vI 1]) (n := 1) (stk := []) (ci := 2) (b := 0) (N := 83) (hX3_fails 1 s2) (by decide +kernel) rfl rfl (lw_V q1407 q1409 qs84 q168 q1410) (by decide +kernel) rfl (by decide) hRf hRl (fun _ => (avc (inR_z (Or.inr rfl)) avn)) (Nat.le_of_ble_eq_true rfl) rfl rfl dX3_predicate_16 (fun v3 s4 rv3 => ?_)
    exact g_iret rfl rfl (fun _ => rv3) dX3_predicate_19
  · refine g_aload_n 0 dX3_predicate_0 rfl ?_
    refine g_iconst dX3_predicate_1 ?_
    refine g_sIU (ci := 2) (b := 0) (N := 83) FT_ok 0 rfl rfl rfl (by decide) in_X3 tyX3 tyX3_ok nmX3 rfl rfl rfl rfl (by decide +kernel) (inR_z (Or.inl rfl)) q1132 dX3_predicate_2 (fun s5 => ?_)
    refine g_iload_n 1 dX3_predicate_5 rfl ?_
    refine g_if_lt 14 dX3_predicate_6 (by decide) (fun _ => ra1) (fun _ => ?_) (fun _ => ?_)
    · exact g_pick [0] rfl (hj1 s5)
    · refine g_iload_n 1 dX3_predicate_9 rfl ?_
      refine g_iconst dX3_predicate_10 ?_
      refine g_icmp_le 20 dX3_predicate_11 (by decide) (fun _ => ra1) (fun _ => (by decide : inR (2))) (fun _ => ?_) (fun _ => ?_)
      · refine g_aload_n 0 dX3_predicate_20 rfl ?_
        refine g_getI (ci := 2) (b := 0) (N := 83) 24 rfl rfl rfl (by decide) in_X3 rfl rfl q1156 dX3_predicate_21 (fun v6 rv6 => ?_)
        refine g_bipush (by decide +kernel) dX3_predicate_24 ?_
        refine g_icmp_ne 35 dX3_predicate_26 (by decide) (fun _ => rv6) (fun _ => (by decide : inR (10))) (fun _ => ?_) (fun _ => ?_)
        · refine g_aload_n 0 dX3_predicate_29 rfl ?_
          refine g_iconst dX3_predicate_30 ?_
          refine g_cVI (As := [vI 2]) (n := 1) (stk := []) (ci := 2) (b := 0) (N := 83) (hX3_fails 2 s5) (by decide +kernel) rfl rfl (lw_V q1407 q1409 qs84 q168 q1410) (by decide +kernel) rfl (by decide) hRf hRl (fun _ => (avc (by decide : inR (2)) avn)) (Nat.le_of_ble_eq_true rfl) rfl rfl dX3_predicate_31 (fun v7 s8 rv7 => ?_)
          exact g_iret rfl rfl (fun _ => rv7) dX3_predicate_34
        · refine g_aload_n 0 dX3_predicate_35 rfl ?_
          refine g_get (v := vR 33) (ci := 2) (b := 0) (N := 83) 23 rfl rfl (by decide) in_X3 rfl rfl q1155 dX3_predicate_36 ?_
          refine g_aload_n 0 dX3_predicate_39 rfl ?_
          refine g_getI (ci := 2) (b := 0) (N := 83) 24 rfl rfl rfl (by decide) in_X3 rfl rfl q1156 dX3_predicate_40 (fun v9 rv9 => ?_)
          refine g_iload_n 1 dX3_predicate_43 rfl ?_
          refine g_iastU (id := 23) FT_ok 16 rfl rfl (by decide +kernel) ra1 dX3_predicate_44 (fun s10 => ?_)
          refine g_aload_n 0 dX3_predicate_45 rfl ?_
          refine g_dup rfl dX3_predicate_46 ?_
          refine g_getI (ci := 2) (b := 0) (N := 83) 24 rfl rfl rfl (by decide) in_X3 rfl rfl q1156 dX3_predicate_47 (fun v11 rv11 => ?_)
          refine g_dup_x1 rfl rfl dX3_predicate_50 ?_
          refine g_iconst dX3_predicate_51 ?_
          refine g_iadd dX3_predicate_52 (fun v12 rv12 => ?_)
          refine g_sIU (ci := 2) (b := 0) (N := 83) FT_ok 24 rfl rfl rfl (by decide) in_X3 tyX3 tyX3_ok nmX3 rfl rfl rfl rfl (by decide +kernel) rv12 q1156 dX3_predicate_53 (fun s13 => ?_)
          exact g_iret rfl rfl (fun _ => rv11) dX3_predicate_56
      · exact g_pick [0] rfl (hj1 s5)
end
section
variable {l : Launch} {d : Nat} {call : Nat → List Int → Sg → Option (Int × Sg)}
theorem ctX3_predicate (p0 : Program) (e0 : Env) (s0 : State) (m0 : MethodId) (meth0 : Method) (c0 : Code) (G0 : Gm) (hd : 2 ≤ d) (hX3_fails : ∀ (a1 : Int) (u : Sg), Ct l d FT clA yX3_fails cX3_fails 2 (some .int) DX3_fails rvI [vR 0, vI a1] u (call 17 [a1] u)) (a1 : Int) (u : Sg) : Ct l (d + 1) FT clA yX3_predicate cX3_predicate 2 (some .int) DX3_predicate rvI [vR 0, vI a1] u (bX3_predicate call a1 u) :=
  Ct_of (by decide) (Nat.le_of_ble_eq_true rfl) (fun p e R s1 m args below meth c G A ad hA hRf hRl => wX3_predicate hd hRf hRl hX3_fails a1 u (hA _ (List.mem_cons_of_mem _ List.mem_cons_self))) p0 e0 s0 m0 meth0 c0 G0
end
