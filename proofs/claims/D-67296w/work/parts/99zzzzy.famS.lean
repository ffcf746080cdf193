/-! the store alone -/
abbrev FS : Fm := ([(0, 0, 21)], kdC, [0, 1, 2, 3, 4, 5, 6, 7, 8, 11])
theorem FS_ok : FOK FS := ⟨by decide, by decide⟩
theorem FS_10 : FO10 FS := FC_10
/-! X2_hash -/
section
variable {p : Program} {l : Launch} {e : Env} {R : Room} {s : State} {m : MethodId} {args : Array Value} {below : List Frame} {meth : Method} {c : Code} {G : Gm} {A : Nat → Prop} {ad0 : Nat → Nat} {σ0 : Sg} {d : Nat} {call : Nat → List Int → Sg → Option (Int × Sg)}
theorem wS2_hash_L11 (hd : 2 ≤ d) (hRf : d + 1 ≤ R.frames) (hRl : 40 * (d + 1) ≤ R.locals) (x41 : Int → Sg → Option (Int × Sg)) (hx41 : ∀ (a4 : Int) (u : Sg), inR a4 → WGn p l e R s m args below meth c JX2_hash DX2_hash G clA A FS ad0 σ0 rvI (x41 a4 u) u 41 [(4, vI a4)] []) : ∀ (n : Nat) (a4 a5 : Int) (u : Sg), inR a4 → inR a5 → WGn p l e R s m args below meth c JX2_hash DX2_hash G clA A FS ad0 σ0 rvI (bX2_hash_L11 call n a4 a5 u x41) u 11 [(0, vR 0), (4, vI a4), (5, vI a5)] [] := by
  intro n
  induction n with
  | zero =>
    intro a4 a5 u ra4 ra5
    exact ng_none
  | succ n ih =>
    intro a4 a5 u ra4 ra5
    rw [bX2_hash_L11]
    refine ng_iload 2 dX2_hash_11 rfl ?_
    refine ng_aload_n 0 dX2_hash_13 rfl ?_
    refine ng_getI (ci := 0) (b := 0) (N := 21) 12 rfl rfl rfl (by decide) in_X2 rfl rfl q252 dX2_hash_14 (fun v1 rv1 => ?_)
    refine ng_icmp_ge 41 dX2_hash_17 (by decide) (fun _ => ra5) (fun _ => rv1) (fun _ => ?_) (fun _ => ?_)
    · refine ng_bipush (by decide +kernel) dX2_hash_20 ?_
      refine ng_iload 1 dX2_hash_22 rfl ?_
      refine ng_imulWU dX2_hash_24 (fun v2 rv2 => ?_)
      refine ng_aload_n 0 dX2_hash_25 rfl ?_
      refine ng_get (v := vR 21) (ci := 0) (b := 0) (N := 21) 11 rfl rfl (by decide) in_X2 rfl rfl q250 dX2_hash_26 ?_
      refine ng_iload 2 dX2_hash_29 rfl ?_
      refine ng_iald (id := 11) 9 rfl rfl dX2_hash_31 (fun v3 rv3 => ?_)
      refine ng_iaddWU dX2_hash_32 (fun v4 rv4 => ?_)
      refine ng_istore (loc' := [(4, vI v4), (0, vR 0), (5, vI a5)]) dX2_hash_33 (by decide) rfl ?_
      refine ng_iinc 2 (loc' := fun v5 => [(5, vI v5), (4, vI v4), (0, vR 0)]) dX2_hash_35 rfl (by decide) (fun _ => rfl) (fun v5 rv5 => ?_)
      refine ng_goto 11 dX2_hash_38 (by decide) ?_
      exact ng_pick [2, 1, 0] rfl (ih v4 v5 u rv4 rv5)
    · exact ng_pick [1] rfl (hx41 a4 u ra4)
theorem wS2_hash (hd : 2 ≤ d) (hRf : d + 1 ≤ R.frames) (hRl : 40 * (d + 1) ≤ R.locals) (a1 a2 a3 : Int) (u : Sg) (ra1 : inR a1) (ra2 : inR a2) (ra3 : inR a3) : WGn p l e R s m args below meth c JX2_hash DX2_hash G clA A FS ad0 σ0 rvI (bX2_hash call a1 a2 a3 u) u 0 [(0, vR 0), (1, vI a1), (2, vI a2), (3, vI a3)] [] := by
  unfold bX2_hash
  refine ng_bipush (by decide +kernel) dX2_hash_0 ?_
  refine ng_iload_n 1 dX2_hash_2 rfl ?_
  refine ng_imulWU dX2_hash_3 (fun v1 rv1 => ?_)
  refine ng_iload_n 2 dX2_hash_4 rfl ?_
  refine ng_iaddWU dX2_hash_5 (fun v2 rv2 => ?_)
  refine ng_istore (loc' := [(4, vI v2), (0, vR 0), (1, vI a1), (2, vI a2), (3, vI a3)]) dX2_hash_6 (by decide) rfl ?_
  refine ng_iload_n 4 dX2_hash_8 rfl ?_
  refine ng_istore (loc' := [(5, vI a3), (4, vI v2), (0, vR 0), (1, vI a1), (2, vI a2), (3, vI a3)]) dX2_hash_9 (by decide) rfl ?_
  refine ng_pick [2, 1, 0] rfl (wS2_hash_L11 hd hRf hRl _ (fun v4 s3 rv4 => ?_) KF v2 a3 u rv2 ra3)
  · refine ng_iload 0 dX2_hash_41 rfl ?_
    refine ng_ldc (n := -1640531535) (by decide +kernel) q199 dX2_hash_43 ?_
    refine ng_imulWU dX2_hash_45 (fun v5 rv5 => ?_)
    refine ng_istore (loc' := [(4, vI v5)]) dX2_hash_46 (by decide) rfl ?_
    refine ng_iload 0 dX2_hash_48 rfl ?_
    refine ng_bipush (by decide +kernel) dX2_hash_50 ?_
    refine ng_iushrU dX2_hash_52 (fun v6 rv6 => ?_)
    exact ng_iret rfl rfl (fun _ => rv6) dX2_hash_53
end
section
variable {l : Launch} {d : Nat} {call : Nat → List Int → Sg → Option (Int × Sg)}
theorem ctS2_hash (p0 : Program) (e0 : Env) (s0 : State) (m0 : MethodId) (meth0 : Method) (c0 : Code) (G0 : Gm) (hd : 2 ≤ d) (a1 a2 a3 : Int) (u : Sg) : CtN l (d + 1) FS clA yX2_hash cX2_hash 6 (some .int) DX2_hash rvI [vR 0, vI a1, vI a2, vI a3] u (bX2_hash call a1 a2 a3 u) :=
  nCt_of (by decide) (Nat.le_of_ble_eq_true rfl) (fun p e R s1 m args below meth c G A ad hA hRf hRl => wS2_hash hd hRf hRl a1 a2 a3 u (hA _ (List.mem_cons_of_mem _ List.mem_cons_self)) (hA _ (List.mem_cons_of_mem _ (List.mem_cons_of_mem _ List.mem_cons_self))) (hA _ (List.mem_cons_of_mem _ (List.mem_cons_of_mem _ (List.mem_cons_of_mem _ List.mem_cons_self))))) p0 e0 s0 m0 meth0 c0 G0
end
theorem scX2_hash {l : Launch} {d : Nat} (hd : 3 ≤ d) : ∀ (a1 a2 a3 : Int) (u : Sg), CtN l d FS clA yX2_hash cX2_hash 6 (some .int) DX2_hash rvI [vR 0, vI a1, vI a2, vI a3] u (runC d 95 [a1, a2, a3] u) := by
  obtain ⟨d, rfl⟩ : ∃ e, d = e + 1 := ⟨d - 1, by omega⟩
  intro a1 a2 a3 u
  rw [runC_eq (by omega)]
  exact ctS2_hash (call := runC d) p00 e00 default default default c00 ((fun _ => 0, fun _ _ => 0), 0, 0, 0) (by omega)  a1 a2 a3 u
/-! X2_push -/
section
variable {p : Program} {l : Launch} {e : Env} {R : Room} {s : State} {m : MethodId} {args : Array Value} {below : List Frame} {meth : Method} {c : Code} {G : Gm} {A : Nat → Prop} {ad0 : Nat → Nat} {σ0 : Sg} {d : Nat} {call : Nat → List Int → Sg → Option (Int × Sg)}
theorem wS2_push (hd : 2 ≤ d) (hRf : d + 1 ≤ R.frames) (hRl : 40 * (d + 1) ≤ R.locals) (a1 : Int) (u : Sg) (ra1 : inR a1) : WGn p l e R s m args below meth c JX2_push DX2_push G clA A FS ad0 σ0 rvV (bX2_push call a1 u) u 0 [(0, vR 0), (1, vI a1)] [] := by
  unfold bX2_push
  refine ng_jn (fun j1 => ∀ (a1 : Int) (s2 : Sg), inR a1 → WGn p l e R s m args below meth c JX2_push DX2_push G clA A FS ad0 σ0 rvV (j1 a1 s2) s2 29 [(0, vR 0), (1, vI a1)] []) (fun a1 s2 ra1 => ?_) (fun j1 hj1 => ?_)
  · refine ng_aload_n 0 dX2_push_29 rfl ?_
    refine ng_get (v := vR 21) (ci := 0) (b := 0) (N := 21) 11 rfl rfl (by decide) in_X2 rfl rfl q250 dX2_push_30 ?_
    refine ng_aload_n 0 dX2_push_33 rfl ?_
    refine ng_getI (ci := 0) (b := 0) (N := 21) 12 rfl rfl rfl (by decide) in_X2 rfl rfl q252 dX2_push_34 (fun v3 rv3 => ?_)
    refine ng_iload_n 1 dX2_push_37 rfl ?_
    refine ng_iastU (id := 11) FS_ok 9 rfl rfl (by decide +kernel) ra1 dX2_push_38 (fun s4 => ?_)
    refine ng_aload_n 0 dX2_push_39 rfl ?_
    refine ng_dup rfl dX2_push_40 ?_
    refine ng_getI (ci := 0) (b := 0) (N := 21) 12 rfl rfl rfl (by decide) in_X2 rfl rfl q252 dX2_push_41 (fun v5 rv5 => ?_)
    refine ng_iconst dX2_push_44 ?_
    refine ng_iadd dX2_push_45 (fun v6 rv6 => ?_)
    refine ng_sIU (ci := 0) (b := 0) (N := 21) FS_ok 12 rfl rfl rfl (by decide) in_X2 tyX2 tyX2_ok nmX2 rfl rfl rfl rfl (by decide +kernel) rv6 q252 dX2_push_46 (fun s7 => ?_)
    exact ng_vret rfl rfl dX2_push_49
  · refine ng_aload_n 0 dX2_push_0 rfl ?_
    refine ng_getI (ci := 0) (b := 0) (N := 21) 12 rfl rfl rfl (by decide) in_X2 rfl rfl q252 dX2_push_1 (fun v8 rv8 => ?_)
    refine ng_aload_n 0 dX2_push_4 rfl ?_
    refine ng_get (v := vR 21) (ci := 0) (b := 0) (N := 21) 11 rfl rfl (by decide) in_X2 rfl rfl q250 dX2_push_5 ?_
    refine ng_alenU (id := 11) 9 rfl (Or.inl rfl) dX2_push_8 (fun v9 rv9 => ?_)
    refine ng_icmp_ne 29 dX2_push_9 (by decide) (fun _ => rv8) (fun _ => rv9) (fun _ => ?_) (fun _ => ?_)
    · refine ng_aload_n 0 dX2_push_12 rfl ?_
      refine ng_aload_n 0 dX2_push_13 rfl ?_
      refine ng_get (v := vR 21) (ci := 0) (b := 0) (N := 21) 11 rfl rfl (by decide) in_X2 rfl rfl q250 dX2_push_14 ?_
      refine ng_iconst dX2_push_17 ?_
      refine ng_aload_n 0 dX2_push_18 rfl ?_
      refine ng_getI (ci := 0) (b := 0) (N := 21) 12 rfl rfl rfl (by decide) in_X2 rfl rfl q252 dX2_push_19 (fun v10 rv10 => ?_)
      refine ng_imul dX2_push_22 (fun v11 rv11 => ?_)
      refine ng_cpy (ci := 0) (b := 0) (N := 21) FS_ok FS_10 (by decide) 11 9 rfl rfl rfl rfl (by decide) in_X2 tyX2 tyX2_ok nmX2 rfl rfl rfl rfl (by decide +kernel) q200 q250 hRf hRl (Nat.le_of_succ_le hd) (Nat.le_of_ble_eq_true rfl) rfl rfl dX2_push_23 dX2_push_26 (fun s12 => ?_)
      exact ng_pick [0, 1] rfl (hj1 a1 s12 ra1)
    · exact ng_pick [0, 1] rfl (hj1 a1 u ra1)
end
section
variable {l : Launch} {d : Nat} {call : Nat → List Int → Sg → Option (Int × Sg)}
theorem ctS2_push (p0 : Program) (e0 : Env) (s0 : State) (m0 : MethodId) (meth0 : Method) (c0 : Code) (G0 : Gm) (hd : 2 ≤ d) (a1 : Int) (u : Sg) : CtN l (d + 1) FS clA yX2_push cX2_push 2 none DX2_push rvV [vR 0, vI a1] u (bX2_push call a1 u) :=
  nCt_of (by decide) (Nat.le_of_ble_eq_true rfl) (fun p e R s1 m args below meth c G A ad hA hRf hRl => wS2_push hd hRf hRl a1 u (hA _ (List.mem_cons_of_mem _ List.mem_cons_self))) p0 e0 s0 m0 meth0 c0 G0
end
theorem scX2_push {l : Launch} {d : Nat} (hd : 3 ≤ d) : ∀ (a1 : Int) (u : Sg), CtN l d FS clA yX2_push cX2_push 2 none DX2_push rvV [vR 0, vI a1] u (runC d 97 [a1] u) := by
  obtain ⟨d, rfl⟩ : ∃ e, d = e + 1 := ⟨d - 1, by omega⟩
  intro a1 u
  rw [runC_eq (by omega)]
  exact ctS2_push (call := runC d) p00 e00 default default default c00 ((fun _ => 0, fun _ _ => 0), 0, 0, 0) (by omega)  a1 u
/-! X2_make -/
section
variable {p : Program} {l : Launch} {e : Env} {R : Room} {s : State} {m : MethodId} {args : Array Value} {below : List Frame} {meth : Method} {c : Code} {G : Gm} {A : Nat → Prop} {ad0 : Nat → Nat} {σ0 : Sg} {d : Nat} {call : Nat → List Int → Sg → Option (Int × Sg)}
theorem wS2_make_L74 (hd : 2 ≤ d) (hRf : d + 1 ≤ R.frames) (hRl : 40 * (d + 1) ≤ R.locals) (hX2_hash : ∀ (a1 a2 a3 : Int) (u : Sg), CtN l d FS clA yX2_hash cX2_hash 6 (some .int) DX2_hash rvI [vR 0, vI a1, vI a2, vI a3] u (call 95 [a1, a2, a3] u)) (x126 : Int → Int → Int → Int → Int → Int → Int → Sg → Option (Int × Sg)) (hx126 : ∀ (a1 a2 a3 a4 a5 a6 a7 : Int) (u : Sg), inR a1 → inR a2 → inR a3 → inR a4 → inR a5 → inR a6 → (a7 = 0 ∨ a7 = 1) → WGn p l e R s m args below meth c JX2_make DX2_make G clA A FS ad0 σ0 rvI (x126 a1 a2 a3 a4 a5 a6 a7 u) u 126 [(0, vR 0), (1, vI a1), (2, vI a2), (3, vI a3), (4, vI a4), (5, vI a5), (6, vI a6), (7, vI a7)] []) : ∀ (n : Nat) (a1 a2 a3 a4 a5 a6 a7 a8 : Int) (u : Sg), inR a1 → inR a2 → inR a3 → inR a4 → inR a5 → inR a6 → (a7 = 0 ∨ a7 = 1) → inR a8 → WGn p l e R s m args below meth c JX2_make DX2_make G clA A FS ad0 σ0 rvI (bX2_make_L74 call n a1 a2 a3 a4 a5 a6 a7 a8 u x126) u 74 [(0, vR 0), (1, vI a1), (2, vI a2), (3, vI a3), (4, vI a4), (5, vI a5), (6, vI a6), (7, vI a7), (8, vI a8)] [] := by
  intro n
  induction n with
  | zero =>
    intro a1 a2 a3 a4 a5 a6 a7 a8 u ra1 ra2 ra3 ra4 ra5 ra6 za7 ra8
    exact ng_none
  | succ n ih =>
    intro a1 a2 a3 a4 a5 a6 a7 a8 u ra1 ra2 ra3 ra4 ra5 ra6 za7 ra8
    rw [bX2_make_L74]
    refine ng_iload 8 dX2_make_74 rfl ?_
    refine ng_iload 5 dX2_make_76 rfl ?_
    refine ng_icmp_ge 126 dX2_make_78 (by decide) (fun _ => ra8) (fun _ => ra5) (fun _ => ?_) (fun _ => ?_)
    · refine ng_iload 7 dX2_make_81 rfl ?_
      refine ng_if_eq 126 dX2_make_83 (by decide) (fun _ => (inR_z za7)) (fun _ => ?_) (fun _ => ?_)
      · exact ng_pick [0, 1, 2, 3, 4, 5, 6, 7] rfl (hx126 a1 a2 a3 a4 a5 a6 a7 u ra1 ra2 ra3 ra4 ra5 ra6 za7)
      · refine ng_jn (fun j1 => ∀ (a1 a2 a3 a4 a5 a6 a8 t0 : Int) (s2 : Sg), inR a1 → inR a2 → inR a3 → inR a4 → inR a5 → inR a6 → inR a8 → (t0 = 0 ∨ t0 = 1) → WGn p l e R s m args below meth c JX2_make DX2_make G clA A FS ad0 σ0 rvI (j1 a1 a2 a3 a4 a5 a6 a8 t0 s2) s2 118 [(0, vR 0), (1, vI a1), (2, vI a2), (3, vI a3), (4, vI a4), (5, vI a5), (6, vI a6), (8, vI a8)] [vI t0]) (fun a1 a2 a3 a4 a5 a6 a8 t0 s2 ra1 ra2 ra3 ra4 ra5 ra6 ra8 zt0 => ?_) (fun j1 hj1 => ?_)
        · refine ng_istore (loc' := [(7, vI t0), (0, vR 0), (1, vI a1), (2, vI a2), (3, vI a3), (4, vI a4), (5, vI a5), (6, vI a6), (8, vI a8)]) dX2_make_118 (by decide) rfl ?_
          refine ng_iinc 8 (loc' := fun v3 => [(8, vI v3), (7, vI t0), (0, vR 0), (1, vI a1), (2, vI a2), (3, vI a3), (4, vI a4), (5, vI a5), (6, vI a6)]) dX2_make_120 rfl (by decide) (fun _ => rfl) (fun v3 rv3 => ?_)
          refine ng_goto 74 dX2_make_123 (by decide) ?_
          exact ng_pick [2, 3, 4, 5, 6, 7, 8, 1, 0] rfl (ih a1 a2 a3 a4 a5 a6 t0 v3 s2 ra1 ra2 ra3 ra4 ra5 ra6 zt0 rv3)
        · refine ng_aload_n 0 dX2_make_86 rfl ?_
          refine ng_get (v := vR 17) (ci := 0) (b := 0) (N := 21) 7 rfl rfl (by decide) in_X2 rfl rfl q243 dX2_make_87 ?_
          refine ng_aload_n 0 dX2_make_90 rfl ?_
          refine ng_get (v := vR 12) (ci := 0) (b := 0) (N := 21) 2 rfl rfl (by decide) in_X2 rfl rfl q235 dX2_make_91 ?_
          refine ng_iload 6 dX2_make_94 rfl ?_
          refine ng_iald (id := 2) 2 rfl rfl dX2_make_96 (fun v4 rv4 => ?_)
          refine ng_iload 8 dX2_make_97 rfl ?_
          refine ng_iadd dX2_make_99 (fun v5 rv5 => ?_)
          refine ng_iald (id := 7) 7 rfl rfl dX2_make_100 (fun v6 rv6 => ?_)
          refine ng_aload_n 0 dX2_make_101 rfl ?_
          refine ng_get (v := vR 21) (ci := 0) (b := 0) (N := 21) 11 rfl rfl (by decide) in_X2 rfl rfl q250 dX2_make_102 ?_
          refine ng_iload_n 3 dX2_make_105 rfl ?_
          refine ng_iload 8 dX2_make_106 rfl ?_
          refine ng_iadd dX2_make_108 (fun v7 rv7 => ?_)
          refine ng_iald (id := 11) 9 rfl rfl dX2_make_109 (fun v8 rv8 => ?_)
          refine ng_icmp_ne 117 dX2_make_110 (by decide) (fun _ => rv6) (fun _ => rv8) (fun _ => ?_) (fun _ => ?_)
          · refine ng_iconst dX2_make_113 ?_
            refine ng_goto 118 dX2_make_114 (by decide) ?_
            exact ng_pick [0, 1, 2, 3, 4, 5, 6, 8] rfl (hj1 a1 a2 a3 a4 a5 a6 a8 1 u ra1 ra2 ra3 ra4 ra5 ra6 ra8 (Or.inr rfl))
          · refine ng_iconst dX2_make_117 ?_
            exact ng_pick [0, 1, 2, 3, 4, 5, 6, 8] rfl (hj1 a1 a2 a3 a4 a5 a6 a8 0 u ra1 ra2 ra3 ra4 ra5 ra6 ra8 (Or.inl rfl))
    · exact ng_pick [0, 1, 2, 3, 4, 5, 6, 7] rfl (hx126 a1 a2 a3 a4 a5 a6 a7 u ra1 ra2 ra3 ra4 ra5 ra6 za7)
theorem wS2_make_L26 (hd : 2 ≤ d) (hRf : d + 1 ≤ R.frames) (hRl : 40 * (d + 1) ≤ R.locals) (hX2_hash : ∀ (a1 a2 a3 : Int) (u : Sg), CtN l d FS clA yX2_hash cX2_hash 6 (some .int) DX2_hash rvI [vR 0, vI a1, vI a2, vI a3] u (call 95 [a1, a2, a3] u)) (x151 : Int → Int → Int → Int → Int → Sg → Option (Int × Sg)) (x131 : Int → Int → Sg → Option (Int × Sg)) (hx151 : ∀ (a1 a2 a3 a4 a5 : Int) (u : Sg), inR a1 → inR a2 → inR a3 → inR a4 → inR a5 → WGn p l e R s m args below meth c JX2_make DX2_make G clA A FS ad0 σ0 rvI (x151 a1 a2 a3 a4 a5 u) u 151 [(0, vR 0), (1, vI a1), (2, vI a2), (3, vI a3), (4, vI a4), (5, vI a5)] []) (hx131 : ∀ (a3 a6 : Int) (u : Sg), inR a3 → inR a6 → WGn p l e R s m args below meth c JX2_make DX2_make G clA A FS ad0 σ0 rvI (x131 a3 a6 u) u 131 [(0, vR 0), (3, vI a3), (6, vI a6)] []) : ∀ (n : Nat) (a1 a2 a3 a4 a5 a6 : Int) (u : Sg), inR a1 → inR a2 → inR a3 → inR a4 → inR a5 → inR a6 → WGn p l e R s m args below meth c JX2_make DX2_make G clA A FS ad0 σ0 rvI (bX2_make_L26 call n a1 a2 a3 a4 a5 a6 u x151 x131) u 26 [(0, vR 0), (1, vI a1), (2, vI a2), (3, vI a3), (4, vI a4), (5, vI a5), (6, vI a6)] [] := by
  intro n
  induction n with
  | zero =>
    intro a1 a2 a3 a4 a5 a6 u ra1 ra2 ra3 ra4 ra5 ra6
    exact ng_none
  | succ n ih =>
    intro a1 a2 a3 a4 a5 a6 u ra1 ra2 ra3 ra4 ra5 ra6
    rw [bX2_make_L26]
    refine ng_iload 6 dX2_make_26 rfl ?_
    refine ng_if_eq 151 dX2_make_28 (by decide) (fun _ => ra6) (fun _ => ?_) (fun _ => ?_)
    · exact ng_pick [0, 1, 2, 3, 4, 5] rfl (hx151 a1 a2 a3 a4 a5 u ra1 ra2 ra3 ra4 ra5)
    · refine ng_jn (fun j1 => ∀ (a1 a2 a3 a4 a5 a6 : Int) (s2 : Sg), inR a1 → inR a2 → inR a3 → inR a4 → inR a5 → inR a6 → WGn p l e R s m args below meth c JX2_make DX2_make G clA A FS ad0 σ0 rvI (j1 a1 a2 a3 a4 a5 a6 s2) s2 139 [(0, vR 0), (1, vI a1), (2, vI a2), (3, vI a3), (4, vI a4), (5, vI a5), (6, vI a6)] []) (fun a1 a2 a3 a4 a5 a6 s2 ra1 ra2 ra3 ra4 ra5 ra6 => ?_) (fun j1 hj1 => ?_)
      · refine ng_aload_n 0 dX2_make_139 rfl ?_
        refine ng_get (v := vR 16) (ci := 0) (b := 0) (N := 21) 6 rfl rfl (by decide) in_X2 rfl rfl q242 dX2_make_140 ?_
        refine ng_iload 6 dX2_make_143 rfl ?_
        refine ng_iald (id := 6) 6 rfl rfl dX2_make_145 (fun v3 rv3 => ?_)
        refine ng_istore (loc' := [(6, vI v3), (0, vR 0), (1, vI a1), (2, vI a2), (3, vI a3), (4, vI a4), (5, vI a5)]) dX2_make_146 (by decide) rfl ?_
        refine ng_goto 26 dX2_make_148 (by decide) ?_
        exact ng_pick [1, 2, 3, 4, 5, 6, 0] rfl (ih a1 a2 a3 a4 a5 v3 s2 ra1 ra2 ra3 ra4 ra5 rv3)
      · refine ng_aload_n 0 dX2_make_31 rfl ?_
        refine ng_get (v := vR 10) (ci := 0) (b := 0) (N := 21) 0 rfl rfl (by decide) in_X2 rfl rfl q231 dX2_make_32 ?_
        refine ng_iload 6 dX2_make_35 rfl ?_
        refine ng_iald (id := 0) 0 rfl rfl dX2_make_37 (fun v4 rv4 => ?_)
        refine ng_iload_n 1 dX2_make_38 rfl ?_
        refine ng_icmp_ne 139 dX2_make_39 (by decide) (fun _ => rv4) (fun _ => ra1) (fun _ => ?_) (fun _ => ?_)
        · refine ng_aload_n 0 dX2_make_42 rfl ?_
          refine ng_get (v := vR 11) (ci := 0) (b := 0) (N := 21) 1 rfl rfl (by decide) in_X2 rfl rfl q233 dX2_make_43 ?_
          refine ng_iload 6 dX2_make_46 rfl ?_
          refine ng_iald (id := 1) 1 rfl rfl dX2_make_48 (fun v5 rv5 => ?_)
          refine ng_iload_n 2 dX2_make_49 rfl ?_
          refine ng_icmp_ne 139 dX2_make_50 (by decide) (fun _ => rv5) (fun _ => ra2) (fun _ => ?_) (fun _ => ?_)
          · refine ng_aload_n 0 dX2_make_53 rfl ?_
            refine ng_get (v := vR 13) (ci := 0) (b := 0) (N := 21) 3 rfl rfl (by decide) in_X2 rfl rfl q236 dX2_make_54 ?_
            refine ng_iload 6 dX2_make_57 rfl ?_
            refine ng_iald (id := 3) 3 rfl rfl dX2_make_59 (fun v6 rv6 => ?_)
            refine ng_iload 5 dX2_make_60 rfl ?_
            refine ng_icmp_eq 68 dX2_make_62 (by decide) (fun _ => rv6) (fun _ => ra5) (fun _ => ?_) (fun _ => ?_)
            · refine ng_iconst dX2_make_68 ?_
              refine ng_istore (loc' := [(7, vI 1), (0, vR 0), (1, vI a1), (2, vI a2), (3, vI a3), (4, vI a4), (5, vI a5), (6, vI a6)]) dX2_make_69 (by decide) rfl ?_
              refine ng_iconst dX2_make_71 ?_
              refine ng_istore (loc' := [(8, vI 0), (7, vI 1), (0, vR 0), (1, vI a1), (2, vI a2), (3, vI a3), (4, vI a4), (5, vI a5), (6, vI a6)]) dX2_make_72 (by decide) rfl ?_
              refine ng_pick [2, 3, 4, 5, 6, 7, 8, 1, 0] rfl (wS2_make_L74 hd hRf hRl hX2_hash _ (fun v8 v9 v10 v11 v12 v13 v14 s7 rv8 rv9 rv10 rv11 rv12 rv13 zv14 => ?_) KF a1 a2 a3 a4 a5 a6 1 0 u ra1 ra2 ra3 ra4 ra5 ra6 (Or.inr rfl) (inR_z (Or.inl rfl)))
              · refine ng_iload 7 dX2_make_126 rfl ?_
                refine ng_if_eq 139 dX2_make_128 (by decide) (fun _ => (inR_z zv14)) (fun _ => ?_) (fun _ => ?_)
                · exact ng_pick [0, 1, 2, 3, 4, 5, 6] rfl (hj1 v8 v9 v10 v11 v12 v13 s7 rv8 rv9 rv10 rv11 rv12 rv13)
                · exact ng_pick [0, 3, 6] rfl (hx131 v10 v13 s7 rv10 rv13)
            · refine ng_goto 139 dX2_make_65 (by decide) ?_
              exact ng_pick [0, 1, 2, 3, 4, 5, 6] rfl (hj1 a1 a2 a3 a4 a5 a6 u ra1 ra2 ra3 ra4 ra5 ra6)
          · exact ng_pick [0, 1, 2, 3, 4, 5, 6] rfl (hj1 a1 a2 a3 a4 a5 a6 u ra1 ra2 ra3 ra4 ra5 ra6)
        · exact ng_pick [0, 1, 2, 3, 4, 5, 6] rfl (hj1 a1 a2 a3 a4 a5 a6 u ra1 ra2 ra3 ra4 ra5 ra6)
theorem wS2_make_L267 (hd : 2 ≤ d) (hRf : d + 1 ≤ R.frames) (hRl : 40 * (d + 1) ≤ R.locals) (hX2_hash : ∀ (a1 a2 a3 : Int) (u : Sg), CtN l d FS clA yX2_hash cX2_hash 6 (some .int) DX2_hash rvI [vR 0, vI a1, vI a2, vI a3] u (call 95 [a1, a2, a3] u)) (x309 : Int → Int → Int → Int → Int → Sg → Option (Int × Sg)) (hx309 : ∀ (a1 a2 a3 a4 a5 : Int) (u : Sg), inR a1 → inR a2 → inR a3 → inR a4 → inR a5 → WGn p l e R s m args below meth c JX2_make DX2_make G clA A FS ad0 σ0 rvI (x309 a1 a2 a3 a4 a5 u) u 309 [(0, vR 0), (1, vI a1), (2, vI a2), (3, vI a3), (4, vI a4), (5, vI a5)] []) : ∀ (n : Nat) (a1 a2 a3 a4 a5 : Int) (u : Sg), inR a1 → inR a2 → inR a3 → inR a4 → inR a5 → WGn p l e R s m args below meth c JX2_make DX2_make G clA A FS ad0 σ0 rvI (bX2_make_L267 call n a1 a2 a3 a4 a5 u x309) u 267 [(0, vR 0), (1, vI a1), (2, vI a2), (3, vI a3), (4, vI a4), (5, vI a5)] [] := by
  intro n
  induction n with
  | zero =>
    intro a1 a2 a3 a4 a5 u ra1 ra2 ra3 ra4 ra5
    exact ng_none
  | succ n ih =>
    intro a1 a2 a3 a4 a5 u ra1 ra2 ra3 ra4 ra5
    rw [bX2_make_L267]
    refine ng_aload_n 0 dX2_make_267 rfl ?_
    refine ng_getI (ci := 0) (b := 0) (N := 21) 10 rfl rfl rfl (by decide) in_X2 rfl rfl q247 dX2_make_268 (fun v1 rv1 => ?_)
    refine ng_iload 5 dX2_make_271 rfl ?_
    refine ng_iadd dX2_make_273 (fun v2 rv2 => ?_)
    refine ng_aload_n 0 dX2_make_274 rfl ?_
    refine ng_get (v := vR 17) (ci := 0) (b := 0) (N := 21) 7 rfl rfl (by decide) in_X2 rfl rfl q243 dX2_make_275 ?_
    refine ng_alenU (id := 7) 7 rfl (Or.inl rfl) dX2_make_278 (fun v3 rv3 => ?_)
    refine ng_icmp_le 309 dX2_make_279 (by decide) (fun _ => rv2) (fun _ => rv3) (fun _ => ?_) (fun _ => ?_)
    · exact ng_pick [0, 1, 2, 3, 4, 5] rfl (hx309 a1 a2 a3 a4 a5 u ra1 ra2 ra3 ra4 ra5)
    · refine ng_aload_n 0 dX2_make_282 rfl ?_
      refine ng_aload_n 0 dX2_make_283 rfl ?_
      refine ng_get (v := vR 17) (ci := 0) (b := 0) (N := 21) 7 rfl rfl (by decide) in_X2 rfl rfl q243 dX2_make_284 ?_
      refine ng_aload_n 0 dX2_make_287 rfl ?_
      refine ng_get (v := vR 17) (ci := 0) (b := 0) (N := 21) 7 rfl rfl (by decide) in_X2 rfl rfl q243 dX2_make_288 ?_
      refine ng_alenU (id := 7) 7 rfl (Or.inl rfl) dX2_make_291 (fun v4 rv4 => ?_)
      refine ng_aload_n 0 dX2_make_292 rfl ?_
      refine ng_get (v := vR 17) (ci := 0) (b := 0) (N := 21) 7 rfl rfl (by decide) in_X2 rfl rfl q243 dX2_make_293 ?_
      refine ng_alenU (id := 7) 7 rfl (Or.inl rfl) dX2_make_296 (fun v5 rv5 => ?_)
      refine ng_iconst dX2_make_297 ?_
      refine ng_idiv rv5 (by decide : inR (2)) dX2_make_298 (fun v6 rv6 => ?_)
      refine ng_iadd dX2_make_299 (fun v7 rv7 => ?_)
      refine ng_cpy (ci := 0) (b := 0) (N := 21) FS_ok FS_10 (by decide) 7 7 rfl rfl rfl rfl (by decide) in_X2 tyX2 tyX2_ok nmX2 rfl rfl rfl rfl (by decide +kernel) q200 q243 hRf hRl (Nat.le_of_succ_le hd) (Nat.le_of_ble_eq_true rfl) rfl rfl dX2_make_300 dX2_make_303 (fun s8 => ?_)
      refine ng_goto 267 dX2_make_306 (by decide) ?_
      exact ng_pick [0, 1, 2, 3, 4, 5] rfl (ih a1 a2 a3 a4 a5 s8 ra1 ra2 ra3 ra4 ra5)
theorem wS2_make_L418 (hd : 2 ≤ d) (hRf : d + 1 ≤ R.frames) (hRl : 40 * (d + 1) ≤ R.locals) (hX2_hash : ∀ (a1 a2 a3 : Int) (u : Sg), CtN l d FS clA yX2_hash cX2_hash 6 (some .int) DX2_hash rvI [vR 0, vI a1, vI a2, vI a3] u (call 95 [a1, a2, a3] u)) (x528 : Int → Int → Int → Int → Int → Sg → Option (Int × Sg)) (hx528 : ∀ (a3 a5 a6 a7 a9 : Int) (u : Sg), inR a3 → inR a5 → inR a6 → inL a7 → inR a9 → WGn p l e R s m args below meth c JX2_make DX2_make G clA A FS ad0 σ0 rvI (x528 a3 a5 a6 a7 a9 u) u 528 [(0, vR 0), (3, vI a3), (5, vI a5), (6, vI a6), (7, vL a7), (9, vI a9)] []) : ∀ (n : Nat) (a1 a3 a5 a6 a7 a9 a10 a11 : Int) (u : Sg), inR a1 → inR a3 → inR a5 → inR a6 → inL a7 → inR a9 → inR a10 → inR a11 → WGn p l e R s m args below meth c JX2_make DX2_make G clA A FS ad0 σ0 rvI (bX2_make_L418 call n a1 a3 a5 a6 a7 a9 a10 a11 u x528) u 418 [(0, vR 0), (1, vI a1), (3, vI a3), (5, vI a5), (6, vI a6), (7, vL a7), (9, vI a9), (10, vI a10), (11, vI a11)] [] := by
  intro n
  induction n with
  | zero =>
    intro a1 a3 a5 a6 a7 a9 a10 a11 u ra1 ra3 ra5 ra6 ra7 ra9 ra10 ra11
    exact ng_none
  | succ n ih =>
    intro a1 a3 a5 a6 a7 a9 a10 a11 u ra1 ra3 ra5 ra6 ra7 ra9 ra10 ra11
    rw [bX2_make_L418]
    refine ng_iload 8 dX2_make_418 rfl ?_
    refine ng_iload 3 dX2_make_420 rfl ?_
    refine ng_icmp_ge 528 dX2_make_422 (by decide) (fun _ => ra11) (fun _ => ra5) (fun _ => ?_) (fun _ => ?_)
    · refine ng_aload_n 0 dX2_make_425 rfl ?_
      refine ng_get (v := vR 21) (ci := 0) (b := 0) (N := 21) 11 rfl rfl (by decide) in_X2 rfl rfl q250 dX2_make_426 ?_
      refine ng_iload_n 2 dX2_make_429 rfl ?_
      refine ng_iload 8 dX2_make_430 rfl ?_
      refine ng_iadd dX2_make_432 (fun v1 rv1 => ?_)
      refine ng_iald (id := 11) 9 rfl rfl dX2_make_433 (fun v2 rv2 => ?_)
      refine ng_istore (loc' := [(12, vI v2), (0, vR 0), (1, vI a1), (3, vI a3), (5, vI a5), (6, vI a6), (7, vL a7), (9, vI a9), (10, vI a10), (11, vI a11)]) dX2_make_434 (by decide) rfl ?_
      refine ng_aload_n 1 dX2_make_436 rfl ?_
      refine ng_get (v := vR 17) (ci := 0) (b := 0) (N := 21) 7 rfl rfl (by decide) in_X2 rfl rfl q243 dX2_make_437 ?_
      refine ng_aload_n 1 dX2_make_440 rfl ?_
      refine ng_getI (ci := 0) (b := 0) (N := 21) 10 rfl rfl rfl (by decide) in_X2 rfl rfl q247 dX2_make_441 (fun v3 rv3 => ?_)
      refine ng_iload 9 dX2_make_444 rfl ?_
      refine ng_iadd dX2_make_446 (fun v4 rv4 => ?_)
      refine ng_iload 0 dX2_make_447 rfl ?_
      refine ng_iastU (id := 7) FS_ok 7 rfl rfl (by decide +kernel) rv2 dX2_make_449 (fun s5 => ?_)
      refine ng_iload 9 dX2_make_450 rfl ?_
      refine ng_iload 8 dX2_make_452 rfl ?_
      refine ng_icmp_lt 466 dX2_make_454 (by decide) (fun _ => ra11) (fun _ => ra10) (fun _ => ?_) (fun _ => ?_)
      · refine ng_iload 0 dX2_make_466 rfl ?_
        refine ng_if_eq 522 dX2_make_468 (by decide) (fun _ => rv2) (fun _ => ?_) (fun _ => ?_)
        · refine ng_iinc 9 (loc' := fun v6 => [(11, vI v6), (12, vI v2), (0, vR 0), (1, vI a1), (3, vI a3), (5, vI a5), (6, vI a6), (7, vL a7), (9, vI a9), (10, vI a10)]) dX2_make_522 rfl (by decide) (fun _ => rfl) (fun v6 rv6 => ?_)
          refine ng_goto 418 dX2_make_525 (by decide) ?_
          exact ng_pick [2, 3, 4, 5, 6, 7, 8, 9, 0] rfl (ih a1 a3 a5 a6 a7 a9 a10 v6 s5 ra1 ra3 ra5 ra6 ra7 ra9 ra10 rv6)
        · refine ng_jn (fun j7 => ∀ (a1 a3 a5 a6 a7 a10 a11 t0 t1 : Int) (s8 : Sg), inR a1 → inR a3 → inR a5 → inR a6 → inL a7 → inR a10 → inR a11 → inR t0 → inR t1 → WGn p l e R s m args below meth c JX2_make DX2_make G clA A FS ad0 σ0 rvI (j7 a1 a3 a5 a6 a7 a10 a11 t0 t1 s8) s8 517 [(0, vR 0), (1, vI a1), (3, vI a3), (5, vI a5), (6, vI a6), (7, vL a7), (10, vI a10), (11, vI a11)] [vI t1, vI t0]) (fun a1 a3 a5 a6 a7 a10 a11 t0 t1 s8 ra1 ra3 ra5 ra6 ra7 ra10 ra11 rt0 rt1 => ?_) (fun j7 hj7 => ?_)
          · refine ng_mmax rt0 rt1 (Nat.le_trans (Nat.succ_le_succ (Nat.zero_le _)) hRf) (Nat.le_trans (Nat.mul_le_mul_left 40 (Nat.succ_le_succ (Nat.zero_le d))) hRl) (Nat.le_of_ble_eq_true rfl) q216 q217 q166 q218 dX2_make_517 (fun v9 rv9 => ?_)
            refine ng_istore (loc' := [(9, vI v9), (0, vR 0), (1, vI a1), (3, vI a3), (5, vI a5), (6, vI a6), (7, vL a7), (10, vI a10), (11, vI a11)]) dX2_make_520 (by decide) rfl ?_
            refine ng_iinc 8 (loc' := fun v10 => [(11, vI v10), (9, vI v9), (0, vR 0), (1, vI a1), (3, vI a3), (5, vI a5), (6, vI a6), (7, vL a7), (10, vI a10)]) dX2_make_522 rfl (by decide) (fun _ => rfl) (fun v10 rv10 => ?_)
            refine ng_goto 418 dX2_make_525 (by decide) ?_
            exact ng_pick [2, 3, 4, 5, 6, 7, 1, 8, 0] rfl (ih a1 a3 a5 a6 a7 v9 a10 v10 s8 ra1 ra3 ra5 ra6 ra7 rv9 ra10 rv10)
          · refine ng_jn (fun j11 => ∀ (a1 a3 a5 a6 a7 a10 a11 a12 t0 : Int) (s12 : Sg), inR a1 → inR a3 → inR a5 → inR a6 → inL a7 → inR a10 → inR a11 → inR a12 → inR t0 → WGn p l e R s m args below meth c JX2_make DX2_make G clA A FS ad0 σ0 rvI (j11 a1 a3 a5 a6 a7 a10 a11 a12 t0 s12) s12 510 [(0, vR 0), (1, vI a1), (3, vI a3), (5, vI a5), (6, vI a6), (7, vL a7), (10, vI a10), (11, vI a11), (12, vI a12)] [vI t0]) (fun a1 a3 a5 a6 a7 a10 a11 a12 t0 s12 ra1 ra3 ra5 ra6 ra7 ra10 ra11 ra12 rt0 => ?_) (fun j11 hj11 => ?_)
            · refine ng_aload_n 0 dX2_make_510 rfl ?_
              refine ng_get (v := vR 15) (ci := 0) (b := 0) (N := 21) 5 rfl rfl (by decide) in_X2 rfl rfl q240 dX2_make_511 ?_
              refine ng_iload 8 dX2_make_514 rfl ?_
              refine ng_iald (id := 5) 5 rfl rfl dX2_make_516 (fun v13 rv13 => ?_)
              exact ng_pick [0, 1, 2, 3, 4, 5, 6, 7] rfl (hj7 a1 a3 a5 a6 a7 a10 a11 t0 v13 s12 ra1 ra3 ra5 ra6 ra7 ra10 ra11 rt0 rv13)
            · refine ng_lload 6 dX2_make_471 rfl ?_
              refine ng_aload_n 1 dX2_make_473 rfl ?_
              refine ng_get (v := vR 14) (ci := 0) (b := 0) (N := 21) 4 rfl rfl (by decide) in_X2 rfl rfl q238 dX2_make_474 ?_
              refine ng_iload 0 dX2_make_477 rfl ?_
              refine ng_iald (id := 4) 4 rfl rfl dX2_make_479 (fun v14 rv14 => ?_)
              refine ng_i2l rv14 dX2_make_480 ?_
              refine ng_ladd dX2_make_481 (fun v15 rv15 => ?_)
              refine ng_lstore (loc' := [(7, vL v15), (12, vI v2), (0, vR 0), (1, vI a1), (3, vI a3), (5, vI a5), (6, vI a6), (9, vI a9), (10, vI a10), (11, vI a11)]) dX2_make_482 (by decide) rfl ?_
              refine ng_iload 7 dX2_make_484 rfl ?_
              refine ng_iload_n 3 dX2_make_486 rfl ?_
              refine ng_bipush (by decide +kernel) dX2_make_487 ?_
              refine ng_icmp_ne 510 dX2_make_489 (by decide) (fun _ => ra1) (fun _ => (by decide : inR (18))) (fun _ => ?_) (fun _ => ?_)
              · refine ng_iload 9 dX2_make_492 rfl ?_
                refine ng_iconst dX2_make_494 ?_
                refine ng_icmp_ne 510 dX2_make_495 (by decide) (fun _ => ra11) (fun _ => (inR_z (Or.inr rfl))) (fun _ => ?_) (fun _ => ?_)
                · refine ng_aload_n 2 dX2_make_498 rfl ?_
                  refine ng_get (v := vR 15) (ci := 0) (b := 0) (N := 21) 5 rfl rfl (by decide) in_X2 rfl rfl q240 dX2_make_499 ?_
                  refine ng_iload 1 dX2_make_502 rfl ?_
                  refine ng_iald (id := 5) 5 rfl rfl dX2_make_504 (fun v16 rv16 => ?_)
                  refine ng_iconst dX2_make_505 ?_
                  refine ng_isub dX2_make_506 (fun v17 rv17 => ?_)
                  refine ng_goto 517 dX2_make_507 (by decide) ?_
                  exact ng_pick [2, 3, 4, 5, 6, 0, 8, 9] rfl (hj7 a1 a3 a5 a6 v15 a10 a11 a9 v17 s5 ra1 ra3 ra5 ra6 rv15 ra10 ra11 ra9 rv17)
                · exact ng_pick [2, 3, 4, 5, 6, 0, 8, 9, 1] rfl (hj11 a1 a3 a5 a6 v15 a10 a11 v2 a9 s5 ra1 ra3 ra5 ra6 rv15 ra10 ra11 rv2 ra9)
              · exact ng_pick [2, 3, 4, 5, 6, 0, 8, 9, 1] rfl (hj11 a1 a3 a5 a6 v15 a10 a11 v2 a9 s5 ra1 ra3 ra5 ra6 rv15 ra10 ra11 rv2 ra9)
      · refine ng_lload 6 dX2_make_457 rfl ?_
        refine ng_lconst (v := 1) (by decide +kernel) dX2_make_459 ?_
        refine ng_ladd dX2_make_460 (fun v18 rv18 => ?_)
        refine ng_lstore (loc' := [(7, vL v18), (12, vI v2), (0, vR 0), (1, vI a1), (3, vI a3), (5, vI a5), (6, vI a6), (9, vI a9), (10, vI a10), (11, vI a11)]) dX2_make_461 (by decide) rfl ?_
        refine ng_goto 522 dX2_make_463 (by decide) ?_
        refine ng_iinc 9 (loc' := fun v19 => [(11, vI v19), (7, vL v18), (12, vI v2), (0, vR 0), (1, vI a1), (3, vI a3), (5, vI a5), (6, vI a6), (9, vI a9), (10, vI a10)]) dX2_make_522 rfl (by decide) (fun _ => rfl) (fun v19 rv19 => ?_)
        refine ng_goto 418 dX2_make_525 (by decide) ?_
        exact ng_pick [3, 4, 5, 6, 7, 1, 8, 9, 0] rfl (ih a1 a3 a5 a6 v18 a9 a10 v19 s5 ra1 ra3 ra5 ra6 rv18 ra9 ra10 rv19)
    · exact ng_pick [0, 2, 3, 4, 5, 6] rfl (hx528 a3 a5 a6 a7 a9 u ra3 ra5 ra6 ra7 ra9)
theorem wS2_make (hd : 2 ≤ d) (hRf : d + 1 ≤ R.frames) (hRl : 40 * (d + 1) ≤ R.locals) (hX2_hash : ∀ (a1 a2 a3 : Int) (u : Sg), CtN l d FS clA yX2_hash cX2_hash 6 (some .int) DX2_hash rvI [vR 0, vI a1, vI a2, vI a3] u (call 95 [a1, a2, a3] u)) (a1 a2 a3 : Int) (u : Sg) (ra1 : inR a1) (ra2 : inR a2) (ra3 : inR a3) : WGn p l e R s m args below meth c JX2_make DX2_make G clA A FS ad0 σ0 rvI (bX2_make call a1 a2 a3 u) u 0 [(0, vR 0), (1, vI a1), (2, vI a2), (3, vI a3)] [] := by
  unfold bX2_make
  refine ng_aload_n 0 dX2_make_0 rfl ?_
  refine ng_iload_n 1 dX2_make_1 rfl ?_
  refine ng_iload_n 2 dX2_make_2 rfl ?_
  refine ng_iload_n 3 dX2_make_3 rfl ?_
  refine ng_cVI (As := [vI a1, vI a2, vI a3]) (n := 3) (stk := []) (ci := 0) (b := 0) (N := 21) (hX2_hash a1 a2 a3 u) (by decide +kernel) rfl rfl (lw_V q195 q197 qs0 q164 q198) (by decide +kernel) rfl (by decide) hRf hRl (fun _ => (avc ra1 (avc ra2 (avc ra3 avn)))) (Nat.le_of_ble_eq_true rfl) rfl rfl dX2_make_4 (fun v1 s2 rv1 => ?_)
  refine ng_istore (loc' := [(4, vI v1), (0, vR 0), (1, vI a1), (2, vI a2), (3, vI a3)]) dX2_make_7 (by decide) rfl ?_
  refine ng_aload_n 1 dX2_make_9 rfl ?_
  refine ng_getI (ci := 0) (b := 0) (N := 21) 12 rfl rfl rfl (by decide) in_X2 rfl rfl q252 dX2_make_10 (fun v3 rv3 => ?_)
  refine ng_iload_n 4 dX2_make_13 rfl ?_
  refine ng_isub dX2_make_14 (fun v4 rv4 => ?_)
  refine ng_istore (loc' := [(5, vI v4), (4, vI v1), (0, vR 0), (1, vI a1), (2, vI a2), (3, vI a3)]) dX2_make_15 (by decide) rfl ?_
  refine ng_aload_n 2 dX2_make_17 rfl ?_
  refine ng_get (v := vR 18) (ci := 0) (b := 0) (N := 21) 8 rfl rfl (by decide) in_X2 rfl rfl q244 dX2_make_18 ?_
  refine ng_iload 1 dX2_make_21 rfl ?_
  refine ng_iald (id := 8) 8 rfl rfl dX2_make_23 (fun v5 rv5 => ?_)
  refine ng_istore (loc' := [(6, vI v5), (5, vI v4), (4, vI v1), (0, vR 0), (1, vI a1), (2, vI a2), (3, vI a3)]) dX2_make_24 (by decide) rfl ?_
  refine ng_pick [3, 4, 5, 6, 2, 1, 0] rfl (wS2_make_L26 hd hRf hRl hX2_hash _ _ (fun v7 v8 v9 v10 v11 s6 rv7 rv8 rv9 rv10 rv11 => ?_) (fun v65 v66 s64 rv65 rv66 => ?_) KF a1 a2 a3 v1 v4 v5 s2 ra1 ra2 ra3 rv1 rv4 rv5)
  · refine ng_jn (fun j12 => ∀ (a1 a2 a3 a4 a5 : Int) (s13 : Sg), inR a1 → inR a2 → inR a3 → inR a4 → inR a5 → WGn p l e R s m args below meth c JX2_make DX2_make G clA A FS ad0 σ0 rvI (j12 a1 a2 a3 a4 a5 s13) s13 267 [(0, vR 0), (1, vI a1), (2, vI a2), (3, vI a3), (4, vI a4), (5, vI a5)] []) (fun a1 a2 a3 a4 a5 s13 ra1 ra2 ra3 ra4 ra5 => ?_) (fun j12 hj12 => ?_)
    · refine ng_pick [0, 1, 2, 3, 4, 5] rfl (wS2_make_L267 hd hRf hRl hX2_hash _ (fun v15 v16 v17 v18 v19 s14 rv15 rv16 rv17 rv18 rv19 => ?_) KF a1 a2 a3 a4 a5 s13 ra1 ra2 ra3 ra4 ra5)
      · refine ng_jn (fun j20 => ∀ (a1 a3 a5 a6 a7 t0 : Int) (s21 : Sg), inR a1 → inR a3 → inR a5 → inR a6 → inL a7 → inR t0 → WGn p l e R s m args below meth c JX2_make DX2_make G clA A FS ad0 σ0 rvI (j20 a1 a3 a5 a6 a7 t0 s21) s21 399 [(0, vR 0), (1, vI a1), (3, vI a3), (5, vI a5), (6, vI a6), (7, vL a7)] [vI t0]) (fun a1 a3 a5 a6 a7 t0 s21 ra1 ra3 ra5 ra6 ra7 rt0 => ?_) (fun j20 hj20 => ?_)
        · refine ng_jn (fun j22 => ∀ (a1 a3 a5 a6 a7 a9 t0 : Int) (s23 : Sg), inR a1 → inR a3 → inR a5 → inR a6 → inL a7 → inR a9 → inR t0 → WGn p l e R s m args below meth c JX2_make DX2_make G clA A FS ad0 σ0 rvI (j22 a1 a3 a5 a6 a7 a9 t0 s23) s23 413 [(0, vR 0), (1, vI a1), (3, vI a3), (5, vI a5), (6, vI a6), (7, vL a7), (9, vI a9)] [vI t0]) (fun a1 a3 a5 a6 a7 a9 t0 s23 ra1 ra3 ra5 ra6 ra7 ra9 rt0 => ?_) (fun j22 hj22 => ?_)
          · refine ng_istore (loc' := [(10, vI t0), (0, vR 0), (1, vI a1), (3, vI a3), (5, vI a5), (6, vI a6), (7, vL a7), (9, vI a9)]) dX2_make_413 (by decide) rfl ?_
            refine ng_iconst dX2_make_415 ?_
            refine ng_istore (loc' := [(11, vI 0), (10, vI t0), (0, vR 0), (1, vI a1), (3, vI a3), (5, vI a5), (6, vI a6), (7, vL a7), (9, vI a9)]) dX2_make_416 (by decide) rfl ?_
            refine ng_pick [2, 3, 4, 5, 6, 7, 8, 1, 0] rfl (wS2_make_L418 hd hRf hRl hX2_hash _ (fun v25 v26 v27 v28 v29 s24 rv25 rv26 rv27 rv28 rv29 => ?_) KF a1 a3 a5 a6 a7 a9 t0 0 s23 ra1 ra3 ra5 ra6 ra7 ra9 rt0 (inR_z (Or.inl rfl)))
            · refine ng_aload_n 0 dX2_make_528 rfl ?_
              refine ng_get (v := vR 14) (ci := 0) (b := 0) (N := 21) 4 rfl rfl (by decide) in_X2 rfl rfl q238 dX2_make_529 ?_
              refine ng_iload 3 dX2_make_532 rfl ?_
              refine ng_lload 4 dX2_make_534 rfl ?_
              refine ng_ldc2 (n := 1000000000) (by decide +kernel) q219 dX2_make_536 ?_
              refine ng_mminL rv28 (by decide : inL (1000000000)) (Nat.le_trans (Nat.succ_le_succ (Nat.zero_le _)) hRf) (Nat.le_trans (Nat.mul_le_mul_left 40 (Nat.succ_le_succ (Nat.zero_le d))) hRl) (Nat.le_of_ble_eq_true rfl) q220 q221 q166 q222 dX2_make_539 (fun v30 rv30 => ?_)
              refine ng_l2i rv30 dX2_make_542 (fun v31 rv31 => ?_)
              refine ng_iastU (id := 4) FS_ok 4 rfl rfl (by decide +kernel) rv31 dX2_make_543 (fun s32 => ?_)
              refine ng_aload_n 0 dX2_make_544 rfl ?_
              refine ng_get (v := vR 15) (ci := 0) (b := 0) (N := 21) 5 rfl rfl (by decide) in_X2 rfl rfl q240 dX2_make_545 ?_
              refine ng_iload 3 dX2_make_548 rfl ?_
              refine ng_iload 5 dX2_make_550 rfl ?_
              refine ng_iastU (id := 5) FS_ok 5 rfl rfl (by decide +kernel) rv29 dX2_make_552 (fun s33 => ?_)
              refine ng_aload_n 0 dX2_make_553 rfl ?_
              refine ng_dup rfl dX2_make_554 ?_
              refine ng_getI (ci := 0) (b := 0) (N := 21) 10 rfl rfl rfl (by decide) in_X2 rfl rfl q247 dX2_make_555 (fun v34 rv34 => ?_)
              refine ng_iload 2 dX2_make_558 rfl ?_
              refine ng_iadd dX2_make_560 (fun v35 rv35 => ?_)
              refine ng_sIU (ci := 0) (b := 0) (N := 21) FS_ok 10 rfl rfl rfl (by decide) in_X2 tyX2 tyX2_ok nmX2 rfl rfl rfl rfl (by decide +kernel) rv35 q247 dX2_make_561 (fun s36 => ?_)
              refine ng_aload_n 0 dX2_make_564 rfl ?_
              refine ng_iload_n 1 dX2_make_565 rfl ?_
              refine ng_sIU (ci := 0) (b := 0) (N := 21) FS_ok 12 rfl rfl rfl (by decide) in_X2 tyX2 tyX2_ok nmX2 rfl rfl rfl rfl (by decide +kernel) rv25 q252 dX2_make_566 (fun s37 => ?_)
              refine ng_iload 3 dX2_make_569 rfl ?_
              exact ng_iret rfl rfl (fun _ => rv27) dX2_make_571
          · refine ng_istore (loc' := [(9, vI t0), (0, vR 0), (1, vI a1), (3, vI a3), (5, vI a5), (6, vI a6), (7, vL a7)]) dX2_make_399 (by decide) rfl ?_
            refine ng_iload_n 2 dX2_make_401 rfl ?_
            refine ng_bipush (by decide +kernel) dX2_make_402 ?_
            refine ng_icmp_ne 411 dX2_make_404 (by decide) (fun _ => ra1) (fun _ => (by decide : inR (8))) (fun _ => ?_) (fun _ => ?_)
            · refine ng_iconst dX2_make_407 ?_
              refine ng_goto 413 dX2_make_408 (by decide) ?_
              exact ng_pick [1, 2, 3, 4, 5, 6, 0] rfl (hj22 a1 a3 a5 a6 a7 t0 1 s21 ra1 ra3 ra5 ra6 ra7 rt0 (inR_z (Or.inr rfl)))
            · refine ng_iload 4 dX2_make_411 rfl ?_
              exact ng_pick [1, 2, 3, 4, 5, 6, 0] rfl (hj22 a1 a3 a5 a6 a7 t0 a5 s21 ra1 ra3 ra5 ra6 ra7 rt0 ra5)
        · refine ng_aload_n 0 dX2_make_309 rfl ?_
          refine ng_getI (ci := 0) (b := 0) (N := 21) 9 rfl rfl rfl (by decide) in_X2 rfl rfl q245 dX2_make_310 (fun v38 rv38 => ?_)
          refine ng_istore (loc' := [(6, vI v38), (0, vR 0), (1, vI v15), (2, vI v16), (3, vI v17), (4, vI v18), (5, vI v19)]) dX2_make_313 (by decide) rfl ?_
          refine ng_aload_n 1 dX2_make_315 rfl ?_
          refine ng_dup rfl dX2_make_316 ?_
          refine ng_getI (ci := 0) (b := 0) (N := 21) 9 rfl rfl rfl (by decide) in_X2 rfl rfl q245 dX2_make_317 (fun v39 rv39 => ?_)
          refine ng_iconst dX2_make_320 ?_
          refine ng_iadd dX2_make_321 (fun v40 rv40 => ?_)
          refine ng_sIU (ci := 0) (b := 0) (N := 21) FS_ok 9 rfl rfl rfl (by decide) in_X2 tyX2 tyX2_ok nmX2 rfl rfl rfl rfl (by decide +kernel) rv40 q245 dX2_make_322 (fun s41 => ?_)
          refine ng_aload_n 1 dX2_make_325 rfl ?_
          refine ng_get (v := vR 10) (ci := 0) (b := 0) (N := 21) 0 rfl rfl (by decide) in_X2 rfl rfl q231 dX2_make_326 ?_
          refine ng_iload 0 dX2_make_329 rfl ?_
          refine ng_iload_n 2 dX2_make_331 rfl ?_
          refine ng_iastU (id := 0) FS_ok 0 rfl rfl (by decide +kernel) rv15 dX2_make_332 (fun s42 => ?_)
          refine ng_aload_n 1 dX2_make_333 rfl ?_
          refine ng_get (v := vR 11) (ci := 0) (b := 0) (N := 21) 1 rfl rfl (by decide) in_X2 rfl rfl q233 dX2_make_334 ?_
          refine ng_iload 0 dX2_make_337 rfl ?_
          refine ng_iload_n 3 dX2_make_339 rfl ?_
          refine ng_iastU (id := 1) FS_ok 1 rfl rfl (by decide +kernel) rv16 dX2_make_340 (fun s43 => ?_)
          refine ng_aload_n 1 dX2_make_341 rfl ?_
          refine ng_get (v := vR 12) (ci := 0) (b := 0) (N := 21) 2 rfl rfl (by decide) in_X2 rfl rfl q235 dX2_make_342 ?_
          refine ng_iload 0 dX2_make_345 rfl ?_
          refine ng_aload_n 1 dX2_make_347 rfl ?_
          refine ng_getI (ci := 0) (b := 0) (N := 21) 10 rfl rfl rfl (by decide) in_X2 rfl rfl q247 dX2_make_348 (fun v44 rv44 => ?_)
          refine ng_iastU (id := 2) FS_ok 2 rfl rfl (by decide +kernel) rv44 dX2_make_351 (fun s45 => ?_)
          refine ng_aload_n 1 dX2_make_352 rfl ?_
          refine ng_get (v := vR 13) (ci := 0) (b := 0) (N := 21) 3 rfl rfl (by decide) in_X2 rfl rfl q236 dX2_make_353 ?_
          refine ng_iload 0 dX2_make_356 rfl ?_
          refine ng_iload 6 dX2_make_358 rfl ?_
          refine ng_iastU (id := 3) FS_ok 3 rfl rfl (by decide +kernel) rv19 dX2_make_360 (fun s46 => ?_)
          refine ng_aload_n 1 dX2_make_361 rfl ?_
          refine ng_get (v := vR 16) (ci := 0) (b := 0) (N := 21) 6 rfl rfl (by decide) in_X2 rfl rfl q242 dX2_make_362 ?_
          refine ng_iload 0 dX2_make_365 rfl ?_
          refine ng_aload_n 1 dX2_make_367 rfl ?_
          refine ng_get (v := vR 18) (ci := 0) (b := 0) (N := 21) 8 rfl rfl (by decide) in_X2 rfl rfl q244 dX2_make_368 ?_
          refine ng_iload 5 dX2_make_371 rfl ?_
          refine ng_iald (id := 8) 8 rfl rfl dX2_make_373 (fun v47 rv47 => ?_)
          refine ng_iastU (id := 6) FS_ok 6 rfl rfl (by decide +kernel) rv47 dX2_make_374 (fun s48 => ?_)
          refine ng_aload_n 1 dX2_make_375 rfl ?_
          refine ng_get (v := vR 18) (ci := 0) (b := 0) (N := 21) 8 rfl rfl (by decide) in_X2 rfl rfl q244 dX2_make_376 ?_
          refine ng_iload 5 dX2_make_379 rfl ?_
          refine ng_iload 0 dX2_make_381 rfl ?_
          refine ng_iastU (id := 8) FS_ok 8 rfl rfl (by decide +kernel) rv38 dX2_make_383 (fun s49 => ?_)
          refine ng_lconst (v := 1) (by decide +kernel) dX2_make_384 ?_
          refine ng_lstore (loc' := [(7, vL 1), (6, vI v38), (0, vR 0), (1, vI v15), (2, vI v16), (3, vI v17), (4, vI v18), (5, vI v19)]) dX2_make_385 (by decide) rfl ?_
          refine ng_iload_n 3 dX2_make_387 rfl ?_
          refine ng_iconst dX2_make_388 ?_
          refine ng_icmp_ne 398 dX2_make_389 (by decide) (fun _ => rv15) (fun _ => (by decide : inR (2))) (fun _ => ?_) (fun _ => ?_)
          · refine ng_iload_n 4 dX2_make_392 rfl ?_
            refine ng_iconst dX2_make_393 ?_
            refine ng_iadd dX2_make_394 (fun v50 rv50 => ?_)
            refine ng_goto 399 dX2_make_395 (by decide) ?_
            exact ng_pick [2, 3, 5, 7, 1, 0] rfl (hj20 v15 v17 v19 v38 1 v50 s49 rv15 rv17 rv19 rv38 (by decide : inL (1)) rv50)
          · refine ng_iconst dX2_make_398 ?_
            exact ng_pick [2, 3, 5, 7, 1, 0] rfl (hj20 v15 v17 v19 v38 1 0 s49 rv15 rv17 rv19 rv38 (by decide : inL (1)) (inR_z (Or.inl rfl)))
    · refine ng_aload_n 0 dX2_make_151 rfl ?_
      refine ng_getI (ci := 0) (b := 0) (N := 21) 9 rfl rfl rfl (by decide) in_X2 rfl rfl q245 dX2_make_152 (fun v51 rv51 => ?_)
      refine ng_aload_n 0 dX2_make_155 rfl ?_
      refine ng_get (v := vR 10) (ci := 0) (b := 0) (N := 21) 0 rfl rfl (by decide) in_X2 rfl rfl q231 dX2_make_156 ?_
      refine ng_alenU (id := 0) 0 rfl (Or.inl rfl) dX2_make_159 (fun v52 rv52 => ?_)
      refine ng_icmp_ne 267 dX2_make_160 (by decide) (fun _ => rv51) (fun _ => rv52) (fun _ => ?_) (fun _ => ?_)
      · refine ng_aload_n 0 dX2_make_163 rfl ?_
        refine ng_getI (ci := 0) (b := 0) (N := 21) 9 rfl rfl rfl (by decide) in_X2 rfl rfl q245 dX2_make_164 (fun v53 rv53 => ?_)
        refine ng_aload_n 0 dX2_make_167 rfl ?_
        refine ng_getI (ci := 0) (b := 0) (N := 21) 9 rfl rfl rfl (by decide) in_X2 rfl rfl q245 dX2_make_168 (fun v54 rv54 => ?_)
        refine ng_iconst dX2_make_171 ?_
        refine ng_idiv rv54 (by decide : inR (2)) dX2_make_172 (fun v55 rv55 => ?_)
        refine ng_iadd dX2_make_173 (fun v56 rv56 => ?_)
        refine ng_istore (loc' := [(6, vI v56), (0, vR 0), (1, vI v7), (2, vI v8), (3, vI v9), (4, vI v10), (5, vI v11)]) dX2_make_174 (by decide) rfl ?_
        refine ng_aload_n 1 dX2_make_176 rfl ?_
        refine ng_aload_n 1 dX2_make_177 rfl ?_
        refine ng_get (v := vR 10) (ci := 0) (b := 0) (N := 21) 0 rfl rfl (by decide) in_X2 rfl rfl q231 dX2_make_178 ?_
        refine ng_iload 0 dX2_make_181 rfl ?_
        refine ng_cpy (ci := 0) (b := 0) (N := 21) FS_ok FS_10 (by decide) 0 0 rfl rfl rfl rfl (by decide) in_X2 tyX2 tyX2_ok nmX2 rfl rfl rfl rfl (by decide +kernel) q200 q231 hRf hRl (Nat.le_of_succ_le hd) (Nat.le_of_ble_eq_true rfl) rfl rfl dX2_make_183 dX2_make_186 (fun s57 => ?_)
        refine ng_aload_n 1 dX2_make_189 rfl ?_
        refine ng_aload_n 1 dX2_make_190 rfl ?_
        refine ng_get (v := vR 11) (ci := 0) (b := 0) (N := 21) 1 rfl rfl (by decide) in_X2 rfl rfl q233 dX2_make_191 ?_
        refine ng_iload 0 dX2_make_194 rfl ?_
        refine ng_cpy (ci := 0) (b := 0) (N := 21) FS_ok FS_10 (by decide) 1 1 rfl rfl rfl rfl (by decide) in_X2 tyX2 tyX2_ok nmX2 rfl rfl rfl rfl (by decide +kernel) q200 q233 hRf hRl (Nat.le_of_succ_le hd) (Nat.le_of_ble_eq_true rfl) rfl rfl dX2_make_196 dX2_make_199 (fun s58 => ?_)
        refine ng_aload_n 1 dX2_make_202 rfl ?_
        refine ng_aload_n 1 dX2_make_203 rfl ?_
        refine ng_get (v := vR 12) (ci := 0) (b := 0) (N := 21) 2 rfl rfl (by decide) in_X2 rfl rfl q235 dX2_make_204 ?_
        refine ng_iload 0 dX2_make_207 rfl ?_
        refine ng_cpy (ci := 0) (b := 0) (N := 21) FS_ok FS_10 (by decide) 2 2 rfl rfl rfl rfl (by decide) in_X2 tyX2 tyX2_ok nmX2 rfl rfl rfl rfl (by decide +kernel) q200 q235 hRf hRl (Nat.le_of_succ_le hd) (Nat.le_of_ble_eq_true rfl) rfl rfl dX2_make_209 dX2_make_212 (fun s59 => ?_)
        refine ng_aload_n 1 dX2_make_215 rfl ?_
        refine ng_aload_n 1 dX2_make_216 rfl ?_
        refine ng_get (v := vR 13) (ci := 0) (b := 0) (N := 21) 3 rfl rfl (by decide) in_X2 rfl rfl q236 dX2_make_217 ?_
        refine ng_iload 0 dX2_make_220 rfl ?_
        refine ng_cpy (ci := 0) (b := 0) (N := 21) FS_ok FS_10 (by decide) 3 3 rfl rfl rfl rfl (by decide) in_X2 tyX2 tyX2_ok nmX2 rfl rfl rfl rfl (by decide +kernel) q200 q236 hRf hRl (Nat.le_of_succ_le hd) (Nat.le_of_ble_eq_true rfl) rfl rfl dX2_make_222 dX2_make_225 (fun s60 => ?_)
        refine ng_aload_n 1 dX2_make_228 rfl ?_
        refine ng_aload_n 1 dX2_make_229 rfl ?_
        refine ng_get (v := vR 14) (ci := 0) (b := 0) (N := 21) 4 rfl rfl (by decide) in_X2 rfl rfl q238 dX2_make_230 ?_
        refine ng_iload 0 dX2_make_233 rfl ?_
        refine ng_cpy (ci := 0) (b := 0) (N := 21) FS_ok FS_10 (by decide) 4 4 rfl rfl rfl rfl (by decide) in_X2 tyX2 tyX2_ok nmX2 rfl rfl rfl rfl (by decide +kernel) q200 q238 hRf hRl (Nat.le_of_succ_le hd) (Nat.le_of_ble_eq_true rfl) rfl rfl dX2_make_235 dX2_make_238 (fun s61 => ?_)
        refine ng_aload_n 1 dX2_make_241 rfl ?_
        refine ng_aload_n 1 dX2_make_242 rfl ?_
        refine ng_get (v := vR 15) (ci := 0) (b := 0) (N := 21) 5 rfl rfl (by decide) in_X2 rfl rfl q240 dX2_make_243 ?_
        refine ng_iload 0 dX2_make_246 rfl ?_
        refine ng_cpy (ci := 0) (b := 0) (N := 21) FS_ok FS_10 (by decide) 5 5 rfl rfl rfl rfl (by decide) in_X2 tyX2 tyX2_ok nmX2 rfl rfl rfl rfl (by decide +kernel) q200 q240 hRf hRl (Nat.le_of_succ_le hd) (Nat.le_of_ble_eq_true rfl) rfl rfl dX2_make_248 dX2_make_251 (fun s62 => ?_)
        refine ng_aload_n 1 dX2_make_254 rfl ?_
        refine ng_aload_n 1 dX2_make_255 rfl ?_
        refine ng_get (v := vR 16) (ci := 0) (b := 0) (N := 21) 6 rfl rfl (by decide) in_X2 rfl rfl q242 dX2_make_256 ?_
        refine ng_iload 0 dX2_make_259 rfl ?_
        refine ng_cpy (ci := 0) (b := 0) (N := 21) FS_ok FS_10 (by decide) 6 6 rfl rfl rfl rfl (by decide) in_X2 tyX2 tyX2_ok nmX2 rfl rfl rfl rfl (by decide +kernel) q200 q242 hRf hRl (Nat.le_of_succ_le hd) (Nat.le_of_ble_eq_true rfl) rfl rfl dX2_make_261 dX2_make_264 (fun s63 => ?_)
        exact ng_pick [1, 2, 3, 4, 5, 6] rfl (hj12 v7 v8 v9 v10 v11 s63 rv7 rv8 rv9 rv10 rv11)
      · exact ng_pick [0, 1, 2, 3, 4, 5] rfl (hj12 v7 v8 v9 v10 v11 s6 rv7 rv8 rv9 rv10 rv11)
  · refine ng_aload_n 0 dX2_make_131 rfl ?_
    refine ng_iload_n 1 dX2_make_132 rfl ?_
    refine ng_sIU (ci := 0) (b := 0) (N := 21) FS_ok 12 rfl rfl rfl (by decide) in_X2 tyX2 tyX2_ok nmX2 rfl rfl rfl rfl (by decide +kernel) rv65 q252 dX2_make_133 (fun s67 => ?_)
    refine ng_iload 2 dX2_make_136 rfl ?_
    exact ng_iret rfl rfl (fun _ => rv66) dX2_make_138
end
section
variable {l : Launch} {d : Nat} {call : Nat → List Int → Sg → Option (Int × Sg)}
theorem ctS2_make (p0 : Program) (e0 : Env) (s0 : State) (m0 : MethodId) (meth0 : Method) (c0 : Code) (G0 : Gm) (hd : 2 ≤ d) (hX2_hash : ∀ (a1 a2 a3 : Int) (u : Sg), CtN l d FS clA yX2_hash cX2_hash 6 (some .int) DX2_hash rvI [vR 0, vI a1, vI a2, vI a3] u (call 95 [a1, a2, a3] u)) (a1 a2 a3 : Int) (u : Sg) : CtN l (d + 1) FS clA yX2_make cX2_make 13 (some .int) DX2_make rvI [vR 0, vI a1, vI a2, vI a3] u (bX2_make call a1 a2 a3 u) :=
  nCt_of (by decide) (Nat.le_of_ble_eq_true rfl) (fun p e R s1 m args below meth c G A ad hA hRf hRl => wS2_make hd hRf hRl hX2_hash a1 a2 a3 u (hA _ (List.mem_cons_of_mem _ List.mem_cons_self)) (hA _ (List.mem_cons_of_mem _ (List.mem_cons_of_mem _ List.mem_cons_self))) (hA _ (List.mem_cons_of_mem _ (List.mem_cons_of_mem _ (List.mem_cons_of_mem _ List.mem_cons_self))))) p0 e0 s0 m0 meth0 c0 G0
end
theorem scX2_make {l : Launch} {d : Nat} (hd : 4 ≤ d) : ∀ (a1 a2 a3 : Int) (u : Sg), CtN l d FS clA yX2_make cX2_make 13 (some .int) DX2_make rvI [vR 0, vI a1, vI a2, vI a3] u (runC d 94 [a1, a2, a3] u) := by
  obtain ⟨d, rfl⟩ : ∃ e, d = e + 1 := ⟨d - 1, by omega⟩
  intro a1 a2 a3 u
  rw [runC_eq (by omega)]
  exact ctS2_make (call := runC d) p00 e00 default default default c00 ((fun _ => 0, fun _ _ => 0), 0, 0, 0) (by omega) (scX2_hash (d := d) (by omega)) a1 a2 a3 u
/-! X2_make_2 -/
section
variable {p : Program} {l : Launch} {e : Env} {R : Room} {s : State} {m : MethodId} {args : Array Value} {below : List Frame} {meth : Method} {c : Code} {G : Gm} {A : Nat → Prop} {ad0 : Nat → Nat} {σ0 : Sg} {d : Nat} {call : Nat → List Int → Sg → Option (Int × Sg)}
theorem wS2_make_2 (hd : 2 ≤ d) (hRf : d + 1 ≤ R.frames) (hRl : 40 * (d + 1) ≤ R.locals) (hX2_push : ∀ (a1 : Int) (u : Sg), CtN l d FS clA yX2_push cX2_push 2 none DX2_push rvV [vR 0, vI a1] u (call 97 [a1] u)) (hX2_make : ∀ (a1 a2 a3 : Int) (u : Sg), CtN l d FS clA yX2_make cX2_make 13 (some .int) DX2_make rvI [vR 0, vI a1, vI a2, vI a3] u (call 94 [a1, a2, a3] u)) (a1 a2 a3 a4 : Int) (u : Sg) (ra1 : inR a1) (ra2 : inR a2) (ra3 : inR a3) (ra4 : inR a4) : WGn p l e R s m args below meth c JX2_make_2 DX2_make_2 G clA A FS ad0 σ0 rvI (bX2_make_2 call a1 a2 a3 a4 u) u 0 [(0, vR 0), (1, vI a1), (2, vI a2), (3, vI a3), (4, vI a4)] [] := by
  unfold bX2_make_2
  refine ng_aload_n 0 dX2_make_2_0 rfl ?_
  refine ng_getI (ci := 0) (b := 0) (N := 21) 12 rfl rfl rfl (by decide) in_X2 rfl rfl q252 dX2_make_2_1 (fun v1 rv1 => ?_)
  refine ng_istore (loc' := [(5, vI v1), (0, vR 0), (1, vI a1), (2, vI a2), (3, vI a3), (4, vI a4)]) dX2_make_2_4 (by decide) rfl ?_
  refine ng_aload_n 1 dX2_make_2_6 rfl ?_
  refine ng_iload 5 dX2_make_2_7 rfl ?_
  refine ng_cVV (As := [vI a4]) (n := 1) (stk := []) (ci := 0) (b := 0) (N := 21) (hX2_push a4 u) (by decide +kernel) rfl rfl (lw_V q227 q228 q229 q164 q230) (by decide +kernel) rfl (by decide) hRf hRl (fun _ => (avc ra4 avn)) (Nat.le_of_ble_eq_true rfl) rfl rfl dX2_make_2_9 (fun v2 s3 => ?_)
  refine ng_aload_n 1 dX2_make_2_12 rfl ?_
  refine ng_iload_n 2 dX2_make_2_13 rfl ?_
  refine ng_iload_n 3 dX2_make_2_14 rfl ?_
  refine ng_iload 0 dX2_make_2_15 rfl ?_
  refine ng_cVI (As := [vI a1, vI a2, vI v1]) (n := 3) (stk := []) (ci := 0) (b := 0) (N := 21) (hX2_make a1 a2 v1 s3) (by decide +kernel) rfl rfl (lw_V q191 q192 q193 q164 q194) (by decide +kernel) rfl (by decide) hRf hRl (fun _ => (avc ra1 (avc ra2 (avc rv1 avn)))) (Nat.le_of_ble_eq_true rfl) rfl rfl dX2_make_2_17 (fun v4 s5 rv4 => ?_)
  exact ng_iret rfl rfl (fun _ => rv4) dX2_make_2_20
end
section
variable {l : Launch} {d : Nat} {call : Nat → List Int → Sg → Option (Int × Sg)}
theorem ctS2_make_2 (p0 : Program) (e0 : Env) (s0 : State) (m0 : MethodId) (meth0 : Method) (c0 : Code) (G0 : Gm) (hd : 2 ≤ d) (hX2_push : ∀ (a1 : Int) (u : Sg), CtN l d FS clA yX2_push cX2_push 2 none DX2_push rvV [vR 0, vI a1] u (call 97 [a1] u)) (hX2_make : ∀ (a1 a2 a3 : Int) (u : Sg), CtN l d FS clA yX2_make cX2_make 13 (some .int) DX2_make rvI [vR 0, vI a1, vI a2, vI a3] u (call 94 [a1, a2, a3] u)) (a1 a2 a3 a4 : Int) (u : Sg) : CtN l (d + 1) FS clA yX2_make_2 cX2_make_2 6 (some .int) DX2_make_2 rvI [vR 0, vI a1, vI a2, vI a3, vI a4] u (bX2_make_2 call a1 a2 a3 a4 u) :=
  nCt_of (by decide) (Nat.le_of_ble_eq_true rfl) (fun p e R s1 m args below meth c G A ad hA hRf hRl => wS2_make_2 hd hRf hRl hX2_push hX2_make a1 a2 a3 a4 u (hA _ (List.mem_cons_of_mem _ List.mem_cons_self)) (hA _ (List.mem_cons_of_mem _ (List.mem_cons_of_mem _ List.mem_cons_self))) (hA _ (List.mem_cons_of_mem _ (List.mem_cons_of_mem _ (List.mem_cons_of_mem _ List.mem_cons_self)))) (hA _ (List.mem_cons_of_mem _ (List.mem_cons_of_mem _ (List.mem_cons_of_mem _ (List.mem_cons_of_mem _ List.mem_cons_self)))))) p0 e0 s0 m0 meth0 c0 G0
end
theorem scX2_make_2 {l : Launch} {d : Nat} (hd : 5 ≤ d) : ∀ (a1 a2 a3 a4 : Int) (u : Sg), CtN l d FS clA yX2_make_2 cX2_make_2 6 (some .int) DX2_make_2 rvI [vR 0, vI a1, vI a2, vI a3, vI a4] u (runC d 96 [a1, a2, a3, a4] u) := by
  obtain ⟨d, rfl⟩ : ∃ e, d = e + 1 := ⟨d - 1, by omega⟩
  intro a1 a2 a3 a4 u
  rw [runC_eq (by omega)]
  exact ctS2_make_2 (call := runC d) p00 e00 default default default c00 ((fun _ => 0, fun _ _ => 0), 0, 0, 0) (by omega) (scX2_push (d := d) (by omega)) (scX2_make (d := d) (by omega)) a1 a2 a3 a4 u
