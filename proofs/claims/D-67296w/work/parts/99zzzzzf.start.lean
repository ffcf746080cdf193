/-! the law from its entry to its loop -/
section LN
variable {p : Program} {l : Launch} {e : Env} {s : State} {m : MethodId} {below : List Frame} {meth : Method} {c : Code} {G : Gm} {b : Nat} {Q : State → Prop} {ls : Array Slot} {lv : List (Nat × Value)}
/-- new, dup, the constructor -/
theorem law_new {W0 : va_W} {d : Nat} {F : Fm} {kd : Nat → Nat} {ci b0 N ob i1 i2 pc cells slots : Nat} {C : String} {T : u_T} {y : MethodName} {cy : ByteArray} {σf : Sg} {H : Heap} {locs : List Loc} {fs : List Value} (ok : OKx p s m #[.ref b] meth c JL G clA (fun q => s.heap.size ≤ q)) (hCt : CtI l d F kd ci b0 N ob y cy σf) (hcl : clA[ci]? = some (C, T, N)) (hin : ∀ w ∈ u_ws C T N, w ∈ lw_all) (ty0 : Nat → FieldType) (hty : ∀ k, k < N → parseFieldDescriptor (T k).2.2.1 = some (ty0 k)) (hq1 : Cond.classLink RX0 i1 C ∈ lw_all) (hq2 : Cond.instantiable C N ∈ lw_all) (hq3 : Cond.initialized C ∈ lw_all) (hfs : ∀ j, j < N → defaultValue (ty0 j) = vp_V fs j) (hfz : ∀ q : Nat, fs = bfs kd (fun _ => q) zS [] b0 N) (hyc : y.cls = C) (hyn : y.name = "<init>") (hyd : y.cls ≠ "java/lang/invoke/MethodHandle" ∧ y.cls ≠ "java/lang/invoke/VarHandle" ∧ (parseMethodDescriptor y.desc).map (fun d => d.parameters.length) = some 0) (hG : Cond.code y cy 1 none ∈ lw_all) (hq4 : Cond.methodLink RX0 i2 y ∈ lw_all) (hq5 : Cond.instanceMethod y ∈ lw_all)
    (hd : d + 1 ≤ 2048) (hP : va_P G.1 clA W0 H) (hD : va_D (fun q => s.heap.size ≤ q) W0) (hS : va_S (fun q => s.heap.size ≤ q) s.heap H locs) (hl : lv_has ls 7 lv) (hC : cells + 1 + gC σf ≤ 600128) (hSl : slots + N + gS σf ≤ 7301098) (d1 : decode cL_law pc = .ok (.new i1, 3)) (d2 : decode cL_law (pc + 3) = .ok (.dup, 1)) (d3 : decode cL_law (pc + 3 + 1) = .ok (.invokespecial i2, 3))
    (k : ∀ (q : Nat) (ad : Nat → Nat) (H' : Heap) (locs' : List Loc), ad ob = q → WF F σf → va_P G.1 clA (W0 ++ wl F G ad σf) H' → va_D (fun q => s.heap.size ≤ q) (W0 ++ wl F G ad σf) → va_S (fun q => s.heap.size ≤ q) s.heap H' locs' → W p l e room_1 s m #[.ref b] below meth c H' locs' (cells + 1 + gC σf) (slots + N + gS σf) Q (F0 m (pc + 3 + 1 + 3) ls [.ref q])) : W p l e room_1 s m #[.ref b] below meth c H locs cells slots Q (F0 m pc ls []) := by
  have hts := ok.2.2.2.2.1
  have hK := ok.2.2.2.2.2.2.2.1
  have hS7 : 7301098 = room_1.slots := rfl
  have hC6 : 600128 = room_1.cells := rfl
  refine va_new (ci := ci) (fs := fs) (C := C) (T := T) (N := N) ok.1 ok.2.1 hts hin ty0 hty ok.2.2.2.1 (hts _ hq1) (hts _ hq2) (hts _ hq3) hK hP hD hS ok.2.2.2.2.2.2.2.2 hcl hfs (by rw [← hC6]; omega) (by rw [← hS7]; omega) d1 (fun q H1 hP1 hD1 hS1 => ?_)
  refine lv_dup ok.1 ok.2.1 d2 rfl ?_
  rw [hfz q] at hP1 hD1
  have hP1' := va_P_iff.mp hP1
  have hD1' := va_D_iff.mp hD1
  have hq : s.heap.size ≤ q := hD1'.2 (q, .inr (ci, bfs kd (fun _ => q) zS [] b0 N)) (List.mem_append_right _ List.mem_cons_self)
  have hfree : ∀ z, va_A (bw0 kd ci b0 N q) H1.size z → s.heap.size ≤ z := by
    intro z hz
    rw [va_A_iff] at hz
    rcases hz with ⟨en, hz⟩ | hz
    · have hz1 := List.mem_singleton.mp hz
      injection hz1 with e1 e2
      rw [e1]; exact hq
    · exact Nat.le_trans hS1.1 hz
  have hnd := hD1'.1
  rw [List.map_append, List.nodup_append] at hnd
  have hW0n : ∀ z ∈ W0, ¬ va_A (bw0 kd ci b0 N q) H1.size z.1 := fun z hz h => by
    rw [va_A_iff] at h
    rcases h with ⟨en, h⟩ | h
    · have h1 := List.mem_singleton.mp h
      injection h1 with e1 e2
      exact hnd.2.2 z.1 (List.mem_map.mpr ⟨z, hz, rfl⟩) q (by simp) e1
    · have := (hP1' z (List.mem_append_left _ hz)).lt
      omega
  have hrun := va_runI (p := p) (l := l) (e := e) (below := below) (meth := meth) (c := c) (locs := locs) (cells := cells + 1) (slots := slots + N) (As := []) (rest := [.ref q]) (b := q) (g := F0 m (pc + 3 + 1) ls [.ref q, .ref q]) ⟨ok.1, ok.2.1, ok.2.2.1, ok.2.2.2.1, hts⟩ (hCt G q H1.size) (cwI (R := room_1) 0 hts (lw_meth hG) rfl rfl rfl (by rw [hyc]; exact hts _ hq3) (hts _ hq4) (hts _ hq5) hyn hyd ⟨by show d + 1 ≤ 2048; omega, by show 8 + (1 + 11) + 40 * d ≤ 84000; omega⟩) ⟨fun a U g mk qq => by obtain ⟨z0, z1, zP, zK⟩ := qq; exact ⟨z0, z1, zP, va_K.moved (u := U) (U := U.calling g mk a) (Vm.Alike.refl U.vm) zK⟩, fun U hU hW => ⟨rfl, by rw [hU], by rw [hU]; exact va_P_iff.mpr (fun z hz => hP1' z (List.mem_append_right _ hz)), va_K.moved hW.alike hK⟩⟩ rfl rfl hl.1 rfl (lv_room (Nat.le_of_ble_eq_true rfl)) d3 ⟨by rw [← hC6]; omega, by rw [← hS7]; omega⟩
  intro T0 hT X
  obtain ⟨v, st₀, t, T', Lc, e0, X', hL, e1, e2, ⟨hv, ad, h0, hw, hP2, hD2, hK2, hzz, hkp⟩, st⟩ := hrun T0 hT X
  have hv' : v = none := by injection hv
  subst hv'
  rw [e0] at hzz hkp
  have hh' : T'.heap = t.heap := e1
  have hS2 : va_S (fun q => s.heap.size ≤ q) s.heap T'.heap (locs ++ Lc) := by
    rw [hh']
    refine ⟨Nat.le_trans hS1.1 hzz, fun z g1 g2 => ?_, fun z hz => ?_⟩
    · rw [hkp z (Nat.lt_of_lt_of_le g1 hS1.1) (fun h => g2 (hfree z h))]
      exact hS1.2.1 z g1 g2
    · rcases List.mem_append.mp hz with h | h
      · exact hS1.2.2 z h
      · exact hfree _ (hL z h)
  have hP3 : va_P G.1 clA (W0 ++ wl F G ad σf) T'.heap := by
    rw [va_P_iff]
    intro z hz
    rcases List.mem_append.mp hz with h | h
    · have hz1 := hP1' z (List.mem_append_left _ h)
      exact hz1.kept (by rw [hh']; exact hkp z.1 hz1.lt (hW0n z h))
    · rw [hh']
      exact va_P_iff.mp hP2 z h
  have hD3 : va_D (fun q => s.heap.size ≤ q) (W0 ++ wl F G ad σf) := by
    rw [va_D_iff] at hD2 ⊢
    refine ⟨?_, fun z hz => ?_⟩
    · rw [List.map_append, List.nodup_append]
      refine ⟨hnd.1, hD2.1, fun x hx y hy e9 => ?_⟩
      obtain ⟨p1, m1, rfl⟩ := List.mem_map.mp hx
      obtain ⟨p2, m2, rfl⟩ := List.mem_map.mp hy
      have h9 := hD2.2 p2 m2
      rw [← e9] at h9
      exact hW0n p1 m1 h9
    · rcases List.mem_append.mp hz with h | h
      · exact hD1'.2 z (List.mem_append_left _ h)
      · exact hfree _ (hD2.2 z h)
  obtain ⟨t2, b1, b2⟩ := k q ad T'.heap (locs ++ Lc) h0 hw hP3 hD3 hS2 T' rfl X'
  exact ⟨t2, st t2 b1, b2⟩
end LN
/-! the state at the loop -/
def z9 : Sg := (fun _ => 0, fun k => if k = 90 then (1, fun _ => 0) else (0, fun _ => 0), 3, 141)
def sL (σ1 σ3 : Sg) : Sg := umT (umC z9 σ1) σ3
theorem wf_z9 : WF FL z9 := by
  have h : ∀ k, gL z9 k < 2147483648 ∧ gF z9 k = fun _ => 0 := fun k => by
    show (if k = 90 then ((1, fun _ => 0) : Nat × (Nat → Int)) else (0, fun _ => 0)).1 < _ ∧ (if k = 90 then ((1, fun _ => 0) : Nat × (Nat → Int)) else (0, fun _ => 0)).2 = _
    split
    · exact ⟨by decide, rfl⟩
    · exact ⟨by decide, rfl⟩
  exact Zr.wf ⟨fun _ => by show inR 0; decide, fun _ _ => Or.inl rfl, h⟩
def adL (adC adT : Nat → Nat) (b qo : Nat) : Nat → Nat := fun k => if k = 2 then adT 0 else if k = 9 then b else if k = 100 then qo else if k < 100 then adC k else adT (k - 200)
theorem worldL {G : Gm} {adC adT : Nat → Nat} {b qo : Nat} {σ1 σ3 : Sg} : (wl FL G (adL adC adT b qo) (sL σ1 σ3)).Perm (wl FC G adC σ1 ++ (wl FT G adT σ3 ++ [(qo, .inl (G.2.2.1, 1, .inr (.inl fun _ => Int64.ofInt 0)))])) := by
  have a1 : ∀ k, k ≠ 2 → k ≠ 9 → k < 100 → adL adC adT b qo k = adC k := fun k h1 h2 h3 => by
    unfold adL
    rw [if_neg h1, if_neg h2, if_neg (by omega), if_pos h3]
  have a2 : ∀ k, adL adC adT b qo (10 + (200 + k)) = adT (10 + k) := fun k => by
    unfold adL
    rw [if_neg (by omega), if_neg (by omega), if_neg (by omega), if_neg (by omega), show 10 + (200 + k) - 200 = 10 + k by omega]
  have a3 : adL adC adT b qo 2 = adT 0 := by unfold adL; rw [if_pos rfl]
  have a4 : adL adC adT b qo 100 = qo := by unfold adL; rw [if_neg (by decide), if_neg (by decide), if_pos rfl]
  have sI1 : ∀ k, k < 90 → gI (sL σ1 σ3) k = gI σ1 k := fun k hk => by unfold sL; rw [umT_I' (by omega), umC_I (by omega)]
  have sA1 : ∀ k, k < 90 → (sL σ1 σ3).2.1 k = σ1.2.1 k := fun k hk => by unfold sL; rw [umT_A' (by omega), umC_A hk]
  have h := worldC (G := G) (ad := adL adC adT b qo) (ad' := adL adC adT b qo) (σ := sL σ1 σ3) (σ' := σ1) sI1 sA1 (fun _ _ => rfl)
  have e1 : wl FC G (adL adC adT b qo) σ1 = wl FC G adC σ1 := by
    have f : ∀ k, k < 90 → toV (adL adC adT b qo) (fv kdC σ1 k) = toV adC (fv kdC σ1 k) := fun k hk => fv_cg rfl rfl (a1 _ (by omega) (by omega) (by omega)) (fun j hj => a1 j (by have := kdC_le k; omega) (by have := kdC_le k; omega) (by have := kdC_le k; omega))
    have e0 : fvs kdC (adL adC adT b qo) σ1 0 21 = fvs kdC adC σ1 0 21 := fvs_cg (fun k hk => f _ (by omega))
    have e1 : fvs kdC (adL adC adT b qo) σ1 30 57 = fvs kdC adC σ1 30 57 := fvs_cg (fun k hk => f _ (by omega))
    have e2 : arW G kdC (adL adC adT b qo) σ1 FC.2.2 = arW G kdC adC σ1 FC.2.2 := List.map_congr_left fun id hid => by
      have := FC_lt id hid
      rw [a1 _ (by omega) (by omega) (by omega)]
    show (adL adC adT b qo 0, _) :: (adL adC adT b qo 1, _) :: arW G kdC (adL adC adT b qo) σ1 FC.2.2 = (adC 0, _) :: (adC 1, _) :: arW G kdC adC σ1 FC.2.2
    rw [e0, e1, e2, a1 0 (by decide) (by decide) (by decide), a1 1 (by decide) (by decide) (by decide)]
  have h5 : ∀ k, k < 83 → kdT k ≠ 5 := by decide
  have e2 : rwC G (adL adC adT b qo) (sL σ1 σ3) = (adT 0, .inr (2, fvs kdT adT σ3 0 83)) :: ([(qo, .inl (G.2.2.1, 1, .inr (.inl fun _ => Int64.ofInt 0)))] ++ arW G kdT adT σ3 FT.2.2) := by
    unfold rwC
    have f0 : fvs kdL (adL adC adT b qo) (sL σ1 σ3) 200 83 = fvs kdT adT σ3 0 83 := fvs_cg (fun k hk => by
      rw [Nat.zero_add]
      exact fv_cg (kdL_t k) umT_I (a2 k) (fun j hj => by rw [kdL_t] at hj; have h1 := h5 k hk; have h2 := kdT_le k; omega))
    have f1 : arW G kdL (adL adC adT b qo) (sL σ1 σ3) ([90] ++ FT.2.2.map (200 + ·)) = [(qo, .inl (G.2.2.1, 1, .inr (.inl fun _ => Int64.ofInt 0)))] ++ arW G kdT adT σ3 FT.2.2 := by
      unfold arW
      rw [List.map_append, List.map_map]
      have hz : (sL σ1 σ3).2.1 90 = (1, fun _ => 0) := by
        unfold sL
        rw [umT_A' (by decide), umC_A' (by decide)]
        rfl
      have g1 : List.map (fun id => (adL adC adT b qo (10 + id), arE G kdL (sL σ1 σ3) id)) [90] = [(qo, .inl (G.2.2.1, 1, .inr (.inl fun _ => Int64.ofInt 0)))] := by
        show [(adL adC adT b qo 100, arE G kdL (sL σ1 σ3) 90)] = _
        rw [a4, arE_l (show kdL 90 = 2 from rfl), show gL (sL σ1 σ3) 90 = 1 from congrArg Prod.fst hz, show gF (sL σ1 σ3) 90 = fun _ => 0 from congrArg Prod.snd hz]
      have g2 : List.map ((fun id => (adL adC adT b qo (10 + id), arE G kdL (sL σ1 σ3) id)) ∘ (200 + ·)) FT.2.2 = List.map (fun id => (adT (10 + id), arE G kdT σ3 id)) FT.2.2 := List.map_congr_left fun id hid => by
        show (adL adC adT b qo (10 + (200 + id)), arE G kdL (sL σ1 σ3) (200 + id)) = _
        rw [a2, arE_cg (σ := sL σ1 σ3) (σ' := σ3) (kdL_t id) (show (umT (umC z9 σ1) σ3).2.1 (200 + id) = σ3.2.1 id from umT_A)]
      rw [g1, g2]
    rw [f0, f1, a3]
  rw [e1, e2] at h
  refine h.trans (List.Perm.append_left _ ?_)
  have e4 : wl FT G adT σ3 = (adT 0, .inr (2, fvs kdT adT σ3 0 83)) :: arW G kdT adT σ3 FT.2.2 := rfl
  rw [e4]
  generalize arW G kdT adT σ3 FT.2.2 = Y
  show (_ :: ([_] ++ Y)).Perm (_ :: (Y ++ [_]))
  exact List.Perm.cons _ List.perm_append_comm
theorem gC_sL (σ1 σ3 : Sg) : gC (sL σ1 σ3) = 3 + gC σ1 + gC σ3 := rfl
theorem gS_sL (σ1 σ3 : Sg) : gS (sL σ1 σ3) = 141 + gS σ1 + gS σ3 := rfl
