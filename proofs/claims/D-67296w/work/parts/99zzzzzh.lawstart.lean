/-! the law from its entry, if the pure run of its loop comes through -/
theorem arrC {s : State} {a : Array Value} {ty : FieldType} (h : (Cond.arrayClass ty).before a s = true) : ∃ cA, ArrOfT s cA ty ∧ s.vm.findClass ("[" ++ ty.toString) = some cA := by
  obtain ⟨cA, kA, comp, h1, h2, h3⟩ := Cond.arrayClass_spec h
  exact ⟨cA, fun n z => ⟨fun k h => (by cases h), kA, h2, comp, h3⟩, h1⟩
theorem law_start {p : Program} {e : Env} {s : State} {m : MethodId} {below : List Frame} {meth : Method} {c : Code} {l : Launch} (hlt : LT l) {b L : Nat} {xs : Nat → Int32} (hL : L ≤ 320) (C0 : lw_At p s m meth c b L xs) {d n : Nat} {r2 r3 : Int} {σ2 σ3 : Sg} (hd : 12 ≤ d ∧ d + 4 ≤ 2048) (h2 : rest2 (runC d) cs2 = some (r2, σ2)) (h3 : rest3 (runT d) cs3 = some (r3, σ3)) (hB : Bnd (sL (cs1 σ2) σ3)) (hrun : LRun d L xs n 0 (sL (cs1 σ2) σ3)) :
    W p l e room_1 s m #[Value.ref b] below meth c s.heap [] 0 0 (lw_Z below #[Value.ref b] s) (entryFrame m ([Value.ref b] : List Value).toArray 7) := by
  obtain ⟨hx, hb, hr, hml, hown, hts, hX, hbl, hlocks, hgv⟩ := C0
  have hts' : ∀ w ∈ lw_all, w.before #[Value.ref b] s = true := fun w h => hts w (List.mem_filter.mp h).1
  obtain ⟨c0, i0, k0⟩ := u_known (C := RX2) (T := TX2) (N := 21) (n := 21) hts' in_X2 (hts' _ q183)
  obtain ⟨c1, i1, k1⟩ := u_known (C := RX1) (T := TX1) (N := 57) (n := 57) hts' in_X1 (hts' _ q175)
  obtain ⟨c2, i2, k2⟩ := u_known (C := RX3) (T := TX3) (N := 83) (n := 83) hts' in_X3 (hts' _ q1086)
  obtain ⟨cI, aI, fI⟩ := arrC (hts' _ q306)
  obtain ⟨cJ, aJ, fJ⟩ := arrC (hts' _ q1382)
  obtain ⟨cZ, aZ, fZ⟩ := arrC (hts' _ q480)
  obtain ⟨G, hG⟩ : ∃ G : Gm, G = ((fun k => if k = 0 then c0 else if k = 1 then c1 else c2, fun k => if k = 0 then i0 else if k = 1 then i1 else i2), cI, cJ, cZ) := ⟨_, rfl⟩
  have hK : va_K G.1 clA (tysA G) s := by
    subst hG
    refine ⟨fun k q hq => ?_, fun k q hq => ?_⟩
    · match k, hq with
      | 0, hq => cases hq; exact k0
      | 1, hq => cases hq; exact k1
      | 2, hq => cases hq; exact k2
      | k + 3, hq => simp [clA] at hq
    · match k, hq with
      | 0, hq => cases hq; exact ⟨aI, fI⟩
      | 1, hq => cases hq; exact ⟨aJ, fJ⟩
      | 2, hq => cases hq; exact ⟨aZ, fZ⟩
      | k + 3, hq => simp [tysA] at hq
  have ok : OKx p s m #[.ref b] meth c JL G clA (fun q => s.heap.size ≤ q) := ⟨hx, hb, hml, hown, hts', hlocks, hr, hK, fun q h => h⟩
  have C1 : LwC p s m meth c G b L xs := ⟨ok, XS_in hts hgv, XN_in hgv, hX, hbl⟩
  have fin : ∀ (σ : Sg) (i : Nat), Bnd σ → WL p l e s m below meth c G b (lw_Z below #[Value.ref b] s) σ 1717 (locL i) [] := fun σ i hBσ => by
    intro ad H locs ls h9 hw hP hD hS hl
    refine lv_iconst hx hb dL_law_1717 rfl ?_
    refine va_forget hS.2.2 (W.widen (k := 600128) (n := 7301098) hBσ.2.1 hBσ.2.2 ?_)
    exact lw_ret hx hb hr hlocks dL_law_1718
  have hloop := law_loop C1 hlt ⟨hd.1, by omega⟩ hL fin n 0 (sL (cs1 σ2) σ3) (by omega) hrun hB
  have hBC := hB.2.1
  have hBS := hB.2.2
  rw [gC_sL] at hBC
  rw [gS_sL] at hBS
  have hl := lv_entry ([.ref b]) (n := 7) (Nat.le_of_ble_eq_true rfl)
  rw [lg_entry_eq]
  generalize (lg_sl ([.ref b]) ++ List.replicate (7 - (lg_sl ([.ref b])).length) Slot.unset).toArray = ls at hl ⊢
  have hl : lv_has ls 7 [(0, .ref b)] := hl
  refine law_new (W0 := []) (d := d + 2) (F := FC) (kd := kdC) (ci := 1) (b0 := 30) (N := 57) (ob := 1) (i1 := 8) (i2 := 87) (fs := bfs kdC (fun _ => 0) zS [] 30 57) ok (ciX1 l (by omega) h2) rfl in_X1 tyX1 tyX1_ok q174 q175 q163 fs1_def (fun q => bfs_z) rfl rfl (by decide +kernel) q178 q176 q177 (by omega) (fun k q h => by simp at h) ⟨fun i j p q h => by simp at h, fun k q h => by simp at h⟩ va_S.rf hl (by omega) (by omega) dL_law_0 dL_law_3 dL_law_4 (fun q1 adC H1 locs1 h01 hwC hP1 hD1 hS1 => ?_)
  refine lv_astore_n (lv' := [(1, .ref q1), (0, .ref b)]) hx hb dL_law_7 rfl hl (by decide) rfl (fun ls hl => ?_)
  refine law_new (W0 := [] ++ wl FC G adC (cs1 σ2)) (d := d + 1) (F := FT) (kd := kdT) (ci := 2) (b0 := 0) (N := 83) (ob := 0) (i1 := 88) (i2 := 90) (fs := bfs kdT (fun _ => 0) zS [] 0 83) ok (ciX3 l h3) rfl in_X3 tyX3 tyX3_ok q1085 q1086 q168 fs3_def (fun q => bfs_z) rfl rfl (by decide +kernel) q1089 q1087 q1088 (by omega) hP1 hD1 hS1 hl (by omega) (by omega) dL_law_8 dL_law_11 dL_law_12 (fun q2 adT H2 locs2 h02 hwT hP2 hD2 hS2 => ?_)
  refine lv_astore_n (lv' := [(2, .ref q2), (1, .ref q1), (0, .ref b)]) hx hb dL_law_15 rfl hl (by decide) rfl (fun ls hl => ?_)
  refine lv_iconst (v := Int32.ofNat 1) hx hb dL_law_16 rfl ?_
  obtain ⟨hn1, hn2, -⟩ := n_ofNat (n := 1) (by omega)
  refine va_newa (atype := .long) hx hb (hts' _ q1382) rfl hK hP2 hD2 hS2 (fun q h => h) (a0 := (1, .inr (.inl fun _ => Int64.ofInt 0))) (fun cA => rfl) hn1 hn2 (by decide) (by show _ ≤ 600128; omega) (by show _ ≤ 7301098; omega) dL_law_17 (fun qo cA H3 hK3 hP3 hD3 hS3 => ?_)
  have hcA : cA = G.2.2.1 := by
    have e1 := (hK3.2 3 (cA, .long) rfl).2
    have e2 := (hK.2 1 (G.2.2.1, .long) rfl).2
    exact Option.some.inj (e1.symm.trans e2)
  subst hcA
  refine lv_astore_n (lv' := [(3, .ref qo), (2, .ref q2), (1, .ref q1), (0, .ref b)]) hx hb dL_law_19 rfl hl (by decide) rfl (fun ls hl => ?_)
  refine lv_iconst (v := Int32.ofInt 0) hx hb dL_law_20 rfl ?_
  refine lv_istore (lv' := [(4, .int (Int32.ofInt 0)), (3, .ref qo), (2, .ref q2), (1, .ref q1), (0, .ref b)]) hx hb dL_law_21 hl (by decide) rfl (fun ls hl => ?_)
  have hpm : (wl FL G (adL adC adT b qo) (sL (cs1 σ2) σ3)).Perm (([] ++ wl FC G adC (cs1 σ2)) ++ wl FT G adT σ3 ++ [(qo, .inl (G.2.2.1, 1, .inr (.inl fun _ => Int64.ofInt 0)))]) := by
    rw [List.nil_append, List.append_assoc]
    exact worldL
  have w := hloop (adL adC adT b qo) H3 locs2 ls rfl (WF.umT (WF.umC wf_z9 hwC) hwT) (va_P_perm hpm hP3) (va_D_perm hpm hD3) hS3 (by
    have : lcV (adL adC adT b qo) (locL 0) = [(4, .int (Int32.ofInt 0)), (3, .ref qo), (2, .ref q2), (1, .ref q1), (0, .ref b)] := by
      show [(4, Value.int (Int32.ofInt 0)), (3, .ref qo), (2, .ref (adT 0)), (1, .ref (adC 1)), (0, .ref b)] = _
      rw [h01, h02]
    rw [this]
    exact hl)
  rw [gC_sL, gS_sL] at w
  rw [show 0 + 1 + gC (cs1 σ2) + 1 + gC σ3 + 1 = 3 + gC (cs1 σ2) + gC σ3 by omega, show 0 + 57 + gS (cs1 σ2) + 83 + gS σ3 + 1 = 141 + gS (cs1 σ2) + gS σ3 by omega]
  exact w
