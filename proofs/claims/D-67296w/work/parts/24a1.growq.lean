/-! the long array of the model's cases becomes longer -/
theorem fvs_newL {kd : Nat → Nat} {ad : Nat → Nat} {σ : Sg} {b N k q n : Nat} {f : Nat → Int} (hk : k < N) (hkd : kd (b + k) = 2) (h10 : ∀ j k, kd j = k + 5 → k < 10) : fvs kd (va_up ad (10 + (b + k)) q) (sN σ (b + k) n f) b N = (fvs kd ad σ b N).set k (.ref q) := by
  refine List.ext_getElem? (fun j => ?_)
  rw [List.getElem?_set]
  by_cases hj : k = j
  · subst hj
    rw [if_pos rfl, if_pos (by rw [fvs_len]; exact hk), fvs_at hk]
    unfold fv
    rw [hkd]
    show some (Value.ref _) = _
    rw [va_up, if_pos rfl]
  · rw [if_neg hj]
    by_cases hn : j < N
    · rw [fvs_at hn, fvs_at hn, fv_ref (by omega) (h10 _)]
    · rw [List.getElem?_eq_none (by rw [fvs_len]; omega), List.getElem?_eq_none (by rw [fvs_len]; omega)]
theorem wl_newL {F : Fm} (hF : FOK F) (h10 : FO10 F) (hlen : F.1.length ≤ 10) {G : Gm} {ad : Nat → Nat} {σ : Sg} {ob k ci b N j q n : Nat} {f : Nat → Int} (hob : F.1[ob]? = some (ci, b, N)) (hk : k < N) (hj : F.2.2[j]? = some (b + k)) (hkd : F.2.1 (b + k) = 2) :
    wl F G (va_up ad (10 + (b + k)) q) (sN σ (b + k) n f) = ((wl F G ad σ).set ob (ad ob, .inr (ci, (fvs F.2.1 ad σ b N).set k (.ref q)))).set (F.1.length + j) (q, .inl (G.2.2.1, n, .inr (.inl fun i => Int64.ofInt (f i)))) := by
  have hl : ob < F.1.length := (List.getElem?_eq_some_iff.mp hob).1
  have hlj : j < F.2.2.length := (List.getElem?_eq_some_iff.mp hj).1
  have eo : obW F.2.1 (va_up ad (10 + (b + k)) q) (sN σ (b + k) n f) 0 F.1 = (obW F.2.1 ad σ 0 F.1).set ob (ad ob, .inr (ci, (fvs F.2.1 ad σ b N).set k (.ref q))) := by
    refine List.ext_getElem? (fun i => ?_)
    rw [List.getElem?_set, obW_len, obW_at, obW_at]
    have e10 : ∀ i, i < F.1.length → va_up ad (10 + (b + k)) q (0 + i) = ad i := fun i hi => by rw [va_up, if_neg (by omega), Nat.zero_add]
    by_cases hi : ob = i
    · subst hi
      rw [if_pos rfl, if_pos hl, hob]
      simp only [Option.map_some]
      rw [e10 _ hl, fvs_newL hk hkd h10]
    · rw [if_neg hi]
      cases hoj : F.1[i]? with
      | none => rfl
      | some oj =>
        simp only [Option.map_some]
        have hli : i < F.1.length := (List.getElem?_eq_some_iff.mp hoj).1
        have h1 := hF.2 ob hl i hli hi
        rw [List.getD_eq_getElem?_getD, List.getD_eq_getElem?_getD, hob, hoj] at h1
        simp only [Option.getD_some] at h1
        rw [e10 _ hli, fvs_new_ne (by omega) h10, Nat.zero_add]
  have ea : arW G F.2.1 (va_up ad (10 + (b + k)) q) (sN σ (b + k) n f) F.2.2 = (arW G F.2.1 ad σ F.2.2).set j (q, .inl (G.2.2.1, n, .inr (.inl fun i => Int64.ofInt (f i)))) := by
    refine List.ext_getElem? (fun i => ?_)
    rw [List.getElem?_set, arW, arW, List.getElem?_map, List.getElem?_map, List.length_map]
    by_cases hi : j = i
    · subst hi
      rw [if_pos rfl, if_pos hlj, hj]
      simp only [Option.map_some]
      rw [va_up, if_pos rfl, arE_l hkd, gL_sN, gF_sN, if_pos rfl, if_pos rfl]
    · rw [if_neg hi]
      cases hid : F.2.2[i]? with
      | none => rfl
      | some id' =>
        have hne : id' ≠ b + k := by
          intro h; subst h
          exact hi ((List.getElem?_inj hlj hF.1).mp (hj.trans hid.symm))
        simp only [Option.map_some]
        rw [va_up, if_neg (by omega)]
        congr 2
        unfold arE
        rw [gL_sN, gF_sN, if_neg hne, if_neg hne]
  rw [wl, wl, eo, ea, List.set_append_left _ _ (by rw [obW_len]; exact hl), List.set_append_right _ _ (by rw [List.length_set, obW_len]; omega), List.length_set, obW_len, show F.1.length + j - F.1.length = j by omega]
theorem gF_sNq (σ : Sg) (id n j : Nat) (f : Nat → Int) : gF (sN σ id n f) j = if j = id then f else gF σ j := by
  by_cases e : j = id
  · rw [if_pos e]
    show (va_up σ.2.1 id (n, f) j).2 = f
    unfold va_up
    rw [if_pos e]
  · rw [if_neg e]
    show (va_up σ.2.1 id (n, f) j).2 = _
    unfold va_up
    rw [if_neg e]
    rfl
theorem wf_sNq {F : Fm} {σ : Sg} {id n : Nat} {f : Nat → Int} (h : WF F σ) (hk : F.2.1 id = 2) (hn : n < 2147483648) (hf : ∀ j, inL (f j)) : WF F (sN σ id n f) := by
  refine ⟨h.1, fun j => ?_, fun j q hj => ?_, fun j q hj => ?_, fun j q hj => ?_, h.2.2.2.2.2⟩
  · rw [gL_sN]
    split
    · exact hn
    · exact h.2.1 j
  · rw [gF_sNq]
    split
    · exact hf q
    · exact h.2.2.1 j q hj
  · rw [gF_sNq]
    split
    · rename_i e; rw [e] at hj; exact absurd hk hj
    · exact h.2.2.2.1 j q hj
  · rw [gF_sNq]
    split
    · rename_i e; rw [e, hk] at hj; cases hj
    · exact h.2.2.2.2.1 j q hj
theorem g_growq {p : Program} {l : Launch} {e : Env} {R : Room} {s : State} {m : MethodId} {args : Array Value} {below : List Frame} {meth : Method} {c : Code} {D : Nat} {G : Gm} {A : Nat → Prop} {ad0 : Nat → Nat} {σ0 σ : Sg} {α : Type} {rv : α → Rs} {K : Sg → Option (α × Sg)} {n a1 : Int} {d : Nat} (_hd : 2 ≤ d) (_hRf : d + 1 ≤ R.frames) (_hRl : 40 * (d + 1) ≤ R.locals) (_hn : inR n) (hDk : D.testBit 47 = true)
    (kk : ∀ σ2, WG p l e R s m args below meth c (cX3_q, RX3, 4, some .int) D G clA A FT ad0 σ0 rv (K σ2) σ2 121 [(0, vR 0), (1, vI a1)] []) : WG p l e R s m args below meth c (cX3_q, RX3, 4, some .int) D G clA A FT ad0 σ0 rv (grL σ 47 48 n K) σ 88 [(0, vR 0), (1, vI a1)] [vI n] := by
  have hj : FT.2.2[34]? = some 47 := rfl
  have hkd : FT.2.1 47 = 2 := rfl
  have rng : ∀ {σ : Sg}, WF FT σ → ∀ j, inL (if j < gL σ 47 then gF σ 47 j else 0) := fun hw j => by
    split
    · exact hw.2.2.1 47 j hkd
    · decide
  refine ⟨fun hw r σ' ho => ?_, fun ok r σ' ho h1 h2 h3 h4 hw ad H locs ls ha hP hD hS hl => ?_⟩
  · unfold grL at ho
    split at ho
    · rename_i hc
      exact Ps.back (Gr_sN FT_ok hj hDk (by show (1 + 1) * gL σ 47 ≤ 1 * n.toNat; omega) hc.2.2.1) (fun hw => wf_sNq hw hkd (by omega) (rng hw)) (kk _).1 hw r σ' ho
    · cases ho
  · unfold grL at ho
    split at ho
    · rename_i hc
      obtain ⟨c1, c2, c3, c4⟩ := hc
      obtain ⟨N, rfl⟩ : ∃ N : Nat, n = (N : Int) := ⟨n.toNat, by omega⟩
      rw [Int.toNat_natCast] at ho c3
      obtain ⟨L, hL⟩ : ∃ L, gL σ 47 = L := ⟨_, rfl⟩
      have e48 : gI σ 48 = (L : Int) := by rw [← hL]; exact c1.symm
      have hNL : N = 2 * L := by omega
      have hx := ok.1
      have hb := ok.2.1
      have hts := ok.2.2.2.2.1
      have hown := ok.2.2.2.1
      have hK := ok.2.2.2.2.2.2.2.1
      have hA := ok.2.2.2.2.2.2.2.2
      have hml := ok.2.2.1
      have wf : WF FT σ → WF FT (sN σ 47 N (fun j => if j < gL σ 47 then gF σ 47 j else 0)) := fun hw => wf_sNq hw hkd (by omega) (rng hw)
      have hps := (kk _).1 (wf hw) r σ' ho
      have a1' := hps.1.1.1
      have a2' := hps.1.1.2
      rw [gC_sN] at a1'
      rw [gS_sN] at a2'
      have hl : lv_has ls 4 [(0, .ref (ad 0)), (1, .int (Int32.ofInt a1))] := hl
      obtain ⟨hn1, hn2, hn3⟩ := n_ofNat (n := N) (by omega)
      have hob : (wl FT G ad σ)[0]? = some (ad 0, .inr (2, fvs FT.2.1 ad σ 0 83)) := wl_ob (i := 0) (o := (2, 0, 83)) rfl
      have har := wl_ar (G := G) (ad := ad) (σ := σ) hj
      rw [arE_l hkd, hL] at har
      have e47 : toV ad (fv FT.2.1 σ (0 + 47)) = .ref (ad (10 + 47)) := rfl
      have e48v : toV ad (fv FT.2.1 σ (0 + 48)) = .int (Int32.ofNat L) := by
        show Value.int (Int32.ofInt (gI σ 48)) = _
        rw [e48, Int32.ofInt_eq_ofNat]
      show W p l e R s m args below meth c H locs (gC σ - gC σ0) (gS σ - gS σ0) _ (F0 m 88 ls [.int (Int32.ofInt (N : Int))])
      rw [Int32.ofInt_eq_ofNat]
      refine va_newa (atype := .long) hx hb (hts _ q1382) rfl hK hP hD hS hA (a0 := (N, .inr (.inl fun _ => 0))) (fun cA => rfl) hn1 hn2 (by show N * 8 ≤ _; omega) (by omega) (by omega) dX3_q_88 (fun q cA H1 hK1 hP1 hD1 hS1 => ?_)
      have hcA : cA = G.2.2.1 := by
        have e1 := (hK1.2 3 (cA, .long) rfl).2
        have e2 := (hK.2 1 (G.2.2.1, .long) rfl).2
        exact Option.some.inj (e1.symm.trans e2)
      subst hcA
      refine lv_astore_n hx hb dX3_q_90 rfl hl (by decide) rfl (fun ls1 hl1 => ?_)
      refine lv_iconst hx hb dX3_q_91 rfl ?_
      refine lv_istore_n hx hb dX3_q_92 rfl hl1 (by decide) rfl (fun ls2 hl2 => ?_)
      have hl2 : lv_has ls2 4 [(3, .int (Int32.ofNat 0)), (2, .ref q), (0, .ref (ad 0)), (1, .int (Int32.ofInt a1))] := hl2
      have loop : ∀ (r' i : Nat), i + r' = L → ∀ (H1 : Heap) (locs1 : List Loc) (ls2 : Array Slot), va_P G.1 clA (wl FT G ad σ ++ [(q, .inl (G.2.2.1, N, .inr (.inl fun j => if j < i then Int64.ofInt (gF σ 47 j) else 0)))]) H1 → va_D A (wl FT G ad σ ++ [(q, .inl (G.2.2.1, N, .inr (.inl fun j => if j < i then Int64.ofInt (gF σ 47 j) else 0)))]) → va_S A s.heap H1 locs1 → lv_has ls2 4 [(3, .int (Int32.ofNat i)), (2, .ref q), (0, .ref (ad 0)), (1, .int (Int32.ofInt a1))] →
          W p l e R s m args below meth c H1 locs1 (gC σ - gC σ0 + 1) (gS σ - gS σ0 + N) (MQ below (Qx FT G clA A σ0 ad0 (some .int) (rv r) σ') args s (gC σ' - gC σ0) (gS σ' - gS σ0) A) (F0 m 93 ls2 []) := by
        intro r'
        induction r' with
        | zero =>
          intro i hi H1 locs1 ls2 hP1 hD1 hS1 hl2
          have hi : i = L := by omega
          subst hi
          refine lv_iload_n hx hb dX3_q_93 rfl (lv_at hl2 0 rfl) ?_
          refine lv_aload_n hx hb dX3_q_94 rfl (lv_at hl2 2 rfl) ?_
          refine va_get hx hb hts in_X3 hown hK hP1 0 (va_getl hob) (show clA[2]? = some (RX3, TX3, 83) from rfl) 48 (by decide) (hts _ q1180) (fun x h => h) (fvs_at (by decide)) dX3_q_95 ?_
          rw [e48v]
          refine lv_icmp_ge hx hb (tgt := 116) dX3_q_98 rfl (fun _ => ?_) (fun h => absurd (Int32.le_refl _) h)
          refine lv_aload_n hx hb dX3_q_116 rfl (lv_at hl2 2 rfl) ?_
          refine lv_aload_n hx hb dX3_q_117 rfl (lv_at hl2 1 rfl) ?_
          have hol : 0 < (wl FT G ad σ).length := (List.getElem?_eq_some_iff.mp hob).1
          have hjl : FT.1.length + 34 < (wl FT G ad σ).length := (List.getElem?_eq_some_iff.mp har).1
          have efn : (fun j => if j < i then Int64.ofInt (gF σ 47 j) else 0) = (fun j => Int64.ofInt ((fun j => if j < gL σ 47 then gF σ 47 j else 0) j)) := by
            funext j
            show _ = Int64.ofInt (if j < gL σ 47 then gF σ 47 j else 0)
            rw [hL]
            split <;> rfl
          refine va_put hx hb hts in_X3 tyX3 tyX3_ok nmX3 hown hK hP1 hD1 hS1 0 (va_getl hob) (show clA[2]? = some (RX3, TX3, 83) from rfl) 47 (by decide) (hts _ q1179) (fun x h => h) rfl (ty := .array .long) ((tyX3_ok 47 (by decide)).trans rfl) rfl rfl (by rw [fvs_len]; decide) dX3_q_118 (fun H2 locs2 hP2 hD2 hS2 => ?_)
          obtain ⟨hP3, hD3⟩ := P_new (r := FT.1.length + 34) (by decide) hol hjl hP2 hD2
          rw [efn, ← wl_newL (b := 0) (k := 47) FT_ok FT_10 (by decide) rfl (by decide) hj hkd] at hP3 hD3
          have had : adM σ ad (sN σ (0 + 47) N (fun j => if j < gL σ 47 then gF σ 47 j else 0)) (va_up ad (10 + (0 + 47)) q) := ⟨avO_up, fun i' => by
            rw [gL_sN]
            by_cases hi' : i' = 0 + 47
            · subst hi'; rw [if_pos rfl]; exact ⟨by show gL σ 47 ≤ N; omega, fun h => by have h : N = gL σ 47 := h; omega⟩
            · rw [if_neg hi']; exact ⟨Nat.le_refl _, fun _ => by rw [va_up, if_neg (by omega)]⟩⟩
          have ww := (kk _).2 ok r σ' ho (by rw [gC_sN]; omega) (by rw [gS_sN]; omega) h3 h4 (wf hw) _ H2 locs2 ls2 (ha.tr had) hP3 hD3 hS2 (lv_sub hl2 [2, 3] rfl)
          rw [gC_sN, gS_sN, show gC σ + 1 - gC σ0 = gC σ - gC σ0 + 1 by omega, show gS σ + N - gS σ0 = gS σ - gS σ0 + N by omega] at ww
          exact ww
        | succ r' ih =>
          intro i hi H1 locs1 ls2 hP1 hD1 hS1 hl2
          obtain ⟨hi1, hi2, hi3⟩ := n_ofNat (n := i) (by omega)
          refine lv_iload_n hx hb dX3_q_93 rfl (lv_at hl2 0 rfl) ?_
          refine lv_aload_n hx hb dX3_q_94 rfl (lv_at hl2 2 rfl) ?_
          refine va_get hx hb hts in_X3 hown hK hP1 0 (va_getl hob) (show clA[2]? = some (RX3, TX3, 83) from rfl) 48 (by decide) (hts _ q1180) (fun x h => h) (fvs_at (by decide)) dX3_q_95 ?_
          rw [e48v]
          refine lv_icmp_ge hx hb (tgt := 116) dX3_q_98 rfl (fun h => absurd ((n_lt (a := i) (b := L) (by omega) (by omega)).mpr (by omega)) (Int32.not_lt.mpr h)) (fun _ => ?_)
          refine lv_aload_n hx hb dX3_q_101 rfl (lv_at hl2 1 rfl) ?_
          refine lv_iload_n hx hb dX3_q_102 rfl (lv_at hl2 0 rfl) ?_
          refine lv_aload_n hx hb dX3_q_103 rfl (lv_at hl2 2 rfl) ?_
          refine va_get hx hb hts in_X3 hown hK hP1 0 (va_getl hob) (show clA[2]? = some (RX3, TX3, 83) from rfl) 47 (by decide) (hts _ q1179) (fun x h => h) (fvs_at (by decide)) dX3_q_104 ?_
          rw [e47]
          refine lv_iload_n hx hb dX3_q_107 rfl (lv_at hl2 0 rfl) ?_
          refine va_lald hx hb hK hP1 (FT.1.length + 34) 1 (va_getl har) rfl (by rintro (h | h); exact hi1 h; rw [hi2] at h; omega) dX3_q_108 ?_
          refine va_last hx hb hK hP1 hD1 hS1 (wl FT G ad σ).length 1 va_getr rfl (by rintro (h | h); exact hi1 h; rw [hi2] at h; omega) dX3_q_109 (fun H2 locs2 hP2 hD2 hS2 => ?_)
          rw [va_setr] at hP2 hD2
          have ef : vp_updL (fun j => if j < i then Int64.ofInt (gF σ 47 j) else 0) (Int32.ofNat i).toNatClampNeg (Int64.ofInt (gF σ 47 (Int32.ofNat i).toNatClampNeg)) = (fun j => if j < i + 1 then Int64.ofInt (gF σ 47 j) else 0) := by
            funext j
            rw [hi2]
            unfold vp_updL
            by_cases h1 : j = i
            · subst h1; simp
            · by_cases h2 : j < i
              · simp [h1, h2, Nat.lt_succ_of_lt h2]
              · simp [h1, h2, show ¬ j < i + 1 by omega]
          rw [ef] at hP2 hD2
          refine lv_iinc (k := 0) (v := Int32.ofNat (i + 1)) hx hb dX3_q_110 hl2 rfl (by rw [← Int32.ofInt_eq_ofNat, ← Int32.ofInt_add, ← Int32.ofInt_eq_ofNat]; rfl) (by decide) rfl (fun ls3 hl3 => ?_)
          refine lv_goto hx hb (tgt := 93) dX3_q_113 (by decide) ?_
          exact ih (i + 1) (by omega) H2 locs2 ls3 hP2 hD2 hS2 hl3
      exact loop L 0 (by omega) H1 _ ls2 (by simpa using hP1) (by simpa using hD1) hS1 hl2
    · cases ho
