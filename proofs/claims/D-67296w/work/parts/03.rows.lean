section G2
variable {p : Program} {l : Launch} {e : Env} {R : Room} {s : State} {m : MethodId} {args : Array Value} {below : List Frame} {meth : Method} {c : Code}
variable {J : Jm} {D : Nat} {G : Gm} {cl0 : List vw_C} {A : Nat → Prop} {F : Fm} {ad0 : Nat → Nat} {σ0 σ : Sg} {α : Type} {rv : α → Rs} {o T E : Option (α × Sg)} {pc : Nat} {loc : Lc} {stk : List AV}
/-- a case that is known -/
theorem WG.byc {C : Prop} [Decidable C] (kt : C → WG p l e R s m args below meth c J D G cl0 A F ad0 σ0 rv T σ pc loc stk) (kf : ¬ C → WG p l e R s m args below meth c J D G cl0 A F ad0 σ0 rv E σ pc loc stk) : WG p l e R s m args below meth c J D G cl0 A F ad0 σ0 rv (if C then T else E) σ pc loc stk := by
  by_cases h : C
  · rw [if_pos h]; exact kt h
  · rw [if_neg h]; exact kf h
theorem WG.br {C : Prop} [Decidable C] {pt pe : Nat} {stk0 : List AV} (h : OKx p s m args meth c J G cl0 A → WF F σ → ∀ (ad : Nat → Nat) (H : Heap) (locs : List Loc) (cells slots : Nat) (Q : State → Prop) (ls : Array Slot), (C → W p l e R s m args below meth c H locs cells slots Q (F0 m pt ls (stk0.map (toV ad)))) → (¬ C → W p l e R s m args below meth c H locs cells slots Q (F0 m pe ls (stk0.map (toV ad)))) → W p l e R s m args below meth c H locs cells slots Q (F0 m pc ls (stk.map (toV ad))))
    (kt : C → WG p l e R s m args below meth c J D G cl0 A F ad0 σ0 rv T σ pt loc stk0) (kf : ¬ C → WG p l e R s m args below meth c J D G cl0 A F ad0 σ0 rv E σ pe loc stk0) : WG p l e R s m args below meth c J D G cl0 A F ad0 σ0 rv (if C then T else E) σ pc loc stk := by
  refine ⟨fun hw r σ' e => by split at e; exact (kt (by assumption)).1 hw r σ' e; exact (kf (by assumption)).1 hw r σ' e, fun ok r σ' ho h1 h2 h3 h4 hw ad H locs ls ha hP hD hS hl => h ok hw ad H locs _ _ _ ls (fun hc => ?_) (fun hc => ?_)⟩
  · rw [if_pos hc] at ho
    exact (kt hc).2 ok r σ' ho h1 h2 h3 h4 hw ad H locs ls ha hP hD hS hl
  · rw [if_neg hc] at ho
    exact (kf hc).2 ok r σ' ho h1 h2 h3 h4 hw ad H locs ls ha hP hD hS hl
theorem g_icmp_eq {a b off : Int} (tgt : Nat) (d : decode J.1 pc = .ok (.if_icmp .eq off, 3)) (ht : (pc : Int) + off = (tgt : Int)) (ha : WF F σ → inR a) (hb : WF F σ → inR b) (kt : a = b → WG p l e R s m args below meth c J D G cl0 A F ad0 σ0 rv T σ tgt loc stk) (kf : ¬ a = b → WG p l e R s m args below meth c J D G cl0 A F ad0 σ0 rv E σ (pc + 3) loc stk) : WG p l e R s m args below meth c J D G cl0 A F ad0 σ0 rv (if a = b then T else E) σ pc loc (vI b :: vI a :: stk) :=
  WG.br (fun ok hw ad H locs cells slots Q ls x y => lv_icmp_eq ok.1 ok.2.1 d ht (fun h => x ((o_ofInt_eq (ha hw) (hb hw)).mp h)) (fun h => y (fun h' => h ((o_ofInt_eq (ha hw) (hb hw)).mpr h')))) kt kf
theorem g_icmp_ne {a b off : Int} (tgt : Nat) (d : decode J.1 pc = .ok (.if_icmp .ne off, 3)) (ht : (pc : Int) + off = (tgt : Int)) (ha : WF F σ → inR a) (hb : WF F σ → inR b) (kt : a = b → WG p l e R s m args below meth c J D G cl0 A F ad0 σ0 rv T σ (pc + 3) loc stk) (kf : ¬ a = b → WG p l e R s m args below meth c J D G cl0 A F ad0 σ0 rv E σ tgt loc stk) : WG p l e R s m args below meth c J D G cl0 A F ad0 σ0 rv (if a = b then T else E) σ pc loc (vI b :: vI a :: stk) :=
  WG.br (fun ok hw ad H locs cells slots Q ls x y => lv_icmp_ne ok.1 ok.2.1 d ht (fun h => y (fun h' => h ((o_ofInt_eq (ha hw) (hb hw)).mpr h'))) (fun h => x ((o_ofInt_eq (ha hw) (hb hw)).mp h))) kt kf
theorem g_icmp_lt {a b off : Int} (tgt : Nat) (d : decode J.1 pc = .ok (.if_icmp .lt off, 3)) (ht : (pc : Int) + off = (tgt : Int)) (ha : WF F σ → inR a) (hb : WF F σ → inR b) (kt : a < b → WG p l e R s m args below meth c J D G cl0 A F ad0 σ0 rv T σ tgt loc stk) (kf : ¬ a < b → WG p l e R s m args below meth c J D G cl0 A F ad0 σ0 rv E σ (pc + 3) loc stk) : WG p l e R s m args below meth c J D G cl0 A F ad0 σ0 rv (if a < b then T else E) σ pc loc (vI b :: vI a :: stk) :=
  WG.br (fun ok hw ad H locs cells slots Q ls x y => lv_icmp_lt ok.1 ok.2.1 d ht (fun h => x ((o_ofInt_lt (ha hw) (hb hw)).mp h)) (fun h => y (fun h' => h ((o_ofInt_lt (ha hw) (hb hw)).mpr h')))) kt kf
theorem g_icmp_ge {a b off : Int} (tgt : Nat) (d : decode J.1 pc = .ok (.if_icmp .ge off, 3)) (ht : (pc : Int) + off = (tgt : Int)) (ha : WF F σ → inR a) (hb : WF F σ → inR b) (kt : a < b → WG p l e R s m args below meth c J D G cl0 A F ad0 σ0 rv T σ (pc + 3) loc stk) (kf : ¬ a < b → WG p l e R s m args below meth c J D G cl0 A F ad0 σ0 rv E σ tgt loc stk) : WG p l e R s m args below meth c J D G cl0 A F ad0 σ0 rv (if a < b then T else E) σ pc loc (vI b :: vI a :: stk) :=
  WG.br (fun ok hw ad H locs cells slots Q ls x y => lv_icmp_ge ok.1 ok.2.1 d ht (fun h => y (fun h' => by have := (o_ofInt_le (hb hw) (ha hw)).mp h; omega)) (fun h => x (by have := mt (o_ofInt_le (hb hw) (ha hw)).mpr h; omega))) kt kf
theorem g_icmp_gt {a b off : Int} (tgt : Nat) (d : decode J.1 pc = .ok (.if_icmp .gt off, 3)) (ht : (pc : Int) + off = (tgt : Int)) (ha : WF F σ → inR a) (hb : WF F σ → inR b) (kt : a ≤ b → WG p l e R s m args below meth c J D G cl0 A F ad0 σ0 rv T σ (pc + 3) loc stk) (kf : ¬ a ≤ b → WG p l e R s m args below meth c J D G cl0 A F ad0 σ0 rv E σ tgt loc stk) : WG p l e R s m args below meth c J D G cl0 A F ad0 σ0 rv (if a ≤ b then T else E) σ pc loc (vI b :: vI a :: stk) :=
  WG.br (fun ok hw ad H locs cells slots Q ls x y => lv_icmp_gt ok.1 ok.2.1 d ht (fun h => y (fun h' => by have := (o_ofInt_lt (hb hw) (ha hw)).mp h; omega)) (fun h => x (by have := mt (o_ofInt_lt (hb hw) (ha hw)).mpr h; omega))) kt kf
theorem g_icmp_le {a b off : Int} (tgt : Nat) (d : decode J.1 pc = .ok (.if_icmp .le off, 3)) (ht : (pc : Int) + off = (tgt : Int)) (ha : WF F σ → inR a) (hb : WF F σ → inR b) (kt : a ≤ b → WG p l e R s m args below meth c J D G cl0 A F ad0 σ0 rv T σ tgt loc stk) (kf : ¬ a ≤ b → WG p l e R s m args below meth c J D G cl0 A F ad0 σ0 rv E σ (pc + 3) loc stk) : WG p l e R s m args below meth c J D G cl0 A F ad0 σ0 rv (if a ≤ b then T else E) σ pc loc (vI b :: vI a :: stk) :=
  WG.br (fun ok hw ad H locs cells slots Q ls x y => lv_icmp_le ok.1 ok.2.1 d ht (fun h => x ((o_ofInt_le (ha hw) (hb hw)).mp h)) (fun h => y (fun h' => h ((o_ofInt_le (ha hw) (hb hw)).mpr h')))) kt kf
theorem inR0 : inR 0 := by decide
theorem g_if_eq {a off : Int} (tgt : Nat) (d : decode J.1 pc = .ok (.ifCond .eq off, 3)) (ht : (pc : Int) + off = (tgt : Int)) (ha : WF F σ → inR a) (kt : a = 0 → WG p l e R s m args below meth c J D G cl0 A F ad0 σ0 rv T σ tgt loc stk) (kf : ¬ a = 0 → WG p l e R s m args below meth c J D G cl0 A F ad0 σ0 rv E σ (pc + 3) loc stk) : WG p l e R s m args below meth c J D G cl0 A F ad0 σ0 rv (if a = 0 then T else E) σ pc loc (vI a :: stk) :=
  WG.br (fun ok hw ad H locs cells slots Q ls x y => lv_if_eq ok.1 ok.2.1 d ht (fun h => x ((o_ofInt_eq (ha hw) inR0).mp h)) (fun h => y (fun h' => h ((o_ofInt_eq (ha hw) inR0).mpr h')))) kt kf
theorem g_if_ne {a off : Int} (tgt : Nat) (d : decode J.1 pc = .ok (.ifCond .ne off, 3)) (ht : (pc : Int) + off = (tgt : Int)) (ha : WF F σ → inR a) (kt : a = 0 → WG p l e R s m args below meth c J D G cl0 A F ad0 σ0 rv T σ (pc + 3) loc stk) (kf : ¬ a = 0 → WG p l e R s m args below meth c J D G cl0 A F ad0 σ0 rv E σ tgt loc stk) : WG p l e R s m args below meth c J D G cl0 A F ad0 σ0 rv (if a = 0 then T else E) σ pc loc (vI a :: stk) :=
  WG.br (fun ok hw ad H locs cells slots Q ls x y => lv_if_ne ok.1 ok.2.1 d ht (fun h => y (fun h' => h ((o_ofInt_eq (ha hw) inR0).mpr h'))) (fun h => x ((o_ofInt_eq (ha hw) inR0).mp h))) kt kf
theorem g_if_lt {a off : Int} (tgt : Nat) (d : decode J.1 pc = .ok (.ifCond .lt off, 3)) (ht : (pc : Int) + off = (tgt : Int)) (ha : WF F σ → inR a) (kt : a < 0 → WG p l e R s m args below meth c J D G cl0 A F ad0 σ0 rv T σ tgt loc stk) (kf : ¬ a < 0 → WG p l e R s m args below meth c J D G cl0 A F ad0 σ0 rv E σ (pc + 3) loc stk) : WG p l e R s m args below meth c J D G cl0 A F ad0 σ0 rv (if a < 0 then T else E) σ pc loc (vI a :: stk) :=
  WG.br (fun ok hw ad H locs cells slots Q ls x y => lv_if_lt ok.1 ok.2.1 d ht (fun h => x ((o_ofInt_lt (ha hw) inR0).mp h)) (fun h => y (fun h' => h ((o_ofInt_lt (ha hw) inR0).mpr h')))) kt kf
theorem g_if_ge {a off : Int} (tgt : Nat) (d : decode J.1 pc = .ok (.ifCond .ge off, 3)) (ht : (pc : Int) + off = (tgt : Int)) (ha : WF F σ → inR a) (kt : a < 0 → WG p l e R s m args below meth c J D G cl0 A F ad0 σ0 rv T σ (pc + 3) loc stk) (kf : ¬ a < 0 → WG p l e R s m args below meth c J D G cl0 A F ad0 σ0 rv E σ tgt loc stk) : WG p l e R s m args below meth c J D G cl0 A F ad0 σ0 rv (if a < 0 then T else E) σ pc loc (vI a :: stk) :=
  WG.br (fun ok hw ad H locs cells slots Q ls x y => lv_if_ge ok.1 ok.2.1 d ht (fun h => y (fun h' => by have := (o_ofInt_le inR0 (ha hw)).mp h; omega)) (fun h => x (by have := mt (o_ofInt_le inR0 (ha hw)).mpr h; omega))) kt kf
theorem g_if_gt {a off : Int} (tgt : Nat) (d : decode J.1 pc = .ok (.ifCond .gt off, 3)) (ht : (pc : Int) + off = (tgt : Int)) (ha : WF F σ → inR a) (kt : a ≤ 0 → WG p l e R s m args below meth c J D G cl0 A F ad0 σ0 rv T σ (pc + 3) loc stk) (kf : ¬ a ≤ 0 → WG p l e R s m args below meth c J D G cl0 A F ad0 σ0 rv E σ tgt loc stk) : WG p l e R s m args below meth c J D G cl0 A F ad0 σ0 rv (if a ≤ 0 then T else E) σ pc loc (vI a :: stk) :=
  WG.br (fun ok hw ad H locs cells slots Q ls x y => lv_if_gt ok.1 ok.2.1 d ht (fun h => y (fun h' => by have := (o_ofInt_lt inR0 (ha hw)).mp h; omega)) (fun h => x (by have := mt (o_ofInt_lt inR0 (ha hw)).mpr h; omega))) kt kf
theorem g_if_le {a off : Int} (tgt : Nat) (d : decode J.1 pc = .ok (.ifCond .le off, 3)) (ht : (pc : Int) + off = (tgt : Int)) (ha : WF F σ → inR a) (kt : a ≤ 0 → WG p l e R s m args below meth c J D G cl0 A F ad0 σ0 rv T σ tgt loc stk) (kf : ¬ a ≤ 0 → WG p l e R s m args below meth c J D G cl0 A F ad0 σ0 rv E σ (pc + 3) loc stk) : WG p l e R s m args below meth c J D G cl0 A F ad0 σ0 rv (if a ≤ 0 then T else E) σ pc loc (vI a :: stk) :=
  WG.br (fun ok hw ad H locs cells slots Q ls x y => lv_if_le ok.1 ok.2.1 d ht (fun h => x ((o_ofInt_le (ha hw) inR0).mp h)) (fun h => y (fun h' => h ((o_ofInt_le (ha hw) inR0).mpr h')))) kt kf
theorem g_tswIn {a dflt lo hi off : Int} {offs : Array Int} {len : Nat} (tgt : Nat) (v : Int) (d : decode J.1 pc = .ok (.tableswitch dflt lo hi offs, len)) (hv : inR v ∧ ¬ v < lo ∧ ¬ hi < v) (ho : offs[(v - lo).toNat]? = some off) (ht : (pc : Int) + off = (tgt : Int)) (e0 : a = v) (k : WG p l e R s m args below meth c J D G cl0 A F ad0 σ0 rv o σ tgt loc stk) : WG p l e R s m args below meth c J D G cl0 A F ad0 σ0 rv o σ pc loc (vI a :: stk) := by
  subst e0
  have e1 : (Int32.ofInt a).toInt = a := Int32.toInt_ofInt_of_le hv.1.1 hv.1.2
  exact WG.lift (fun ok _ ad H locs cells slots Q ls _ _ h kk => lv_tableIn ok.1 ok.2.1 d (by rw [e1]; exact hv.2.1) (by rw [e1]; exact hv.2.2) (by rw [e1]; exact ho) ht kk) k
theorem g_tswOut {a dflt lo hi : Int} {offs : Array Int} {len : Nat} (tgt : Nat) (d : decode J.1 pc = .ok (.tableswitch dflt lo hi offs, len)) (ha : WF F σ → inR a) (hv : a < lo ∨ hi < a) (ht : (pc : Int) + dflt = (tgt : Int)) (k : WG p l e R s m args below meth c J D G cl0 A F ad0 σ0 rv o σ tgt loc stk) : WG p l e R s m args below meth c J D G cl0 A F ad0 σ0 rv o σ pc loc (vI a :: stk) :=
  WG.lift (fun ok hw ad H locs cells slots Q ls _ _ h kk => lv_tableOut ok.1 ok.2.1 d (by rw [Int32.toInt_ofInt_of_le (ha hw).1 (ha hw).2]; exact hv) ht kk) k
theorem g_lsw {a dflt off : Int} {ps : Array (Int × Int)} {len : Nat} (tgt : Nat) (d : decode J.1 pc = .ok (.lookupswitch dflt ps, len)) (hp : (ps.toList.zip (ps.toList.drop 1)).all (fun (a, next) => a.1 < next.1) = true) (ha : WF F σ → inR a) (ho : Op.lookupswitch.offset ps.toList dflt a = off) (ht : (pc : Int) + off = (tgt : Int)) (k : WG p l e R s m args below meth c J D G cl0 A F ad0 σ0 rv o σ tgt loc stk) : WG p l e R s m args below meth c J D G cl0 A F ad0 σ0 rv o σ pc loc (vI a :: stk) :=
  WG.lift (fun ok hw ad H locs cells slots Q ls _ _ h kk => lv_lookup ok.1 ok.2.1 d hp (by rw [Int32.toInt_ofInt_of_le (ha hw).1 (ha hw).2]; exact ho) ht kk) k
theorem g_iinc {i : Nat} {v n : Int} {K : Int → Option (α × Sg)} (j : Nat) {loc' : Int → Lc} (d : decode J.1 pc = .ok (.iinc i n, 3)) (hj : loc[j]? = some (i, vI v)) (hi : i < J.2.2.1) (hl : ∀ w, lcS loc i (vI w) = loc' w) (k : ∀ w, inR w → WG p l e R s m args below meth c J D G cl0 A F ad0 σ0 rv (K w) σ (pc + 3) (loc' w) stk) : WG p l e R s m args below meth c J D G cl0 A F ad0 σ0 rv (ar (v + n) K) σ pc loc stk := by
  refine ⟨fun hw r σ' e => ?_, fun ok r σ' ho => ?_⟩
  · unfold ar at e
    split at e
    · exact (k _ (by assumption)).1 hw r σ' e
    · cases e
  · unfold ar at ho
    split at ho
    · intro h1 h2 h3 h4 hw ad H locs ls ha hP hD hS hl2
      refine lv_iinc (v := Int32.ofInt (v + n)) ok.1 ok.2.1 d hl2 (lcV_at (ad := ad) hj) (by show Int32.ofInt v + _ = _; rw [← Int32.ofInt_add]) hi (lcV_S ad loc i (vI (v + n))) (fun ls' h' => ?_)
      rw [hl] at h'
      exact (k (v + n) (by assumption)).2 ok r σ' ho h1 h2 h3 h4 hw ad H locs ls' ha hP hD hS h'
    · cases ho
theorem g_arE {v : Int} {K : Int → Option (α × Sg)} {pc' : Nat} {loc' : Lc} {stk' : List AV} (k : ∀ w, inR w → w = v → WG p l e R s m args below meth c J D G cl0 A F ad0 σ0 rv (K w) σ pc' loc' stk') : WG p l e R s m args below meth c J D G cl0 A F ad0 σ0 rv (ar v K) σ pc' loc' stk' := by
  refine ⟨fun hw r σ' e => ?_, fun ok r σ' ho => ?_⟩
  · unfold ar at e
    split at e
    · exact (k _ (by assumption) rfl).1 hw r σ' e
    · cases e
  · unfold ar at ho
    split at ho
    · exact (k v (by assumption) rfl).2 ok r σ' ho
    · cases ho
/-! ends -/
theorem g_iret {v : Int} {r : α} (hJ : J.2.2.2 = some .int) (hr : rv r = .inl (some (vI v))) (hv : WF F σ → inR v) (d : decode J.1 pc = .ok (.ireturn, 1)) : WG p l e R s m args below meth c J D G cl0 A F ad0 σ0 rv (some (r, σ)) σ pc loc (vI v :: []) := by
  refine ⟨fun hw r' σ' h => by cases h; exact ⟨Gr.rf, hw, fun v' h' => by rw [hr] at h'; cases h'; rw [hJ]; exact hv hw⟩, fun ok r' σ' ho h1 h2 h3 h4 hw ad H locs ls ha hP hD hS hl => ?_⟩
  cases ho
  exact W.iret ok.1 ok.2.1 (ok.2.2.2.2.2.2.1.trans hJ) (fun t ht hW => ⟨ad, ha, (by rw [hr]; exact rfl), (fun v' h' => by rw [hr] at h'; cases h'; rw [hJ]; exact hv hw), hw, by rw [ht]; exact hP, hD, va_K.moved hW.alike ok.2.2.2.2.2.2.2.1, hS.F ht⟩) hS.2.2 d ok.2.2.2.2.2.1
theorem narrow_z {v : Int} (h : v = 0 ∨ v = 1) : narrow .boolean (.int (Int32.ofInt v)) = .int (Int32.ofInt v) := by
  rcases h with h | h <;> subst h <;> decide +kernel
theorem g_zret {v : Int} {r : α} (hJ : J.2.2.2 = some .boolean) (hr : rv r = .inl (some (vI v))) (hv : WF F σ → v = 0 ∨ v = 1) (d : decode J.1 pc = .ok (.ireturn, 1)) : WG p l e R s m args below meth c J D G cl0 A F ad0 σ0 rv (some (r, σ)) σ pc loc (vI v :: []) := by
  refine ⟨fun hw r' σ' h => by cases h; exact ⟨Gr.rf, hw, fun v' h' => by rw [hr] at h'; cases h'; rw [hJ]; exact (hv hw).imp (congrArg vI) (congrArg vI)⟩, fun ok r' σ' ho h1 h2 h3 h4 hw ad H locs ls ha hP hD hS hl => ?_⟩
  cases ho
  exact W.zret ok.1 ok.2.1 (ok.2.2.2.2.2.2.1.trans hJ) (narrow_z (hv hw)) (fun t ht hW => ⟨ad, ha, (by rw [hr]; exact rfl), (fun v' h' => by rw [hr] at h'; cases h'; rw [hJ]; exact (hv hw).imp (congrArg vI) (congrArg vI)), hw, by rw [ht]; exact hP, hD, va_K.moved hW.alike ok.2.2.2.2.2.2.2.1, hS.F ht⟩) hS.2.2 d ok.2.2.2.2.2.1
theorem g_vret {r : α} (hJ : J.2.2.2 = none) (hr : rv r = .inl none) (d : decode J.1 pc = .ok (.return_, 1)) : WG p l e R s m args below meth c J D G cl0 A F ad0 σ0 rv (some (r, σ)) σ pc loc [] := by
  refine ⟨fun hw r' σ' h => by cases h; exact ⟨Gr.rf, hw, fun v' h' => by rw [hr] at h'; cases h'⟩, fun ok r' σ' ho h1 h2 h3 h4 hw ad H locs ls ha hP hD hS hl => ?_⟩
  cases ho
  exact W.vret ok.1 ok.2.1 (ok.2.2.2.2.2.2.1.trans hJ) (fun t ht hW => ⟨ad, ha, (by rw [hr]; exact rfl), (fun v' h' => by rw [hr] at h'; cases h'), hw, by rw [ht]; exact hP, hD, va_K.moved hW.alike ok.2.2.2.2.2.2.2.1, hS.F ht⟩) hS.2.2 d ok.2.2.2.2.2.1
end G2
/-! the world's list, by place -/
theorem obW_at (kd ad : Nat → Nat) (σ : Sg) : ∀ (l : List (Nat × Nat × Nat)) (i j : Nat), (obW kd ad σ i l)[j]? = (l[j]?).map (fun o => (ad (i + j), .inr (o.1, fvs kd ad σ o.2.1 o.2.2)))
  | [], i, j => by simp [obW]
  | o :: l, i, 0 => by simp [obW]
  | o :: l, i, j + 1 => by
    simp only [obW, List.getElem?_cons_succ]
    rw [obW_at kd ad σ l (i + 1) j]
    congr 1
    funext o'
    rw [show i + 1 + j = i + (j + 1) by omega]
theorem obW_len (kd ad : Nat → Nat) (σ : Sg) : ∀ (l : List (Nat × Nat × Nat)) (i : Nat), (obW kd ad σ i l).length = l.length
  | [], i => rfl
  | o :: l, i => by simp [obW, obW_len kd ad σ l (i + 1)]
theorem wl_ob {F : Fm} {G : Gm} {ad : Nat → Nat} {σ : Sg} {i : Nat} {o : Nat × Nat × Nat} (h : F.1[i]? = some o) : (wl F G ad σ)[i]? = some (ad i, .inr (o.1, fvs F.2.1 ad σ o.2.1 o.2.2)) := by
  have hl : i < F.1.length := (List.getElem?_eq_some_iff.mp h).1
  rw [wl, List.getElem?_append_left (by rw [obW_len]; exact hl), obW_at, h]
  simp
theorem wl_ar {F : Fm} {G : Gm} {ad : Nat → Nat} {σ : Sg} {j id : Nat} (h : F.2.2[j]? = some id) : (wl F G ad σ)[F.1.length + j]? = some (ad (10 + id), arE G F.2.1 σ id) := by
  rw [wl, List.getElem?_append_right (by rw [obW_len]; omega), obW_len, arW, List.getElem?_map, show F.1.length + j - F.1.length = j by omega, h]
  rfl
theorem fvs_at {kd ad : Nat → Nat} {σ : Sg} {b n k : Nat} (h : k < n) : (fvs kd ad σ b n)[k]? = some (toV ad (fv kd σ (b + k))) := by
  simp [fvs, h]
theorem fvs_len {kd ad : Nat → Nat} {σ : Sg} {b n : Nat} : (fvs kd ad σ b n).length = n := by simp [fvs]
def FOK (F : Fm) : Prop := F.2.2.Nodup ∧ ∀ i, i < F.1.length → ∀ j, j < F.1.length → i ≠ j → (F.1.getD i (0, 0, 0)).2.1 + (F.1.getD i (0, 0, 0)).2.2 ≤ (F.1.getD j (0, 0, 0)).2.1 ∨ (F.1.getD j (0, 0, 0)).2.1 + (F.1.getD j (0, 0, 0)).2.2 ≤ (F.1.getD i (0, 0, 0)).2.1
theorem gI_sI (σ : Sg) (k : Nat) (v : Int) (j : Nat) : gI (sI σ k v) j = if j = k then v else gI σ j := rfl
theorem gL_sI (σ : Sg) (k : Nat) (v : Int) (j : Nat) : gL (sI σ k v) j = gL σ j := rfl
theorem gF_sI (σ : Sg) (k : Nat) (v : Int) (j : Nat) : gF (sI σ k v) j = gF σ j := rfl
theorem gA_sI (σ : Sg) (k : Nat) (v : Int) (j : Nat) (i : Int) : gA (sI σ k v) j i = gA σ j i := rfl
theorem gC_sI (σ : Sg) (k : Nat) (v : Int) : gC (sI σ k v) = gC σ := rfl
theorem gS_sI (σ : Sg) (k : Nat) (v : Int) : gS (sI σ k v) = gS σ := rfl
theorem gI_sA (σ : Sg) (k : Nat) (i v : Int) (j : Nat) : gI (sA σ k i v) j = gI σ j := rfl
theorem gL_sA (σ : Sg) (k : Nat) (i v : Int) (j : Nat) : gL (sA σ k i v) j = gL σ j := by
  by_cases h : j = k
  · subst h; simp [gL, sA, va_up]
  · simp [gL, sA, va_up, h]
theorem gF_sA (σ : Sg) (k : Nat) (i v : Int) (j : Nat) : gF (sA σ k i v) j = if j = k then va_up (gF σ k) i.toNat v else gF σ j := by
  by_cases h : j = k
  · subst h; simp [gF, sA, va_up]
  · simp [gF, sA, va_up, h]
theorem gC_sA (σ : Sg) (k : Nat) (i v : Int) : gC (sA σ k i v) = gC σ := rfl
theorem gS_sA (σ : Sg) (k : Nat) (i v : Int) : gS (sA σ k i v) = gS σ := rfl
theorem fv_sI_ne {kd : Nat → Nat} {σ : Sg} {id j : Nat} {v : Int} (h : j ≠ id) : fv kd (sI σ id v) j = fv kd σ j := by
  unfold fv
  rw [gI_sI, if_neg h]
theorem fvs_sI_ne {kd ad : Nat → Nat} {σ : Sg} {id b n : Nat} {v : Int} (h : id < b ∨ b + n ≤ id) : fvs kd ad (sI σ id v) b n = fvs kd ad σ b n := by
  unfold fvs
  refine List.map_congr_left (fun k hk => ?_)
  rw [fv_sI_ne]
  have := List.mem_range.mp hk
  omega
theorem fvs_set {kd ad : Nat → Nat} {σ : Sg} {b n k : Nat} {v : Int} (hk : k < n) (hkd : kd (b + k) = 0 ∨ kd (b + k) = 4) : (fvs kd ad σ b n).set k (.int (Int32.ofInt v)) = fvs kd ad (sI σ (b + k) v) b n := by
  refine List.ext_getElem? (fun j => ?_)
  rw [List.getElem?_set]
  by_cases hj : k = j
  · subst hj
    rw [if_pos rfl, if_pos (by rw [fvs_len]; exact hk), fvs_at hk]
    have e : fv kd (sI σ (b + k) v) (b + k) = vI v := by
      unfold fv
      rcases hkd with q | q <;> rw [q] <;> simp [gI_sI]
    rw [e]
    rfl
  · rw [if_neg hj]
    by_cases hn : j < n
    · rw [fvs_at hn, fvs_at hn, fv_sI_ne (by omega)]
    · rw [List.getElem?_eq_none (by rw [fvs_len]; omega), List.getElem?_eq_none (by rw [fvs_len]; omega)]
theorem wl_sI {F : Fm} (hF : FOK F) {G : Gm} {ad : Nat → Nat} {σ : Sg} {ob k ci b n : Nat} {v : Int} (ho : F.1[ob]? = some (ci, b, n)) (hk : k < n) (hkd : F.2.1 (b + k) = 0 ∨ F.2.1 (b + k) = 4) :
    (wl F G ad σ).set ob (ad ob, .inr (ci, (fvs F.2.1 ad σ b n).set k (.int (Int32.ofInt v)))) = wl F G ad (sI σ (b + k) v) := by
  have hl : ob < F.1.length := (List.getElem?_eq_some_iff.mp ho).1
  have har : arW G F.2.1 ad (sI σ (b + k) v) F.2.2 = arW G F.2.1 ad σ F.2.2 := rfl
  rw [wl, wl, har, List.set_append_left _ _ (by rw [obW_len]; exact hl)]
  congr 1
  refine List.ext_getElem? (fun j => ?_)
  rw [List.getElem?_set, obW_len, obW_at, obW_at]
  by_cases hj : ob = j
  · subst hj
    rw [if_pos rfl, if_pos hl, ho]
    simp only [Option.map_some, Nat.zero_add]
    rw [fvs_set hk hkd]
  · rw [if_neg hj]
    cases hoj : F.1[j]? with
    | none => rfl
    | some oj =>
      simp only [Option.map_some]
      have hlj : j < F.1.length := (List.getElem?_eq_some_iff.mp hoj).1
      have h1 := hF.2 ob hl j hlj hj
      rw [List.getD_eq_getElem?_getD, List.getD_eq_getElem?_getD, ho, hoj] at h1
      simp only [Option.getD_some] at h1
      rw [fvs_sI_ne (by omega)]
theorem WF.sI {F : Fm} {σ : Sg} {id : Nat} {v : Int} (h : WF F σ) (hv : inR v) (h4 : F.2.1 id = 4 → v = 0 ∨ v = 1) : WF F (sI σ id v) := by
  refine ⟨fun j => ?_, h.2.1, h.2.2.1, h.2.2.2.1, h.2.2.2.2.1, fun j hj => ?_⟩
  · rw [gI_sI]; split; exact hv; exact h.1 j
  · rw [gI_sI]; split
    · rename_i q; subst q; exact h4 hj
    · exact h.2.2.2.2.2 j hj
theorem adM.sI {σ0 : Sg} {a0 : Nat → Nat} {σ : Sg} {ad : Nat → Nat} {id : Nat} {v : Int} (h : adM σ0 a0 σ ad) : adM σ0 a0 (sI σ id v) ad := h
theorem adM.sA {σ0 : Sg} {a0 : Nat → Nat} {σ : Sg} {ad : Nat → Nat} {k : Nat} {i v : Int} (h : adM σ0 a0 σ ad) : adM σ0 a0 (sA σ k i v) ad := ⟨h.1, fun id => by rw [gL_sA]; exact h.2 id⟩
theorem WF.sA {F : Fm} {σ : Sg} {id : Nat} {i v : Int} (h : WF F σ) (hv : F.2.1 id ≠ 2 → inR v) (h2 : F.2.1 id = 2 → inL v) (h3 : F.2.1 id = 3 → v = 0 ∨ v = 1) : WF F (sA σ id i v) := by
  refine ⟨h.1, fun j => by rw [gL_sA]; exact h.2.1 j, fun j n hj => ?_, fun j n hj => ?_, fun j n hj => ?_, h.2.2.2.2.2⟩
  · rw [gF_sA]; split
    · rename_i q; subst q; unfold va_up; split; exact h2 hj; exact h.2.2.1 _ _ hj
    · exact h.2.2.1 _ _ hj
  · rw [gF_sA]; split
    · rename_i q; subst q; unfold va_up; split; exact hv hj; exact h.2.2.2.1 _ _ hj
    · exact h.2.2.2.1 _ _ hj
  · rw [gF_sA]; split
    · rename_i q; subst q; unfold va_up; split; exact h3 hj; exact h.2.2.2.2.1 _ _ hj
    · exact h.2.2.2.2.1 _ _ hj
