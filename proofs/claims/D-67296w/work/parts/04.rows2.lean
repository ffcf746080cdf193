def PcX (F : Fm) (G : Gm) (cl0 : List vw_C) (ad : Nat → Nat) (σ : Sg) (sz : Nat) (As : List AV) : Array Value → State → Prop := va_Pc (As.map (toV ad)) (fun U => U.heap.size = sz ∧ WF F σ ∧ va_P G.1 cl0 (wl F G ad σ) U.heap ∧ va_K G.1 cl0 (tysA G) U ∧ va_D (fun _ => True) (wl F G ad σ))
/-- a method's contract at a state σ: it computes oc, with d frames -/
def Ct (l : Launch) (d : Nat) (F : Fm) (cl0 : List vw_C) (y : MethodName) (cy : ByteArray) (nL : Nat) (ret : Option FieldType) (D : Nat) {α : Type} (rv : α → Rs) (As : List AV) (σ : Sg) (oc : Option (α × Sg)) : Prop :=
  ((∀ a ∈ As, avR a) → Ps F D ret rv σ oc) ∧ ∀ r1 σ1, oc = some (r1, σ1) → (∀ a ∈ As, avR a) → ∀ (G : Gm) (ad : Nat → Nat) (sz : Nat), Met l y (ws_ y cy nL ret) ({ frames := d, cells := gC σ1 - gC σ, slots := gS σ1 - gS σ, locals := 40 * d } : Room) (PcX F G cl0 ad σ sz As) (Qx F G cl0 (va_A (wl F G ad σ) sz) σ ad ret (rv r1) σ1) (gC σ1 - gC σ) (gS σ1 - gS σ) (va_A (wl F G ad σ) sz)
theorem i_clamp {i : Int} {n : Nat} (h0 : 0 ≤ i) (h : i < (n : Int)) (hn : n < 2147483648) : vp_in (Int32.ofInt i) n ∧ (Int32.ofInt i).toNatClampNeg = i.toNat := by
  have e : (Int32.ofInt i).toInt = i := Int32.toInt_ofInt_of_le (by omega) (by omega)
  refine ⟨vp_in_iff.mpr (by rw [e]; exact ⟨h0, h⟩), ?_⟩
  show (Int32.ofInt i).toInt.toNat = i.toNat
  rw [e]
theorem SL_sI (F : Fm) (σ : Sg) (k : Nat) (v : Int) : SL F (sI σ k v) = SL F σ := rfl
theorem SL_sA (F : Fm) (σ : Sg) (k : Nat) (i v : Int) : SL F (sA σ k i v) = SL F σ := by
  unfold SL
  congr 1
  exact List.map_congr_left fun j _ => gL_sA σ k i v j
theorem Gr_sI {F : Fm} {D : Nat} {σ : Sg} {k : Nat} {v : Int} (hk : D.testBit k = true) : Gr F D σ (sI σ k v) :=
  ⟨⟨Nat.le_refl _, Nat.le_refl _⟩, fun j hj => ⟨by rw [gI_sI, if_neg (fun h => by rw [h, hk] at hj; cases hj)], rfl⟩, fun _ => Nat.le_refl _, Nat.le_refl _, Nat.le_refl _⟩
theorem Gr_sA {F : Fm} {D : Nat} {σ : Sg} {k : Nat} {i v : Int} (hk : D.testBit k = true) : Gr F D σ (sA σ k i v) :=
  ⟨⟨Nat.le_refl _, Nat.le_refl _⟩, fun j hj => ⟨rfl, by
    have hne : j ≠ k := fun h => by rw [h, hk] at hj; cases hj
    simp [sA, va_up, hne]⟩, fun j => by rw [gL_sA]; exact Nat.le_refl _, by rw [gS_sA, SL_sA]; exact Nat.le_refl _, by rw [gC_sA, SL_sA]; exact Nat.le_refl _⟩
theorem Ps.back {F : Fm} {D : Nat} {ret : Option FieldType} {α : Type} {rv : α → Rs} {σ σ1 : Sg} {o : Option (α × Sg)} (hg : Gr F D σ σ1) (hw : WF F σ → WF F σ1) (k : Ps F D ret rv σ1 o) : Ps F D ret rv σ o := fun w r σ' h => by
  have := k (hw w) r σ' h
  exact ⟨hg.tr this.1, this.2⟩
section G3
variable {p : Program} {l : Launch} {e : Env} {R : Room} {s : State} {m : MethodId} {args : Array Value} {below : List Frame} {meth : Method} {c : Code}
variable {J : Jm} {D : Nat} {G : Gm} {cl0 : List vw_C} {A : Nat → Prop} {F : Fm} {ad0 : Nat → Nat} {σ0 σ : Sg} {α : Type} {rv : α → Rs} {o : Option (α × Sg)} {pc : Nat} {loc : Lc} {stk : List AV}
variable {C : String} {T : u_T} {N ci b ob index : Nat}
theorem g_get {v : AV} (k : Nat) (hcl : cl0[ci]? = some (C, T, N)) (hob : F.1[ob]? = some (ci, b, N)) (hk : k < N) (hin : ∀ w ∈ u_ws C T N, w ∈ lw_all) (hC : (T k).1 = C) (hv : fv F.2.1 σ (b + k) = v) (hq : Cond.fieldLink J.2.1 index C (T k).2.1 (T k).2.2.1 ∈ lw_all) (d : decode J.1 pc = .ok (.getfield index, 3)) (kk : WG p l e R s m args below meth c J D G cl0 A F ad0 σ0 rv o σ (pc + 3) loc (v :: stk)) : WG p l e R s m args below meth c J D G cl0 A F ad0 σ0 rv o σ pc loc (vR ob :: stk) :=
  WG.lift (fun ok _ ad H locs cells slots Q ls _ hP _ w => va_get ok.1 ok.2.1 ok.2.2.2.2.1 hin ok.2.2.2.1 ok.2.2.2.2.2.2.2.1 hP ob (wl_ob hob) hcl k hk (ok.2.2.2.2.1 _ hq) (fun x h => by rw [← hC]; exact h) (fvs_at hk) d (by rw [hv]; exact w)) kk
theorem g_putI {v : Int} (hF : FOK F) (k : Nat) (hcl : cl0[ci]? = some (C, T, N)) (hob : F.1[ob]? = some (ci, b, N)) (hk : k < N) (hin : ∀ w ∈ u_ws C T N, w ∈ lw_all) (ty0 : Nat → FieldType) (hty : ∀ k, k < N → parseFieldDescriptor (T k).2.2.1 = some (ty0 k)) (hnm : ∀ a, a < N → ∀ b, b < N → a ≠ b → (T a).2.1 ≠ (T b).2.1) (hC : (T k).1 = C) (hkd : F.2.1 (b + k) = 0) (hti : ty0 k = .int) (hfin : (T k).2.2.2 = false) (hDk : D.testBit (b + k) = true) (hv : WF F σ → inR v) (hq : Cond.fieldLink J.2.1 index C (T k).2.1 (T k).2.2.1 ∈ lw_all) (d : decode J.1 pc = .ok (.putfield index, 3)) (kk : WG p l e R s m args below meth c J D G cl0 A F ad0 σ0 rv o (sI σ (b + k) v) (pc + 3) loc stk) : WG p l e R s m args below meth c J D G cl0 A F ad0 σ0 rv o σ pc loc (vI v :: vR ob :: stk) := by
  have wf : WF F σ → WF F (sI σ (b + k) v) := fun hw => hw.sI (hv hw) (fun h => by rw [hkd] at h; cases h)
  refine ⟨Ps.back (Gr_sI hDk) wf kk.1, fun ok r σ' ho h1 h2 h3 h4 hw ad H locs ls ha hP hD hS hl => ?_⟩
  refine va_put ok.1 ok.2.1 ok.2.2.2.2.1 hin ty0 hty hnm ok.2.2.2.1 ok.2.2.2.2.2.2.2.1 hP hD hS ob (wl_ob hob) hcl k hk (ok.2.2.2.2.1 _ hq) (fun x h => by rw [← hC]; exact h) hfin ((hty k hk).trans (by rw [hti])) rfl rfl (by rw [fvs_len]; exact hk) d (fun H1 locs1 hP1 hD1 hS1 => ?_)
  exact kk.2 ok r σ' ho h1 h2 h3 h4 (wf hw) ad H1 locs1 ls ha.sI (by rw [← wl_sI hF hob hk (Or.inl hkd)]; exact hP1) (by rw [← wl_sI hF hob hk (Or.inl hkd)]; exact hD1) hS1 hl
theorem fits_z {v : Int} (h : v = 0 ∨ v = 1) : fits .boolean (.int (Int32.ofInt v)) = true := by
  rcases h with h | h <;> subst h <;> decide +kernel
theorem g_putZ {v : Int} (hF : FOK F) (k : Nat) (hcl : cl0[ci]? = some (C, T, N)) (hob : F.1[ob]? = some (ci, b, N)) (hk : k < N) (hin : ∀ w ∈ u_ws C T N, w ∈ lw_all) (ty0 : Nat → FieldType) (hty : ∀ k, k < N → parseFieldDescriptor (T k).2.2.1 = some (ty0 k)) (hnm : ∀ a, a < N → ∀ b, b < N → a ≠ b → (T a).2.1 ≠ (T b).2.1) (hC : (T k).1 = C) (hkd : F.2.1 (b + k) = 4) (hti : ty0 k = .boolean) (hfin : (T k).2.2.2 = false) (hDk : D.testBit (b + k) = true) (hv : WF F σ → v = 0 ∨ v = 1) (hq : Cond.fieldLink J.2.1 index C (T k).2.1 (T k).2.2.1 ∈ lw_all) (d : decode J.1 pc = .ok (.putfield index, 3)) (kk : WG p l e R s m args below meth c J D G cl0 A F ad0 σ0 rv o (sI σ (b + k) v) (pc + 3) loc stk) : WG p l e R s m args below meth c J D G cl0 A F ad0 σ0 rv o σ pc loc (vI v :: vR ob :: stk) := by
  have wf : WF F σ → WF F (sI σ (b + k) v) := fun hw => hw.sI (by rcases hv hw with q | q <;> subst q <;> decide) (fun _ => hv hw)
  refine ⟨Ps.back (Gr_sI hDk) wf kk.1, fun ok r σ' ho h1 h2 h3 h4 hw ad H locs ls ha hP hD hS hl => ?_⟩
  refine va_put ok.1 ok.2.1 ok.2.2.2.2.1 hin ty0 hty hnm ok.2.2.2.1 ok.2.2.2.2.2.2.2.1 hP hD hS ob (wl_ob hob) hcl k hk (ok.2.2.2.2.1 _ hq) (fun x h => by rw [← hC]; exact h) hfin ((hty k hk).trans (by rw [hti])) (narrow_z (hv hw)) (fits_z (hv hw)) (by rw [fvs_len]; exact hk) d (fun H1 locs1 hP1 hD1 hS1 => ?_)
  exact kk.2 ok r σ' ho h1 h2 h3 h4 (wf hw) ad H1 locs1 ls ha.sI (by rw [← wl_sI hF hob hk (Or.inr hkd)]; exact hP1) (by rw [← wl_sI hF hob hk (Or.inr hkd)]; exact hD1) hS1 hl
/-! arrays -/
theorem arE_i {kd : Nat → Nat} {id : Nat} (h : kd id = 1) : arE G kd σ id = .inl (G.2.1, gL σ id, .inl fun j => Int32.ofInt (gF σ id j)) := by
  unfold arE; simp only [h]
theorem arE_l {kd : Nat → Nat} {id : Nat} (h : kd id = 2) : arE G kd σ id = .inl (G.2.2.1, gL σ id, .inr (.inl fun j => Int64.ofInt (gF σ id j))) := by
  unfold arE; simp only [h]
theorem arE_z {kd : Nat → Nat} {id : Nat} (h : kd id = 3) : arE G kd σ id = .inl (G.2.2.2, gL σ id, .inl fun j => Int32.ofInt (gF σ id j)) := by
  unfold arE; simp only [h]
theorem ld_ps {ret : Option FieldType} {id : Nat} {i : Int} {K : Int → Option (α × Sg)} {P : Int → Prop} (hP : WF F σ → P (gA σ id i)) (k : ∀ w, P w → Ps F D ret rv σ (K w)) : Ps F D ret rv σ (ld σ id i K) := by
  intro hw r σ' e
  unfold ld at e
  split at e
  · exact k _ (hP hw) hw r σ' e
  · cases e
theorem g_iald {id : Nat} {i : Int} {K : Int → Option (α × Sg)} (j : Nat) (hj : F.2.2[j]? = some id) (hkd : F.2.1 id = 1) (d : decode J.1 pc = .ok (.iaload, 1)) (k : ∀ w, inR w → WG p l e R s m args below meth c J D G cl0 A F ad0 σ0 rv (K w) σ (pc + 1) loc (vI w :: stk)) : WG p l e R s m args below meth c J D G cl0 A F ad0 σ0 rv (ld σ id i K) σ pc loc (vI i :: vR (10 + id) :: stk) := by
  have hr : WF F σ → inR (gA σ id i) := fun hw => hw.2.2.2.1 id i.toNat (by rw [hkd]; decide)
  refine ⟨ld_ps hr (fun w h => (k w h).1), fun ok r σ' ho h1 h2 h3 h4 hw ad H locs ls ha hP hD hS hl => ?_⟩
  unfold ld at ho
  split at ho
  · rename_i hi
    obtain ⟨hin, hc⟩ := i_clamp hi.1 hi.2 (hw.2.1 id)
    have hx := wl_ar (G := G) (ad := ad) (σ := σ) hj
    rw [arE_i hkd] at hx
    refine va_iald ok.1 ok.2.1 ok.2.2.2.2.2.2.2.1 hP _ 0 hx rfl hin d ?_
    rw [hc]
    exact (k _ (hr hw)).2 ok r σ' ho h1 h2 h3 h4 hw ad H locs ls ha hP hD hS hl
  · cases ho
theorem g_lald {id : Nat} {i : Int} {K : Int → Option (α × Sg)} (j : Nat) (hj : F.2.2[j]? = some id) (hkd : F.2.1 id = 2) (d : decode J.1 pc = .ok (.laload, 1)) (k : ∀ w, inL w → WG p l e R s m args below meth c J D G cl0 A F ad0 σ0 rv (K w) σ (pc + 1) loc (vL w :: stk)) : WG p l e R s m args below meth c J D G cl0 A F ad0 σ0 rv (ld σ id i K) σ pc loc (vI i :: vR (10 + id) :: stk) := by
  have hr : WF F σ → inL (gA σ id i) := fun hw => hw.2.2.1 id i.toNat hkd
  refine ⟨ld_ps hr (fun w h => (k w h).1), fun ok r σ' ho h1 h2 h3 h4 hw ad H locs ls ha hP hD hS hl => ?_⟩
  unfold ld at ho
  split at ho
  · rename_i hi
    obtain ⟨hin, hc⟩ := i_clamp hi.1 hi.2 (hw.2.1 id)
    have hx := wl_ar (G := G) (ad := ad) (σ := σ) hj
    rw [arE_l hkd] at hx
    refine va_lald ok.1 ok.2.1 ok.2.2.2.2.2.2.2.1 hP _ 1 hx rfl hin d ?_
    rw [hc]
    exact (k _ (hr hw)).2 ok r σ' ho h1 h2 h3 h4 hw ad H locs ls ha hP hD hS hl
  · cases ho
theorem g_zald {id : Nat} {i : Int} {K : Int → Option (α × Sg)} (j : Nat) (hj : F.2.2[j]? = some id) (hkd : F.2.1 id = 3) (d : decode J.1 pc = .ok (.baload, 1)) (k : ∀ w, (w = 0 ∨ w = 1) → WG p l e R s m args below meth c J D G cl0 A F ad0 σ0 rv (K w) σ (pc + 1) loc (vI w :: stk)) : WG p l e R s m args below meth c J D G cl0 A F ad0 σ0 rv (ld σ id i K) σ pc loc (vI i :: vR (10 + id) :: stk) := by
  have hr : WF F σ → gA σ id i = 0 ∨ gA σ id i = 1 := fun hw => hw.2.2.2.2.1 id i.toNat hkd
  refine ⟨ld_ps hr (fun w h => (k w h).1), fun ok r σ' ho h1 h2 h3 h4 hw ad H locs ls ha hP hD hS hl => ?_⟩
  unfold ld at ho
  split at ho
  · rename_i hi
    obtain ⟨hin, hc⟩ := i_clamp hi.1 hi.2 (hw.2.1 id)
    have hx := wl_ar (G := G) (ad := ad) (σ := σ) hj
    rw [arE_z hkd] at hx
    refine va_zald ok.1 ok.2.1 ok.2.2.2.2.2.2.2.1 hP _ 2 hx rfl hin d ?_
    rw [hc]
    exact (k _ (hr hw)).2 ok r σ' ho h1 h2 h3 h4 hw ad H locs ls ha hP hD hS hl
  · cases ho
theorem g_alen {id : Nat} (j : Nat) (hj : F.2.2[j]? = some id) (hkd : F.2.1 id = 1 ∨ F.2.1 id = 2 ∨ F.2.1 id = 3) (d : decode J.1 pc = .ok (.arraylength, 1)) (k : WG p l e R s m args below meth c J D G cl0 A F ad0 σ0 rv o σ (pc + 1) loc (vI (gL σ id : Int) :: stk)) : WG p l e R s m args below meth c J D G cl0 A F ad0 σ0 rv o σ pc loc (vR (10 + id) :: stk) :=
  WG.lift (fun ok hw ad H locs cells slots Q ls _ hP _ w => by
    have hx := wl_ar (G := G) (ad := ad) (σ := σ) hj
    rcases hkd with q | q | q
    · rw [arE_i q] at hx
      exact va_alen ok.1 ok.2.1 ok.2.2.2.2.2.2.2.1 hP _ 0 hx rfl (by show Int32.ofNat (gL σ id) = Int32.ofInt (gL σ id : Int); rw [Int32.ofInt_eq_ofNat]) d w
    · rw [arE_l q] at hx
      exact va_alen ok.1 ok.2.1 ok.2.2.2.2.2.2.2.1 hP _ 1 hx rfl (by show Int32.ofNat (gL σ id) = Int32.ofInt (gL σ id : Int); rw [Int32.ofInt_eq_ofNat]) d w
    · rw [arE_z q] at hx
      exact va_alen ok.1 ok.2.1 ok.2.2.2.2.2.2.2.1 hP _ 2 hx rfl (by show Int32.ofNat (gL σ id) = Int32.ofInt (gL σ id : Int); rw [Int32.ofInt_eq_ofNat]) d w) k
theorem wf_gL (hw : WF F σ) (id : Nat) : inR (gL σ id : Int) := by
  have := hw.2.1 id
  constructor <;> omega
end G3
theorem obW_sA (kd ad : Nat → Nat) (σ : Sg) (id : Nat) (i v : Int) (l : List (Nat × Nat × Nat)) (n : Nat) : obW kd ad (sA σ id i v) n l = obW kd ad σ n l := by
  refine List.ext_getElem? (fun j => ?_)
  rw [obW_at, obW_at]
  rfl
theorem wl_sA {F : Fm} (hF : FOK F) {G : Gm} {ad : Nat → Nat} {σ : Sg} {j id : Nat} {i v : Int} (hj : F.2.2[j]? = some id) : (wl F G ad σ).set (F.1.length + j) (ad (10 + id), arE G F.2.1 (sA σ id i v) id) = wl F G ad (sA σ id i v) := by
  rw [wl, wl, obW_sA, List.set_append_right _ _ (by rw [obW_len]; omega), obW_len, show F.1.length + j - F.1.length = j by omega]
  congr 1
  refine List.ext_getElem? (fun q => ?_)
  have hl : j < F.2.2.length := (List.getElem?_eq_some_iff.mp hj).1
  rw [List.getElem?_set, arW, arW, List.getElem?_map, List.getElem?_map, List.length_map]
  by_cases hq : j = q
  · subst hq
    rw [if_pos rfl, if_pos hl, hj]; rfl
  · rw [if_neg hq]
    cases hid : F.2.2[q]? with
    | none => rfl
    | some id' =>
      have hne : id' ≠ id := by
        intro h; subst h
        exact hq ((List.getElem?_inj hl hF.1).mp (hj.trans hid.symm))
      simp only [Option.map_some]
      congr 2
      unfold arE
      rw [gL_sA, gF_sA, if_neg hne]
section G4
variable {p : Program} {l : Launch} {e : Env} {R : Room} {s : State} {m : MethodId} {args : Array Value} {below : List Frame} {meth : Method} {c : Code}
variable {J : Jm} {D : Nat} {G : Gm} {cl0 : List vw_C} {A : Nat → Prop} {F : Fm} {ad0 : Nat → Nat} {σ0 σ : Sg} {α : Type} {rv : α → Rs} {o : Option (α × Sg)} {pc : Nat} {loc : Lc} {stk : List AV}
theorem st_ps {ret : Option FieldType} {id : Nat} {i v : Int} {K : Sg → Option (α × Sg)} (hDk : D.testBit id = true) (hw2 : WF F σ → WF F (sA σ id i v)) (k : Ps F D ret rv (sA σ id i v) (K (sA σ id i v))) : Ps F D ret rv σ (stA σ id i v K) := by
  intro hw r σ' e
  unfold stA at e
  split at e
  · exact Ps.back (Gr_sA hDk) hw2 k hw r σ' e
  · cases e
theorem g_iast {id : Nat} {i v : Int} {K : Sg → Option (α × Sg)} (hF : FOK F) (j : Nat) (hj : F.2.2[j]? = some id) (hkd : F.2.1 id = 1) (hDk : D.testBit id = true) (hv : WF F σ → inR v) (d : decode J.1 pc = .ok (.iastore, 1)) (k : WG p l e R s m args below meth c J D G cl0 A F ad0 σ0 rv (K (sA σ id i v)) (sA σ id i v) (pc + 1) loc stk) : WG p l e R s m args below meth c J D G cl0 A F ad0 σ0 rv (stA σ id i v K) σ pc loc (vI v :: vI i :: vR (10 + id) :: stk) := by
  have wf : WF F σ → WF F (sA σ id i v) := fun hw => hw.sA (fun _ => hv hw) (fun h => by rw [hkd] at h; cases h) (fun h => by rw [hkd] at h; cases h)
  refine ⟨st_ps hDk wf k.1, fun ok r σ' ho h1 h2 h3 h4 hw ad H locs ls ha hP hD hS hl => ?_⟩
  unfold stA at ho
  split at ho
  · rename_i hi
    obtain ⟨hin, hc⟩ := i_clamp hi.1 hi.2 (hw.2.1 id)
    have hx := wl_ar (G := G) (ad := ad) (σ := σ) hj
    rw [arE_i hkd] at hx
    refine va_iast ok.1 ok.2.1 ok.2.2.2.2.2.2.2.1 hP hD hS _ 0 hx rfl hin d (fun H1 locs1 hP1 hD1 hS1 => ?_)
    have e1 : (Sum.inl (G.2.1, gL σ id, Sum.inl (upd (fun j => Int32.ofInt (gF σ id j)) (Int32.ofInt i).toNatClampNeg (Int32.ofInt v))) : va_E) = arE G F.2.1 (sA σ id i v) id := by
      rw [arE_i hkd, gL_sA, gF_sA, if_pos rfl, hc]
      congr 4
      funext q
      unfold upd va_up
      split <;> rfl
    rw [e1, wl_sA hF hj] at hP1 hD1
    exact k.2 ok r σ' ho h1 h2 h3 h4 (wf hw) ad H1 locs1 ls ha.sA hP1 hD1 hS1 hl
  · cases ho
theorem g_last {id : Nat} {i v : Int} {K : Sg → Option (α × Sg)} (hF : FOK F) (j : Nat) (hj : F.2.2[j]? = some id) (hkd : F.2.1 id = 2) (hDk : D.testBit id = true) (hv : WF F σ → inL v) (d : decode J.1 pc = .ok (.lastore, 1)) (k : WG p l e R s m args below meth c J D G cl0 A F ad0 σ0 rv (K (sA σ id i v)) (sA σ id i v) (pc + 1) loc stk) : WG p l e R s m args below meth c J D G cl0 A F ad0 σ0 rv (stA σ id i v K) σ pc loc (vL v :: vI i :: vR (10 + id) :: stk) := by
  have wf : WF F σ → WF F (sA σ id i v) := fun hw => hw.sA (fun h => absurd hkd h) (fun _ => hv hw) (fun h => by rw [hkd] at h; cases h)
  refine ⟨st_ps hDk wf k.1, fun ok r σ' ho h1 h2 h3 h4 hw ad H locs ls ha hP hD hS hl => ?_⟩
  unfold stA at ho
  split at ho
  · rename_i hi
    obtain ⟨hin, hc⟩ := i_clamp hi.1 hi.2 (hw.2.1 id)
    have hx := wl_ar (G := G) (ad := ad) (σ := σ) hj
    rw [arE_l hkd] at hx
    refine va_last ok.1 ok.2.1 ok.2.2.2.2.2.2.2.1 hP hD hS _ 1 hx rfl hin d (fun H1 locs1 hP1 hD1 hS1 => ?_)
    have e1 : (Sum.inl (G.2.2.1, gL σ id, Sum.inr (Sum.inl (vp_updL (fun j => Int64.ofInt (gF σ id j)) (Int32.ofInt i).toNatClampNeg (Int64.ofInt v)))) : va_E) = arE G F.2.1 (sA σ id i v) id := by
      rw [arE_l hkd, gL_sA, gF_sA, if_pos rfl, hc]
      congr 5
      funext q
      unfold vp_updL va_up
      split <;> rfl
    rw [e1, wl_sA hF hj] at hP1 hD1
    exact k.2 ok r σ' ho h1 h2 h3 h4 (wf hw) ad H1 locs1 ls ha.sA hP1 hD1 hS1 hl
  · cases ho
theorem nar_z {v : Int} (h : v = 0 ∨ v = 1) : vp_nar .boolean (Int32.ofInt v) = Int32.ofInt v := by
  rcases h with h | h <;> subst h <;> decide +kernel
theorem g_zast {id : Nat} {i v : Int} {K : Sg → Option (α × Sg)} (hF : FOK F) (j : Nat) (hj : F.2.2[j]? = some id) (hkd : F.2.1 id = 3) (hDk : D.testBit id = true) (hv : WF F σ → v = 0 ∨ v = 1) (d : decode J.1 pc = .ok (.bastore, 1)) (k : WG p l e R s m args below meth c J D G cl0 A F ad0 σ0 rv (K (sA σ id i v)) (sA σ id i v) (pc + 1) loc stk) : WG p l e R s m args below meth c J D G cl0 A F ad0 σ0 rv (stA σ id i v K) σ pc loc (vI v :: vI i :: vR (10 + id) :: stk) := by
  have wf : WF F σ → WF F (sA σ id i v) := fun hw => hw.sA (fun _ => by rcases hv hw with q | q <;> subst q <;> decide) (fun h => by rw [hkd] at h; cases h) (fun _ => hv hw)
  refine ⟨st_ps hDk wf k.1, fun ok r σ' ho h1 h2 h3 h4 hw ad H locs ls ha hP hD hS hl => ?_⟩
  unfold stA at ho
  split at ho
  · rename_i hi
    obtain ⟨hin, hc⟩ := i_clamp hi.1 hi.2 (hw.2.1 id)
    have hx := wl_ar (G := G) (ad := ad) (σ := σ) hj
    rw [arE_z hkd] at hx
    refine va_zast ok.1 ok.2.1 ok.2.2.2.2.2.2.2.1 hP hD hS _ 2 hx rfl hin d (fun H1 locs1 hP1 hD1 hS1 => ?_)
    have e1 : (Sum.inl (G.2.2.2, gL σ id, Sum.inl (upd (fun j => Int32.ofInt (gF σ id j)) (Int32.ofInt i).toNatClampNeg (vp_nar .boolean (Int32.ofInt v)))) : va_E) = arE G F.2.1 (sA σ id i v) id := by
      rw [arE_z hkd, gL_sA, gF_sA, if_pos rfl, hc, nar_z (hv hw)]
      congr 4
      funext q
      unfold upd va_up
      split <;> rfl
    rw [e1, wl_sA hF hj] at hP1 hD1
    exact k.2 ok r σ' ho h1 h2 h3 h4 (wf hw) ad H1 locs1 ls ha.sA hP1 hD1 hS1 hl
  · cases ho
end G4
