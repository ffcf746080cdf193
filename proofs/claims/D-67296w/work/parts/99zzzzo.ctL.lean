/-! contracts of the class and of the model, seen from the law -/
def liC (σ : Sg) (o : Option (Int × Sg)) : Option (Int × Sg) := o.map fun q => (q.1, umC σ q.2)
def liT (σ : Sg) (o : Option (Int × Sg)) : Option (Int × Sg) := o.map fun q => (q.1, umT σ q.2)
theorem liC_some {σ : Sg} {o : Option (Int × Sg)} {r : Int} {σ' : Sg} (h : liC σ o = some (r, σ')) : ∃ τ, o = some (r, τ) ∧ σ' = umC σ τ := by
  unfold liC at h
  cases o with
  | none => cases h
  | some q =>
    obtain ⟨v, τ⟩ := q
    simp only [Option.map_some, Option.some.injEq, Prod.mk.injEq] at h
    exact ⟨τ, by rw [h.1], h.2.symm⟩
theorem liT_some {σ : Sg} {o : Option (Int × Sg)} {r : Int} {σ' : Sg} (h : liT σ o = some (r, σ')) : ∃ τ, o = some (r, τ) ∧ σ' = umT σ τ := by
  unfold liT at h
  cases o with
  | none => cases h
  | some q =>
    obtain ⟨v, τ⟩ := q
    simp only [Option.map_some, Option.some.injEq, Prod.mk.injEq] at h
    exact ⟨τ, by rw [h.1], h.2.symm⟩
def slR (σ : Sg) (l : List Nat) : Nat := (l.map (gL σ)).sum
theorem slR_cg {σ τ : Sg} {l : List Nat} (h : ∀ id ∈ l, gL σ id = gL τ id) : slR σ l = slR τ l := by
  unfold slR
  rw [List.map_congr_left h]
theorem SL_L (σ : Sg) : SL FL σ = slR σ FC.2.2 + (slR σ [90] + slR σ (FT.2.2.map (200 + ·))) := by
  unfold SL slR
  rw [List.map_append, List.sum_append, List.map_append, List.sum_append]
theorem slR_T (σ τ : Sg) (h : ∀ k, gL σ (200 + k) = gL τ k) : slR σ (FT.2.2.map (200 + ·)) = SL FT τ := by
  unfold SL slR
  rw [List.map_map]
  congr 1
  exact List.map_congr_left fun k _ => h k
theorem slT_ge (id : Nat) (h : id ∈ FT.2.2.map (200 + ·)) : 200 ≤ id := by
  obtain ⟨j, -, rfl⟩ := List.mem_map.mp h
  show 200 ≤ 200 + j
  omega
theorem SL_mono {F : Fm} {σ τ : Sg} (h : ∀ k, gL σ k ≤ gL τ k) : SL F σ ≤ SL F τ := by
  unfold SL
  generalize F.2.2 = l
  induction l with
  | nil => exact Nat.le_refl _
  | cons a l ih =>
    simp only [List.map_cons, List.sum_cons]
    have := h a
    omega
theorem SL_C (σ τ : Sg) : SL FL (umC σ τ) + SL FC (dnC σ) = SL FL σ + SL FC τ := by
  have e1 : slR (umC σ τ) FC.2.2 = SL FC τ := slR_cg (fun id h => gL_of (umC_A (FC_lt id h)))
  have e2 : slR σ FC.2.2 = SL FC (dnC σ) := slR_cg (fun id h => (gL_of (dnC_A (FC_lt id h))).symm)
  have e3 : slR (umC σ τ) [90] = slR σ [90] := slR_cg (fun id h => gL_of (umC_A' ((by decide : ∀ id ∈ [90], 90 ≤ id) id h)))
  have e4 : slR (umC σ τ) (FT.2.2.map (200 + ·)) = slR σ (FT.2.2.map (200 + ·)) := slR_cg (fun id h => gL_of (umC_A' (by have := slT_ge id h; omega)))
  rw [SL_L, SL_L, e1, e2, e3, e4]
  omega
theorem SL_T (σ τ : Sg) : SL FL (umT σ τ) + SL FT (dnT σ) = SL FL σ + SL FT τ := by
  have e1 : slR (umT σ τ) FC.2.2 = slR σ FC.2.2 := slR_cg (fun id h => gL_of (umT_A' (by have := FC_lt id h; omega)))
  have e3 : slR (umT σ τ) [90] = slR σ [90] := slR_cg (fun id h => gL_of (umT_A' ((by decide : ∀ id ∈ [90], id < 200) id h)))
  rw [SL_L, SL_L, e1, e3, slR_T (umT σ τ) τ (fun k => gL_of umT_A), slR_T σ (dnT σ) (fun k => rfl)]
  omega
theorem msk_C {D : Nat} {σ τ : Sg} (h : ∀ k, D.testBit k = false → gI τ k = gI (dnC σ) k ∧ τ.2.1 k = (dnC σ).2.1 k) (k : Nat) (hk : D.testBit k = false) : gI (umC σ τ) k = gI σ k ∧ (umC σ τ).2.1 k = σ.2.1 k := by
  constructor
  · by_cases q : k < 100
    · rw [umC_I q, (h k hk).1, dnC_I q]
    · exact umC_I' (by omega)
  · by_cases q : k < 90
    · rw [umC_A q, (h k hk).2, dnC_A q]
    · exact umC_A' (by omega)
theorem len_C {σ τ : Sg} (h : ∀ k, gL (dnC σ) k ≤ gL τ k) (k : Nat) : gL σ k ≤ gL (umC σ τ) k := by
  by_cases q : k < 90
  · have := h k
    rw [gL_of (dnC_A q)] at this
    rw [gL_of (umC_A q)]
    exact this
  · rw [gL_of (umC_A' (by omega))]
    exact Nat.le_refl _
theorem GrX.upC {D : Nat} {σ τ : Sg} (h : GrX FC D (dnC σ) τ) : GrX FL D σ (umC σ τ) := by
  obtain ⟨-, h2, h3, h4, h5⟩ := h
  have e := SL_C σ τ
  have m := SL_mono (F := FC) h3
  have t1 : tw (umC σ τ) = tw τ := by unfold tw; rw [umC_I (by omega)]
  have t2 : tw (dnC σ) = tw σ := by unfold tw; rw [dnC_I (by omega)]
  have c0 : gC (dnC σ) = 0 := rfl
  have s0 : gS (dnC σ) = 0 := rfl
  have c1 : gC (umC σ τ) = gC σ + gC τ := rfl
  have s1 : gS (umC σ τ) = gS σ + gS τ := rfl
  rw [t2, c0] at h5
  rw [t2, s0] at h4
  refine ⟨⟨by omega, by omega⟩, msk_C h2, len_C h3, ?_, ?_⟩
  · show gS (umC σ τ) + (3 + 1) * SL FL σ + 6 * tw σ ≤ gS σ + (3 + 1) * SL FL (umC σ τ) + 6 * tw (umC σ τ)
    have h4 : gS τ + (2 + 1) * SL FC (dnC σ) + 6 * tw σ ≤ 0 + (2 + 1) * SL FC τ + 6 * tw τ := h4
    rw [t1, s1]
    omega
  · rw [t1, c1]
    omega
theorem Gr.upC {D : Nat} {σ τ : Sg} (h : Gr FC D (dnC σ) τ) : Gr FL D σ (umC σ τ) := by
  obtain ⟨-, h2, h3, h4, h5⟩ := h
  have e := SL_C σ τ
  have m := SL_mono (F := FC) h3
  have c0 : gC (dnC σ) = 0 := rfl
  have s0 : gS (dnC σ) = 0 := rfl
  have c1 : gC (umC σ τ) = gC σ + gC τ := rfl
  have s1 : gS (umC σ τ) = gS σ + gS τ := rfl
  rw [c0] at h5
  rw [s0] at h4
  refine ⟨⟨by omega, by omega⟩, msk_C h2, len_C h3, ?_, ?_⟩
  · show gS (umC σ τ) + (3 + 1) * SL FL σ ≤ gS σ + (3 + 1) * SL FL (umC σ τ)
    have h4 : gS τ + (2 + 1) * SL FC (dnC σ) ≤ 0 + (2 + 1) * SL FC τ := h4
    rw [s1]
    omega
  · rw [c1]
    omega
theorem Gr.upT {D : Nat} {σ τ : Sg} (h : Gr FT D (dnT σ) τ) : Gr FL (D <<< 200) σ (umT σ τ) := by
  obtain ⟨-, h2, h3, h4, h5⟩ := h
  have e := SL_T σ τ
  have m := SL_mono (F := FT) h3
  have c0 : gC (dnT σ) = 0 := rfl
  have s0 : gS (dnT σ) = 0 := rfl
  have c1 : gC (umT σ τ) = gC σ + gC τ := rfl
  have s1 : gS (umT σ τ) = gS σ + gS τ := rfl
  rw [c0] at h5
  rw [s0] at h4
  refine ⟨⟨by omega, by omega⟩, fun k hk => ?_, fun k => ?_, ?_, ?_⟩
  · rcases lt_or_t k with q | ⟨j, rfl⟩
    · exact ⟨umT_I' q, umT_A' q⟩
    · have hk : D.testBit j = false := by
        rw [Nat.testBit_shiftLeft] at hk
        simpa using hk
      exact ⟨by rw [umT_I, (h2 j hk).1]; rfl, by rw [umT_A, (h2 j hk).2]; rfl⟩
  · rcases lt_or_t k with q | ⟨j, rfl⟩
    · rw [gL_of (umT_A' q)]; exact Nat.le_refl _
    · rw [gL_of umT_A]; exact h3 j
  · show gS (umT σ τ) + (3 + 1) * SL FL σ ≤ gS σ + (3 + 1) * SL FL (umT σ τ)
    have h4 : gS τ + (1 + 1) * SL FT (dnT σ) ≤ 0 + (1 + 1) * SL FT τ := h4
    rw [s1]
    omega
  · rw [c1]
    omega
/-- no value of a reference is given back -/
def NoRef (rv : Int → Rs) : Prop := ∀ r v, rv r = .inl (some v) → ∀ a a' : Nat → Nat, toV a v = toV a' v
theorem NoRef_I : NoRef rvI := fun r v h a a' => by
  injection h with h; injection h with h; subst h; rfl
theorem NoRef_V : NoRef rvV := fun r v h a a' => by
  injection h with h; cases h
theorem NoRef_X (b : Bool) : NoRef (rvX b) := fun r v h a a' => by
  unfold rvX at h
  split at h
  · cases h
  · split at h
    · injection h with h; injection h with h; subst h; rfl
    · injection h with h; cases h
theorem CtX.upC {l : Launch} {d : Nat} {y : MethodName} {cy : ByteArray} {nL : Nat} {ret : Option FieldType} {D : Nat} {rv : Int → Rs} {As : List AV} {σ : Sg} {oc : Option (Int × Sg)} (hr : NoRef rv) (h : CtX l d FC clA y cy nL ret D rv As (dnC σ) oc) : CtX l d FL clA y cy nL ret D rv As σ (liC σ oc) := by
  refine ⟨fun hA hw r σ' e => ?_, fun r σ' e hA G ad sz => ?_⟩
  · obtain ⟨τ, e1, rfl⟩ := liC_some e
    obtain ⟨g1, g2, g3⟩ := h.1 hA hw.dnC r τ e1
    exact ⟨g1.upC, hw.umC g2, g3⟩
  · obtain ⟨τ, e1, rfl⟩ := liC_some e
    have hm := h.2 r τ e1 hA G ad sz
    have c1 : gC (umC σ τ) - gC σ = gC τ - gC (dnC σ) := by show gC σ + gC τ - gC σ = gC τ - 0; omega
    have s1 : gS (umC σ τ) - gS σ = gS τ - gS (dnC σ) := by show gS σ + gS τ - gS σ = gS τ - 0; omega
    rw [c1, s1]
    exact MetG.lift (Rw := rwC G ad σ) (worldC (fun k hk => (dnC_I (by omega)).symm) (fun k hk => (dnC_A hk).symm) (fun _ _ => rfl)) (fun ad1 h1 => lfC ad1 h1) (fun w => w.dnC) (fun w w' => w.umC w') (fun v hv => hr r v hv) rfl hm
theorem Ct.upC {l : Launch} {d : Nat} {y : MethodName} {cy : ByteArray} {nL : Nat} {ret : Option FieldType} {D : Nat} {rv : Int → Rs} {As : List AV} {σ : Sg} {oc : Option (Int × Sg)} (hr : NoRef rv) (h : Ct l d FC clA y cy nL ret D rv As (dnC σ) oc) : Ct l d FL clA y cy nL ret D rv As σ (liC σ oc) := by
  refine ⟨fun hA hw r σ' e => ?_, fun r σ' e hA G ad sz => ?_⟩
  · obtain ⟨τ, e1, rfl⟩ := liC_some e
    obtain ⟨g1, g2, g3⟩ := h.1 hA hw.dnC r τ e1
    exact ⟨g1.upC, hw.umC g2, g3⟩
  · obtain ⟨τ, e1, rfl⟩ := liC_some e
    have hm := h.2 r τ e1 hA G ad sz
    have c1 : gC (umC σ τ) - gC σ = gC τ - gC (dnC σ) := by show gC σ + gC τ - gC σ = gC τ - 0; omega
    have s1 : gS (umC σ τ) - gS σ = gS τ - gS (dnC σ) := by show gS σ + gS τ - gS σ = gS τ - 0; omega
    rw [c1, s1]
    exact Met.lift (Rw := rwC G ad σ) (worldC (fun k hk => (dnC_I (by omega)).symm) (fun k hk => (dnC_A hk).symm) (fun _ _ => rfl)) (fun ad1 h1 => lfC ad1 h1) (fun w => w.dnC) (fun w w' => w.umC w') (fun v hv => hr r v hv) rfl hm
def nrf (a : AV) : Bool := match a with
  | .inr (.inr _) => false
  | _ => true
theorem nrf_eq {a : AV} (h : nrf a = true) (ad ad' : Nat → Nat) : toV ad a = toV ad' a := by
  rcases a with v | v | n
  · rfl
  · rfl
  · cases h
theorem Ct.upT {l : Launch} {d : Nat} {y : MethodName} {cy : ByteArray} {nL : Nat} {ret : Option FieldType} {D : Nat} {rv : Int → Rs} {Bs : List AV} {σ : Sg} {oc : Option (Int × Sg)} (hr : NoRef rv) (hB : Bs.all nrf = true) (h : Ct l d FT clA y cy nL ret D rv (vR 0 :: Bs) (dnT σ) oc) : Ct l d FL clA y cy nL ret (D <<< 200) rv (vR 2 :: Bs) σ (liT σ oc) := by
  have hA' : (∀ a ∈ vR 2 :: Bs, avR a) → ∀ a ∈ vR 0 :: Bs, avR a := fun hA a ha => by
    rcases List.mem_cons.mp ha with q | q
    · rw [q]; trivial
    · exact hA a (List.mem_cons_of_mem _ q)
  refine ⟨fun hA hw r σ' e => ?_, fun r σ' e hA G ad sz => ?_⟩
  · obtain ⟨τ, e1, rfl⟩ := liT_some e
    obtain ⟨g1, g2, g3⟩ := h.1 (hA' hA) hw.dnT r τ e1
    exact ⟨g1.upT, hw.umT g2, g3⟩
  · obtain ⟨τ, e1, rfl⟩ := liT_some e
    have hm := h.2 r τ e1 (hA' hA) G (daT ad) sz
    have c1 : gC (umT σ τ) - gC σ = gC τ - gC (dnT σ) := by show gC σ + gC τ - gC σ = gC τ - 0; omega
    have s1 : gS (umT σ τ) - gS σ = gS τ - gS (dnT σ) := by show gS σ + gS τ - gS σ = gS τ - 0; omega
    rw [c1, s1]
    refine Met.lift (Rw := rwT G ad σ) (worldT (fun k => rfl) (fun k => rfl) rfl (fun k => ?_)) (fun ad1 h1 => lfT ad1 h1) (fun w => w.dnT) (fun w w' => w.umT w') (fun v hv => hr r v hv) ?_ hm
    · unfold daT
      rw [if_neg (by omega), show 10 + k + 200 = 10 + (200 + k) by omega]
    · show Value.ref (ad 2) :: Bs.map (toV ad) = Value.ref (ad 2) :: Bs.map (toV (daT ad))
      congr 1
      exact List.map_congr_left fun a ha => nrf_eq (List.all_eq_true.mp hB a ha) _ _
