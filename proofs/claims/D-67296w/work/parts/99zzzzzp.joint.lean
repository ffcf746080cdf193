/-! one round of the law's loop, out of the two calls -/
theorem dnT_umC (σ τ : Sg) : dnT (umC σ τ) = dnT σ := by
  have e1 : (fun k => gI (umC σ τ) (200 + k)) = fun k => gI σ (200 + k) := funext fun k => umC_I' (by omega)
  have e2 : (fun k => (umC σ τ).2.1 (200 + k)) = fun k => σ.2.1 (200 + k) := funext fun k => umC_A' (by omega)
  unfold dnT
  rw [e1, e2]
theorem dnC_umT (σ τ : Sg) : dnC (umT σ τ) = dnC σ := by
  have e1 : (fun k => if k < 100 then gI (umT σ τ) k else 0) = fun k => if k < 100 then gI σ k else 0 := funext fun k => by
    by_cases h : k < 100
    · rw [if_pos h, if_pos h, umT_I' (by omega)]
    · rw [if_neg h, if_neg h]
  have e2 : (fun k => if k < 90 then (umT σ τ).2.1 k else (0, fun _ => 0)) = fun k => if k < 90 then σ.2.1 k else (0, fun _ => 0) := funext fun k => by
    by_cases h : k < 90
    · rw [if_pos h, if_pos h, umT_A' (by omega)]
    · rw [if_neg h, if_neg h]
  unfold dnC
  rw [e1, e2]
theorem dnT_umT (σ τ : Sg) : dnT (umT σ τ) = (τ.1, τ.2.1, 0, 0) := by
  have e1 : (fun k => gI (umT σ τ) (200 + k)) = τ.1 := funext fun k => umT_I
  have e2 : (fun k => (umT σ τ).2.1 (200 + k)) = τ.2.1 := funext fun k => umT_A
  unfold dnT
  rw [e1, e2]
theorem dnC_s90 (σ : Sg) (v : Int) : dnC (sA σ 90 0 v) = dnC σ := by
  have e2 : (fun k => if k < 90 then (sA σ 90 0 v).2.1 k else (0, fun _ => 0)) = fun k => if k < 90 then σ.2.1 k else (0, fun _ => 0) := funext fun k => by
    by_cases h : k < 90
    · rw [if_pos h, if_pos h]
      show va_up σ.2.1 90 _ k = _
      rw [va_up, if_neg (by omega)]
    · rw [if_neg h, if_neg h]
  unfold dnC
  rw [e2]
  rfl
theorem dnT_s90 (σ : Sg) (v : Int) : dnT (sA σ 90 0 v) = dnT σ := by
  have e2 : (fun k => (sA σ 90 0 v).2.1 (200 + k)) = fun k => σ.2.1 (200 + k) := funext fun k => by
    show va_up σ.2.1 90 _ (200 + k) = _
    rw [va_up, if_neg (by omega)]
  unfold dnT
  rw [e2]
  rfl
theorem umT_dnT (σ : Sg) : umT σ (dnT σ) = σ := by
  have e1 : (fun k => if k < 200 then gI σ k else gI (dnT σ) (k - 200)) = σ.1 := funext fun k => by
    by_cases h : k < 200
    · rw [if_pos h]; rfl
    · rw [if_neg h]
      show gI σ (200 + (k - 200)) = gI σ k
      rw [show 200 + (k - 200) = k by omega]
  have e2 : (fun k => if k < 200 then σ.2.1 k else (dnT σ).2.1 (k - 200)) = σ.2.1 := funext fun k => by
    by_cases h : k < 200
    · rw [if_pos h]
    · rw [if_neg h]
      show σ.2.1 (200 + (k - 200)) = σ.2.1 k
      rw [show 200 + (k - 200) = k by omega]
  unfold umT
  rw [e1, e2]
  rfl
theorem thrown_eq {d : Nat} (hd : 3 ≤ d) (w : Sg) : runT d 0 [] w = some (gI w 0, w) := by
  obtain ⟨d, rfl⟩ : ∃ e, d = e + 1 := ⟨d - 1, by omega⟩
  rw [runT_eq (by omega)]
  rfl
/-- the room that two calls leave -/
def Rm2 (σ τ v : Sg) : Prop := gL σ 90 = 1 ∧ gC σ + gC τ + gC v ≤ 600128 ∧ gS σ + gS τ + gS v ≤ 7301098
/-- what two calls agree on -/
def Agr (hk : Nat → Option Int) (r b t : Int) : Prop := (¬ exB < r ∧ t = 0 ∧ b = r ∧ inR r) ∨ (exB < r ∧ hk (r - exB).toNat = some t ∧ t ≠ 0 ∧ inR t ∧ inR b)
theorem stOK_I {hk : Nat → Option Int} {d KC KT : Nat} {as : List Int} {σ τ v : Sg} {r b : Int} (hd : 3 ≤ d) (hc : runC d KC as (dnC σ) = some (r, τ)) (ht : runT d KT as (dnT σ) = some (b, v)) (ha : Agr hk r b (gI v 0)) (hB : Rm2 σ τ v) :
    ∃ σ', StOK (cl (callL d KC as σ) fun v1 s2 => trK hk v1 s2 (stA s2 90 0 v1 fun s3 => some (0, s3))) (callMd d KT as) (callMd d 0 []) False σ σ' ∧ dnC σ' = dnC (umC σ τ) ∧ dnT σ' = (v.1, v.2.1, 0, 0) ∧ gL σ' 90 = 1 ∧ gC σ' = gC σ + gC τ + gC v ∧ gS σ' = gS σ + gS τ + gS v := by
  obtain ⟨h90, hC, hS⟩ := hB
  have hcl : callL d KC as σ = some (r, umC σ τ) := by unfold callL liC; rw [hc]; rfl
  have hl1 : gL (umC σ τ) 90 = 1 := by rw [gL_of (umC_A' (by decide))]; exact h90
  have e90 : ∀ s w : Sg, (umT s w).2.1 90 = s.2.1 90 := fun s w => umT_A' (by decide)
  have mdT : ∀ s : Sg, dnT s = dnT σ → callMd d KT as s = some (b, umT s v) := fun s e => by unfold callMd liT; rw [e, ht]; rfl
  have thT : ∀ s : Sg, gI (umT s v) 200 = gI v 0 → callMd d 0 [] (umT s v) = some (gI v 0, umT s v) := fun s e => by
    unfold callMd liT
    rw [thrown_eq hd]
    show some (gI (umT s v) (200 + 0), umT (umT s v) (dnT (umT s v))) = _
    rw [umT_dnT]
    exact congrArg (fun z => some (z, umT s v)) e
  have g200 : ∀ s : Sg, gI (umT s v) 200 = gI v 0 := fun s => umT_I (k := 0)
  rcases ha with ⟨h1, h2, h3, h4⟩ | ⟨h1, h2, h3, h4, h5⟩
  · have hw : (cl (callL d KC as σ) fun v1 s2 => trK hk v1 s2 (stA s2 90 0 v1 fun s3 => some (0, s3))) = some (0, sA (umC σ τ) 90 0 r) := by
      rw [hcl]
      show trK hk r (umC σ τ) _ = _
      unfold trK
      rw [if_neg h1]
      unfold stA
      rw [if_pos ⟨by decide, by rw [hl1]; decide⟩]
    have l2 : gL (sA (umC σ τ) 90 0 r) 90 = 1 := by rw [gL_sA]; exact hl1
    have l3 : gL (umT (sA (umC σ τ) 90 0 r) v) 90 = 1 := by rw [gL_of (e90 _ _)]; exact l2
    refine ⟨umT (sA (umC σ τ) 90 0 r) v, ⟨0, b, _, _, hw, mdT _ (by rw [dnT_s90, dnT_umC]), by rw [thT _ (g200 _), h2], fun _ => ?_, by decide, by rw [h3]; exact h4, fun z => z.elim, ⟨h90, by omega, by omega⟩, ⟨l2, by show gC σ + gC τ ≤ _; omega, by show gS σ + gS τ ≤ _; omega⟩, ⟨l3, hC, hS⟩, ⟨l3, hC, hS⟩⟩, by rw [dnC_umT, dnC_s90], dnT_umT _ _, l3, rfl, rfl⟩
    rw [gF_of (e90 _ _), h3]
    show (va_up (umC σ τ).2.1 90 (gL (umC σ τ) 90, va_up (gF (umC σ τ) 90) (0 : Int).toNat r) 90).2 0 = r
    rw [va_up, if_pos rfl]
    show va_up (gF (umC σ τ) 90) 0 r 0 = r
    rw [va_up, if_pos rfl]
  · have hw : (cl (callL d KC as σ) fun v1 s2 => trK hk v1 s2 (stA s2 90 0 v1 fun s3 => some (0, s3))) = some (gI v 0, umC σ τ) := by
      rw [hcl]
      show trK hk r (umC σ τ) _ = _
      unfold trK
      rw [if_pos h1, h2]
    have l3 : gL (umT (umC σ τ) v) 90 = 1 := by rw [gL_of (e90 _ _)]; exact hl1
    exact ⟨umT (umC σ τ) v, ⟨gI v 0, b, _, _, hw, mdT _ (dnT_umC _ _), thT _ (g200 _), fun z => absurd z h3, h4, h5, fun z => z.elim, ⟨h90, by omega, by omega⟩, ⟨hl1, by show gC σ + gC τ ≤ _; omega, by show gS σ + gS τ ≤ _; omega⟩, ⟨l3, hC, hS⟩, ⟨l3, hC, hS⟩⟩, dnC_umT _ _, dnT_umT _ _, l3, rfl, rfl⟩
