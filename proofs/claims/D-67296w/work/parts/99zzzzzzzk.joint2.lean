/-! one round of the law's loop, for answers that are true or false -/
theorem stOK_Z {hk : Nat → Option Int} {d KC KT : Nat} {as : List Int} {σ τ v : Sg} {r b : Int} (hd : 3 ≤ d) (hc : runC d KC as (dnC σ) = some (r, τ)) (ht : runT d KT as (dnT σ) = some (b, v)) (ha : Agr hk r b (gI v 0)) (h01 : ¬ exB < r → r = 0 ∨ r = 1) (hb01 : b = 0 ∨ b = 1) (hB : Rm2 σ τ v) :
    ∃ σ', StOK (cl (callL d KC as σ) fun v1 s2 => trK hk v1 s2 (if v1 = 0 then (stA s2 90 0 0 fun s3 => some (0, s3)) else (stA s2 90 0 1 fun s3 => some (0, s3)))) (callMd d KT as) (callMd d 0 []) True σ σ' ∧ dnC σ' = dnC (umC σ τ) ∧ dnT σ' = (v.1, v.2.1, 0, 0) ∧ gL σ' 90 = 1 ∧ gC σ' = gC σ + gC τ + gC v ∧ gS σ' = gS σ + gS τ + gS v := by
  obtain ⟨h90, hC, hS⟩ := hB
  have hcl : callL d KC as σ = some (r, umC σ τ) := by unfold callL liC; rw [hc]; rfl
  have hl1 : gL (umC σ τ) 90 = 1 := by rw [gL_of (umC_A' (by decide))]; exact h90
  have e90 : ∀ s w : Sg, (umT s w).2.1 90 = s.2.1 90 := fun s w => umT_A' (by decide)
  have mdT : ∀ s : Sg, dnT s = dnT σ → callMd d KT as s = some (b, umT s v) := fun s e => by unfold callMd liT; rw [e, ht]; rfl
  have thT : ∀ s : Sg, gI (umT s v) 200 = gI v 0 → callMd d 0 [] (umT s v) = some (gI v 0, umT s v) := fun s e => by
    unfold callMd liT
    rw [thrown_eq hd]
    show some (gI (umT s v) (200 + 0), umT (umT s v) (dnT (umT s v))) = _
    rw [umT_dnT]
    exact congrArg (fun z => some (z, umT s v)) e
  have g200 : ∀ s : Sg, gI (umT s v) 200 = gI v 0 := fun s => umT_I (k := 0)
  rcases ha with ⟨h1, h2, h3, h4⟩ | ⟨h1, h2, h3, h4, h5⟩
  · have hw : (cl (callL d KC as σ) fun v1 s2 => trK hk v1 s2 (if v1 = 0 then (stA s2 90 0 0 fun s3 => some (0, s3)) else (stA s2 90 0 1 fun s3 => some (0, s3)))) = some (0, sA (umC σ τ) 90 0 r) := by
      rw [hcl]
      show trK hk r (umC σ τ) _ = _
      unfold trK
      rw [if_neg h1]
      rcases h01 h1 with q | q
      · rw [if_pos q]
        unfold stA
        rw [if_pos ⟨by decide, by rw [hl1]; decide⟩, q]
      · rw [if_neg (by omega)]
        unfold stA
        rw [if_pos ⟨by decide, by rw [hl1]; decide⟩, q]
    have l2 : gL (sA (umC σ τ) 90 0 r) 90 = 1 := by rw [gL_sA]; exact hl1
    have l3 : gL (umT (sA (umC σ τ) 90 0 r) v) 90 = 1 := by rw [gL_of (e90 _ _)]; exact l2
    refine ⟨umT (sA (umC σ τ) 90 0 r) v, ⟨0, b, _, _, hw, mdT _ (by rw [dnT_s90, dnT_umC]), by rw [thT _ (g200 _), h2], fun _ => ?_, by decide, by rw [h3]; exact h4, fun _ => hb01, ⟨h90, by omega, by omega⟩, ⟨l2, by show gC σ + gC τ ≤ _; omega, by show gS σ + gS τ ≤ _; omega⟩, ⟨l3, hC, hS⟩, ⟨l3, hC, hS⟩⟩, by rw [dnC_umT, dnC_s90], dnT_umT _ _, l3, rfl, rfl⟩
    rw [gF_of (e90 _ _), h3]
    show (va_up (umC σ τ).2.1 90 (gL (umC σ τ) 90, va_up (gF (umC σ τ) 90) (0 : Int).toNat r) 90).2 0 = r
    rw [va_up, if_pos rfl]
    show va_up (gF (umC σ τ) 90) 0 r 0 = r
    rw [va_up, if_pos rfl]
  · have hw : (cl (callL d KC as σ) fun v1 s2 => trK hk v1 s2 (if v1 = 0 then (stA s2 90 0 0 fun s3 => some (0, s3)) else (stA s2 90 0 1 fun s3 => some (0, s3)))) = some (gI v 0, umC σ τ) := by
      rw [hcl]
      show trK hk r (umC σ τ) _ = _
      unfold trK
      rw [if_pos h1, h2]
    have l3 : gL (umT (umC σ τ) v) 90 = 1 := by rw [gL_of (e90 _ _)]; exact hl1
    exact ⟨umT (umC σ τ) v, ⟨gI v 0, b, _, _, hw, mdT _ (dnT_umC _ _), thT _ (g200 _), fun z => absurd z h3, h4, h5, fun _ => hb01, ⟨h90, by omega, by omega⟩, ⟨hl1, by show gC σ + gC τ ≤ _; omega, by show gS σ + gS τ ≤ _; omega⟩, ⟨l3, hC, hS⟩, ⟨l3, hC, hS⟩⟩, dnC_umT _ _, dnT_umT _ _, l3, rfl, rfl⟩
