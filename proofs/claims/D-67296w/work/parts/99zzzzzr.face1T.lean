/-! face: attribute in the model -/
theorem ReT.s0 {W : Wd} {c : Nat} {Fo Pr : List Nat} {lc : Nat} {K : Int} {u : Sg} (h : ReT W c Fo Pr lc K u) {v : Int} (hv : inR v) : ReT W c Fo Pr lc K (sI u 0 v) :=
  ReT.cg (u := u) (fun _ _ => rfl) (fun k hk _ => by rw [gI_sI, if_neg (by omega)]) (wfIT h.2.1 rfl hv) h
theorem fails_eq {d : Nat} (hd : 3 ≤ d) {u : Sg} {k : Int} : runT d 17 [k] u = some (0, sI u 0 k) := by
  obtain ⟨d, rfl⟩ : ∃ e, d = e + 1 := ⟨d - 1, by omega⟩
  rw [runT_eq (by omega)]
  rfl
theorem memT_x {W W' : Wd} {c : Nat} {u : Sg} (hW : WOK W (NT nt2 (c + 2))) (hx : WEx (NT nt2 (c + 2)) W W') (h : MemT nt2 (c + 2) W u) : MemT nt2 (c + 2) W' u := fun t ht => by
  obtain ⟨a1, a2, a3, a4, a5⟩ := h t ht
  exact ⟨a1, a2, a3, by rw [adT_ex hW hx _ a5]; exact a4, cltm_ex hx (fun _ q => q) a5⟩
theorem wex_at {N : Nat → Prop} {W : Wd} {n : Nat} (h : wnA W ≤ n) : WEx N W (setN W 3 n) := ⟨fun _ _ => rfl, ⟨Nat.le_refl _, fun _ _ => ⟨rfl, rfl⟩⟩, ⟨Nat.le_refl _, fun _ _ => ⟨rfl, rfl⟩⟩, ⟨Nat.le_refl _, fun _ _ => rfl⟩, h, rfl, rfl, rfl, rfl, rfl, rfl⟩
theorem tAttr {d : Nat} (hd : 10 ≤ d) {W : Wd} {c : Nat} {Fo Pr : List Nat} {lc : Nat} {K : Int} {u : Sg} (h : ReT W c Fo Pr lc K u) (hW : WOK W (NT nt2 (c + 2))) : wp (runT d 18 [] u) (fun b v => (wnA W < 15 ∧ b = (wnA W : Int) ∧ gI v 0 = 0 ∧ ReT (setN W 3 (wnA W + 1)) c Fo Pr lc K v) ∨ (wnA W = 15 ∧ b = 0 ∧ gI v 0 = 1 ∧ ReT W c Fo Pr lc K v)) := by
  obtain ⟨d, rfl⟩ : ∃ e, d = e + 1 := ⟨d - 1, by omega⟩
  rw [runT_eq (by omega)]
  show wp (bX3_attribute (runT d) u) _
  unfold bX3_attribute
  have h28 := h.1.2.2.2.2.2.1.2.1
  have h15 := h.1.2.2.2.2.2.1.2.2
  have hs0 := h.s0 (v := 0) (by decide)
  rw [wp_un, wp_un, show gI (sI u 0 0) 28 = (wnA W : Int) from h28]
  by_cases hlt : wnA W < 15
  · rw [if_neg (by omega), wp_un, wp_ar]
    refine ⟨⟨by omega, by omega⟩, ?_⟩
    rw [wp_un, wp_some]
    refine Or.inl ⟨hlt, rfl, rfl, ?_⟩
    have hw : WF FT (sI (sI u 0 0) 28 ((wnA W : Int) + 1)) := wfIT hs0.2.1 rfl ⟨by omega, by omega⟩
    obtain ⟨⟨h1, h2, ha, hb, hf, ⟨hp, -, -⟩, hg⟩, -, hArr, ⟨hm, hm2, hm3⟩, hh, h54, h76, h43, hFo, hPr, h82⟩ := hs0
    have hst : ST nt2 (c + 2) (sI (sI u 0 0) 28 ((wnA W : Int) + 1)) := (EqH.sI (by decide)).st h1
    have hmem : MemT nt2 (c + 2) (setN W 3 (wnA W + 1)) (sI (sI u 0 0) 28 ((wnA W : Int) + 1)) := memT_x (u := sI (sI u 0 0) 28 ((wnA W : Int) + 1)) hW (wex_at (Nat.le_succ _)) hm
    exact ⟨⟨hst, h2, ha, hb, hf, ⟨hp, by rw [gI_sI, if_pos rfl]; rfl, by show wnA W + 1 ≤ 15; omega⟩, hg⟩, hw, hArr, ⟨hmem, hm2, hm3⟩, hh, h54, h76, h43, hFo, hPr, h82⟩
  · rw [if_pos (by omega), fails_eq (by omega)]
    show wp (some (0, sI (sI u 0 0) 0 1)) _
    rw [wp_some]
    exact Or.inr ⟨by omega, rfl, by rw [gI_sI, if_pos rfl], hs0.s0 (by decide)⟩
/-- both sides of attribute agree -/
theorem attr_agr {W : Wd} {r b : Int} {v : Sg} {P Q : Prop} (h1 : (wnA W < 15 ∧ r = (wnA W : Int) ∧ P) ∨ (wnA W = 15 ∧ r = exB + 2 ∧ Q)) (h2 : (wnA W < 15 ∧ b = (wnA W : Int) ∧ gI v 0 = 0) ∨ (wnA W = 15 ∧ b = 0 ∧ gI v 0 = 1)) : Agr hkS r b (gI v 0) := by
  have e : exB = 1099511627776 := rfl
  rcases h1 with ⟨a1, a2, -⟩ | ⟨a1, a2, -⟩
  · rcases h2 with ⟨b1, b2, b3⟩ | ⟨b1, b2, b3⟩
    · exact Or.inl ⟨by omega, b3, by omega, by omega⟩
    · omega
  · rcases h2 with ⟨b1, b2, b3⟩ | ⟨b1, b2, b3⟩
    · omega
    · refine Or.inr ⟨by omega, ?_, by omega, by omega, by omega⟩
      rw [a2, b3, show exB + 2 - exB = 2 by omega]
      rfl
