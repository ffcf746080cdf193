/-! rounds: what may be made, all stages together -/
section XST
variable {W : Wd} {A K0 : Nat → Prop} {Fo : List Nat} {X : Nat → Prop}
/-- what a stage asks for -/
def NdR (W : Wd) (Fo : List Nat) (A K O : Nat → Prop) (z : Nat) : Prop :=
  (∃ f, K f ∧ kd f = 14 ∧ z = mk 8 (wh f) [pa f 0]) ∨
  (¬ manyS (facS W K O) ∧ ∃ f s p, K f ∧ subN s f ∧ kd s = 17 ∧ p ∈ ps s ∧ z = notT p) ∨
  (¬ manyS (facS W K O) ∧ ¬ conS (facS W K O) K ∧ ∃ f, K f ∧ kd f = 16 ∧ kd (pa f 0) = 18 ∧ ¬ O f ∧ (z = mk 1 (2 * f + 1) [] ∨ z = sbT (putg (mk 1 (2 * f + 1) [])) 0 (pa (pa f 0) 1))) ∨
  (¬ manyS (facS W K O) ∧ ¬ conS (facS W K O) K ∧ ¬ overS (nxK W A K O) ∧ ∃ g, comS W A K O g ∧ ¬ K g ∧ subT z g)
/-- what was there, and what the stages ask for -/
def X21 (W : Wd) (Fo : List Nat) (A K0 X : Nat → Prop) (z : Nat) : Prop := X z ∨ X20 Fo z ∨ ∃ r, rch W A K0 r ∧ NdR W Fo A (stg W A K0 r).1 (stg W A K0 r).2 z
def X2F (W : Wd) (Fo : List Nat) (A K0 X : Nat → Prop) : XFm := (X21 W Fo A K0 X, X22 W Fo)
theorem XSt.of (hF : ∀ f ∈ Fo, okT f) (hW : KfW W Fo) (hK : KdW W) {r : Nat} (hr : rch W A K0 r) (hS : ∀ t, fH (facS W (stg W A K0 r).1 (stg W A K0 r).2) t → (kd t = 4 → wh t < wnF W) ∧ ∀ z ∈ upT W (tyT W t), wh z < wnM W) (h14 : ∀ f, (stg W A K0 r).1 f → kd f = 14 → ∀ z ∈ upT W (mk 8 (wh f) [pa f 0]), wh z < wnM W) : XSt W A (X2F W Fo A K0 X) (stg W A K0 r).1 (stg W A K0 r).2 := by
  have nd : ∀ z, NdR W Fo A (stg W A K0 r).1 (stg W A K0 r).2 z → X21 W Fo A K0 X z := fun z h => Or.inr (Or.inr ⟨r, hr, h⟩)
  refine ⟨XSp.of (X := X2F W Fo A K0 X) hF (fun _ _ h => h) (fun _ h => Or.inr (Or.inl h)) hW hK hS, XTm.of (X := X2F W Fo A K0 X) hF (fun _ _ h => h) hW hK, fun f hf k => ⟨nd _ (Or.inl ⟨f, hf, k, rfl⟩), fun y hy => ⟨fun p0 h0 => ?_, fun p0 h0 => ?_⟩⟩, fun hm => ⟨fun f hf s hs k p hp => nd _ (Or.inr (Or.inl ⟨hm, f, s, p, hf, hs, k, hp, rfl⟩)), fun hc => ⟨fun f hf k k2 ho => ⟨nd _ (Or.inr (Or.inr (Or.inl ⟨hm, hc, f, hf, k, k2, ho, Or.inl rfl⟩))), nd _ (Or.inr (Or.inr (Or.inl ⟨hm, hc, f, hf, k, k2, ho, Or.inr rfl⟩)))⟩, fun hv g hg hn z hz => nd _ (Or.inr (Or.inr (Or.inr ⟨hm, hc, hv, g, hg, hn, hz⟩)))⟩⟩⟩
  · have hy' := h14 f hf k y hy
    rw [p0]
    exact ImT_img _ (hF _ (hW.2.1 _ (by omega) hy')) (hK.2.1 _ (by omega) hy') (fun s hs => Or.inr (Or.inl ⟨_, hW.2.1 _ (by omega) hy', hK.2.1 _ (by omega) hy', s, hs, rfl⟩))
  · have hy' := h14 f hf k y hy
    exact X22.t (W := W) (X := X2F W Fo A K0 X) hF (fun _ _ h => h) (hW.2.1 _ (by omega) hy') (hK.2.1 _ (by omega) hy')
/-- at the last stage nothing more comes -/
theorem last_no {R : Nat} (hR : rch W A K0 R) (hmax : ∀ r, rch W A K0 r → r ≤ R) {z : Nat} (hm : ¬ manyS (facS W (stg W A K0 R).1 (stg W A K0 R).2)) (hc : ¬ conS (facS W (stg W A K0 R).1 (stg W A K0 R).2) (stg W A K0 R).1) (hv : ¬ overS (nxK W A (stg W A K0 R).1 (stg W A K0 R).2)) : ¬ ∃ g, comS W A (stg W A K0 R).1 (stg W A K0 R).2 g ∧ ¬ (stg W A K0 R).1 g ∧ subT z g := fun ⟨g, g1, g2, _⟩ => by
  have : rch W A K0 (R + 1) := fun q hq => by
    rcases Nat.lt_or_ge q R with w | w
    · exact hR q w
    · rw [show q = R by omega]; exact ⟨hm, hc, ⟨g, g1, g2⟩, hv⟩
  have := hmax _ this
  omega
end XST
