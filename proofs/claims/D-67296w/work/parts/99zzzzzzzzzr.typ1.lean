/-! what typing makes: images of kept terms and types -/
theorem ImT_img {X : Nat → Prop} {g : Nat → Nat → Nat} : ∀ (t : Nat), okT t → kd t ≤ 8 → (∀ s, subT s t → X (sbT g 0 s)) → ImT X g t 0 := by
  intro t
  induction t using Nat.strongRecOn with
  | ind t ih =>
    intro ho h8 h
    rw [ImT_eq]
    refine ⟨h t (sub_rf t), fun i c hc hi h0 => ?_⟩
    have mf : c ∈ fms t := fms_at.mpr ⟨i, hi, hc, h0⟩
    rw [if_neg (fun q => by omega)]
    exact ih c (fms_lt mf) (ho.c mf) (by have := kd_14 ho.n (by omega) mf; omega) (fun s hs => h s (sub_c mf hs))
/-- for a term at hand: images by its parts, and by the terms of its types -/
def X22 (W : Wd) (Fo : List Nat) (t z : Nat) : Prop := ∃ f, f ∈ Fo ∧ kd f ≤ 8 ∧ ∃ s, subT s f ∧ (z = sbT (locg (pa t 0) (pa t 1)) 0 s ∨ z = sbT (locg t 0) 0 s)
/-- images of what has no arguments -/
def X20 (Fo : List Nat) (z : Nat) : Prop := ∃ f, f ∈ Fo ∧ kd f ≤ 8 ∧ ∃ s, subT s f ∧ z = sbT (locg 0 0) 0 s
section TYP
variable {W : Wd} {Fo : List Nat} {S : Fs} {X : XFm}
theorem X22.a (hF : ∀ f ∈ Fo, okT f) (hX : ∀ t z, X22 W Fo t z → X.2 t z) {t f : Nat} (hf : f ∈ Fo) (h8 : kd f ≤ 8) : ImT (X.2 t) (locg (pa t 0) (pa t 1)) f 0 := ImT_img f (hF f hf) h8 (fun s hs => hX t _ ⟨f, hf, h8, s, hs, Or.inl rfl⟩)
theorem X22.t (hF : ∀ f ∈ Fo, okT f) (hX : ∀ t z, X22 W Fo t z → X.2 t z) {t f : Nat} (hf : f ∈ Fo) (h8 : kd f ≤ 8) : ImT (X.2 t) (locg t 0) f 0 := ImT_img f (hF f hf) h8 (fun s hs => hX t _ ⟨f, hf, h8, s, hs, Or.inr rfl⟩)
/-- tables: what they hold are types and terms -/
def KdW (W : Wd) : Prop := (∀ i, i < wnF W → kd (wfR W i) ≤ 8) ∧ (∀ i, 1 ≤ i → i < wnM W → kd (wmP W i) ≤ 8) ∧ ∀ g, g < wnG W → (wgA W g ≠ 0 → kd (wgA W g) ≤ 8) ∧ (wgB W g ≠ 0 → kd (wgB W g) ≤ 8) ∧ (wgS W g = 2 → kd (wgV W g) ≤ 8)
theorem XSp.of (hF : ∀ f ∈ Fo, okT f) (hX : ∀ t z, X22 W Fo t z → X.2 t z) (hX0 : ∀ z, X20 Fo z → X.1 z) (hW : KfW W Fo) (hK : KdW W) (hS : ∀ t, fH S t → (kd t = 4 → wh t < wnF W) ∧ ∀ z ∈ upT W (tyT W t), wh z < wnM W) : XSp W S X := fun t ht => by
  refine ⟨fun k4 => ?_, fun z hz => ⟨fun p0 h0 => ?_, fun p0 h0 => ?_⟩⟩
  · have := (hS t ht).1 k4
    exact X22.a hF hX (hW.1 _ this) (hK.1 _ this)
  · have := (hS t ht).2 z hz
    rw [p0]
    exact ImT_img _ (hF _ (hW.2.1 _ (by omega) this)) (hK.2.1 _ (by omega) this) (fun s hs => hX0 _ ⟨_, hW.2.1 _ (by omega) this, hK.2.1 _ (by omega) this, s, hs, rfl⟩)
  · have := (hS t ht).2 z hz
    exact X22.t hF hX (hW.2.1 _ (by omega) this) (hK.2.1 _ (by omega) this)
theorem XTm.of (hF : ∀ f ∈ Fo, okT f) (hX : ∀ t z, X22 W Fo t z → X.2 t z) (hW : KfW W Fo) (hK : KdW W) : XTm W S X := fun t _ _ g hg hs _ => by
  obtain ⟨a1, a2, a3⟩ := hW.2.2 g hg
  obtain ⟨b1, b2, b3⟩ := hK.2.2 g hg
  exact ⟨fun q => X22.a hF hX (a1 q) (b1 q), fun _ q => X22.a hF hX (a2 q) (b2 q), fun _ q => X22.a hF hX (a3 q) (b3 q)⟩
end TYP
