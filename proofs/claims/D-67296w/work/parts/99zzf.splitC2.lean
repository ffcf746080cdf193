theorem RfX.nd {W : Wd} {A : Nat → Prop} {X : XFm} {ν : Nat → Nat} {u s : Sg} (e : ∀ t, ndC ν s t → ndC ν u t) : ∀ (n : Nat) (K O : Nat → Prop), RfX W A X ν u n K O → RfX W A X ν s n K O
  | 0, _, _, h => ⟨h.1, fun H a b c C x y w v l hn hm => h.2.1 H a b c C x y w v l hn (fun t ht => (hm t ht).imp (e t) id), fun _ _ _ _ => trivial⟩
  | n + 1, _, _, h => ⟨h.1, fun H a b c C x y w v l hn hm => h.2.1 H a b c C x y w v l hn (fun t ht => (hm t ht).imp (e t) id), fun a b c d => RfX.nd e n _ _ (h.2.2 a b c d)⟩
theorem RefS.rng {W : Wd} {A : Nat → Prop} : ∀ (n : Nat) (K O : Nat → Prop) (r : Int), RefS W A n K O r → r = 0 ∨ r = 1 ∨ r = 2 := by
  have st : ∀ (nx : (Nat → Prop) → (Nat → Prop) → Int → Prop), (∀ K O r, nx K O r → r = 0 ∨ r = 1 ∨ r = 2) → ∀ K O r, RefB W A nx K O r → r = 0 ∨ r = 1 ∨ r = 2 := fun nx hn K O r h => by
    rcases h with ⟨_, b⟩ | ⟨_, ⟨_, b⟩ | ⟨_, ⟨_, b⟩ | ⟨_, ⟨_, b⟩ | ⟨_, b⟩⟩⟩⟩
    · omega
    · omega
    · omega
    · omega
    · exact hn _ _ _ b
  intro n
  induction n with
  | zero => exact fun K O r h => st _ (fun _ _ r q => by omega) K O r h
  | succ n ih => exact fun K O r h => st _ ih K O r h
def aS (S : Nat → Prop) (t : Nat) : Prop := ∃ f, S f ∧ subT t f ∧ isTm t ∧ loT t = 0
def RfC (W : Wd) (S : Nat → Prop) (r : Int) : Prop := RefS W (aS S) 16 S (fun _ => False) r
/-- what a case asks for -/
def ReqC (W : Wd) (ν : Nat → Nat) (c : Nat) (u0 : Sg) (B : Nat) (S : Nat → Prop) : Prop := KOK W (Nm ν c) B S (fun _ => False) ∧ (∀ f, S f → htT f ≤ 300) ∧ (∀ l' : List Nat, l'.Nodup → (∀ f ∈ l', S f) → l'.length ≤ 2500) ∧ ∃ X : XFm, (∀ H z, xf X H z → P5 z) ∧ RfX W (aS S) X ν u0 16 S (fun _ => False)
def PostS (ν : Nat → Nat) (c : Nat) (W : Wd) (u0 : Sg) (n : Nat) (P R : List Nat) (ub : Sg) (pb : Nat) (u' : Sg) : Prop := SpI ν c W u0 u' ∧ (∃ p', PdA u' p' ∧ pb ≤ p' ∧ p' ≤ pb + pcF n P) ∧ (∀ i, i < pb → gN u' 61 i = gN ub 61 i ∧ gN u' 62 i = gN ub 62 i) ∧ (gL ub 60 ≤ gL u' 60 ∧ ∀ i, i < R.length → gN u' 60 i = gN ub 60 i) ∧ (gI u' 36 ≤ gI ub 36 + (ncF n P : Int) ∧ gI u' 33 ≤ gI ub 33 + (ncF n P : Int)) ∧ Ans (RfC W) (gI ub 64) (csR R P) (gI u' 64)
/-- one case, at its end -/
theorem split_end {d : Nat} {W : Wd} {ν : Nat → Nat} {c B : Nat} {u0 u : Sg} {R : List Nat} {p n : Nat} (hd : 1660 ≤ d) (hB : B ≤ 300) (hr : rC u0 ≤ 20000) (hWc : ∀ f, wcT W (2 * f + 1) = pa (pa f 0) 0) (hc : c ≤ 3000) (hNe : ∀ i, i < c → ν i % 2 = 0) (hW : WOK W (Nm ν c)) (hG : WGK W (Nm ν c)) (h50 : ∀ t, ndC ν u0 t → P5 t) (hI : SpI ν c W u0 u) (hP : PdA u p) (hCr : CrC ν u R) (hRl : R.length ≤ 20000) (h36 : gI u 36 + 1 ≤ 1000000) (h33 : gI u 33 + 1 ≤ 1000000) (hq : ReqC W ν c u0 B (fun f => f ∈ R)) : wp (un (gI u 64) fun v3 => if v3 = 0 then (some (0, u)) else (un (gI u 9) fun v4 => un (gI u 10) fun v5 => un (gI u 86) fun v6 => cl (runC d 41 [0, (R.length : Int)] u) fun v7 s8 => cl (runC d 79 [v4, v5, v6] s8) fun v9 s10 => if v7 = 1 then (some (0, s10)) else (un (sI s10 64 v7) fun s11 => some (0, s11)))) (fun _ u' => PostS ν c W u0 (n + 1) [] R u p u') := by
  obtain ⟨h1, h2, h3, ⟨h4, h5, h6, h7⟩, ⟨h8, h9⟩, h10, h11⟩ := hI
  have hI : SpI ν c W u0 u := ⟨h1, h2, h3, ⟨h4, h5, h6, h7⟩, ⟨h8, h9⟩, h10, h11⟩
  obtain ⟨q1, q2, q3, X, q4, q5⟩ := hq
  have hs := h1.1
  have enc : ncF (n + 1) [] = 1 := rfl
  have epc : pcF (n + 1) [] = 0 := rfl
  have ecs : csR R [] = fun S => S = fun f => f ∈ R := by
    funext S
    refine propext ⟨fun ⟨S2, a, b⟩ => ?_, fun a => ⟨fun _ => False, rfl, ?_⟩⟩
    · rw [b, show S2 = fun _ => False from a]; exact un_emp _
    · rw [a]; exact (un_emp _).symm
  rw [wp_un]
  refine wp_ite (fun ha => ?_) (fun ha => ?_)
  · rw [wp_some]
    exact ⟨hI, ⟨p, hP, Nat.le_refl _, by omega⟩, fun i hi => ⟨rfl, rfl⟩, ⟨Nat.le_refl _, fun i hi => rfl⟩, ⟨by omega, by omega⟩, Ans.z ha⟩
  · have hnd : ∀ t, ndC ν u t → ndC ν u0 t := fun t ⟨x, x0, hx, e⟩ => ⟨x, x0, by omega, by rw [← h6 x (by omega)]; exact e⟩
    have i9 : gI u 9 = (nC u : Int) := hs.1.1.1.1
    have i10 : gI u 10 = (pC u : Int) := hs.1.1.2.1.1
    have i86 : gI u 86 = (c : Int) := h1.2.2.1.1
    rw [wp_un, wp_un, wp_un, i9, i10, i86]
    have main := tX1_refuted (d := d) (A := aS (fun f => f ∈ R)) (L := R) (by omega) q4 hB (by omega) hWc hc h1 h2 h3 ⟨h8, by omega⟩ hNe hW hG hCr (by omega) q3 (fun t => Iff.rfl) q1 q2 (RfX.nd hnd _ _ _ q5)
    refine wp_call (gX1_refuted h2 ⟨by omega, by omega⟩ ⟨by omega, by omega⟩ main) (fun r s ⟨⟨hres, ν', c', z1, z2, z3, ⟨y1, y2, y3, y4⟩, z5, z6, z7⟩, g, _, _⟩ => ?_)
    have hn9 : nC s ≤ 90000 := by have := z1.1.1.1.1.2.2; have := z1.1.1.1.2.2.2.2.2.2.1; omega
    have e33 : gI s 33 = gI u 33 := g.I 33 (by decide +kernel)
    refine wp_call (tX1_forget (d := d) (by omega) h1 z1 z2 y1 y2 z5 (fun t ht => h50 t (hnd t ht)) z7 (by omega) hn9 (by omega) (by omega)) (fun _ v ⟨a1, a2, a3, a4, a5, a6, a7, a8, a9⟩ => ?_)
    have b36 : gI v 36 = gI u 36 + 1 := by rw [a8.I 36 (by decide +kernel)]; exact z6
    have b64 : gI v 64 = gI u 64 := by rw [a8.I 64 (by decide +kernel), g.I 64 (by decide +kernel)]
    have b60 : gL v 60 = gL u 60 ∧ ∀ i, gN v 60 i = gN u 60 i := ⟨by rw [a8.Ln 60 (by decide +kernel), g.Ln 60 (by decide +kernel)], fun i => by rw [a8.N 60 (by decide +kernel), g.N 60 (by decide +kernel)]⟩
    have b61 : ∀ i, gN v 61 i = gN u 61 i := fun i => by rw [a8.N 61 (by decide +kernel), g.N 61 (by decide +kernel)]
    have b62 : ∀ i, gN v 62 i = gN u 62 i := fun i => by rw [a8.N 62 (by decide +kernel), g.N 62 (by decide +kernel)]
    have bP : PdA v p := by
      obtain ⟨p1, p2, p3, p4, p5⟩ := hP
      exact ⟨by rw [a8.I 63 (by decide +kernel), g.I 63 (by decide +kernel)]; exact p1, by rw [a8.Ln 61 (by decide +kernel), g.Ln 61 (by decide +kernel)]; exact p2, by rw [a8.Ln 62 (by decide +kernel), g.Ln 62 (by decide +kernel), a8.Ln 61 (by decide +kernel), g.Ln 61 (by decide +kernel)]; exact p3, by rw [a8.Ln 61 (by decide +kernel), g.Ln 61 (by decide +kernel)]; exact p4, by rw [a8.Ln 61 (by decide +kernel), g.Ln 61 (by decide +kernel)]; exact p5⟩
    have arr : ArrC v := z3.fr a8 (fun k hk => (by decide +kernel : ∀ k, k ≤ 85 → (k = 34 ∨ (36 ≤ k ∧ k ≤ 42) ∨ (46 ≤ k ∧ k ≤ 50) ∨ k = 53 ∨ k = 55 ∨ k = 85) → Nat.testBit Dfo k = false) k (by omega) hk)
    have hrng := RefS.rng _ _ _ _ hres
    have spv : ∀ a : Int, (a = 0 ∨ a = 1 ∨ a = 2) → ∀ v2, CW ν c W v2 → WF FC v2 → ArrC v2 → nC v2 = nC v → pC v2 = pC v → (∀ x, trC ν v2 x = trC ν v x) → rC v2 = rC v → gI v2 36 = gI v 36 → gI v2 33 = gI v 33 → gI v2 64 = a → gL v2 60 = gL v 60 → SpI ν c W u0 v2 := fun a ha v2 c1 c2 c3 c4 c5 c6 c7 c8 c9 c10 c11 => ⟨c1, c2, c3, ⟨by rw [c4, a3]; exact h4, by rw [c5, a4]; exact h5, fun x hx => by rw [c6, a5 x (by omega)]; exact h6 x hx, by rw [c7, a6, y3]; exact h7⟩, ⟨by rw [c8, b36]; omega, by rw [c9, a9, e33]; omega⟩, by rw [c10]; exact ha, by rw [c11, b60.1]; exact h11⟩
    refine wp_ite (fun h71 => ?_) (fun h71 => ?_)
    · rw [wp_some]
      refine ⟨spv (gI u 64) h10 v a1 a2 arr rfl rfl (fun _ => rfl) rfl rfl rfl b64 rfl, ⟨p, bP, Nat.le_refl _, by omega⟩, fun i hi => ⟨b61 i, b62 i⟩, ⟨Nat.le_of_eq b60.1.symm, fun i hi => b60.2 i⟩, ⟨by rw [b36, enc]; omega, by rw [a9, e33, enc]; omega⟩, ?_⟩
      rw [b64, ecs]
      have hr1 : RfC W (fun f => f ∈ R) 1 := by rw [h71] at hres; exact hres
      rcases h10 with q | q | q
      · exact absurd q ha
      · exact Or.inr (Or.inr ⟨q, q, fun S hS => by rw [hS]; exact hr1⟩)
      · refine Or.inr (Or.inl ⟨q, ha, fun S hS hz => ?_, Or.inl q⟩)
        rw [hS] at hz
        have := RefS.u _ _ _ _ _ hr1 hz
        omega
    · rw [wp_un, wp_some]
      have g2 : Gr FC (2 ^ 64) v (sI v 64 r) := Gr_sI (by decide +kernel)
      have w2 : WF FC (sI v 64 r) := wfI a2 rfl ⟨by omega, by omega⟩
      obtain ⟨e2, hU2⟩ := g2.ux (X := fun _ => False) a1.1 (by decide +kernel)
      refine ⟨spv r hrng _ (a1.up hU2.ux g2 (by decide +kernel)) w2 (arr.fr g2 (fun k hk => (by decide +kernel : ∀ k, k ≤ 85 → (k = 34 ∨ (36 ≤ k ∧ k ≤ 42) ∨ (46 ≤ k ∧ k ≤ 50) ∨ k = 53 ∨ k = 55 ∨ k = 85) → Nat.testBit (2 ^ 64) k = false) k (by omega) hk)) e2.n e2.p (fun x => e2.tr x) rfl rfl rfl rfl rfl, ⟨p, bP, Nat.le_refl _, by omega⟩, fun i hi => ⟨b61 i, b62 i⟩, ⟨Nat.le_of_eq b60.1.symm, fun i hi => b60.2 i⟩, ⟨by show gI v 36 ≤ _; rw [b36, enc]; omega, by show gI v 33 ≤ _; rw [a9, e33, enc]; omega⟩, ?_⟩
      show Ans (RfC W) (gI u 64) (csR R []) r
      rw [ecs]
      rcases hrng with q | q | q
      · exact Or.inl ⟨q, Or.inr ⟨_, rfl, by rw [q] at hres; exact hres⟩⟩
      · exact absurd q h71
      · refine Or.inr (Or.inl ⟨q, ha, fun S hS hz => ?_, Or.inr ⟨_, rfl, by rw [q] at hres; exact hres⟩⟩)
        rw [hS] at hz
        have := RefS.u _ _ _ _ _ hres hz
        omega
