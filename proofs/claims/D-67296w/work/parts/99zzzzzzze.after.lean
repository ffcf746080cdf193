/-! the world with types for names to come; at rest again behind a check -/
/-- the world with the constants' types T -/
def wTy (W : Wd) (T : Nat → Nat) : Wd := (fun k m => if k = 0 then T m else W.1 k m, W.2)
theorem wex_ty {N : Nat → Prop} {W : Wd} {T : Nat → Nat} (hT : ∀ n, N n → T n = wcT W n) : WEx N W (wTy W T) := ⟨hT, ⟨Nat.le_refl _, fun _ _ => ⟨rfl, rfl⟩⟩, ⟨Nat.le_refl _, fun _ _ => ⟨rfl, rfl⟩⟩, ⟨Nat.le_refl _, fun _ _ => rfl⟩, Nat.le_refl _, ⟨rfl, rfl, rfl, rfl, rfl, rfl⟩⟩
theorem cw_ty {W : Wd} {c : Nat} {u : Sg} {T : Nat → Nat} (hT : ∀ i, i < c → T (2 * i) = wcT W (2 * i)) : CW nu2 c (wTy W T) u ↔ CW nu2 c W u := by
  refine ⟨fun ⟨h1, h2, ⟨h3, h4, h5⟩, h6, h7, h8, h9⟩ => ⟨h1, h2, ⟨h3, h4, fun i hi => ?_⟩, h6, h7, h8, h9⟩, fun ⟨h1, h2, ⟨h3, h4, h5⟩, h6, h7, h8, h9⟩ => ⟨h1, h2, ⟨h3, h4, fun i hi => ?_⟩, h6, h7, h8, h9⟩⟩
  · have e : wcT W (nu2 i) = wcT (wTy W T) (nu2 i) := (hT i hi).symm
    rw [e]; exact h5 i hi
  · have e : wcT W (nu2 i) = wcT (wTy W T) (nu2 i) := (hT i hi).symm
    rw [← e]; exact h5 i hi
theorem tw_ty {W : Wd} {c : Nat} {u : Sg} {T : Nat → Nat} (hT : ∀ i, i < c → T (2 * i) = wcT W (2 * i)) : TW nt2 (c + 2) (wTy W T) u ↔ TW nt2 (c + 2) W u := by
  refine ⟨fun ⟨h1, h2, ⟨h3, h4, h4', h5⟩, h6, h7, h8, h9⟩ => ⟨h1, h2, ⟨h3, h4, h4', fun i h2 hi => ?_⟩, h6, h7, h8, h9⟩, fun ⟨h1, h2, ⟨h3, h4, h4', h5⟩, h6, h7, h8, h9⟩ => ⟨h1, h2, ⟨h3, h4, h4', fun i h2 hi => ?_⟩, h6, h7, h8, h9⟩⟩
  · have e : wcT W (nt2 i) = wcT (wTy W T) (nt2 i) := (hT (i - 2) (by omega)).symm
    rw [e]; exact h5 i h2 hi
  · have e : wcT W (nt2 i) = wcT (wTy W T) (nt2 i) := (hT (i - 2) (by omega)).symm
    rw [← e]; exact h5 i h2 hi
/-- a check has been made in the class: at rest -/
theorem ReC.chk {W : Wd} {c n G : Nat} {Fo Pr : List Nat} {lc : Nat} {K r : Int} {u v : Sg} {T : Nat → Nat} (h : ReC W c Fo Pr lc K u) (hT : ∀ i, i < c → T (2 * i) = wcT W (2 * i)) (q : ChQ (wTy W T) c n u G r v) : ReC W c Fo Pr (min 1000 (cnF (htT G + 1) G 0)) (K + 1001) v := by
  obtain ⟨⟨e1, e2, e3, ⟨e4, e5, e6, e7⟩, e8, e9, hg⟩, q84, ⟨q1, q2, q3, q4⟩, -⟩ := q
  obtain ⟨-, -, -, ⟨m1, m2, m3⟩, hr, ⟨p1, p2⟩, ⟨p3, p4⟩, -, -, ⟨o1, o2, o3, o4⟩, ⟨r1, r2, r3, r4⟩, h84, h82⟩ := h
  have hb : ∀ k, k ≤ 83 → (k = 31 ∨ k = 32 ∨ k = 65 ∨ k = 66 ∨ k = 82 ∨ k = 83) → Dk1.testBit k = false := by decide +kernel
  refine ⟨(cw_ty hT).mp e1, e2, e3, ⟨?_, ?_, fun t ht => ?_⟩, e7.trans hr, ⟨q1, by omega⟩, ⟨by omega, by omega⟩, e8, e9, ⟨?_, ?_, o3, fun i f hf => ?_⟩, ⟨?_, ?_, r3, fun i f hf => ?_⟩, q84, ?_⟩
  · rw [hg.Ln 31 (hb 31 (by decide) (by decide)), hg.Ln 32 (hb 32 (by decide) (by decide))]; exact m1
  · rw [hg.Ln 31 (hb 31 (by decide) (by decide))]; exact m2
  · rw [hg.Ln 32 (hb 32 (by decide) (by decide))] at ht
    rw [hg.N 32 (hb 32 (by decide) (by decide))]
    have := m3 t ht
    omega
  · rw [hg.I 66 (hb 66 (by decide) (by decide))]; exact o1
  · rw [hg.Ln 65 (hb 65 (by decide) (by decide))]; exact o2
  · obtain ⟨x, z1, z2, z3, z4⟩ := o4 i f hf
    exact ⟨x, by rw [hg.N 65 (hb 65 (by decide) (by decide))]; exact z1, z2, by omega, by rw [e6 x z3]; exact z4⟩
  · rw [hg.I 83 (hb 83 (by decide) (by decide))]; exact r1
  · rw [hg.Ln 82 (hb 82 (by decide) (by decide))]; exact r2
  · obtain ⟨x, z1, z2, z3, z4⟩ := r4 i f hf
    exact ⟨x, by rw [hg.N 82 (hb 82 (by decide) (by decide))]; exact z1, z2, by omega, by rw [e6 x z3]; exact z4⟩
  · rw [hg.Ln 82 (hb 82 (by decide) (by decide))]; exact h82
theorem MaT.any {M : MqT} {u : Sg} (h : MaT M u) : MaT anM u := ⟨⟨h.1.1, trivial⟩, fun i hi => ⟨(h.2 i hi).1, (h.2 i hi).2.1, fun _ => trivial⟩⟩
theorem ArrT.any {M : MqT} {u : Sg} (h : ArrT M u) : ArrT anM u := ⟨h.1, h.2.1, h.2.2.1, h.2.2.2.1, h.2.2.2.2.any⟩
/-- the memo as it is -/
def rmM (u : Sg) : MqT := (RemT u, fun a b c => a = u.2.1 38 ∧ b = u.2.1 41 ∧ c = gI u 42)
theorem ArrT.rem {M : MqT} {u : Sg} (h : ArrT M u) : ArrT (rmM u) u := ⟨h.1, h.2.1, h.2.2.1, h.2.2.2.1, ⟨h.2.2.2.2.1.1, rfl, rfl, rfl⟩, fun i hi => ⟨(h.2.2.2.2.2 i hi).1, (h.2.2.2.2.2 i hi).2.1, fun q => ⟨hi, q⟩⟩⟩
/-- the model is back where it was: at rest -/
theorem ReT.aft {D : Nat} {W : Wd} {c : Nat} {Fo Pr : List Nat} {lc lc' : Nat} {K K' : Int} {u v : Sg} (h : ReT W c Fo Pr lc K u) (hC : TW nt2 (c + 2) W v) (hw : WF FT v) (hA : ArrT (rmM u) v) (en : nT v = nT u) (et : ∀ x, x ≤ nT u → trT nt2 v x = trT nt2 u x) (hh : hT v = hT u) (hg : Gr FT D u v) (hb : ∀ k, k ≤ 81 → (78 ≤ k ∧ k ≤ 81) → D.testBit k = false) (h54 : 0 ≤ gI v 54 ∧ gI v 54 ≤ 40 * K') (h76 : gI v 76 ≤ 680 * K') (h82 : gI v 82 = (lc' : Int)) : ReT W c Fo Pr lc' K' v := by
  obtain ⟨-, -, -, ⟨m1, ⟨m2, m3, m4⟩, m5, m6, m7⟩, hh0, -, -, h43, ⟨o1, o2, o3, o4⟩, ⟨q1, q2, q3, q4⟩, -, l80⟩ := h
  have g39 := hg.2.2.1 39
  obtain ⟨a38, a41, a42⟩ : v.2.1 38 = u.2.1 38 ∧ v.2.1 41 = u.2.1 41 ∧ gI v 42 = gI u 42 := hA.2.2.2.2.1.2
  have l38 : gL v 38 = gL u 38 := congrArg Prod.fst a38
  have n38 : ∀ i, gN v 38 i = gN u 38 i := fun i => congrFun (congrArg Prod.snd a38) i
  have l41 : gL v 41 = gL u 41 := congrArg Prod.fst a41
  refine ⟨hC, hw, hA.any, ⟨fun t ht => ?_, ⟨hA.2.2.2.2.1.1.1, ?_, by omega⟩, ?_, ?_, ?_⟩, hh.trans hh0, h54, h76, fun k k1 k2 => Nat.le_trans (h43 k k1 k2) (hg.2.2.1 k), ⟨?_, ?_, o3, fun i f hf => ?_⟩, ⟨?_, ?_, q3, fun i f hf => ?_⟩, h82, ?_⟩
  · obtain ⟨z1, z2, z3, z4, z5⟩ := m1 t ((hA.2.2.2.2.2 t ht.1).2.2 ht.2)
    refine ⟨z1, by omega, by rw [l38]; exact z3, ?_, ?_⟩
    · rw [n38, et t z2]; exact z4
    · rw [et t z2]; exact z5
  · rw [l38]; exact m3
  · rw [a42]; exact m5
  · rw [l41]; exact m6
  · rw [l41]; exact m7
  · rw [hg.I 79 (hb 79 (by decide) (by decide))]; exact o1
  · rw [hg.Ln 78 (hb 78 (by decide) (by decide))]; exact o2
  · obtain ⟨x, z1, z2, z3, z4⟩ := o4 i f hf
    exact ⟨x, by rw [hg.N 78 (hb 78 (by decide) (by decide))]; exact z1, z2, by omega, by rw [et x z3]; exact z4⟩
  · rw [hg.I 81 (hb 81 (by decide) (by decide))]; exact q1
  · rw [hg.Ln 80 (hb 80 (by decide) (by decide))]; exact q2
  · obtain ⟨x, z1, z2, z3, z4⟩ := q4 i f hf
    exact ⟨x, by rw [hg.N 80 (hb 80 (by decide) (by decide))]; exact z1, z2, by omega, by rw [et x z3]; exact z4⟩
  · rw [hg.Ln 80 (hb 80 (by decide) (by decide))]; exact l80
/-- a check has been made in the model: at rest -/
theorem ReT.chk {W : Wd} {c n : Nat} {Fo Pr Ps : List Nat} {lc : Nat} {K r : Int} {u v : Sg} {T : Nat → Nat} (h : ReT W c Fo Pr lc K u) (hT : ∀ i, i < c → T (2 * i) = wcT W (2 * i)) (q : ChTQ (rmM u) (wTy W T) c n u Ps r v) : ReT W c Fo Pr (min 1000 (tqP n Ps c).length) (K + 1) v := by
  obtain ⟨⟨e1, e2, e3, ⟨e4, e5, e6, e7⟩, e8, hg⟩, q82, ⟨q1, q2, q3, q4⟩, -⟩ := q
  have a54 := h.2.2.2.2.2.1
  have a76 := h.2.2.2.2.2.2.1
  exact h.aft ((tw_ty hT).mp e1) e2 e3 e4 e6 e7 hg (by decide +kernel) ⟨q1, by omega⟩ (by omega) q82
