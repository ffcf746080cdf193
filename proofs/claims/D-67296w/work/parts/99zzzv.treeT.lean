/-! opening a formula in the model -/
section MQ
variable {Mq : MqT}
def nt2 : Nat → Nat := fun i => 2 * (i - 2)
theorem nuU_t2 (c : Nat) : nuU nt2 (c + 2) (2 * c) = nt2 := by
  funext i
  unfold nuU nt2
  by_cases h : i = c + 2
  · rw [if_pos h, h]; omega
  · rw [if_neg h]
theorem nt2_new (c : Nat) : ¬ NT nt2 (c + 2) (2 * c) := fun ⟨i, i0, i1, i2⟩ => by
  unfold nt2 at i2
  omega
def Dtr : Nat := 16382 ||| 1649268359168 ||| Dq
/-- the model between calls, with c constants -/
def TrA (Mq : MqT) (W : Wd) (c : Nat) (u : Sg) : Prop := TW nt2 (c + 2) W u ∧ WF FT u ∧ MaT Mq u ∧ CtT u
def TrI (Mq : MqT) (W : Wd) (X : Nat → Prop) (c : Nat) (u u' : Sg) : Prop := TrA Mq W c u' ∧ UNT nt2 u nt2 u' X ∧ Gr FT Dtr u u' ∧ K47 u u'
theorem TrI.tr {W : Wd} {X : Nat → Prop} {c c' : Nat} {u u1 u2 : Sg} (h : TrI Mq W X c u u1) (h' : TrI Mq W X c' u1 u2) : TrI Mq W X c' u u2 := ⟨h'.1, h.2.1.tr h'.2.1, h.2.2.1.tr h'.2.2.1, h.2.2.2.tr h'.2.2.2⟩
theorem TrI.rf {W : Wd} {X : Nat → Prop} {c : Nat} {u : Sg} (h : TrA Mq W c u) : TrI Mq W X c u u := ⟨h, UNT.rf, Gr.rf, K47.rf⟩
theorem TrI.qf {W : Wd} {X : Nat → Prop} {c : Nat} {u u' : Sg} (h : TrA Mq W c u) (hq : QF u u') : TrI Mq W X c u u' := by
  obtain ⟨h1, h2, h3, h4⟩ := h
  obtain ⟨e, w, g, o, k47⟩ := hq
  refine ⟨⟨h1.up (e.up (X := X) h1.1).ux g (by decide +kernel), w, h3.fr g (by decide +kernel) (by decide +kernel), ?_⟩, (e.up h1.1).un h1.1 (g.I 54 (by decide +kernel)), g.sub (by decide +kernel), k47⟩
  unfold CtT
  rw [g.Ln 17 (by decide +kernel), g.Ln 18 (by decide +kernel)]
  exact h4
theorem TrI.st {W : Wd} {X : Nat → Prop} {c : Nat} {u u' : Sg} (h : TrA Mq W c u) (hU : UpT nt2 (c + 2) u u' X) (w : WF FT u') (g : Gr FT 16382 u u') : TrI Mq W X c u u' := by
  obtain ⟨h1, h2, h3, h4⟩ := h
  refine ⟨⟨h1.up hU.ux g (by decide +kernel), w, h3.fr g (by decide +kernel) (by decide +kernel), ?_⟩, hU.un h1.1 (g.I 54 (by decide +kernel)), g.sub (by decide +kernel), K47.fr g (by decide +kernel) (by decide +kernel)⟩
  unfold CtT
  rw [g.Ln 17 (by decide +kernel), g.Ln 18 (by decide +kernel)]
  exact h4
theorem q_fr {D : Nat} {u u' : Sg} {q : Nat} (hQ : QS u q) (g : Gr FT D u u') (hD : ∀ j, 43 ≤ j → j ≤ 48 → D.testBit j = false) : QS u' q ∧ ∀ j, 43 ≤ j → j ≤ 47 → ∀ i, gN u' j i = gN u j i :=
  ⟨⟨by rw [g.I 48 (hD 48 (by omega) (by omega))]; exact hQ.1, hQ.2.1, fun j a b => by rw [g.Ln j (hD j a (by omega))]; exact hQ.2.2 j a b⟩, fun j a b i => g.N j (hD j a (by omega)) i⟩
theorem q_frS {u u' : Sg} {q : Nat} (hQ : QS u q) (g : Gr FT 16382 u u') : QS u' q ∧ ∀ j, 43 ≤ j → j ≤ 47 → ∀ i, gN u' j i = gN u j i := q_fr hQ g (fun j a b => (by decide +kernel : ∀ j, j ≤ 48 → 43 ≤ j → Nat.testBit 16382 j = false) j b a)
theorem UNT.inT {ν0 ν : Nat → Nat} {u0 u : Sg} {X : Nat → Prop} (h : UNT ν0 u0 ν u X) {v : Int} {t : Nat} (hi : inT ν0 u0 v t) : inT ν u v t := by
  obtain ⟨y, y1, y2, y3⟩ := hi
  exact ⟨y, y1, Nat.le_trans y2 h.1, by rw [h.2.1 y y2]; exact y3⟩
/-! hang -/
def KidL (R : Nat → Nat → List (List Nat) → Prop) (u : Sg) (p hi : Nat) (Ls : List (List (List Nat))) (a4 : Int) : Prop := ∃ E : Nat → Nat, (E 0 = p + 1 ∧ E Ls.length = hi + 1 ∧ (∀ i, i < Ls.length → E i < E (i + 1)) ∧ gN u 44 p = ptrE E Ls.length 0 ∧ (∀ i, i < Ls.length → gN u 45 (E i) = ptrE E Ls.length (i + 1)) ∧ ∀ i A, Ls[i]? = some A → R (E i) (E (i + 1) - 1) A) ∧ a4 = if Ls.length = 0 then 0 else (E (Ls.length - 1) : Int)
theorem KidL.kid {R : Nat → Nat → List (List Nat) → Prop} {u : Sg} {p hi : Nat} {Ls : List (List (List Nat))} {a4 : Int} (h : KidL R u p hi Ls a4) : KidR R u p hi Ls := by
  obtain ⟨E, h1, _⟩ := h
  exact ⟨E, h1⟩
theorem KidL.ini {R : Nat → Nat → List (List Nat) → Prop} {u : Sg} {p : Nat} (h : gN u 44 p = 0) : KidL R u p p [] 0 :=
  ⟨fun _ => p + 1, ⟨rfl, rfl, fun i hi => absurd hi (Nat.not_lt_zero i), by rw [h]; rfl, fun i hi => absurd hi (Nat.not_lt_zero i), fun i A hA => by simp at hA⟩, rfl⟩
theorem tX3_hang {d : Nat} (hd : 2 ≤ d) {ν ν1 : Nat → Nat} {n p hi hi' : Nat} {u u1 : Sg} {Ls : List (List (List Nat))} {A : List (List Nat)} {a4 : Int} (hK : KidL (RepN ν n u) u p hi Ls a4) (hphi : p ≤ hi) (hfr : ∀ j, 43 ≤ j → j ≤ 47 → ∀ i, i ≤ hi → gN u1 j i = gN u j i) (hT : ∀ v t, inT ν u v t → inT ν1 u1 v t) (hR : RepN ν1 n u1 (hi + 1) hi' A) (h45 : gN u1 45 (hi + 1) = 0) (hw : WF FT u1) (hQ : QS u1 hi') : wp (runT (d + 1) 57 [(p : Int), a4, ((hi + 1 : Nat) : Int)] u1) (fun r u' => r = ((hi + 1 : Nat) : Int) ∧ KidL (RepN ν1 n u') u' p hi' (Ls ++ [A]) r ∧ QF u1 u' ∧ QS u' hi' ∧ (∀ j, 43 ≤ j → j ≤ 47 → ∀ i, i < p → gN u' j i = gN u1 j i) ∧ (∀ j, j = 43 ∨ j = 45 → gN u' j p = gN u1 j p)) := by
  rw [runT_eq (by omega)]
  show wp (bX3_hang (runT d) p a4 _ u1) _
  unfold bX3_hang
  obtain ⟨E, ⟨e0, e1, e2, e3, e4, e5⟩, e6⟩ := hK
  have hh := hR.cap.1
  have l44 := (hQ.2.2 44 (by omega) (by omega)).1
  have l45 := (hQ.2.2 45 (by omega) (by omega)).1
  have h30 := hQ.2.1
  generalize hk : Ls.length = k at *
  have len' : (Ls ++ [A]).length = k + 1 := by rw [List.length_append, hk]; rfl
  -- one write
  have fin : ∀ (id i : Nat), (id = 44 ∧ i = p ∧ k = 0) ∨ (id = 45 ∧ 0 < k ∧ i = E (k - 1)) → wp (stA u1 id (i : Int) ((hi + 1 : Nat) : Int) fun s => some (((hi + 1 : Nat) : Int), s)) (fun r u' => r = ((hi + 1 : Nat) : Int) ∧ KidL (RepN ν1 n u') u' p hi' (Ls ++ [A]) r ∧ QF u1 u' ∧ QS u' hi' ∧ (∀ j, 43 ≤ j → j ≤ 47 → ∀ i, i < p → gN u' j i = gN u1 j i) ∧ (∀ j, j = 43 ∨ j = 45 → gN u' j p = gN u1 j p)) := fun id i hid => by
    have hE : ∀ a, a ≤ k → p + 1 + a ≤ E a ∧ E a + (k - a) ≤ hi + 1 := fun a ha => by
      have := mono_E e2 0 a (by omega) ha
      have := mono_E e2 a k ha (Nat.le_refl _)
      omega
    have hi1 : p ≤ i ∧ i ≤ hi := by
      rcases hid with ⟨_, b, _⟩ | ⟨_, b, c⟩
      · omega
      · have := hE (k - 1) (by omega)
        omega
    have hid2 : id = 44 ∨ id = 45 := hid.elim (fun q => Or.inl q.1) (fun q => Or.inr q.1)
    have hil : i < gL u1 id := by rcases hid2 with q | q <;> (rw [q]; omega)
    have ww : WF FT (sA u1 id (i : Int) ((hi + 1 : Nat) : Int)) := wfAT hw (by rcases hid2 with q | q <;> (rw [q]; rfl)) ⟨by omega, by omega⟩
    have hqf : QF u1 (sA u1 id (i : Int) ((hi + 1 : Nat) : Int)) := qf_sA ⟨by omega, by omega⟩ ww
    have hg : ∀ j a, ¬ (j = id ∧ a = i) → gN (sA u1 id (i : Int) ((hi + 1 : Nat) : Int)) j a = gN u1 j a := fun j a h => by rw [gN_sAn, if_neg (fun z => h (by omega))]
    have hg' : gN (sA u1 id (i : Int) ((hi + 1 : Nat) : Int)) id i = ((hi + 1 : Nat) : Int) := by rw [gN_sAn, if_pos ⟨rfl, rfl⟩]
    have h48 : gI (sA u1 id (i : Int) ((hi + 1 : Nat) : Int)) 48 = gI u1 48 := rfl
    have hgT : ∀ v t, inT ν1 u1 v t → inT ν1 (sA u1 id (i : Int) ((hi + 1 : Nat) : Int)) v t := fun v t q => q.ee hqf.1
    rw [wp_stA]
    refine ⟨⟨by omega, by omega⟩, ?_⟩
    rw [wp_some]
    generalize sA u1 id (i : Int) ((hi + 1 : Nat) : Int) = s at *
    have hL : ∀ j, 43 ≤ j → j ≤ 47 → gL s j = gL u1 j ∨ gL u1 j ≤ gL s j := fun j a b => Or.inr (hqf.2.2.1.2.2.1 j)
    refine ⟨rfl, ⟨fun a => if a ≤ k then E a else hi' + 1, ⟨?_, ?_, fun a ha => ?_, ?_, fun a ha => ?_, fun a B hB => ?_⟩, ?_⟩, hqf, ⟨by rw [h48]; exact hQ.1, h30, fun j a b => ?_⟩, fun j a b x hx => hg j x (by omega), fun j hj => ?_⟩
    · show (if 0 ≤ k then E 0 else _) = _
      rw [if_pos (by omega), e0]
    · show (if (Ls ++ [A]).length ≤ k then _ else hi' + 1) = _
      rw [len', if_neg (by omega)]
    · show (if a ≤ k then E a else _) < (if a + 1 ≤ k then E (a + 1) else _)
      rw [len'] at ha
      rw [if_pos (by omega)]
      by_cases q : a + 1 ≤ k
      · rw [if_pos q]; exact e2 a (by omega)
      · rw [if_neg q]
        have : a = k := by omega
        rw [this, e1]; omega
    · rw [len', ptrE, if_pos (by omega)]
      show _ = ((if 0 ≤ k then E 0 else hi' + 1 : Nat) : Int)
      rw [if_pos (by omega)]
      rcases hid with ⟨a, b, c⟩ | ⟨a, b, c⟩
      · rw [a, b] at hg'
        rw [hg', ← e1, c]
      · rw [hg 44 p (by omega), hfr 44 (by omega) (by omega) p hphi, e3, ptrE, if_pos b]
    · rw [len'] at ha
      have ha' : (if a ≤ k then E a else hi' + 1) = E a := if_pos (by omega)
      show gN s 45 (if a ≤ k then E a else hi' + 1) = _
      rw [ha', len', ptrE]
      show _ = if a + 1 < k + 1 then ((if a + 1 ≤ k then E (a + 1) else hi' + 1 : Nat) : Int) else 0
      have hEa := hE a (by omega)
      by_cases q : a = k
      · rw [if_neg (by omega), q, e1]
        have : ¬ (45 = id ∧ hi + 1 = i) := by omega
        rw [hg 45 _ this, h45]
      · rw [if_pos (by omega), if_pos (by omega)]
        by_cases q2 : a + 1 = k
        · rcases hid with ⟨z1, z2, z3⟩ | ⟨z1, z2, z3⟩
          · omega
          · have ea : E a = i := by rw [z3]; congr 1; omega
            rw [z1] at hg'
            rw [ea, hg', q2, e1]
        · have hE2 := hE (a + 1) (by omega)
          have ne : ¬ (45 = id ∧ E a = i) := fun ⟨z1, z2⟩ => by
            rcases hid with ⟨w1, _, _⟩ | ⟨w1, w2, w3⟩
            · omega
            · have := mono_E e2 (a + 1) (k - 1) (by omega) (by omega)
              have := e2 a (by omega)
              omega
          rw [hg 45 _ ne, hfr 45 (by omega) (by omega) _ (by omega), e4 a (by omega), ptrE, if_pos (by omega)]
    · by_cases q : a < k
      · rw [List.getElem?_append_left (by omega)] at hB
        show RepN ν1 n s (if a ≤ k then E a else _) ((if a + 1 ≤ k then E (a + 1) else _) - 1) B
        rw [if_pos (by omega), if_pos (by omega)]
        have hEa := hE a (by omega)
        have hEb := hE (a + 1) (by omega)
        have hlt := e2 a q
        have st1 := RepN.fr (ν' := ν1) (u' := u1) n (e5 a B hB) (fun j hj x x1 x2 => hfr j (by omega) (by omega) x (by omega)) (fun x x1 x2 => hfr 45 (by omega) (by omega) x (by omega)) hT
        refine RepN.fr n st1 (fun j hj x x1 x2 => hg j x (fun z => ?_)) (fun x x1 x2 => hg 45 x (fun z => ?_)) hgT
        · omega
        · rcases hid with ⟨w1, _, _⟩ | ⟨w1, w2, w3⟩
          · omega
          · by_cases q2 : a = k - 1
            · rw [← q2] at w3; omega
            · have := mono_E e2 (a + 1) (k - 1) (by omega) (by omega)
              omega
      · have hlt := (List.getElem?_eq_some_iff.mp hB).1
        rw [len'] at hlt
        have ea : a = k := by omega
        rw [ea, ← hk, List.getElem?_append_right (Nat.le_refl _), Nat.sub_self] at hB
        have eB : A = B := Option.some.inj hB
        show RepN ν1 n s (if a ≤ k then E a else _) ((if a + 1 ≤ k then E (a + 1) else hi' + 1) - 1) B
        rw [if_pos (by omega), if_neg (by omega), ea, e1, ← eB]
        exact RepN.fr n hR (fun j hj x x1 x2 => hg j x (by omega)) (fun x x1 x2 => hg 45 x (by omega)) hgT
    · rw [len', if_neg (by omega)]
      show _ = ((if k + 1 - 1 ≤ k then E (k + 1 - 1) else _ : Nat) : Int)
      rw [if_pos (by omega), show k + 1 - 1 = k by omega, e1]
    · have := hQ.2.2 j a b
      rcases hL j a b with z | z <;> omega
    · rcases hid with ⟨a, b, c⟩ | ⟨a, b, c⟩
      · exact hg j p (by omega)
      · have := hE (k - 1) (by omega)
        exact hg j p (by omega)
  by_cases hk0 : k = 0
  · rw [if_pos hk0] at e6
    rw [e6, if_pos rfl]
    exact fin 44 p (Or.inl ⟨rfl, rfl, hk0⟩)
  · rw [if_neg hk0] at e6
    have := mono_E e2 0 (k - 1) (by omega) (by omega)
    rw [e6, if_neg (by omega)]
    exact fin 45 (E (k - 1)) (Or.inr ⟨rfl, by omega, rfl⟩)
end MQ
