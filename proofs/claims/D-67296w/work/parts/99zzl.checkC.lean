/-! a check in the class, once its formula is found -/
theorem ArrC.fr2 {D : Nat} {u u' : Sg} (h : ArrC u) (g : Gr FC D u u') (hT : CtL u') (hb : ∀ k, (k = 34 ∨ (36 ≤ k ∧ k ≤ 42) ∨ (46 ≤ k ∧ k ≤ 50) ∨ k = 53 ∨ k = 55) → D.testBit k = false) : ArrC u' := by
  obtain ⟨⟨a1, a2⟩, ⟨b1, b2, b3, b4⟩, c1, ⟨d1, d2, d3, d4⟩, ⟨e1, e2, e3⟩, hK, _, f1, f2⟩ := h
  have L : ∀ k, (k = 34 ∨ (36 ≤ k ∧ k ≤ 42) ∨ (46 ≤ k ∧ k ≤ 50) ∨ k = 53 ∨ k = 55) → gL u' k = gL u k := fun k hk => g.Ln k (hb k hk)
  refine ⟨⟨by rw [L 40 (by omega)]; exact a1, by rw [L 41 (by omega)]; exact a2⟩, ⟨by rw [L 39 (by omega), L 42 (by omega)]; exact b1, by rw [L 37 (by omega), L 42 (by omega)]; exact b2, by rw [L 38 (by omega), L 42 (by omega)]; exact b3, by rw [L 42 (by omega)]; exact b4⟩, fun k hk i hi => ?_, ⟨by rw [L 47 (by omega), L 46 (by omega)]; exact d1, by rw [L 48 (by omega), L 46 (by omega)]; exact d2, by rw [L 46 (by omega)]; exact d3, by rw [L 46 (by omega)]; exact d4⟩, ⟨by rw [L 50 (by omega), L 49 (by omega)]; exact e1, by rw [L 49 (by omega)]; exact e2, by rw [L 49 (by omega)]; exact e3⟩, by unfold KnL; rw [L 34 (by omega)]; exact hK, hT, by rw [L 53 (by omega)]; exact f1, by rw [L 55 (by omega)]; exact f2⟩
  rw [g.N k (hb k (by omega)), g.I 36 (hb 36 (by omega))]
  exact c1 k hk i (by rw [L k (by omega)] at hi; exact hi)
theorem CW_s84 {ν : Nat → Nat} {c : Nat} {W : Wd} {u : Sg} {v : Int} (h : CW ν c W u) : CW ν c W (sI u 84 v) := by
  have g : Gr FC (2 ^ 84) u (sI u 84 v) := Gr_sI (by decide +kernel)
  obtain ⟨e, hU⟩ := g.ux (X := fun _ => False) h.1 (by decide +kernel)
  have I : ∀ k, k ≠ 84 → gI (sI u 84 v) k = gI u k := fun k hk => by rw [gI_sI, if_neg hk]
  obtain ⟨hs, ⟨ye, no, q1, q2, ⟨q3, q4, q5⟩, q6, q7, q8⟩, ⟨c1, c2, c3⟩, ⟨m1, m2, m3, m4, m5, m6⟩, ⟨f1, f2, f3, f4, f5⟩, ⟨⟨p1, p2, p3, p4⟩, p5, p6⟩, ⟨g1, g2, g3, g8⟩⟩ := h
  refine ⟨hU.sc, ⟨ye, no, by rw [I 13 (by omega)]; exact q1, by rw [I 14 (by omega)]; exact q2, ⟨q3, by rw [e.n]; exact q4, by rw [e.tr]; exact q5⟩, q6, by rw [e.n]; exact q7, by rw [e.tr]; exact q8⟩, ⟨by rw [I 86 (by omega)]; exact c1, by rw [gL_sI]; exact c2, fun i hi => by rw [gN_sI]; exact (c3 i hi).ee e⟩, ⟨by rw [I 69 (by omega)]; exact m1, m2, by rw [gL_sI]; exact m3, by rw [gL_sI]; exact m4, by rw [gN_sI]; exact m5, fun i h1 h2 => ⟨by rw [gN_sI]; exact (m6 i h1 h2).1.ee e, by rw [gN_sI]; exact (m6 i h1 h2).2⟩⟩, ⟨by rw [I 74 (by omega)]; exact f1, f2, by rw [gL_sI]; exact f3, by rw [gL_sI]; exact f4, fun i hi => ⟨by rw [gN_sI]; exact (f5 i hi).1, by rw [gN_sI]; exact (f5 i hi).2.ee e⟩⟩, ⟨⟨by rw [I 75 (by omega)]; exact p1, p2, by rw [gL_sI]; exact p3, fun i hi => by rw [gN_sI]; exact p4 i hi⟩, by rw [I 70 (by omega)]; exact p5, p6⟩, ⟨by rw [I 81 (by omega)]; exact g1, g2, by rw [gL_sI, gL_sI, gL_sI, gL_sI, gL_sI]; exact g3, fun i hi => ?_⟩⟩
  obtain ⟨z1, z2, z3, z4, z5, z6⟩ := g8 i hi
  rw [gN_sI, gN_sI, gN_sI, gN_sI, gN_sI]
  exact ⟨z1, fun q => (z2 q).ee e, z3, z4.ee e, z5.ee e, z6.ee e⟩
def PrC (ν : Nat → Nat) (u : Sg) (Pr : List Nat) : Prop := gI u 83 = (Pr.length : Int) ∧ Pr.length ≤ gL u 82 ∧ Pr.length ≤ 20 ∧ ∀ (i f : Nat), Pr[i]? = some f → ∃ x : Nat, gN u 82 i = (x : Int) ∧ 0 < x ∧ x < nC u ∧ trC ν u x = f
theorem check_L41 {d : Nat} (hd : 3 ≤ d) {W : Wd} {X : Nat → Prop} {c : Nat} {u : Sg} {Pr : List Nat} {a2 a3 a4 a5 a6 : Int} {Q : Int → Sg → Prop} (hP : PrC nu2 u Pr) (hr : rC u ≤ 20000) : ∀ (m i fu : Nat) (u1 : Sg), i + m = Pr.length → m < fu → OpI W X c u u1 → Gr FC DX2_push u u1 → RowIs nu2 u1 (rC u) (Pr.take i) → ∀ xx : Int → Int → Int → Int → Int → Sg → Option (Int × Sg), (∀ u2 : Sg, OpI W X c u u2 → Gr FC DX2_push u u2 → RowIs nu2 u2 (rC u) Pr → wp (xx a2 a3 a4 a5 a6 u2) Q) → wp (bX1_check_L41 (runC d) fu a2 a3 a4 a5 a6 (i : Int) u1 xx) Q := by
  obtain ⟨p1, p2, p3, p4⟩ := hP
  intro m
  induction m with
  | zero =>
    intro i fu u1 hi hf hO hg hR xx k
    obtain ⟨fu, rfl⟩ : ∃ f', fu = f' + 1 := ⟨fu - 1, by omega⟩
    rw [bX1_check_L41, wp_un, hg.I 83 (by decide +kernel), p1, if_neg (by omega)]
    rw [List.take_of_length_le (by omega)] at hR
    exact k u1 hO hg hR
  | succ m ih =>
    intro i fu u1 hi hf hO hg hR xx k
    obtain ⟨fu, rfl⟩ : ∃ f', fu = f' + 1 := ⟨fu - 1, by omega⟩
    have hil : i < Pr.length := by omega
    have gi : Pr[i]? = some Pr[i] := List.getElem?_eq_getElem hil
    generalize ef : Pr[i] = f at gi
    obtain ⟨x, x1, x2, x3, x4⟩ := p4 i f gi
    have hrc := hR.1
    have hlt : (Pr.take i).length = i := by rw [List.length_take]; omega
    have l82 : gL u1 82 = gL u 82 := hg.Ln 82 (by decide +kernel)
    rw [bX1_check_L41, wp_un, hg.I 83 (by decide +kernel), p1, if_pos (by omega), ld_nat (by omega), hg.N 82 (by decide +kernel), x1]
    have hnb : nC u1 ≤ 90000 := by have := hO.1.1.1.1.1.2.2; have := hO.1.1.1.1.2.2.2.2.2.2.1; omega
    have hx1 : x < nC u1 := Nat.lt_of_lt_of_le x3 hO.2.2.2.1.1
    refine wp_call (gX2_push hO.2.1 ⟨by omega, by omega⟩ (op_push (X := X) (t := f) hd hO.1 hO.2.1 hO.2.2.1 hR x2 hx1 (by rw [hO.2.2.2.1.2.1 x x3]; exact x4) (by omega))) (fun _ u2 ⟨⟨w1, w2, w3⟩, g2, _, _⟩ => ?_)
    rw [wp_ar]
    refine ⟨⟨by omega, by omega⟩, ?_⟩
    rw [show (i : Int) + 1 = ((i + 1 : Nat) : Int) by omega]
    refine ih (i + 1) fu u2 (by omega) (by omega) (hO.tr w1 (by omega)) (hg.tr g2) ?_ xx k
    rw [List.take_add_one, gi]
    exact w2
/-- what a check asks for, over the trees that may come -/
def ReqO (W : Wd) (c : Nat) (u : Sg) (B : Nat) (X : Nat → Prop) (S : Nat → Prop) : Prop := KOK W (Nm nu2 c) B S (fun _ => False) ∧ (∀ f, S f → htT f ≤ 300) ∧ (∀ l' : List Nat, l'.Nodup → (∀ f ∈ l', S f) → l'.length ≤ 2500) ∧ ∃ X2 : XFm, (∀ t, X t → X2.1 t) ∧ (∀ H z, xf X2 H z → P5 z) ∧ RfX W (aS S) X2 nu2 u 16 S (fun _ => False)
theorem RfX.op {W : Wd} {A : Nat → Prop} {X : XFm} {ν : Nat → Nat} {u s : Sg} (e : ∀ t, ndC ν s t → ndC ν u t ∨ X.1 t) : ∀ (n : Nat) (K O : Nat → Prop), RfX W A X ν u n K O → RfX W A X ν s n K O
  | 0, _, _, h => ⟨h.1, fun H a b c C x y w v l hn hm => h.2.1 H a b c C x y w v l hn (fun t ht => (hm t ht).elim (fun q => (e t q).imp id (fun y => Or.inl (Or.inl y))) Or.inr), fun _ _ _ _ => trivial⟩
  | n + 1, _, _, h => ⟨h.1, fun H a b c C x y w v l hn hm => h.2.1 H a b c C x y w v l hn (fun t ht => (hm t ht).elim (fun q => (e t q).imp id (fun y => Or.inl (Or.inl y))) Or.inr), fun a b c d => RfX.op e n _ _ (h.2.2 a b c d)⟩
/-- the fields that a check touches, before it forgets, and all of them -/
def Dk0 : Nat := 8191 ||| 2 ^ 64 ||| 2 ^ 84 ||| 2 ^ 63 ||| DX1_open ||| DX1_pend ||| DX1_split
def Dk1 : Nat := Dk0 ||| Dfo
/-- what is so after a check -/
def ChE (W : Wd) (c : Nat) (u v : Sg) : Prop := CW nu2 c W v ∧ WF FC v ∧ ArrC v ∧ (nC v = nC u ∧ pC v = pC u ∧ (∀ x, x < nC u → trC nu2 v x = trC nu2 u x) ∧ rC v = rC u) ∧ (gL v 62 = gL v 61 ∧ 16 ≤ gL v 61 ∧ gL v 61 ≤ 131072) ∧ (16 ≤ gL v 60 ∧ gL v 60 ≤ 65536) ∧ Gr FC Dk1 u v
theorem chk_end {d : Nat} (hd : 8 ≤ d) {W : Wd} {c c' : Nat} {u s : Sg} {Q : Int → Sg → Prop} (h0 : CW nu2 c W u) (h1 : CW nu2 c' W s) (hw : WF FC s) (hA : ArrC s) (hcc : c ≤ c') (hn : nC u ≤ nC s) (ht : ∀ x, x < nC u → trC nu2 s x = trC nu2 u x) (h5 : ∀ t, ndC nu2 u t → P5 t) (h5' : ∀ t, ndC nu2 s t → ndC nu2 u t ∨ P5 t) (hr : rC s = rC u) (hru : rC u ≤ 20000) (hg : Gr FC Dk0 u s) (h33 : gI s 33 ≤ 1000000) (h33' : 0 ≤ gI s 33) (h61 : gL s 62 = gL s 61 ∧ 16 ≤ gL s 61 ∧ gL s 61 ≤ 131072) (h60 : 16 ≤ gL s 60 ∧ gL s 60 ≤ 65536) (k : ∀ v, ChE W c u v → gI v 33 = gI s 33 + 1 → gI v 36 = gI s 36 → gI v 84 = gI s 84 → Q (gI s 64) v) : wp (cl (runC d 79 [(nC u : Int), (pC u : Int), (c : Int)] s) fun v15 s16 => un (gI s16 64) fun v17 => some (v17, s16)) Q := by
  have hn9 : nC s ≤ 90000 := by have := h1.1.1.1.1.2.2; have := h1.1.1.1.2.2.2.2.2.2.1; omega
  refine wp_call (tX1_forget (d := d) (by omega) h0 h1 hw hn ht ⟨hcc, fun _ _ => rfl⟩ h5 h5' (by omega) hn9 h33 h33') (fun _ v ⟨a1, a2, a3, a4, a5, a6, a7, a8, a9⟩ => ?_)
  rw [wp_un, wp_some, a8.I 64 (by decide +kernel)]
  have arr : ArrC v := hA.fr a8 (fun k hk => (by decide +kernel : ∀ k, k ≤ 85 → (k = 34 ∨ (36 ≤ k ∧ k ≤ 42) ∨ (46 ≤ k ∧ k ≤ 50) ∨ k = 53 ∨ k = 55 ∨ k = 85) → Nat.testBit Dfo k = false) k (by omega) hk)
  exact k v ⟨a1, a2, arr, ⟨a3, a4, a5, by rw [a6]; exact hr⟩, by rw [a8.Ln 61 (by decide +kernel), a8.Ln 62 (by decide +kernel)]; exact h61, by rw [a8.Ln 60 (by decide +kernel)]; exact h60, (hg.sub (by decide +kernel)).tr (a8.sub (by decide +kernel))⟩ a9 (a8.I 36 (by decide +kernel)) (a8.I 84 (by decide +kernel))
