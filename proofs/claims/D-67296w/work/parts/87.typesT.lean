/-! bits, and the model's tables -/
def bt (v : Int) (j : Nat) : Bool := (Int32.ofInt v).toBitVec.getLsbD j
theorem bt_or (a b : Int) (j : Nat) : bt (o_or a b) j = (bt a j || bt b j) := by
  unfold bt o_or
  rw [Int32.ofInt_toInt, Int32.toBitVec_or, BitVec.getLsbD_or]
theorem bt_and (a b : Int) (j : Nat) : bt (o_and a b) j = (bt a j && bt b j) := by
  unfold bt o_and
  rw [Int32.ofInt_toInt, Int32.toBitVec_and, BitVec.getLsbD_and]
theorem bt_not (a : Int) {j : Nat} (hj : j < 32) : bt (o_xor a (-1)) j = !(bt a j) := by
  unfold bt o_xor
  rw [Int32.ofInt_toInt, Int32.toBitVec_xor, BitVec.getLsbD_xor]
  have : (Int32.ofInt (-1)).toBitVec.getLsbD j = true := by
    have e : (Int32.ofInt (-1)).toBitVec = BitVec.allOnes 32 := by decide
    rw [e, BitVec.getLsbD_allOnes]; simp [hj]
  rw [this]; simp
theorem bt_one {i j : Nat} (hi : i < 31) (hj : j < 32) : bt (o_shl 1 (i : Int)) j = decide (j = i) := by
  have key : ∀ i : Nat, i < 31 → ∀ j : Nat, j < 32 → bt (o_shl 1 (i : Int)) j = decide (j = i) := by decide +kernel
  exact key i hi j hj
theorem bt_zero {j : Nat} (hj : j < 32) : bt 0 j = false := by
  have key : ∀ j, j < 32 → bt 0 j = false := by decide +kernel
  exact key j hj
theorem bt_ext {a b : Int} (ha : inR a) (hb : inR b) (h : ∀ j, j < 32 → bt a j = bt b j) : a = b := by
  have e : Int32.ofInt a = Int32.ofInt b := by
    apply Int32.toBitVec_inj.mp
    apply BitVec.eq_of_getLsbD_eq
    intro i hi
    exact h i hi
  have ea : (Int32.ofInt a).toInt = a := Int32.toInt_ofInt_of_le (by omega) (by omega)
  have eb : (Int32.ofInt b).toInt = b := Int32.toInt_ofInt_of_le (by omega) (by omega)
  rw [← ea, ← eb, e]
/-- a number's bits are the numbers of a list -/
def bitS (v : Int) (L : List Nat) : Prop := inR v ∧ ∀ j, j < 32 → (bt v j = true ↔ j ∈ L)
theorem o_rng (x : Int32) : inR x.toInt := ⟨by have := Int32.le_toInt x; omega, by have := Int32.toInt_lt x; omega⟩
def inT (ν : Nat → Nat) (u : Sg) (v : Int) (t : Nat) : Prop := ∃ y : Nat, v = (y : Int) ∧ y ≤ nT u ∧ trT ν u y = t
theorem inT.up {ν : Nat → Nat} {c : Nat} {u u' : Sg} {X : Nat → Prop} {v : Int} {t : Nat} (hs : ST ν c u) (hx : UxT ν c u u' X) (h : inT ν u v t) : inT ν u' v t := by
  obtain ⟨y, h1, h2, h3⟩ := h
  exact ⟨y, h1, Nat.le_trans h2 hx.n, by rw [hx.tr hs h2]; exact h3⟩
theorem inT.pos {ν : Nat → Nat} {u : Sg} {v : Int} {t : Nat} (h : inT ν u v t) (ht : t ≠ 0) : ∃ y : Nat, v = (y : Int) ∧ 0 < y ∧ y ≤ nT u ∧ trT ν u y = t := by
  obtain ⟨y, h1, h2, h3⟩ := h
  refine ⟨y, h1, ?_, h2, h3⟩
  rcases Nat.eq_zero_or_pos y with q | q
  · rw [q] at h3; exact absurd h3.symm ht
  · exact q
/-- the names of constants, in the model -/
def NT (ν : Nat → Nat) (c : Nat) (n : Nat) : Prop := ∃ i, 2 ≤ i ∧ i < c ∧ ν i = n
def TWc (ν : Nat → Nat) (c : Nat) (W : Wd) (u : Sg) : Prop := gI u 19 = (c : Int) ∧ 2 ≤ c ∧ c ≤ gL u 18 ∧ ∀ i, 2 ≤ i → i < c → inT ν u (gN u 18 i) (wcT W (ν i))
def TWm (ν : Nat → Nat) (W : Wd) (u : Sg) : Prop := gI u 27 = (wnM W : Int) ∧ (1 ≤ wnM W ∧ wnM W ≤ 20) ∧ gL u 25 = 24 ∧ gL u 26 = 24 ∧ gN u 26 0 = 0 ∧ ∀ i, 1 ≤ i → i < wnM W → inT ν u (gN u 25 i) (wmP W i) ∧ gN u 26 i = (wmH W i : Int)
def TWf (ν : Nat → Nat) (W : Wd) (u : Sg) : Prop := gI u 22 = (wnF W : Int) ∧ wnF W ≤ 30 ∧ gL u 20 = 30 ∧ gL u 21 = 30 ∧ ∀ i, i < wnF W → gN u 20 i = (wfM W i : Int) ∧ inT ν u (gN u 21 i) (wfR W i)
def TWp (W : Wd) (u : Sg) : Prop := (gI u 24 = (wnP W : Int) ∧ wnP W ≤ 10 ∧ gL u 23 = 10 ∧ ∀ i, i < wnP W → gN u 23 i = (wpM W i : Int)) ∧ gI u 28 = (wnA W : Int) ∧ wnA W ≤ 15
def TWg (ν : Nat → Nat) (W : Wd) (u : Sg) : Prop := gI u 37 = (wnG W : Int) ∧ wnG W ≤ 30 ∧ (∀ k, 29 ≤ k → k ≤ 36 → gL u k = 30) ∧ ∀ i, i < wnG W → gN u 29 i = ((wgS W i + 1 : Nat) : Int) ∧ (wgS W i = 0 → inT ν u (gN u 30 i) (wgO W i) ∧ inT ν u (gN u 31 i) (wgA W i)) ∧ (wgS W i ≠ 0 → gN u 32 i = (wgO W i : Int) ∧ inT ν u (gN u 33 i) (wgA W i) ∧ inT ν u (gN u 34 i) (wgB W i)) ∧ (wgS W i ≠ 2 → bitS (gN u 35 i) (adjT (wgV W i))) ∧ (wgS W i = 2 → inT ν u (gN u 36 i) (wgV W i))
def TW (ν : Nat → Nat) (c : Nat) (W : Wd) (u : Sg) : Prop := ST ν c u ∧ (2 ≤ gL u 14 ∧ 2 ≤ gL u 15) ∧ TWc ν c W u ∧ TWm ν W u ∧ TWf ν W u ∧ TWp W u ∧ TWg ν W u
def mkT : Nat := 274877775872
theorem maskT {D : Nat} (h : D &&& mkT = 0) : ∀ k, 17 ≤ k ∧ k ≤ 37 → D.testBit k = false := fun k hk => by
  have h1 := congrArg (fun z => Nat.testBit z k) h
  simp only [Nat.testBit_and, Nat.zero_testBit] at h1
  have h2 : Nat.testBit mkT k = true := (by decide +kernel : ∀ k, k ≤ 37 → 17 ≤ k → Nat.testBit mkT k = true) k hk.2 hk.1
  rw [h2, Bool.and_true] at h1
  exact h1
theorem TW.up {ν : Nat → Nat} {c D : Nat} {W : Wd} {u u' : Sg} {X : Nat → Prop} (h : TW ν c W u) (hx : UxT ν c u u' X) (hg : Gr FT D u u') (hD : D &&& mkT = 0) : TW ν c W u' := by
  have hb := maskT hD
  have I := fun k (hk : 17 ≤ k ∧ k ≤ 37) => hg.I k (hb k hk)
  have A := fun k (hk : 17 ≤ k ∧ k ≤ 37) (x : Nat) => hg.N k (hb k hk) x
  have L := fun k (hk : 17 ≤ k ∧ k ≤ 37) => hg.Ln k (hb k hk)
  obtain ⟨hs, ⟨hy1, hy2⟩, ⟨c1, c0, c2, c3⟩, ⟨m1, m2, m3, m4, m5, m6⟩, ⟨f1, f2, f3, f4, f5⟩, ⟨⟨p1, p2, p3, p4⟩, p5, p6⟩, ⟨g1, g2, g3, g8⟩⟩ := h
  refine ⟨hx.1, ⟨Nat.le_trans hy1 (hg.2.2.1 14), Nat.le_trans hy2 (hg.2.2.1 15)⟩, ⟨by rw [I 19 (by omega)]; exact c1, c0, by rw [L 18 (by omega)]; exact c2, fun i h2 hi => by rw [A 18 (by omega)]; exact (c3 i h2 hi).up hs hx⟩, ⟨by rw [I 27 (by omega)]; exact m1, m2, by rw [L 25 (by omega)]; exact m3, by rw [L 26 (by omega)]; exact m4, by rw [A 26 (by omega)]; exact m5, fun i h1 h2 => ?_⟩, ⟨by rw [I 22 (by omega)]; exact f1, f2, by rw [L 20 (by omega)]; exact f3, by rw [L 21 (by omega)]; exact f4, fun i hi => ?_⟩, ⟨⟨by rw [I 24 (by omega)]; exact p1, p2, by rw [L 23 (by omega)]; exact p3, fun i hi => by rw [A 23 (by omega)]; exact p4 i hi⟩, by rw [I 28 (by omega)]; exact p5, p6⟩, ⟨by rw [I 37 (by omega)]; exact g1, g2, fun k q1 q2 => by rw [L k (by omega)]; exact g3 k q1 q2, fun i hi => ?_⟩⟩
  · rw [A 25 (by omega), A 26 (by omega)]
    exact ⟨(m6 i h1 h2).1.up hs hx, (m6 i h1 h2).2⟩
  · rw [A 20 (by omega), A 21 (by omega)]
    exact ⟨(f5 i hi).1, (f5 i hi).2.up hs hx⟩
  · rw [A 29 (by omega), A 30 (by omega), A 31 (by omega), A 32 (by omega), A 33 (by omega), A 34 (by omega), A 35 (by omega), A 36 (by omega)]
    obtain ⟨z1, z2, z3, z4, z5⟩ := g8 i hi
    exact ⟨z1, fun q => ⟨(z2 q).1.up hs hx, (z2 q).2.up hs hx⟩, fun q => ⟨(z3 q).1, (z3 q).2.1.up hs hx, (z3 q).2.2.up hs hx⟩, z4, fun q => (z5 q).up hs hx⟩
/-- the part of a node, as a node -/
theorem partNT {ν : Nat → Nat} {c : Nat} {u : Sg} {d : Nat} (hd : 3 ≤ d) (hs : ST ν c u) {x i : Nat} (x0 : 0 < x) (hx : x ≤ nT u) (hi : i < (ps (trT ν u x)).length) (h8 : kd (trT ν u x) ≠ 8 ∨ i = 0) : ∃ y : Nat, runT d 7 [(x : Int), ((i + nw (kd (trT ν u x)) : Nat) : Int)] u = some ((y : Int), u) ∧ y < x ∧ trT ν u y = pa (trT ν u x) i := by
  have h := getT (d := d) (i := i + nw (kd (trT ν u x))) hd hs x0 hx (by omega)
  have hp := partT hs x0 hx (pa_get hi)
  obtain ⟨p1, p2⟩ := hp.2.1 h8
  refine ⟨_, ?_, p1, p2⟩
  rw [h, Int.toNat_of_nonneg hp.1]
theorem headNT {ν : Nat → Nat} {c : Nat} {u : Sg} {d : Nat} (hd : 3 ≤ d) (hs : ST ν c u) {x : Nat} (x0 : 0 < x) (hx : x ≤ nT u) (hn : nw (kd (trT ν u x)) = 1) (h1 : kd (trT ν u x) ≠ 1) : runT d 7 [(x : Int), 0] u = some ((wh (trT ν u x) : Int), u) := by
  have h : runT d 7 [(x : Int), 0] u = some (dt u x 0, u) := getT (d := d) (i := 0) hd hs x0 hx (by omega)
  rw [h, (nodeT hs x0 hx).2.2.2.1 hn h1]
theorem tX3_typeOf {d : Nat} (hd : 240 ≤ d) {ν : Nat → Nat} {c : Nat} {W : Wd} {u : Sg} {x : Nat} {X : Nat → Prop} (hw : WF FT u) (hc : TW ν c W u) (hW : WOK W (NT ν c)) (x0 : 0 < x) (hx : x ≤ nT u) (ht : cltm W (NT ν c) (trT ν u x)) (hr : hT u ≤ 26000) (hX : tyX W X (trT ν u x)) (hl : LimT ν u X) :
    wp (runT d 80 [(x : Int)] u) (RvT ν c DX3_typeOf u (tyT W (trT ν u x)) X) := by
  obtain ⟨d, rfl⟩ : ∃ d', d = d' + 1 := ⟨d - 1, by omega⟩
  rw [runT_eq (by omega)]
  show wp (bX3_typeOf (runT d) x u) _
  unfold bX3_typeOf
  have hs := hc.1
  have hn := nodeT hs x0 hx
  have hy := ty_ok hW ht
  have hb := hl.n hs
  have old : ∀ (y : Nat) (v : Int), v = (y : Int) → y ≤ nT u → trT ν u y = tyT W (trT ν u x) → RvT ν c DX3_typeOf u (tyT W (trT ν u x)) X v u := fun y v e hyn ty => by
    obtain ⟨z, z1, z2, z3, z4⟩ := inT.pos (v := v) ⟨y, e, hyn, ty⟩ (ty_pos hy)
    exact ⟨z, z1, z2, z3, z4, UpT.rf hs, hw, Gr.rf⟩
  rw [ld_nat (hs.k hx), hn.1]
  rcases ht.k with k1 | k4 | k5
  · have e2 : tkT (kd (trT ν u x)) = 2 := by rw [k1]; decide
    have nw1 : nw (kd (trT ν u x)) = 1 := by rw [k1]; decide
    have hg : runT d 7 [(x : Int), 0] u = some (dt u x 0, u) := getT (by omega) (i := 0) hs x0 hx (by omega)
    obtain ⟨i1, i2, i3⟩ := hn.2.2.1 k1
    obtain ⟨c1, c0, c2, c3⟩ := hc.2.2.1
    have hnn := hn.2.2.2.2.2 0 (by omega)
    obtain ⟨y, y1, y2, y3⟩ := c3 _ i2 i3
    rw [e2, if_pos rfl]
    refine wp_eq hg ?_
    rw [wp_gd]
    refine ⟨by simp [keeps], ?_⟩
    rw [show dt u x 0 = (((dt u x 0).toNat : Nat) : Int) from (Int.toNat_of_nonneg hnn).symm, ld_nat (by omega), wp_some]
    refine old y _ y1 y2 ?_
    rw [y3]
    unfold tyT
    rw [if_pos k1, i1]
  · have e4 : tkT (kd (trT ν u x)) = 4 := by rw [k4]; decide
    have nw1 : nw (kd (trT ν u x)) = 1 := by rw [k4]; decide
    have ety : tyT W (trT ν u x) = sbT (locg (pa (trT ν u x) 0) (pa (trT ν u x) 1)) 0 (wfR W (wh (trT ν u x))) := by unfold tyT; rw [if_neg (by omega), if_pos k4]
    obtain ⟨f1, f2⟩ := ht.1.lc.2.1 k4
    obtain ⟨g1, g2, g3⟩ := hW.2.2.1 _ f1
    obtain ⟨b1, b2, b3, b4, b5⟩ := hc.2.2.2.2.1
    rw [e4, if_neg (by decide), ld_nat (hs.k hx), hn.1, e4, if_neg (by decide)]
    refine wp_call (tX3_moveLoci (d := d) (by omega) hw hs x0 hx k4 ht (by omega) hc.2.1.1 hc.2.1.2 (by omega)) (fun _ u1 ⟨e1, w1, G1, m1⟩ => ?_)
    have hs1 := e1.st hs
    have etx : trT ν u1 x = trT ν u x := e1.1.tr
    have hx1 : x ≤ nT u1 := by rw [e1.1.n]; exact hx
    refine wp_eq (headNT (d := d) (by omega) hs1 x0 hx1 (by rw [etx]; exact nw1) (by rw [etx]; omega)) ?_
    rw [wp_gd]
    refine ⟨by simp [keeps], ?_⟩
    have l21 : gL u1 21 = gL u 21 := G1.Ln 21 (by decide)
    have n21 : gN u1 21 (wh (trT ν u x)) = gN u 21 (wh (trT ν u x)) := G1.N 21 (by decide) _
    obtain ⟨r, r1, r0, r2, r3⟩ := (b5 _ f1).2.pos (gvn_ht g1).2
    rw [etx, ld_nat (by omega), n21, r1]
    have er : trT ν u1 r = wfR W (wh (trT ν u x)) := by rw [e1.1.tr]; exact r3
    have := tX3_move (d := d) (x := r) (X := X) (W := W) (N := NT ν c) (by omega) w1 hs1 r0 (by rw [e1.1.n]; exact r2) (by rw [er, f2]; exact g1) m1 (fun z => (fun_part ht k4 (i := 0) (by omega)).1) (fun z => (fun_part ht k4 (i := 1) (by omega)).1) (by rw [e1.hh]; omega) (by rw [er]; exact hX k4) (e1.lim hl)
    rw [er, ← ety] at this
    exact wp_mono (RvT.cl this) (fun r u' h => RvT.ofEqH e1 (Gr.sub (by decide) G1) (RvT.sub (by decide) h))
  · have e5 : tkT (kd (trT ν u x)) = 5 := by rw [k5]; decide
    have nw0 : nw (kd (trT ν u x)) = 0 := by rw [k5]; decide
    obtain ⟨z1, z2, z3⟩ := the_part ht k5
    obtain ⟨a, a1, a2, a3⟩ := partNT (d := d) (i := 0) (by omega) hs x0 hx (by rw [z3]; simp) (Or.inr rfl)
    rw [nw0] at a1
    have a1 : runT d 7 [(x : Int), 0] u = some ((a : Int), u) := a1
    rw [e5, if_neg (by decide), ld_nat (hs.k hx), hn.1, e5, if_pos rfl]
    refine wp_eq a1 ?_
    rw [wp_some]
    refine old a _ rfl (by omega) ?_
    rw [a3]
    unfold tyT
    rw [if_neg (by omega), if_neg (by omega)]
