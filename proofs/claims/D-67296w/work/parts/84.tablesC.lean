/-! the class's tables, and the types of terms -/
def inC (ν : Nat → Nat) (u : Sg) (v : Int) (t : Nat) : Prop := ∃ y : Nat, v = (y : Int) ∧ y < nC u ∧ trC ν u y = t
theorem inC.up {ν : Nat → Nat} {c : Nat} {u u' : Sg} {X : Nat → Prop} {v : Int} {t : Nat} (hs : SC ν c u) (hx : Ux ν c u u' X) (h : inC ν u v t) : inC ν u' v t := by
  obtain ⟨y, h1, h2, h3⟩ := h
  exact ⟨y, h1, Nat.lt_of_lt_of_le h2 (hx.n hs), by rw [hx.tr hs h2]; exact h3⟩
theorem inC.pos {ν : Nat → Nat} {u : Sg} {v : Int} {t : Nat} (h : inC ν u v t) (ht : t ≠ 0) : ∃ y : Nat, v = (y : Int) ∧ 0 < y ∧ y < nC u ∧ trC ν u y = t := by
  obtain ⟨y, h1, h2, h3⟩ := h
  refine ⟨y, h1, ?_, h2, h3⟩
  rcases Nat.eq_zero_or_pos y with q | q
  · rw [q] at h3; exact absurd h3.symm ht
  · exact q
/-- the names of constants -/
def Nm (ν : Nat → Nat) (c : Nat) (n : Nat) : Prop := ∃ i, i < c ∧ ν i = n
def CWc (ν : Nat → Nat) (c : Nat) (W : Wd) (u : Sg) : Prop := gI u 86 = (c : Int) ∧ c ≤ gL u 85 ∧ ∀ i, i < c → inC ν u (gN u 85 i) (wcT W (ν i))
def CWm (ν : Nat → Nat) (W : Wd) (u : Sg) : Prop := gI u 69 = (wnM W : Int) ∧ (1 ≤ wnM W ∧ wnM W ≤ 20) ∧ gL u 67 = 20 ∧ gL u 68 = 20 ∧ gN u 68 0 = 0 ∧ ∀ i, 1 ≤ i → i < wnM W → inC ν u (gN u 67 i) (wmP W i) ∧ gN u 68 i = (wmH W i : Int)
def CWf (ν : Nat → Nat) (W : Wd) (u : Sg) : Prop := gI u 74 = (wnF W : Int) ∧ wnF W ≤ 30 ∧ gL u 71 = 30 ∧ gL u 72 = 30 ∧ ∀ i, i < wnF W → gN u 71 i = (wfM W i : Int) ∧ inC ν u (gN u 72 i) (wfR W i)
def CWp (W : Wd) (u : Sg) : Prop := (gI u 75 = (wnP W : Int) ∧ wnP W ≤ 10 ∧ gL u 73 = 10 ∧ ∀ i, i < wnP W → gN u 73 i = (wpM W i : Int)) ∧ gI u 70 = (wnA W : Int) ∧ wnA W ≤ 15
def CWg (ν : Nat → Nat) (W : Wd) (u : Sg) : Prop := gI u 81 = (wnG W : Int) ∧ wnG W ≤ 30 ∧ (gL u 76 = 30 ∧ gL u 77 = 30 ∧ gL u 78 = 30 ∧ gL u 79 = 30 ∧ gL u 80 = 30) ∧ ∀ i, i < wnG W → gN u 76 i = (wgS W i : Int) ∧ (wgS W i = 0 → inC ν u (gN u 77 i) (wgO W i)) ∧ (wgS W i ≠ 0 → gN u 77 i = (wgO W i : Int)) ∧ inC ν u (gN u 78 i) (wgA W i) ∧ inC ν u (gN u 79 i) (wgB W i) ∧ inC ν u (gN u 80 i) (wgV W i)
def CW (ν : Nat → Nat) (c : Nat) (W : Wd) (u : Sg) : Prop := SC ν c u ∧ YN ν u ∧ CWc ν c W u ∧ CWm ν W u ∧ CWf ν W u ∧ CWp W u ∧ CWg ν W u
def mkW : Nat := 154742357336719944686002176
theorem maskW {D : Nat} (h : D &&& mkW = 0) : ∀ k, (k = 13 ∨ k = 14 ∨ (67 ≤ k ∧ k ≤ 86)) → D.testBit k = false := fun k hk => by
  have h1 := congrArg (fun z => Nat.testBit z k) h
  simp only [Nat.testBit_and, Nat.zero_testBit] at h1
  have h2 : Nat.testBit mkW k = true := (by decide +kernel : ∀ k, k ≤ 86 → (k = 13 ∨ k = 14 ∨ (67 ≤ k ∧ k ≤ 86)) → Nat.testBit mkW k = true) k (by omega) hk
  rw [h2, Bool.and_true] at h1
  exact h1
theorem CW.up {ν : Nat → Nat} {c D : Nat} {W : Wd} {u u' : Sg} {X : Nat → Prop} (h : CW ν c W u) (hx : Ux ν c u u' X) (hg : Gr FC D u u') (hD : D &&& mkW = 0) : CW ν c W u' := by
  have hb := maskW hD
  have I := fun k (hk : k = 13 ∨ k = 14 ∨ (67 ≤ k ∧ k ≤ 86)) => hg.I k (hb k hk)
  have A := fun k (hk : k = 13 ∨ k = 14 ∨ (67 ≤ k ∧ k ≤ 86)) (x : Nat) => hg.N k (hb k hk) x
  have L := fun k (hk : k = 13 ∨ k = 14 ∨ (67 ≤ k ∧ k ≤ 86)) => hg.Ln k (hb k hk)
  obtain ⟨hs, hy, ⟨c1, c2, c3⟩, ⟨m1, m2, m3, m4, m5, m6⟩, ⟨f1, f2, f3, f4, f5⟩, ⟨⟨p1, p2, p3, p4⟩, p5, p6⟩, ⟨g1, g2, ⟨g3, g4, g5, g6, g7⟩, g8⟩⟩ := h
  refine ⟨hx.1, hy.up hs hx hg (hb 13 (by omega)) (hb 14 (by omega)), ⟨by rw [I 86 (by omega)]; exact c1, by rw [L 85 (by omega)]; exact c2, fun i hi => by rw [A 85 (by omega)]; exact (c3 i hi).up hs hx⟩, ⟨by rw [I 69 (by omega)]; exact m1, m2, by rw [L 67 (by omega)]; exact m3, by rw [L 68 (by omega)]; exact m4, by rw [A 68 (by omega)]; exact m5, fun i h1 h2 => ?_⟩, ⟨by rw [I 74 (by omega)]; exact f1, f2, by rw [L 71 (by omega)]; exact f3, by rw [L 72 (by omega)]; exact f4, fun i hi => ?_⟩, ⟨⟨by rw [I 75 (by omega)]; exact p1, p2, by rw [L 73 (by omega)]; exact p3, fun i hi => by rw [A 73 (by omega)]; exact p4 i hi⟩, by rw [I 70 (by omega)]; exact p5, p6⟩, ⟨by rw [I 81 (by omega)]; exact g1, g2, ⟨by rw [L 76 (by omega)]; exact g3, by rw [L 77 (by omega)]; exact g4, by rw [L 78 (by omega)]; exact g5, by rw [L 79 (by omega)]; exact g6, by rw [L 80 (by omega)]; exact g7⟩, fun i hi => ?_⟩⟩
  · rw [A 67 (by omega), A 68 (by omega)]
    exact ⟨(m6 i h1 h2).1.up hs hx, (m6 i h1 h2).2⟩
  · rw [A 71 (by omega), A 72 (by omega)]
    exact ⟨(f5 i hi).1, (f5 i hi).2.up hs hx⟩
  · rw [A 76 (by omega), A 77 (by omega), A 78 (by omega), A 79 (by omega), A 80 (by omega)]
    obtain ⟨z1, z2, z3, z4, z5, z6⟩ := g8 i hi
    exact ⟨z1, fun q => (z2 q).up hs hx, z3, z4.up hs hx, z5.up hs hx, z6.up hs hx⟩
theorem nodeC1 {ν : Nat → Nat} {c : Nat} {u : Sg} (hs : SC ν c u) {x : Nat} (x0 : 0 < x) (hx : x < nC u) (h1 : kd (trC ν u x) = 1) : ∃ i : Nat, gN u 1 x = (i : Int) ∧ i < c ∧ wh (trC ν u x) = ν i := by
  have hn := nodeC hs x0 hx
  have hk : gN u 0 x = 1 := by rw [hn.1, h1]; rfl
  have h2 := hs.1.2.1.1 x x0 hx
  have hc := hs.2.2.1 x x0 hx hk
  obtain ⟨⟨g0, g1, g2, g3⟩, ge⟩ := h2
  refine ⟨(gN u 1 x).toNat, by omega, by omega, ?_⟩
  rw [trC_eq hs.1 x0 hx, wh_mk]
  show (if gN u 0 x = 1 then ν (gN u 1 x).toNat else _) = _
  rw [if_pos hk]
/-- the part of a node, as a node -/
theorem partN {ν : Nat → Nat} {c : Nat} {u : Sg} {d : Nat} (hd : 3 ≤ d) (hs : SC ν c u) {x i : Nat} (x0 : 0 < x) (hx : x < nC u) (hi : i < (ps (trC ν u x)).length) (h8 : kd (trC ν u x) ≠ 8 ∨ i = 0) : ∃ y : Nat, runC d 98 [(x : Int), (i : Int)] u = some ((y : Int), u) ∧ y < x ∧ trC ν u y = pa (trC ν u x) i := by
  have h := atC hd hs x0 hx hi
  have hp := partC hs x0 hx (pa_get hi)
  obtain ⟨p1, p2⟩ := hp.2.1 h8
  refine ⟨(pt u x i).toNat, ?_, p1, p2⟩
  rw [h, Int.toNat_of_nonneg hp.1]
def tyX (W : Wd) (X : Nat → Prop) (t : Nat) : Prop := kd t = 4 → ImT X (locg (pa t 0) (pa t 1)) (wfR W (wh t)) 0
def paX (W : Wd) (X : Nat → Prop) (y : Nat) : Prop := wh y ≠ 0 → ImT X (locg (pa y 0) 0) (wmP W (wh y)) 0
theorem RsT.D {ν : Nat → Nat} {c D D' : Nat} {u : Sg} {t : Nat} {X : Nat → Prop} {r : Int} {u' : Sg} (hD : D &&& D' = D) (h : RsT ν c D u t X r u') : RsT ν c D' u t X r u' := by
  obtain ⟨x, h1, h2, h3, h4, h5, h6, h7⟩ := h
  exact ⟨x, h1, h2, h3, h4, h5, h6, Gr.sub hD h7⟩
theorem gvn_ht {W : Wd} {N : Nat → Prop} {y n : Nat} (h : gvn W N y n) : htT y ≤ 200 ∧ y ≠ 0 := by
  have h0 : y ≠ 0 := fun q => by
    have := okN_kd h.1.1.n
    unfold isTm isFo at this
    rw [q, kd0] at this
    omega
  have := ht_sz y h0
  exact ⟨by have := h.2.2.2; omega, h0⟩
theorem tX1_typeOf {d : Nat} (hd : 240 ≤ d) {ν : Nat → Nat} {c : Nat} {W : Wd} {u : Sg} {x : Nat} {X : Nat → Prop} (hw : WF FC u) (hc : CW ν c W u) (hW : WOK W (Nm ν c)) (x0 : 0 < x) (hx : x < nC u) (ht : cltm W (Nm ν c) (trC ν u x)) (hr : rC u ≤ 28000) (hX : tyX W X (trC ν u x)) (hl : Lim ν u X) :
    wp (runC d 47 [(x : Int)] u) (RsT ν c DX1_typeOf u (tyT W (trC ν u x)) X) := by
  obtain ⟨d, rfl⟩ : ∃ d', d = d' + 1 := ⟨d - 1, by omega⟩
  rw [runC_eq (by omega)]
  show wp (bX1_typeOf (runC d) x u) _
  unfold bX1_typeOf
  have hs := hc.1
  have hn := nodeC hs x0 hx
  have hy := ty_ok hW ht
  obtain ⟨⟨q1, q2, q3⟩, ⟨q4, q5⟩, ⟨q6, q7⟩, ⟨l1, l2, l3, l4, l5, l6⟩, l8, l11, l0, l7⟩ := id hs.1.1
  have old : ∀ (y : Nat) (v : Int), v = (y : Int) → y < nC u → trC ν u y = tyT W (trC ν u x) → RsT ν c DX1_typeOf u (tyT W (trC ν u x)) X v u := fun y v e hyn ty => by
    obtain ⟨z, z1, z2, z3, z4⟩ := inC.pos (v := v) ⟨y, e, hyn, ty⟩ (ty_pos hy)
    exact ⟨z, z1, z2, z3, z4, Up.rf hs, hw, Gr.rf⟩
  rw [ld_nat (by omega), hn.1]
  refine wp_ite (fun h1 => ?_) (fun h1 => ?_)
  · have k1 : kd (trC ν u x) = 1 := by omega
    obtain ⟨i, i1, i2, i3⟩ := nodeC1 hs x0 hx k1
    obtain ⟨c1, c2, c3⟩ := hc.2.2.1
    obtain ⟨y, y1, y2, y3⟩ := c3 i i2
    rw [ld_nat (by omega), i1, ld_nat (by omega), wp_some]
    refine old y _ y1 y2 ?_
    rw [y3]
    unfold tyT
    rw [if_pos k1, i3]
  refine wp_ite (fun h4 => ?_) (fun h4 => ?_)
  · have k4 : kd (trC ν u x) = 4 := by omega
    have ety : tyT W (trC ν u x) = sbT (locg (pa (trC ν u x) 0) (pa (trC ν u x) 1)) 0 (wfR W (wh (trC ν u x))) := by unfold tyT; rw [if_neg (by omega), if_pos k4]
    obtain ⟨f1, f2⟩ := ht.1.lc.2.1 k4
    obtain ⟨g1, g2, g3⟩ := hW.2.2.1 _ f1
    obtain ⟨b1, b2, b3, b4, b5⟩ := hc.2.2.2.2.1
    obtain ⟨r, r1, r0, r2, r3⟩ := (b5 _ f1).2.pos (gvn_ht g1).2
    have hloc := loc_ok (d := 0) g1 g3 (fun z => (fun_part ht k4 (i := 0) (by omega)).1) (fun z => (fun_part ht k4 (i := 1) (by omega)).1)
    have hht := (gvn_ht g1).1
    have hsz := g1.2.2.2
    -- the call, when both arguments are there
    have go : ∀ a b : Nat, a < nC u → b < nC u → trC ν u a = pa (trC ν u x) 0 → trC ν u b = pa (trC ν u x) 1 → wp (cl (runC d 111 [gN u 72 (wh (trC ν u x)), (a : Int), (b : Int), 0] u) fun v8 s9 => some (v8, s9)) (RsT ν c DX1_typeOf u (tyT W (trC ν u x)) X) := fun a b ha hb ea eb => by
      rw [r1]
      have := tX2_loci (d := d) (x := r) (a := a) (b := b) (X := X) (by rw [r3]; omega) hw hs hc.2.1 r0 r2 ha hb (by rw [r3]; exact g1.1.1) (by rw [r3, ea, eb]; exact hloc.2.2.2) (by rw [r3]; omega) (by rw [r3, ea, eb]; exact ImT.mono (fun _ q => Or.inr q) _ _ (hX k4)) hl (by rw [r3]; omega)
      rw [r3, ea, eb, ← ety] at this
      exact wp_call this (fun v s q => wp_some.mpr (RsT.D (by decide +kernel) q))
    rw [wp_jn, ld_nat (by omega), hn.2.2.1, ld_nat (by omega), hn.2.1 (by omega), ld_nat (by omega)]
    refine wp_ite (fun hz => ?_) (fun hz => ?_)
    · rw [wp_jn, if_pos (by omega)]
      exact go 0 0 (by omega) (by omega) (by rw [pa_out (by omega)]; rfl) (by rw [pa_out (by omega)]; rfl)
    · obtain ⟨a, a1, a2, a3⟩ := partN (d := d) (i := 0) (by omega) hs x0 hx (by omega) (Or.inr rfl)
      refine wp_eq a1 ?_
      rw [wp_jn]
      refine wp_ite (fun hz2 => ?_) (fun hz2 => ?_)
      · exact go a 0 (by omega) (by omega) a3 (by rw [pa_out (by omega)]; rfl)
      · obtain ⟨b, b1', b2', b3'⟩ := partN (d := d) (i := 1) (by omega) hs x0 hx (by omega) (Or.inl (by omega))
        refine wp_eq b1' ?_
        exact go a b (by omega) (by omega) a3 b3'
  · have k5 : kd (trC ν u x) = 5 := by rcases ht.k with q | q | q <;> omega
    obtain ⟨z1, z2, z3⟩ := the_part ht k5
    obtain ⟨a, a1, a2, a3⟩ := partN (d := d) (i := 0) (by omega) hs x0 hx (by rw [z3]; simp) (Or.inr rfl)
    refine wp_eq a1 ?_
    rw [wp_some]
    refine old a _ rfl (by omega) ?_
    rw [a3]
    unfold tyT
    rw [if_neg (by omega), if_neg (by omega)]
