/-! the store's operations on trees -/
/-- what the store holds is the same -/
def EqS (u u' : Sg) : Prop := (∀ k, k ≤ 10 → u'.2.1 k = u.2.1 k) ∧ ∀ k, k ≤ 10 → gI u' k = gI u k
theorem EqS.N {u u' : Sg} (h : EqS u u') {k : Nat} (hk : k ≤ 10) (x : Nat) : gN u' k x = gN u k x := by
  show (u'.2.1 k).2 x = (u.2.1 k).2 x
  rw [h.1 k hk]
theorem EqS.L {u u' : Sg} (h : EqS u u') {k : Nat} (hk : k ≤ 10) : gL u' k = gL u k := by
  show (u'.2.1 k).1 = (u.2.1 k).1
  rw [h.1 k hk]
theorem EqS.raw {u u' : Sg} (h : EqS u u') (x : Nat) : rawC u' x = rawC u x := by
  unfold rawC
  rw [h.N (by omega), h.N (by omega), h.N (by omega), h.N (by omega)]
  congr 2
  exact List.map_congr_left (fun i _ => h.N (by omega) _)
theorem EqS.n {u u' : Sg} (h : EqS u u') : nC u' = nC u := by unfold nC; rw [h.2 9 (by omega)]
theorem EqS.p {u u' : Sg} (h : EqS u u') : pC u' = pC u := by unfold pC; rw [h.2 10 (by omega)]
theorem EqS.st {u u' : Sg} (h : EqS u u') (ν : Nat → Nat) : stC ν u' = stC ν u := by
  unfold stC
  rw [h.n]
  congr 1
  funext x
  rw [h.raw]
theorem EqS.ic {u u' : Sg} (h : EqS u u') (hI : IC u) (h12 : gI u' 12 = (rC u' : Int) ∧ rC u' ≤ gL u' 11) (h11 : 1024 ≤ gL u' 11 ∧ gL u' 11 ≤ 65536) : IC u' := by
  obtain ⟨h1, h2, h3, h4, h5⟩ := hI
  obtain ⟨⟨q1, q2, q3⟩, ⟨q4, q5⟩, ⟨q6, q7⟩, ⟨l1, l2, l3, l4, l5, l6⟩, l8, l11, l0, l7⟩ := h1
  have hh : hsx u' = hsx u := funext fun z => by unfold hsx; rw [h.raw]
  refine ⟨⟨⟨by rw [h.2 9 (by omega), h.n]; exact q1, by rw [h.n]; exact q2, by rw [h.n, h.L (by omega)]; exact q3⟩, ⟨by rw [h.2 10 (by omega), h.p]; exact q4, by rw [h.p, h.L (by omega)]; exact q5⟩, h12, ⟨by rw [h.L (by omega), h.L (by omega)]; exact l1, by rw [h.L (by omega), h.L (by omega)]; exact l2, by rw [h.L (by omega), h.L (by omega)]; exact l3, by rw [h.L (by omega), h.L (by omega)]; exact l4, by rw [h.L (by omega), h.L (by omega)]; exact l5, by rw [h.L (by omega), h.L (by omega)]; exact l6⟩, by rw [h.L (by omega)]; exact l8, h11, by rw [h.L (by omega)]; exact l0, by rw [h.L (by omega)]; exact l7⟩, ⟨fun x x0 hx => ?_, fun i hi => ?_⟩, ⟨fun b hb => ?_, fun x x0 hx => ?_⟩, fun x y x0 hx y0 hy e => ?_, fun x x0 hx => ?_⟩
  · rw [h.n] at hx
    rw [h.N (by omega), h.N (by omega), h.N (by omega), h.N (by omega), h.p]
    exact h2.1 x x0 hx
  · rw [h.p] at hi
    rw [h.N (by omega)]; exact h2.2 i hi
  · rw [h.n, hh, h.N (by omega)]; exact h3.1 b hb
  · rw [h.n] at hx
    rw [hh, h.N (by omega)]; exact h3.2 x x0 hx
  · rw [h.n] at hx hy
    rw [h.raw, h.raw] at e
    exact h4 x y x0 hx y0 hy e
  · rw [h.n] at hx
    have e4 : gN u' 4 = gN u 4 := funext fun x => h.N (by omega) x
    have e5 : gN u' 5 = gN u 5 := funext fun x => h.N (by omega) x
    rw [h.raw, e4, e5]
    exact h5 x x0 hx
theorem EqS.sc {u u' : Sg} {ν : Nat → Nat} {c : Nat} (h : EqS u u') (hs : SC ν c u) (h12 : gI u' 12 = (rC u' : Int) ∧ rC u' ≤ gL u' 11) (h11 : 1024 ≤ gL u' 11 ∧ gL u' 11 ≤ 65536) : SC ν c u' := by
  refine ⟨h.ic hs.1 h12 h11, ?_, ?_, hs.2.2.2⟩
  · have hc : ∀ n, pSum u' n = pSum u n := fun n => pSum_congr n (fun y _ _ => h.raw y)
    refine ⟨by rw [h.p, h.n, hc]; exact hs.2.1.1, fun x x0 hx => ?_⟩
    rw [h.n] at hx
    rw [h.N (by omega), hc]; exact hs.2.1.2 x x0 hx
  · intro x x0 hx e
    rw [h.n] at hx
    rw [h.N (by omega)] at e ⊢
    exact hs.2.2.1 x x0 hx e
theorem EqS.rf {u : Sg} : EqS u u := ⟨fun _ _ => rfl, fun _ _ => rfl⟩
theorem EqS.trn {u u1 u2 : Sg} (h : EqS u u1) (h' : EqS u1 u2) : EqS u u2 := ⟨fun k hk => (h'.1 k hk).trans (h.1 k hk), fun k hk => (h'.2 k hk).trans (h.2 k hk)⟩
/-- out of a frame: what is not in the mask is the same -/
theorem Gr.I {D : Nat} {F : Fm} {u u' : Sg} (h : Gr F D u u') (k : Nat) (hk : D.testBit k = false) : gI u' k = gI u k := (h.2.1 k hk).1
theorem Gr.A {D : Nat} {F : Fm} {u u' : Sg} (h : Gr F D u u') (k : Nat) (hk : D.testBit k = false) : u'.2.1 k = u.2.1 k := (h.2.1 k hk).2
theorem Gr.N {D : Nat} {F : Fm} {u u' : Sg} (h : Gr F D u u') (k : Nat) (hk : D.testBit k = false) (x : Nat) : gN u' k x = gN u k x := by
  show (u'.2.1 k).2 x = (u.2.1 k).2 x
  rw [(h.2.1 k hk).2]
theorem Gr.Ln {D : Nat} {F : Fm} {u u' : Sg} (h : Gr F D u u') (k : Nat) (hk : D.testBit k = false) : gL u' k = gL u k := by
  show (u'.2.1 k).1 = (u.2.1 k).1
  rw [(h.2.1 k hk).2]
theorem Gr.eqS {D : Nat} {F : Fm} {u u' : Sg} (h : Gr F D u u') (hk : ∀ k, k ≤ 10 → D.testBit k = false) : EqS u u' := ⟨fun k q => (h.2.1 k (hk k q)).2, fun k q => (h.2.1 k (hk k q)).1⟩
/-- a mask that touches nothing below ten -/
theorem mask10 {D : Nat} (h : D &&& 2047 = 0) : ∀ k, k ≤ 10 → D.testBit k = false := fun k hk => by
  have h1 := congrArg (fun z => Nat.testBit z k) h
  simp only [Nat.testBit_and, Nat.zero_testBit] at h1
  have h2 : Nat.testBit 2047 k = true := (by decide : ∀ k, k ≤ 10 → Nat.testBit 2047 k = true) k hk
  rw [h2, Bool.and_true] at h1
  exact h1
theorem SC.r {ν : Nat → Nat} {c : Nat} {u : Sg} (h : SC ν c u) : gI u 12 = (rC u : Int) ∧ rC u ≤ gL u 11 ∧ 1024 ≤ gL u 11 ∧ gL u 11 ≤ 65536 := ⟨h.1.1.2.2.1.1, h.1.1.2.2.1.2, h.1.1.2.2.2.2.2.1.1, h.1.1.2.2.2.2.2.1.2⟩
theorem tX2_push {d : Nat} (hd : 3 ≤ d) {ν : Nat → Nat} {c : Nat} {u : Sg} {a : Int} (hw : WF FC u) (hs : SC ν c u) (ha : inR a) (h5 : rC u ≤ 30000) :
    wp (runC d 97 [a] u) (fun _ u' => SC ν c u' ∧ EqS u u' ∧ rC u' = rC u + 1 ∧ (∀ i, i < rC u → gN u' 11 i = gN u 11 i) ∧ gN u' 11 (rC u) = a ∧ WF FC u' ∧ Gr FC DX2_push u u') := by
  have hr := hs.r
  refine wp_mono (gX2_push hw ha (rX2_push hd hr.1 hr.2.1 hr.2.2.1 hr.2.2.2 h5)) (fun r u' ⟨⟨p1, p2, p3, p4, p5, p6, p7⟩, g, w, _⟩ => ?_)
  have he := g.eqS (mask10 (by decide))
  exact ⟨he.sc hs ⟨by rw [p1, p2]; omega, p3⟩ ⟨p4, p5⟩, he, p2, p6, p7, w, g⟩
/-- the trees of the parts in the row -/
def rowT (ν : Nat → Nat) (u : Sg) (k : Nat) (a : Nat) : List Nat := pmp (trC ν u) k ((rowC u a).map Int.toNat)
theorem tX2_make {d : Nat} (hd : 5 ≤ d) {ν : Nat → Nat} {c : Nat} {u : Sg} {k w : Nat} {a : Nat} {X : Nat → Prop} (hw : WF FC u) (hs : SC ν c u) (hk : k ≤ 30) (hw2 : w < 2147483648) (hw3 : k = 2 → w < 1000000) (hc1 : k = 1 → w < c) (ha : a ≤ rC u) (hrow : ∀ v ∈ rowC u a, 0 ≤ v) (hfm : ∀ p ∈ fptR ((k : Int), (w : Int), rowC u a), p < (nC u : Int)) (hn : rC u - a ≤ 5000)
    (hX : X (mk k (if k = 1 then ν w else w) (rowT ν u k a))) (hl : Lim ν u X) :
    wp (runC d 94 [(k : Int), (w : Int), (a : Int)] u) (fun r u' => ∃ x : Nat, r = (x : Int) ∧ 0 < x ∧ x < nC u' ∧ SC ν c u' ∧ trC ν u' x = mk k (if k = 1 then ν w else w) (rowT ν u k a) ∧ (∀ y, y < nC u → trC ν u' y = trC ν u y) ∧ nC u ≤ nC u' ∧ Ext (stC ν u) (stC ν u') ∧ (∀ t, ndC ν u' t → ndC ν u t ∨ X t) ∧ rC u' = a ∧ (∀ i, i < a → gN u' 11 i = gN u 11 i) ∧ WF FC u' ∧ Gr FC DX2_make u u') := by
  have hb := hl.n hs
  have hr := hs.r
  have hrk : inR (k : Int) := ⟨by omega, by omega⟩
  have hrw : inR (w : Int) := ⟨by omega, by omega⟩
  have hra : inR (a : Int) := ⟨by omega, by omega⟩
  refine wp_mono (gX2_make hw hrk hrw hra (rX2_make hd hs.1 (by omega) (by omega) (fun h => by have := hw3 (by omega); omega) ha hrow hfm (by omega) (by omega))) (fun r u' ⟨⟨x, e, m, m2, m3, m4⟩, g, wf, _⟩ => ?_)
  have hm := mk_C (ν := ν) hs.1 m
  have hok := okp_C (ν := ν) hs.1
  have elb : labC ν ((k : Int), (w : Int), rowC u a) = (k, if k = 1 then ν w else w, (rowC u a).map Int.toNat) := by
    unfold labC
    simp only [Int.toNat_natCast]
    congr 2
    by_cases h1 : k = 1
    · rw [if_pos h1, if_pos (by omega)]
    · rw [if_neg h1, if_neg (by omega)]
  have hfl : ∀ p ∈ fpt (labC ν ((k : Int), (w : Int), rowC u a)), p ≤ (stC ν u).1 := fun p hp => by
    rw [fpt_labC (by show (0 : Int) ≤ (k : Int); omega)] at hp
    obtain ⟨q, hq, rfl⟩ := List.mem_map.mp hp
    have := hfm q hq
    show q.toNat ≤ nC u - 1
    omega
  have ht := hm.tr hok hfl
  rw [elb] at ht
  have htx : trC ν u' x = mk k (if k = 1 then ν w else w) (rowT ν u k a) := ht
  have hold : ∀ y, y < nC u → trC ν u' y = trC ν u y := fun y hy => tr_ext hok (okp_C m.1) hm.1 y (by show y ≤ nC u - 1; omega)
  have hnn : nC u ≤ nC u' := by
    rcases m.2.2.2.2.2 with q | q <;> omega
  have hsc : SC ν c u' := by
    refine ⟨m.1, m.ic6 hs.2.1 hs.1.1.1.2.1, fun y y0 hy e1 => ?_, hs.2.2.2⟩
    by_cases hyn : y < nC u
    · have e2 := (m.2.2.2.2.1 y y0 hyn).1
      have e3 : gN u' 0 y = gN u 0 y := congrArg (fun r => r.1) e2
      have e4 : gN u' 1 y = gN u 1 y := congrArg (fun r => r.2.1) e2
      rw [e4]
      exact hs.2.2.1 y y0 hyn (by rw [← e3]; exact e1)
    · have hyx : y = x := by rcases m.2.2.2.2.2 with q | q <;> omega
      subst hyx
      have e3 : gN u' 0 y = (k : Int) := congrArg (fun r => r.1) m.2.2.2.1
      have e4 : gN u' 1 y = (w : Int) := congrArg (fun r => r.2.1) m.2.2.2.1
      rw [e4]
      have := hc1 (by omega)
      omega
  refine ⟨x, e, m.2.1, m.2.2.1, hsc, htx, hold, hnn, hm.1, fun t ⟨y, y0, hy, et⟩ => ?_, m2, m4, wf, g⟩
  by_cases hyn : y < nC u
  · exact Or.inl ⟨y, y0, hyn, by rw [← hold y hyn]; exact et⟩
  · have hyx : y = x := by rcases m.2.2.2.2.2 with q | q <;> omega
    subst hyx
    rw [htx] at et
    rw [← et]; exact Or.inr hX
