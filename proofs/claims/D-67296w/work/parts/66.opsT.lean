/-! the model's store: what is in hand, and nodes by trees -/
def EqT (u u' : Sg) : Prop := (∀ k, k ≤ 11 → u'.2.1 k = u.2.1 k) ∧ ∀ k, k ≤ 11 → gI u' k = gI u k
theorem EqT.N {u u' : Sg} (h : EqT u u') {k : Nat} (hk : k ≤ 11) (x : Nat) : gN u' k x = gN u k x := by
  show (u'.2.1 k).2 x = (u.2.1 k).2 x
  rw [h.1 k hk]
theorem EqT.L {u u' : Sg} (h : EqT u u') {k : Nat} (hk : k ≤ 11) : gL u' k = gL u k := by
  show (u'.2.1 k).1 = (u.2.1 k).1
  rw [h.1 k hk]
theorem EqT.raw {u u' : Sg} (h : EqT u u') (x : Nat) : rawT u' x = rawT u x := by
  unfold rawT
  rw [h.N (by omega), h.N (by omega), h.N (by omega)]
  congr 1
  exact List.map_congr_left (fun i _ => h.N (by omega) _)
theorem EqT.n {u u' : Sg} (h : EqT u u') : nT u' = nT u := by unfold nT; rw [h.2 8 (by omega)]
theorem EqT.d {u u' : Sg} (h : EqT u u') : dT u' = dT u := by unfold dT; rw [h.2 10 (by omega)]
theorem EqT.st {u u' : Sg} (h : EqT u u') (ν : Nat → Nat) : stT ν u' = stT ν u := by
  unfold stT
  rw [h.n]
  congr 1
  funext x
  rw [h.raw]
theorem EqT.rf {u : Sg} : EqT u u := ⟨fun _ _ => rfl, fun _ _ => rfl⟩
theorem EqT.trn {u u1 u2 : Sg} (h : EqT u u1) (h' : EqT u1 u2) : EqT u u2 := ⟨fun k hk => (h'.1 k hk).trans (h.1 k hk), fun k hk => (h'.2 k hk).trans (h.2 k hk)⟩
theorem Gr.eqT {D : Nat} {F : Fm} {u u' : Sg} (h : Gr F D u u') (hk : ∀ k, k ≤ 11 → D.testBit k = false) : EqT u u' := ⟨fun k q => (h.2.1 k (hk k q)).2, fun k q => (h.2.1 k (hk k q)).1⟩
theorem mask11 {D : Nat} (h : D &&& 4095 = 0) : ∀ k, k ≤ 11 → D.testBit k = false := fun k hk => by
  have h1 := congrArg (fun z => Nat.testBit z k) h
  simp only [Nat.testBit_and, Nat.zero_testBit] at h1
  have h2 : Nat.testBit 4095 k = true := (by decide : ∀ k, k ≤ 11 → Nat.testBit 4095 k = true) k hk
  rw [h2, Bool.and_true] at h1
  exact h1
theorem EqT.sT {u u' : Sg} {ν : Nat → Nat} {c : Nat} (h : EqT u u') (hs : ST ν c u) (h13 : gI u' 13 = (hT u' : Int) ∧ hT u' ≤ gL u' 12) (h12 : 1024 ≤ gL u' 12 ∧ gL u' 12 ≤ 65536) : ST ν c u' := by
  obtain ⟨⟨⟨⟨q1, q2⟩, ⟨q3, q4⟩, ⟨q5, q6⟩, ⟨l2, l3, l4, l5, l6, l7⟩, l11, l12, lo1, lo9⟩, h2, h3, h4, h5⟩, h6, hn⟩ := hs
  have hh : hsxT u' = hsxT u := funext fun z => by unfold hsxT; rw [h.raw]
  have hc : ∀ n, dSum u' n = dSum u n := fun n => dSum_congr n (fun y _ _ => h.raw y)
  have e4 : gN u' 4 = gN u 4 := funext fun x => h.N (by omega) x
  have e5 : gN u' 5 = gN u 5 := funext fun x => h.N (by omega) x
  refine ⟨⟨⟨⟨by rw [h.2 8 (by omega), h.n]; exact q1, by rw [h.n, h.L (by omega)]; exact q2⟩, ⟨by rw [h.2 10 (by omega), h.d]; exact q3, by rw [h.d, h.L (by omega)]; exact q4⟩, h13, ⟨by rw [h.L (by omega), h.L (by omega)]; exact l2, by rw [h.L (by omega), h.L (by omega)]; exact l3, by rw [h.L (by omega), h.L (by omega)]; exact l4, by rw [h.L (by omega), h.L (by omega)]; exact l5, by rw [h.L (by omega), h.L (by omega)]; exact l6, by rw [h.L (by omega), h.L (by omega)]; exact l7⟩, by rw [h.L (by omega)]; exact l11, h12, by rw [h.L (by omega)]; exact lo1, by rw [h.L (by omega)]; exact lo9⟩, ⟨fun x x0 hx => ?_, fun i hi => ?_⟩, ⟨fun b hb => ?_, fun x x0 hx => ?_⟩, fun x y x0 hx y0 hy e => ?_, fun x x0 hx => ?_⟩, ⟨by rw [h.d, h.n, hc]; exact h6.1, fun x x0 hx => ?_⟩, fun x x0 hx e => ?_, hn.2⟩
  · rw [h.n] at hx
    rw [h.raw, h.N (by omega), h.N (by omega), h.d]
    exact h2.1 x x0 hx
  · rw [h.d] at hi
    rw [h.N (by omega)]; exact h2.2 i hi
  · rw [h.n, hh, h.N (by omega)]; exact h3.1 b hb
  · rw [h.n] at hx
    rw [hh, h.N (by omega), h.N (by omega)]; exact h3.2 x x0 hx
  · rw [h.n] at hx hy
    rw [h.raw, h.raw] at e
    exact h4 x y x0 hx y0 hy e
  · rw [h.n] at hx
    rw [h.raw, e4, e5]
    exact h5 x x0 hx
  · rw [h.n] at hx
    rw [h.N (by omega), hc]; exact h6.2 x x0 hx
  · rw [h.n] at hx
    rw [h.N (by omega)] at e
    rw [h.raw]
    exact hn.1 x x0 hx e
theorem ST.r {ν : Nat → Nat} {c : Nat} {u : Sg} (h : ST ν c u) : gI u 13 = (hT u : Int) ∧ hT u ≤ gL u 12 ∧ 1024 ≤ gL u 12 ∧ gL u 12 ≤ 65536 := ⟨h.1.1.2.2.1.1, h.1.1.2.2.1.2, h.1.1.2.2.2.2.2.1.1, h.1.1.2.2.2.2.2.1.2⟩
theorem rX3_give {d : Nat} (hd : 3 ≤ d) {u : Sg} {a : Int} (h1 : gI u 13 = (hT u : Int)) (h2 : hT u ≤ gL u 12) (h3 : 1024 ≤ gL u 12) (h4 : gL u 12 ≤ 65536) (h5 : hT u ≤ 30000) :
    wp (runT d 3 [a] u) (fun _ u' => gI u' 13 = (hT u : Int) + 1 ∧ hT u' = hT u + 1 ∧ hT u' ≤ gL u' 12 ∧ 1024 ≤ gL u' 12 ∧ gL u' 12 ≤ 65536 ∧ (∀ i, i < hT u → gN u' 12 i = gN u 12 i) ∧ gN u' 12 (hT u) = a) := by
  obtain ⟨d, rfl⟩ : ∃ d', d = d' + 1 := ⟨d - 1, by omega⟩
  rw [runT_eq (by omega)]
  show wp (bX3_give (runT d) a u) _
  unfold bX3_give
  have key : ∀ s : Sg, gI s 13 = (hT u : Int) → hT u < gL s 12 → 1024 ≤ gL s 12 → gL s 12 ≤ 65536 → (∀ i, i < hT u → gN s 12 i = gN u 12 i) → wp (un (gI s 13) fun v3 => ar (v3 + 1) fun v4 => un (sI s 13 v4) fun s5 => stA s5 12 v3 a fun s6 => some (0, s6)) (fun _ u' => gI u' 13 = (hT u : Int) + 1 ∧ hT u' = hT u + 1 ∧ hT u' ≤ gL u' 12 ∧ 1024 ≤ gL u' 12 ∧ gL u' 12 ≤ 65536 ∧ (∀ i, i < hT u → gN u' 12 i = gN u 12 i) ∧ gN u' 12 (hT u) = a) := by
    intro s k1 k2 k3 k3' k4
    rw [wp_un, wp_ar, k1, wp_un, wp_stA, wp_some, gL_sI]
    have hr : hT (sA (sI s 13 ((hT u : Int) + 1)) 12 (hT u : Int) a) = hT u + 1 := by
      unfold hT; rw [gI_sA, gI_sI, if_pos rfl]; omega
    refine ⟨⟨by omega, by omega⟩, ⟨by omega, by omega⟩, by rw [gI_sA, gI_sI, if_pos rfl], hr, ?_, ?_, ?_, fun i hi => ?_, ?_⟩
    · rw [hr, gL_sA, gL_sI]; omega
    · rw [gL_sA, gL_sI]; omega
    · rw [gL_sA, gL_sI]; omega
    · rw [gN_sAn, if_neg (fun h => by omega), gN_sI, k4 i hi]
    · rw [gN_sAn, if_pos ⟨rfl, rfl⟩]
  rw [wp_un, h1]
  refine wp_mor (fun h => ?_) (fun h => ?_)
  · exact key u h1 (by omega) h3 h4 (fun _ _ => rfl)
  · have e2 : hT u = gL u 12 := by omega
    have e : morN (gL u 12) (hT u : Int) = 2 * gL u 12 := by
      unfold morN
      rw [if_pos (by omega)]
    rw [e]
    refine ⟨⟨by omega, by omega⟩, key _ (by rw [gI_sN]; exact h1) (by rw [gL_sN, if_pos rfl]; omega) (by rw [gL_sN, if_pos rfl]; omega) (by rw [gL_sN, if_pos rfl]; omega) (fun i hi => ?_)⟩
    rw [gN_sN, if_pos rfl, if_pos (by omega)]
    rfl
/-- from u the hand has got these -/
def Hand (ν : Nat → Nat) (c : Nat) (u u1 : Sg) (vs : List Int) : Prop := ST ν c u1 ∧ EqT u u1 ∧ hT u1 = hT u + vs.length ∧ rowH u1 (hT u) = vs ∧ (∀ i, i < hT u → gN u1 12 i = gN u 12 i) ∧ WF FT u1 ∧ Gr FT DX3_give u u1
theorem Hand.rf {ν : Nat → Nat} {c : Nat} {u : Sg} (hs : ST ν c u) (hw : WF FT u) : Hand ν c u u [] := by
  refine ⟨hs, EqT.rf, rfl, ?_, fun _ _ => rfl, hw, Gr.rf⟩
  unfold rowH
  rw [Nat.sub_self]; rfl
theorem tX3_give {d : Nat} (hd : 3 ≤ d) {ν : Nat → Nat} {c : Nat} {u u1 : Sg} {vs : List Int} {a : Int} (h : Hand ν c u u1 vs) (ha : inR a) (h5 : hT u1 ≤ 30000) :
    wp (runT d 3 [a] u1) (fun _ u' => Hand ν c u u' (vs ++ [a])) := by
  obtain ⟨hs, he, hh, hr, ho, hw, hg⟩ := h
  have r := hs.r
  refine wp_mono (gX3_give hw ha (rX3_give hd r.1 r.2.1 r.2.2.1 r.2.2.2 h5)) (fun _ u' ⟨⟨p1, p2, p3, p4, p5, p6, p7⟩, g, w, _⟩ => ?_)
  have he' := g.eqT (mask11 (by decide))
  refine ⟨he'.sT hs ⟨by rw [p1, p2]; omega, p3⟩ ⟨p4, p5⟩, he.trn he', by rw [p2, hh, List.length_append]; simp only [List.length_cons, List.length_nil]; omega, ?_, fun i hi => by rw [p6 i (by omega), ho i hi], w, Gr.tr hg g⟩
  have e : rowH u' (hT u) = rowH u1 (hT u) ++ [a] := by
    unfold rowH
    rw [p2, show hT u1 + 1 - hT u = (hT u1 - hT u) + 1 by omega, List.range_succ, List.map_append]
    congr 1
    · exact List.map_congr_left (fun i hi => p6 _ (by have := List.mem_range.mp hi; omega))
    · show [gN u' 12 (hT u + (hT u1 - hT u))] = [a]
      rw [show hT u + (hT u1 - hT u) = hT u1 by omega, p7]
  rw [e, hr]
def treeT (ν : Nat → Nat) (u : Sg) (r : Int × List Int) : Nat := mk (labT ν r).1 (labT ν r).2.1 (pmp (trT ν u) (labT ν r).1 (labT ν r).2.2)
/-- the answer is the node of a tree -/
def RvT (ν : Nat → Nat) (c D : Nat) (u : Sg) (t : Nat) (X : Nat → Prop) : Int → Sg → Prop := fun r u' => ∃ x : Nat, r = (x : Int) ∧ 0 < x ∧ x ≤ nT u' ∧ trT ν u' x = t ∧ UpT ν c u u' X ∧ WF FT u' ∧ Gr FT D u u'
theorem tX3_node {d : Nat} (hd : 6 ≤ d) {ν : Nat → Nat} {c : Nat} {u u1 : Sg} {k : Int} {vs : List Int} {X : Nat → Prop} (h : Hand ν c u u1 vs) (hk : okR (k, vs)) (hnn : ∀ v ∈ vs, 0 ≤ v) (hfm : ∀ p ∈ fptT (k, vs), p ≤ (nT u : Int)) (hb : k = 1 → ∀ v ∈ vs, v < 1000000) (hc1 : k = 2 → hd0 vs < c) (hlen : vs.length ≤ 1000) (hX : X (treeT ν u (k, vs))) (hl : LimT ν u X) (hs0 : ST ν c u) {D : Nat} (hD : DX3_node &&& D = DX3_node) (hgD : Gr FT D u u1) :
    wp (runT d 5 [k, (hT u : Int)] u1) (RvT ν c D u (treeT ν u (k, vs)) X) := by
  obtain ⟨hs, he, hh, hr, ho, hw, hg⟩ := h
  have hb1 := hl.n hs0
  have r := hs.r
  have en := he.n
  have ed := he.d
  have hrk : inR k := by have := hk.1; simp only at this; exact ⟨by omega, by omega⟩
  refine wp_mono (gX3_node hw hrk ⟨by omega, by omega⟩ (rX3_node hd (a := hT u) hs.1 (by omega) (by rw [hr]; exact hk) (by rw [hr]; exact hnn) (by rw [hr, en]; exact hfm) (by rw [hr]; exact hb) (by rw [en]; omega) (by rw [ed]; omega))) (fun r' u' ⟨⟨x, e, m, m2, m3, m4⟩, g, wf, _⟩ => ?_)
  rw [hr] at m
  have hm := mk_T (ν := ν) m
  have est := he.st ν
  have hok := okp_T (ν := ν) hs.1
  have hfl : ∀ p ∈ fpt (labT ν (k, vs)), p ≤ (stT ν u1).1 := fun p hp => by
    rw [fpt_labT hk] at hp
    obtain ⟨q, hq, rfl⟩ := List.mem_map.mp hp
    have := hfm q hq
    have := hnn q (fptT_sub hq)
    show q.toNat ≤ nT u1
    omega
  have htx : trT ν u' x = treeT ν u (k, vs) := by
    have ht := hm.tr hok hfl
    rw [est] at ht
    exact ht
  have hold : ∀ y, y ≤ nT u → trT ν u' y = trT ν u y := fun y hy => by
    have := tr_ext hok (okp_T m.1) hm.1 y (by show y ≤ nT u1; omega)
    rw [est] at this
    exact this
  have hst : ST ν c u' := by
    refine ⟨m.1, m.it6 hs.2.1, fun y y0 hy e1 => ?_, hs.2.2.2⟩
    by_cases hyn : y ≤ nT u1
    · have e2 := (m.2.2.2.2.1 y y0 hyn).1
      have e3 : gN u' 1 y = gN u1 1 y := congrArg (fun r => r.1) e2
      rw [e2]
      exact hs.2.2.1 y y0 hyn (by rw [← e3]; exact e1)
    · have hyx : y = x := by rcases m.2.2.2.2.2 with q | q <;> omega
      subst hyx
      have e3 : gN u' 1 y = k := congrArg (fun r => r.1) m.2.2.2.1
      rw [m.2.2.2.1]
      exact hc1 (by omega)
  refine ⟨x, e, m.2.1, m.2.2.1, htx, ⟨hst, by rw [← est]; exact hm.1, fun t ⟨y, y0, hy, et⟩ => ?_, m2, fun i hi => by rw [m4, ho i hi]⟩, wf, Gr.tr hgD (Gr.sub hD g)⟩
  by_cases hyn : y ≤ nT u
  · exact Or.inl ⟨y, y0, hyn, by rw [← hold y hyn]; exact et⟩
  · have hyx : y = x := by rcases m.2.2.2.2.2 with q | q <;> omega
    subst hyx
    rw [htx] at et
    rw [← et]; exact Or.inr hX
