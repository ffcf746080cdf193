/-! the model's small forms -/
theorem RvT.cl {ν : Nat → Nat} {c D : Nat} {u : Sg} {t : Nat} {X : Nat → Prop} {o : Option (Int × Sg)} (h : wp o (RvT ν c D u t X)) : wp (cl o fun v s => some (v, s)) (RvT ν c D u t X) :=
  wp_cl.mpr (wp_mono h (fun _ _ q => wp_some.mpr q))
theorem tX3_leaf {d : Nat} (hd : 7 ≤ d) {ν : Nat → Nat} {c : Nat} {u : Sg} {k v : Int} {X : Nat → Prop} (hw : WF FT u) (hs : ST ν c u) (hk : okR (k, [v])) (hv : 0 ≤ v) (hv2 : v < 2147483648) (hfm : ∀ p ∈ fptT (k, [v]), p ≤ (nT u : Int)) (hb : k = 1 → v < 1000000) (hc1 : k = 2 → v.toNat < c) (h5 : hT u ≤ 29000) (hX : X (treeT ν u (k, [v]))) (hl : LimT ν u X) :
    wp (runT d 27 [k, v] u) (RvT ν c DX3_leaf u (treeT ν u (k, [v])) X) := by
  obtain ⟨d, rfl⟩ : ∃ d', d = d' + 1 := ⟨d - 1, by omega⟩
  rw [runT_eq (by omega)]
  show wp (bX3_leaf (runT d) k v u) _
  unfold bX3_leaf
  rw [wp_un, hs.r.1]
  refine wp_call (tX3_give (by omega) (Hand.rf hs hw) ⟨by omega, by omega⟩ (by omega)) (fun _ u1 h1 => ?_)
  exact RvT.cl (tX3_node (by omega) h1 hk (fun w hw => by simp at hw; omega) hfm (fun q w hw => by simp at hw; rw [hw]; exact hb q) (fun q => by unfold hd0; simpa using hc1 q) (by simp) hX hl hs (by decide) (Gr.sub (by decide) h1.2.2.2.2.2.2))
theorem tX3_two {d : Nat} (hd : 7 ≤ d) {ν : Nat → Nat} {c : Nat} {u : Sg} {k v w : Int} {X : Nat → Prop} (hw : WF FT u) (hs : ST ν c u) (hk : okR (k, [v, w])) (hv : 0 ≤ v) (hv2 : v < 2147483648) (hw1 : 0 ≤ w) (hw2 : w < 2147483648) (hfm : ∀ p ∈ fptT (k, [v, w]), p ≤ (nT u : Int)) (h5 : hT u ≤ 29000) (hX : X (treeT ν u (k, [v, w]))) (hl : LimT ν u X) :
    wp (runT d 32 [k, v, w] u) (RvT ν c DX3_two u (treeT ν u (k, [v, w])) X) := by
  obtain ⟨d, rfl⟩ : ∃ d', d = d' + 1 := ⟨d - 1, by omega⟩
  rw [runT_eq (by omega)]
  show wp (bX3_two (runT d) k v w u) _
  unfold bX3_two
  have k1 : ¬ k = 1 := fun q => by have := hk.2.1 (Or.inl q); simp at this
  have k2 : ¬ k = 2 := fun q => by have := hk.2.1 (Or.inr q); simp at this
  rw [wp_un, hs.r.1]
  refine wp_call (tX3_give (by omega) (Hand.rf hs hw) ⟨by omega, by omega⟩ (by omega)) (fun _ u1 h1 => ?_)
  refine wp_call (tX3_give (by omega) h1 ⟨by omega, by omega⟩ (by have := h1.2.2.1; simp at this; omega)) (fun _ u2 h2 => ?_)
  exact RvT.cl (tX3_node (by omega) h2 hk (fun z hz => by simp at hz; omega) hfm (fun q => absurd q k1) (fun q => absurd q k2) (by simp) hX hl hs (by decide) (Gr.sub (by decide) h2.2.2.2.2.2.2))
theorem tX3_truth {d : Nat} (hd : 7 ≤ d) {ν : Nat → Nat} {c : Nat} {u : Sg} {X : Nat → Prop} (hw : WF FT u) (hs : ST ν c u) (hX : X yesT) (hl : LimT ν u X) :
    wp (runT d 34 [] u) (RvT ν c DX3_truth u yesT X) := by
  obtain ⟨d, rfl⟩ : ∃ d', d = d' + 1 := ⟨d - 1, by omega⟩
  rw [runT_eq (by omega)]
  show wp (bX3_truth (runT d) u) _
  unfold bX3_truth
  have et : treeT ν u (8, []) = yesT := rfl
  rw [wp_un, hs.r.1]
  have := tX3_node (d := d) (by omega) (k := 8) (X := X) (Hand.rf hs hw) ⟨by decide, by decide, by decide, by decide, by decide, by decide⟩ (fun w hw => by cases hw) (fun p hp => by have := fptT_sub hp; cases this) (fun q => by cases q) (fun q => by cases q) (by decide) (by rw [et]; exact hX) hl hs (D := DX3_truth) (by decide) Gr.rf
  rw [et] at this
  exact RvT.cl this
theorem tree_not (ν : Nat → Nat) (u : Sg) (x : Nat) : treeT ν u (15, [(x : Int)]) = mk 16 0 [trT ν u x] := by
  unfold treeT
  rw [show labT ν (15, [(x : Int)]) = (16, 0, [x]) from by unfold labT; simp [fsT, nk]]
  rfl
theorem tree_all (ν : Nat → Nat) (u : Sg) (x y : Nat) : treeT ν u (17, [(x : Int), (y : Int)]) = mk 18 0 [trT ν u x, trT ν u y] := by
  unfold treeT
  rw [show labT ν (17, [(x : Int), (y : Int)]) = (18, 0, [x, y]) from by unfold labT; simp [fsT, nk]]
  rfl
theorem tree_bound (ν : Nat → Nat) (u : Sg) (i : Nat) : treeT ν u (1, [(i : Int)]) = mk 2 i [] := by
  unfold treeT
  rw [show labT ν (1, [(i : Int)]) = (2, i, []) from by unfold labT; simp [hd0]]
  rfl
theorem tree_const (ν : Nat → Nat) (u : Sg) (i : Nat) : treeT ν u (2, [(i : Int)]) = if i < 2 then mk 3 i [] else mk 1 (ν i) [] := by
  unfold treeT
  by_cases h : i < 2
  · rw [show labT ν (2, [(i : Int)]) = (3, i, []) from by unfold labT; simp [hd0, h], if_pos h]
    rfl
  · rw [show labT ν (2, [(i : Int)]) = (1, ν i, []) from by unfold labT; simp [hd0, h], if_neg h]
    rfl
theorem tkT_eq {k : Nat} (h : tkT k = 15) : k = 16 := by unfold tkT at h; split at h <;> (try split at h) <;> (try split at h) <;> omega
theorem tkT_8 {k : Nat} (h : tkT k = 8) : k = 9 := by unfold tkT at h; split at h <;> (try split at h) <;> (try split at h) <;> omega
/-- a node's kind, for a load -/
theorem ST.k {ν : Nat → Nat} {c : Nat} {u : Sg} (hs : ST ν c u) {x : Nat} (hx : x ≤ nT u) : x < gL u 1 := by
  have := hs.1.1.1.2
  omega
theorem tX3_not {d : Nat} (hd : 8 ≤ d) {ν : Nat → Nat} {c : Nat} {u : Sg} {x : Nat} {X : Nat → Prop} (hw : WF FT u) (hs : ST ν c u) (x0 : 0 < x) (hx : x ≤ nT u) (h5 : hT u ≤ 29000) (hwf : kd (trT ν u x) = 16 → ∃ f, ps (trT ν u x) = [f] ∧ 0 < f) (hX : X (notT (trT ν u x))) (hl : LimT ν u X) :
    wp (runT d 36 [(x : Int)] u) (RvT ν c DX3_not u (notT (trT ν u x)) X) := by
  obtain ⟨d, rfl⟩ : ∃ d', d = d' + 1 := ⟨d - 1, by omega⟩
  rw [runT_eq (by omega)]
  show wp (bX3_not (runT d) x u) _
  unfold bX3_not
  have hn := nodeT hs x0 hx
  have hb := hl.n hs
  rw [ld_nat (hs.k hx)]
  refine wp_ite (fun h => ?_) (fun h => ?_)
  · have h16 : kd (trT ν u x) = 16 := tkT_eq (by rw [← hn.1]; exact h)
    obtain ⟨f, hf, hf0⟩ := hwf h16
    have hw0 : nw (kd (trT ν u x)) = 0 := by rw [h16]; decide
    have hp := partT (i := 0) (t := f) hs x0 hx (by rw [hf]; rfl)
    have hg := getT (d := d) (by omega) (i := 0) hs x0 hx (by rw [hf]; simp only [List.length_cons, List.length_nil]; omega)
    rw [hw0] at hp
    obtain ⟨p1, p2⟩ := hp.2.1 (Or.inr rfl)
    have hp1 : 0 ≤ dt u x 0 := hp.1
    have p1 : (dt u x 0).toNat < x := p1
    refine wp_eq hg ?_
    rw [wp_some]
    have en : notT (trT ν u x) = f := by unfold notT; rw [if_pos h16, hf]; rfl
    refine ⟨(dt u x 0).toNat, by show dt u x 0 = _; exact (Int.toNat_of_nonneg hp1).symm, ?_, Nat.le_trans (Nat.le_of_lt p1) hx, by rw [en]; exact p2, UpT.rf hs, hw, Gr.rf⟩
    rcases Nat.eq_zero_or_pos (dt u x 0).toNat with q | q
    · have p2 : trT ν u (dt u x 0).toNat = f := p2
      rw [q] at p2
      have : trT ν u 0 = 0 := rfl
      omega
    · exact q
  · have h16 : ¬ kd (trT ν u x) = 16 := fun q => h (by rw [hn.1, q]; decide)
    have en : notT (trT ν u x) = mk 16 0 [trT ν u x] := by unfold notT; rw [if_neg h16]
    have e := tree_not ν u x
    have hlf := tX3_leaf (d := d) (k := 15) (v := (x : Int)) (X := X) (by omega) hw hs (by simp [okR]) (by omega) (by omega) (fun p hp => by have := fptT_sub hp; simp at this; omega) (fun q => by cases q) (fun q => by cases q) h5 (by rw [e, ← en]; exact hX) hl
    rw [e, ← en] at hlf
    refine wp_mono (RvT.cl hlf) (fun r u' ⟨y, q1, q2, q3, q4, q5, q6, q7⟩ => ⟨y, q1, q2, q3, q4, q5, q6, Gr.sub (by decide) q7⟩)
