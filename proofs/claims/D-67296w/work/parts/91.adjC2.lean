theorem up_ex {W : Wd} {N : Nat → Prop} (hW : WOK W N) {y : Nat} (hy : clty W N y) (P : Nat → Prop) : (∃ z ∈ upT W y, P z) ↔ P y ∨ (wh y ≠ 0 ∧ ∃ z ∈ upT W (paT W y), P z) := by
  rw [up_eq hW hy]
  by_cases h0 : wh y = 0
  · rw [if_pos h0]
    constructor
    · rintro ⟨z, hz, h⟩
      rw [List.mem_singleton.mp hz] at h; exact Or.inl h
    · rintro (h | ⟨h, _⟩)
      · exact ⟨y, List.mem_cons_self, h⟩
      · exact absurd h0 h
  · rw [if_neg h0]
    constructor
    · rintro ⟨z, hz, h⟩
      rcases List.mem_cons.mp hz with q | q
      · rw [q] at h; exact Or.inl h
      · exact Or.inr ⟨h0, z, q, h⟩
    · rintro (h | ⟨_, z, hz, h⟩)
      · exact ⟨y, List.mem_cons_self, h⟩
      · exact ⟨z, List.mem_cons_of_mem _ hz, h⟩
theorem rX1_adjsOf {d : Nat} (hd : 2 ≤ d) {ν : Nat → Nat} {c : Nat} {u : Sg} (hs : SC ν c u) {x : Nat} (x0 : 0 < x) (hx : x < nC u) (h1 : 1 ≤ (ps (trC ν u x)).length) (hl : (ps (trC ν u x)).length ≤ 60000) : runC (d + 1) 83 [(x : Int)] u = some (((adjT (trC ν u x)).length : Int), u) := by
  rw [runC_eq (by omega)]
  show bX1_adjectivesOf (runC d) x u = _
  unfold bX1_adjectivesOf
  have hn := nodeC hs x0 hx
  have hl3 : gL u 3 = gL u 0 := hs.1.1.2.2.2.1.2.2.1
  have e : (adjT (trC ν u x)).length = (ps (trC ν u x)).length - 1 := by unfold adjT; rw [List.length_drop]
  rw [ld_nat (by omega), hn.2.2.1, ar_pos ⟨by omega, by omega⟩, e]
  rw [show ((ps (trC ν u x)).length : Int) - 1 = (((ps (trC ν u x)).length - 1 : Nat) : Int) by omega]
theorem KF_300 : 300000 < KF := by decide
theorem hasAdj_L2 {d : Nat} (hd : 3 ≤ d) {ν : Nat → Nat} {c : Nat} {u : Sg} (hs : SC ν c u) {x : Nat} (x0 : 0 < x) (hx : x < nC u) (h8 : kd (trC ν u x) = 8) (hl : (ps (trC ν u x)).length ≤ 300000) {j : Nat} {x36 x28 : Sg → Option (Int × Sg)} : ∀ (m i f : Nat), i + m = (ps (trC ν u x)).length → m < f → 1 ≤ i → (j ∈ (ps (trC ν u x)).drop i → bX1_hasAdjective_L2 (runC d) f (x : Int) (j : Int) (i : Int) u x36 x28 = x28 u) ∧ (j ∉ (ps (trC ν u x)).drop i → bX1_hasAdjective_L2 (runC d) f (x : Int) (j : Int) (i : Int) u x36 x28 = x36 u) := by
  have hn := nodeC hs x0 hx
  have hl3 : gL u 3 = gL u 0 := hs.1.1.2.2.2.1.2.2.1
  intro m
  induction m with
  | zero =>
    intro i f hi hf h1
    obtain ⟨f, rfl⟩ : ∃ f', f = f' + 1 := ⟨f - 1, by omega⟩
    rw [List.drop_of_length_le (by omega), bX1_hasAdjective_L2, ld_nat (by omega), hn.2.2.1, if_neg (by omega)]
    exact ⟨(fun q => by cases q), fun _ => rfl⟩
  | succ m ih =>
    intro i f hi hf h1
    obtain ⟨f, rfl⟩ : ∃ f', f = f' + 1 := ⟨f - 1, by omega⟩
    have hil : i < (ps (trC ν u x)).length := by omega
    rw [drop_pa hil, bX1_hasAdjective_L2, ld_nat (by omega), hn.2.2.1, if_pos (by omega), cl_eq (adjN hd hs x0 hx h8 hil h1)]
    by_cases he : ((pa (trC ν u x) i : Nat) : Int) = (j : Int)
    · rw [if_pos he]
      refine ⟨fun _ => rfl, fun q => absurd ?_ q⟩
      rw [show j = pa (trC ν u x) i by omega]; exact List.mem_cons_self
    · rw [if_neg he, ar_pos ⟨by omega, by omega⟩, show (i : Int) + 1 = ((i + 1 : Nat) : Int) by omega]
      have := ih (i + 1) f (by omega) (by omega) (by omega)
      refine ⟨fun q => this.1 ?_, fun q => this.2 (fun z => q (List.mem_cons_of_mem _ z))⟩
      rcases List.mem_cons.mp q with z | z
      · exact absurd (by rw [z]) he
      · exact z
theorem rX1_hasAdj {d : Nat} (hd : 4 ≤ d) {ν : Nat → Nat} {c : Nat} {u : Sg} (hs : SC ν c u) {x : Nat} (x0 : 0 < x) (hx : x < nC u) (h8 : kd (trC ν u x) = 8) (h1 : 1 ≤ (ps (trC ν u x)).length) (hl : (ps (trC ν u x)).length ≤ 300000) (j : Nat) : (j ∈ adjT (trC ν u x) → runC d 89 [(x : Int), (j : Int)] u = some (1, u)) ∧ (j ∉ adjT (trC ν u x) → runC d 89 [(x : Int), (j : Int)] u = some (0, u)) := by
  obtain ⟨d, rfl⟩ : ∃ d', d = d' + 1 := ⟨d - 1, by omega⟩
  rw [runC_eq (by omega)]
  exact hasAdj_L2 (x36 := fun s1 => some (0, s1)) (x28 := fun s2 => some (1, s2)) (by omega) hs x0 hx h8 hl ((ps (trC ν u x)).length - 1) 1 KF (by omega) (Nat.lt_of_le_of_lt (by omega : _ ≤ 300000) KF_300) (Nat.le_refl _)
theorem within_L2 {d : Nat} (hd : 4 ≤ d) {ν : Nat → Nat} {c : Nat} {u : Sg} (hs : SC ν c u) {x z : Nat} (x0 : 0 < x) (hx : x < nC u) (h8 : kd (trC ν u x) = 8) (hl : (ps (trC ν u x)).length ≤ 300000) (z0 : 0 < z) (hz : z < nC u) (hz8 : kd (trC ν u z) = 8) (hz1 : 1 ≤ (ps (trC ν u z)).length) (hzl : (ps (trC ν u z)).length ≤ 300000) {x40 x32 : Sg → Option (Int × Sg)} : ∀ (m i f : Nat), i + m = (ps (trC ν u x)).length → m < f → 1 ≤ i → ((∀ j ∈ (ps (trC ν u x)).drop i, j ∈ adjT (trC ν u z)) → bX1_within_L2 (runC d) f (x : Int) (z : Int) (i : Int) u x40 x32 = x40 u) ∧ (¬ (∀ j ∈ (ps (trC ν u x)).drop i, j ∈ adjT (trC ν u z)) → bX1_within_L2 (runC d) f (x : Int) (z : Int) (i : Int) u x40 x32 = x32 u) := by
  have hn := nodeC hs x0 hx
  have hl3 : gL u 3 = gL u 0 := hs.1.1.2.2.2.1.2.2.1
  intro m
  induction m with
  | zero =>
    intro i f hi hf h1
    obtain ⟨f, rfl⟩ : ∃ f', f = f' + 1 := ⟨f - 1, by omega⟩
    rw [List.drop_of_length_le (by omega), bX1_within_L2, ld_nat (by omega), hn.2.2.1, if_neg (by omega)]
    exact ⟨fun _ => rfl, fun q => absurd (fun j hj => by cases hj) q⟩
  | succ m ih =>
    intro i f hi hf h1
    obtain ⟨f, rfl⟩ : ∃ f', f = f' + 1 := ⟨f - 1, by omega⟩
    have hil : i < (ps (trC ν u x)).length := by omega
    rw [drop_pa hil, bX1_within_L2, ld_nat (by omega), hn.2.2.1, if_pos (by omega), cl_eq (adjN (by omega) hs x0 hx h8 hil h1)]
    obtain ⟨a1, a2⟩ := rX1_hasAdj hd hs z0 hz hz8 hz1 hzl (pa (trC ν u x) i)
    by_cases he : pa (trC ν u x) i ∈ adjT (trC ν u z)
    · rw [cl_eq (a1 he), if_neg (by decide), ar_pos ⟨by omega, by omega⟩, show (i : Int) + 1 = ((i + 1 : Nat) : Int) by omega]
      have := ih (i + 1) f (by omega) (by omega) (by omega)
      refine ⟨fun q => this.1 (fun j hj => q j (List.mem_cons_of_mem _ hj)), fun q => this.2 (fun w => q (fun j hj => ?_))⟩
      rcases List.mem_cons.mp hj with y | y
      · rw [y]; exact he
      · exact w j y
    · rw [cl_eq (a2 he), if_pos rfl]
      exact ⟨fun q => absurd (q _ List.mem_cons_self) he, fun _ => rfl⟩
theorem rX1_within {d : Nat} (hd : 5 ≤ d) {ν : Nat → Nat} {c : Nat} {u : Sg} (hs : SC ν c u) {x z : Nat} (x0 : 0 < x) (hx : x < nC u) (h8 : kd (trC ν u x) = 8) (h1 : 1 ≤ (ps (trC ν u x)).length) (hl : (ps (trC ν u x)).length ≤ 300000) (z0 : 0 < z) (hz : z < nC u) (hz8 : kd (trC ν u z) = 8) (hz1 : 1 ≤ (ps (trC ν u z)).length) (hzl : (ps (trC ν u z)).length ≤ 300000) : ((∀ j ∈ adjT (trC ν u x), j ∈ adjT (trC ν u z)) → runC d 88 [(x : Int), (z : Int)] u = some (1, u)) ∧ (¬ (∀ j ∈ adjT (trC ν u x), j ∈ adjT (trC ν u z)) → runC d 88 [(x : Int), (z : Int)] u = some (0, u)) := by
  obtain ⟨d, rfl⟩ : ∃ d', d = d' + 1 := ⟨d - 1, by omega⟩
  rw [runC_eq (by omega)]
  exact within_L2 (x40 := fun s1 => some (1, s1)) (x32 := fun s2 => some (0, s2)) (by omega) hs x0 hx h8 hl z0 hz hz8 hz1 hzl ((ps (trC ν u x)).length - 1) 1 KF (by omega) (Nat.lt_of_le_of_lt (by omega : _ ≤ 300000) KF_300) (Nat.le_refl _)
def adX1 (W : Wd) (X : Nat → Prop) (y : Nat) : Prop := ∀ z ∈ upT W y, paX W X z ∧ (pa z 0 ≠ 0 → tyX W X (pa z 0) ∧ ∀ z' ∈ upT W (tyT W (pa z 0)), paX W X z')
theorem ofMode_L10 {d : Nat} (hd : 250 ≤ d) {ν : Nat → Nat} {c : Nat} {W : Wd} {u : Sg} {g of : Nat} {X : Nat → Prop} (hc : CW ν c W u) (hW : WOK W (Nm ν c)) (hG : WGK W (Nm ν c)) (hg : g < wnG W) (hs0 : wgS W g = 0) (of0 : 0 < of) (hof : of < nC u) (eof : trC ν u of = wgO W g) (hr : rC u ≤ 28000) (hl : Lim ν u X) : ∀ (n f : Nat) (u1 : Sg) (y : Nat), wh (trC ν u1 y) < n → n < f → Up ν c u u1 X → WF FC u1 → Gr FC DX1_ofMode u u1 → 0 < y → y < nC u1 → clty W (Nm ν c) (trC ν u1 y) → adX1 W X (trC ν u1 y) → wp (bX1_ofMode_L10 (runC d) f (g : Int) (of : Int) (y : Int) u1 (fun s2 => some (0, s2)) (fun v4 s3 => cl (runC d 30 [v4] s3) fun v5 s6 => if v5 = 0 then (some (1, s6)) else (some (0, s6))) (fun s7 => some (1, s7))) (RbC ν c DX1_ofMode u X (ofM W (trC ν u1 y) g)) := by
  have hgk := (hG.2 g hg).2.1 hs0
  obtain ⟨k1, k2, k3, k4, k5⟩ := hgk
  have hof8 : kd (trC ν u of) = 8 := by rw [eof]; exact k2
  have hofl : 1 ≤ (ps (trC ν u of)).length := by
    rw [eof]
    rcases k1.1.1.n.2 with q | q | q | q | q | q | q | q | q | q | q | q | q | q <;> try omega
    obtain ⟨_, a, js, q, _⟩ := q
    rw [q]; simp
  intro n
  induction n with
  | zero => intro f u1 y h; omega
  | succ n ih =>
    intro f u1 y hwh hf hU hw1 hgr y0 hy hty hX
    obtain ⟨f, rfl⟩ : ∃ f', f = f' + 1 := ⟨f - 1, by omega⟩
    have hs := hc.1
    have hs1 := hU.sc
    have hn := nodeC hs1 y0 hy
    have hna := hU.ux.n hs
    have ho1 : trC ν u1 of = wgO W g := by rw [hU.ux.tr hs hof]; exact eof
    have hno' := nodeC hs1 of0 (by omega)
    have h8 := hty.2.1
    obtain ⟨⟨q1, q2, q3⟩, ⟨q4, q5⟩, ⟨q6, q7⟩, ⟨l1, l2, l3, l4, l5, l6⟩, l8, l11, l0, l7⟩ := id hs1.1.1
    have hc1 := hc.up hU.ux hgr (by decide +kernel)
    have hr1 : rC u1 = rC u := hU.2.2.2.2.2.1
    have hl1 := hU.ux.lim hl
    have hself : trC ν u1 y ∈ upT W (trC ν u1 y) := by rw [up_eq hW hty]; exact List.mem_cons_self
    have heq := up_ex hW hty (fun z => wh z = wh (wgO W g) ∧ (pa (wgO W g) 0 = 0 ∨ (pa z 0 ≠ 0 ∧ hasT W (tyT W (pa z 0)) (wh (wgA W g)) (pa (wgA W g) 0))))
    -- on to the parent, from a state further on
    have hno : ∀ (u2 : Sg), Up ν c u u2 X → WF FC u2 → Gr FC DX1_ofMode u u2 → y < nC u2 → trC ν u2 y = trC ν u1 y → ¬ (wh (trC ν u1 y) = wh (wgO W g) ∧ (pa (wgO W g) 0 = 0 ∨ (pa (trC ν u1 y) 0 ≠ 0 ∧ hasT W (tyT W (pa (trC ν u1 y) 0)) (wh (wgA W g)) (pa (wgA W g) 0)))) → wp (cl (runC d 51 [(y : Int)] u2) fun v3 s4 => bX1_ofMode_L10 (runC d) f (g : Int) (of : Int) v3 s4 (fun s2 => some (0, s2)) (fun v4 s3 => cl (runC d 30 [v4] s3) fun v5 s6 => if v5 = 0 then (some (1, s6)) else (some (0, s6))) (fun s7 => some (1, s7))) (RbC ν c DX1_ofMode u X (ofM W (trC ν u1 y) g)) := fun u2 hU2 hw2 hg2 hy2 et2 hne => by
      have hs2 := hU2.sc
      by_cases h0 : wh (trC ν u1 y) = 0
      · refine wp_eq (rX1_parent0 (by omega) hs2 y0 hy2 (by rw [et2]; exact h8) (by rw [et2]; exact h0)) ?_
        obtain ⟨f, rfl⟩ : ∃ f', f = f' + 1 := ⟨f - 1, by omega⟩
        rw [bX1_ofMode_L10, if_pos rfl, wp_some]
        refine ⟨Or.inr ⟨rfl, fun q => ?_⟩, hU2, hw2, hg2⟩
        rcases heq.mp q with z | z
        · exact hne z
        · exact z.1 h0
      · obtain ⟨p1, p2⟩ := pa_ok hW hty h0
        have hc2 := hc.up hU2.ux hg2 (by decide +kernel)
        have hr2 : rC u2 = rC u := hU2.2.2.2.2.2.1
        refine wp_call (tX1_parent (by omega) hw2 hc2 hW y0 hy2 (by rw [et2]; exact hty) (by rw [et2]; exact h0) (by omega) (by rw [et2]; exact (hX _ hself).1) (hU2.ux.lim hl)) (fun r u3 ⟨z, z1, z2, z3, z4, z5, z6, z7⟩ => ?_)
        subst z1
        rw [et2] at z4
        rw [← z4] at p1 p2
        refine wp_mono (ih f u3 z (by omega) (by omega) (hU2.join z5) z6 (hg2.tr (z7.sub (by decide +kernel))) z2 z3 p1 (fun s hs' => hX s (by rw [up_eq hW hty, if_neg h0, ← z4]; exact List.mem_cons_of_mem _ hs'))) (fun r u4 h => ?_)
        rw [z4] at h
        refine ⟨h.1.imp (fun q => ⟨q.1, heq.mpr (Or.inr ⟨h0, q.2⟩)⟩) (fun q => ⟨q.1, fun w => ?_⟩), h.2⟩
        rcases heq.mp w with z | z
        · exact hne z
        · exact q.2 z.2
    rw [ho1] at hno'
    rw [bX1_ofMode_L10, if_neg (by omega), wp_jn, ld_nat (by omega), hn.2.1 (by omega), ld_nat (by omega), hno'.2.1 (by omega)]
    refine wp_ite (fun hm => ?_) (fun hm => hno u1 hU hw1 hgr hy rfl (fun q => hm (by omega)))
    have hmm : wh (trC ν u1 y) = wh (wgO W g) := by omega
    obtain ⟨b, b1, b2, b3⟩ := rX1_argOf (d := d) (by omega) hs1 of0 (by omega) (by rw [ho1, ← eof]; exact hofl)
    rw [ho1] at b3
    obtain ⟨a, a1, a2, a3⟩ := rX1_argOf (d := d) (by omega) hs1 y0 hy (type_part hty).1
    refine wp_eq b1 ?_
    have harg := (hty.1.lc.2.2.1 h8).2.1
    have hargO := (k1.1.lc.2.2.1 k2).2.1
    refine wp_ite (fun hb => ?_) (fun hb => ?_)
    · have hp0 : pa (wgO W g) 0 = 0 := by rw [← b3, show b = 0 by omega]; rfl
      have hy0 : pa (trC ν u1 y) 0 = 0 := harg.mpr (by rw [hmm]; exact hargO.mp hp0)
      have ha0 : a = 0 := by
        rcases Nat.eq_zero_or_pos a with q | q
        · exact q
        · have : 0 < trC ν u1 a := tr_pos (okp_C (ν := ν) hs1.1) q (by show a ≤ nC u1 - 1; omega)
          omega
      refine wp_eq a1 ?_
      rw [if_pos (by omega), wp_some]
      exact ⟨Or.inl ⟨rfl, heq.mpr (Or.inl ⟨hmm, Or.inl hp0⟩)⟩, hU, hw1, hgr⟩
    · have hb0 : 0 < b := by omega
      have hp0 : pa (wgO W g) 0 ≠ 0 := by
        have : 0 < trC ν u1 b := tr_pos (okp_C (ν := ν) hs1.1) hb0 (by show b ≤ nC u1 - 1; omega)
        omega
      have hy0 : pa (trC ν u1 y) 0 ≠ 0 := fun q => hp0 (hargO.mpr (by rw [← hmm]; exact harg.mp q))
      have ha0 : 0 < a := by
        rcases Nat.eq_zero_or_pos a with q | q
        · exact absurd (by rw [← a3, q]; rfl) hy0
        · exact q
      have hAne : wgA W g ≠ 0 := fun q => hp0 (k3.mpr q)
      have hAc := k4 hAne
      refine wp_eq a1 ?_
      rw [if_neg (by omega)]
      refine wp_eq a1 ?_
      have hca := ((type_part hty).2 hy0).1
      have hXa := (hX _ hself).2 hy0
      refine wp_call (tX1_typeOf (d := d) (x := a) (X := X) (by omega) hw1 hc1 hW ha0 (by omega) (by rw [a3]; exact hca) (by omega) (by rw [a3]; exact hXa.1) hl1) (fun r u2 ⟨z, z1, z2, z3, z4, z5, z6, z7⟩ => ?_)
      subst z1
      rw [a3] at z4
      have hU2 := hU.join z5
      have hg2 : Gr FC DX1_ofMode u u2 := hgr.tr (z7.sub (by decide +kernel))
      have hc2 := hc.up hU2.ux hg2 (by decide +kernel)
      have hs2 := hU2.sc
      have hr2 : rC u2 = rC u := hU2.2.2.2.2.2.1
      obtain ⟨gg1, gg2, ⟨gg3, gg4, gg5, gg6, gg7⟩, gg8⟩ := hc2.2.2.2.2.2.2
      obtain ⟨lg, w1, w0, w2, w3⟩ := ((gg8 g hg).2.2.2.1).pos hAne
      have hnl := nodeC hs2 w0 w2
      rw [w3] at hnl
      have l1' : gL u2 1 = gL u2 0 := hs2.1.1.2.2.2.1.1
      rw [ld_nat (by omega), w1, ld_nat (by omega), hnl.2.1 (by have := hAc.2.1; omega), ld_nat (by omega), w1]
      obtain ⟨e, e1, e2, e3⟩ := rX1_argOf (d := d) (by omega) hs2 w0 w2 (by rw [w3]; exact (type_part hAc).1)
      rw [w3] at e3
      refine wp_eq e1 ?_
      have hty2 := ty_ok hW hca
      refine wp_call (tX1_hasMode (d := d) (y := z) (m := wh (wgA W g)) (a := e) (X := X) (by omega) z6 hc2 hW z2 z3 (by rw [z4]; exact hty2) (by omega) (by omega) (by rw [z4]; exact hXa.2) (hU2.ux.lim hl)) (fun r u3 ⟨v1, v2, v3, v4⟩ => ?_)
      rw [z4, e3] at v1
      have hU3 := hU2.join v2
      have hg3 : Gr FC DX1_ofMode u u3 := hg2.tr (v4.sub (by decide +kernel))
      refine wp_ite (fun h0 => ?_) (fun h0 => ?_)
      · refine hno u3 hU3 v3 hg3 ?_ ?_ (fun q => ?_)
        · have := z5.ux.n hs1
          have := v2.ux.n hs2
          omega
        · have := z5.ux.n hs1
          rw [v2.ux.tr hs2 (by omega), z5.ux.tr hs1 hy]
        · rcases v1 with w | w
          · omega
          · rcases q.2 with s | s
            · exact hp0 s
            · exact w.2 s.2
      · rw [wp_some]
        refine ⟨Or.inl ⟨rfl, heq.mpr (Or.inl ⟨hmm, Or.inr ⟨hy0, ?_⟩⟩)⟩, hU3, v3, hg3⟩
        rcases v1 with w | w
        · exact w.2
        · exact absurd w.1 h0
theorem tX1_ofMode {d : Nat} (hd : 251 ≤ d) {ν : Nat → Nat} {c : Nat} {W : Wd} {u : Sg} {g y : Nat} {X : Nat → Prop} (hw : WF FC u) (hc : CW ν c W u) (hW : WOK W (Nm ν c)) (hG : WGK W (Nm ν c)) (hg : g < wnG W) (hs0 : wgS W g = 0) (y0 : 0 < y) (hy : y < nC u) (ht : clty W (Nm ν c) (trC ν u y)) (hr : rC u ≤ 28000) (hX : adX1 W X (trC ν u y)) (hl : Lim ν u X) :
    wp (runC d 87 [(y : Int), (g : Int)] u) (RbC ν c DX1_ofMode u X (ofM W (trC ν u y) g)) := by
  obtain ⟨d, rfl⟩ : ∃ d', d = d' + 1 := ⟨d - 1, by omega⟩
  rw [runC_eq (by omega)]
  show wp (bX1_ofMode (runC d) y g u) _
  unfold bX1_ofMode
  obtain ⟨gg1, gg2, ⟨gg3, gg4, gg5, gg6, gg7⟩, gg8⟩ := hc.2.2.2.2.2.2
  have hgk := (hG.2 g hg).2.1 hs0
  obtain ⟨of, w1, w0, w2, w3⟩ := ((gg8 g hg).2.1 hs0).pos (gvn_ht hgk.1).2
  have hwm := (ht.1.lc.2.2.1 ht.2.1).1
  have h20 := hc.2.2.2.1.2.1.2
  rw [ld_nat (by omega), w1]
  exact ofMode_L10 (by omega) hc hW hG hg hs0 w0 w2 w3 hr hl (wh (trC ν u y) + 1) KF u y (by omega) (Nat.lt_of_le_of_lt (by omega : _ ≤ 65536) KF_gt) (Up.rf hc.1) hw Gr.rf y0 hy ht hX
