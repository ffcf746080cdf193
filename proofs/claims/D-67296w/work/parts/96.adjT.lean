/-! the model's adjectives: sets as bits -/
def bitP (v : Int) (P : Nat → Prop) : Prop := inR v ∧ ∀ j, j < 32 → (bt v j = true ↔ P j)
theorem bitP.or {a b : Int} {P P' : Nat → Prop} (ha : bitP a P) (hb : bitP b P') : bitP (o_or a b) (fun j => P j ∨ P' j) := by
  refine ⟨o_rng _, fun j hj => ?_⟩
  rw [bt_or, Bool.or_eq_true, ha.2 j hj, hb.2 j hj]
theorem bitP.eqv {a : Int} {P P' : Nat → Prop} (ha : bitP a P) (h : ∀ j, j < 32 → (P j ↔ P' j)) : bitP a P' := ⟨ha.1, fun j hj => (ha.2 j hj).trans (h j hj)⟩
theorem bitP_0 : bitP 0 (fun _ => False) := ⟨by decide, fun j hj => by rw [bt_zero hj]; simp⟩
theorem bitP_1 {i : Nat} (hi : i < 31) : bitP (o_shl 1 (i : Int)) (fun j => j = i) := ⟨o_rng _, fun j hj => by rw [bt_one hi hj]; simp⟩
/-- all of one set are in the other -/
theorem bitP.sub {a b : Int} {P P' : Nat → Prop} (ha : bitP a P) (hb : bitP b P') : o_and a (o_xor b (-1)) = 0 ↔ ∀ j, j < 32 → P j → P' j := by
  constructor
  · intro h j hj hp
    have h1 : bt (o_and a (o_xor b (-1))) j = false := by rw [h]; exact bt_zero hj
    rw [bt_and, bt_not b hj, (ha.2 j hj).mpr hp] at h1
    simp at h1
    exact (hb.2 j hj).mp h1
  · intro h
    refine bt_ext (o_rng _) (by decide) (fun j hj => ?_)
    rw [bt_zero hj, bt_and, bt_not b hj]
    cases e : bt a j with
    | false => rfl
    | true =>
      have := (hb.2 j hj).mpr (h j hj ((ha.2 j hj).mp e))
      rw [this]; rfl
theorem bitP.orid {a b : Int} {P P' : Nat → Prop} (ha : bitP a P) (hb : bitP b P') : o_or a b = a ↔ ∀ j, j < 32 → P' j → P j := by
  constructor
  · intro h j hj hp
    have h1 : bt (o_or a b) j = bt a j := by rw [h]
    rw [bt_or, (hb.2 j hj).mpr hp] at h1
    simp at h1
    exact (ha.2 j hj).mp h1
  · intro h
    refine bt_ext (o_rng _) ha.1 (fun j hj => ?_)
    rw [bt_or]
    cases e : bt b j with
    | false => simp
    | true =>
      have := (ha.2 j hj).mpr (h j hj ((hb.2 j hj).mp e))
      rw [this]; rfl
theorem bitP.zero {a : Int} {P : Nat → Prop} (ha : bitP a P) : a = 0 ↔ ∀ j, j < 32 → ¬ P j := by
  constructor
  · intro h j hj hp
    have := (ha.2 j hj).mpr hp
    rw [h, bt_zero hj] at this
    cases this
  · intro h
    refine bt_ext ha.1 (by decide) (fun j hj => ?_)
    rw [bt_zero hj]
    cases e : bt a j with
    | false => rfl
    | true => exact absurd ((ha.2 j hj).mp e) (h j hj)
/-- a number of a type node -/
theorem adjNT {ν : Nat → Nat} {c : Nat} {u : Sg} {d : Nat} (hd : 3 ≤ d) (hs : ST ν c u) {x i : Nat} (x0 : 0 < x) (hx : x ≤ nT u) (h8 : kd (trT ν u x) = 8) (hi : i < (ps (trT ν u x)).length) (h1 : 1 ≤ i) : runT d 7 [(x : Int), ((i + 1 : Nat) : Int)] u = some (((pa (trT ν u x) i : Nat) : Int), u) := by
  have nw1 : nw (kd (trT ν u x)) = 1 := by rw [h8]; decide
  have h := getT (d := d) (i := i + 1) hd hs x0 hx (by omega)
  have hp := partT hs x0 hx (pa_get hi)
  rw [nw1] at hp
  rw [h]
  have := hp.2.2 h8 (by omega)
  have h0 := hp.1
  rw [show dt u x (i + 1) = ((pa (trT ν u x) i : Nat) : Int) by omega]
theorem setOf_L4 {d : Nat} (hd : 3 ≤ d) {ν : Nat → Nat} {c : Nat} {u : Sg} (hs : ST ν c u) {x : Nat} (x0 : 0 < x) (hx : x ≤ nT u) (h8 : kd (trT ν u x) = 8) (hadj : ∀ j ∈ adjT (trT ν u x), j < 30) (hlen : (ps (trT ν u x)).length ≤ 60000) : ∀ (m i f : Nat) (v : Int) (P : Nat → Prop), i + m = (ps (trT ν u x)).length → m < f → 1 ≤ i → bitP v P → ∃ v', bX3_setOf_L4 (runT d) f (x : Int) v ((i + 1 : Nat) : Int) u (fun v2 s1 => some (v2, s1)) = some (v', u) ∧ bitP v' (fun j => P j ∨ j ∈ (ps (trT ν u x)).drop i) := by
  have hn := nodeT hs x0 hx
  have nw1 : nw (kd (trT ν u x)) = 1 := by rw [h8]; decide
  have hl3 : x < gL u 3 := by rw [hs.1.1.2.2.2.1.2.1]; exact hs.k hx
  intro m
  induction m with
  | zero =>
    intro i f v P hi hf h1 hv
    obtain ⟨f, rfl⟩ : ∃ f', f = f' + 1 := ⟨f - 1, by omega⟩
    refine ⟨v, ?_, ?_⟩
    · rw [bX3_setOf_L4, ld_nat hl3, hn.2.1, if_neg (by omega)]
    · rw [List.drop_of_length_le (by omega)]
      exact hv.eqv (fun j _ => ⟨Or.inl, fun q => q.elim id (fun z => by cases z)⟩)
  | succ m ih =>
    intro i f v P hi hf h1 hv
    obtain ⟨f, rfl⟩ : ∃ f', f = f' + 1 := ⟨f - 1, by omega⟩
    have hil : i < (ps (trT ν u x)).length := by omega
    have hj := hadj _ (drop_adj hil h1)
    obtain ⟨v', e, hb⟩ := ih (i + 1) f (o_or v (o_shl 1 ((pa (trT ν u x) i : Nat) : Int))) _ (by omega) (by omega) (by omega) (hv.or (bitP_1 (by omega)))
    refine ⟨v', ?_, ?_⟩
    · rw [bX3_setOf_L4, ld_nat hl3, hn.2.1, if_pos (by omega), cl_eq (adjNT hd hs x0 hx h8 hil h1), un_eq, un_eq, ar_pos ⟨by omega, by omega⟩]
      exact e
    · rw [drop_pa hil]
      refine hb.eqv (fun j _ => ?_)
      rw [List.mem_cons]
      constructor
      · rintro ((q | q) | q)
        · exact Or.inl q
        · exact Or.inr (Or.inl q)
        · exact Or.inr (Or.inr q)
      · rintro (q | q | q)
        · exact Or.inl (Or.inl q)
        · exact Or.inl (Or.inr q)
        · exact Or.inr q
theorem rX3_setOf {d : Nat} (hd : 4 ≤ d) {ν : Nat → Nat} {c : Nat} {u : Sg} (hs : ST ν c u) {x : Nat} (x0 : 0 < x) (hx : x ≤ nT u) (ho : okT (trT ν u x)) (h8 : kd (trT ν u x) = 8) (hadj : ∀ j ∈ adjT (trT ν u x), j < 30) : ∃ v, runT d 90 [(x : Int)] u = some (v, u) ∧ bitP v (fun j => j ∈ adjT (trT ν u x)) := by
  obtain ⟨d, rfl⟩ : ∃ d', d = d' + 1 := ⟨d - 1, by omega⟩
  have hpt := ps_type ho h8
  have hKF := KF_big
  obtain ⟨v, e, hb⟩ := setOf_L4 (d := d) (by omega) hs x0 hx h8 hadj (by omega) ((ps (trT ν u x)).length - 1) 1 KF 0 _ (by omega) (by omega) (Nat.le_refl _) bitP_0
  refine ⟨v, ?_, ?_⟩
  · rw [runT_eq (by omega)]
    exact e
  · rw [hpt.2.2] at hb
    exact hb.eqv (fun j _ => ⟨fun q => q.elim False.elim id, Or.inr⟩)
/-- the answer is a set, as bits -/
def RiT (ν : Nat → Nat) (c D : Nat) (u : Sg) (X : Nat → Prop) (P : Nat → Prop) : Int → Sg → Prop := fun r u' => bitP r P ∧ UpT ν c u u' X ∧ WF FT u' ∧ Gr FT D u u'
theorem ownP_L4 {d : Nat} (hd : 240 ≤ d) {ν : Nat → Nat} {c : Nat} {W : Wd} {u : Sg} {X : Nat → Prop} (hc : TW ν c W u) (hW : WOK W (NT ν c)) (hG : WGK W (NT ν c)) (hr : hT u ≤ 26000) (hl : LimT ν u X) : ∀ (n f : Nat) (u1 : Sg) (y : Nat) (v : Int) (P : Nat → Prop), wh (trT ν u1 y) < n → n < f → UpT ν c u u1 X → WF FT u1 → Gr FT DX3_ownAndParents u u1 → 0 < y → y ≤ nT u1 → clty W (NT ν c) (trT ν u1 y) → (∀ z ∈ upT W (trT ν u1 y), paX W X z) → bitP v P → wp (bX3_ownAndParents_L4 (runT d) f v (y : Int) u1 (fun v2 s1 => some (v2, s1))) (RiT ν c DX3_ownAndParents u X (fun j => P j ∨ ∃ z ∈ upT W (trT ν u1 y), j ∈ adjT z)) := by
  intro n
  induction n with
  | zero => intro f u1 y v P h; omega
  | succ n ih =>
    intro f u1 y v P hwh hf hU hw1 hg y0 hy hty hX hv
    obtain ⟨f, rfl⟩ : ∃ f', f = f' + 1 := ⟨f - 1, by omega⟩
    have hs1 := hU.1
    have hc1 := hc.up hU.ux hg (by decide +kernel)
    have hr1 : hT u1 = hT u := hU.2.2.2.1
    have hl1 := hU.lim hl
    have hself : trT ν u1 y ∈ upT W (trT ν u1 y) := by rw [up_eq hW hty]; exact List.mem_cons_self
    obtain ⟨s, e, hs⟩ := rX3_setOf (d := d) (by omega) hs1 y0 hy hty.1.1 hty.2.1 (clty_adj hG hty)
    have heq : ∀ j, (∃ z ∈ upT W (trT ν u1 y), j ∈ adjT z) ↔ (j ∈ adjT (trT ν u1 y) ∨ (wh (trT ν u1 y) ≠ 0 ∧ ∃ z ∈ upT W (paT W (trT ν u1 y)), j ∈ adjT z)) := fun j => up_ex hW hty (fun z => j ∈ adjT z)
    rw [bX3_ownAndParents_L4, if_neg (by omega)]
    refine wp_eq e ?_
    rw [wp_un]
    by_cases h0 : wh (trT ν u1 y) = 0
    · refine wp_eq (rX3_parent0 (by omega) hs1 y0 hy hty.2.1 h0) ?_
      obtain ⟨f, rfl⟩ : ∃ f', f = f' + 1 := ⟨f - 1, by omega⟩
      rw [bX3_ownAndParents_L4, if_pos (Int.le_refl 0), wp_some]
      refine ⟨(hv.or hs).eqv (fun j _ => ?_), hU, hw1, hg⟩
      rw [heq]
      exact ⟨fun q => q.imp id Or.inl, fun q => q.imp id (fun z => z.elim id (fun w => absurd h0 w.1))⟩
    · obtain ⟨p1, p2⟩ := pa_ok hW hty h0
      refine wp_call (tX3_parent hd hw1 hc1 hW y0 hy hty h0 (by omega) (hX _ hself) hl1) (fun r u2 ⟨z, z1, z2, z3, z4, z5, z6, z7⟩ => ?_)
      subst z1
      rw [← z4] at p1 p2
      refine wp_mono (ih f u2 z _ _ (by omega) (by omega) (hU.join z5) z6 (hg.tr (z7.sub (by decide +kernel))) z2 z3 p1 (fun s hs' => hX s (by rw [up_eq hW hty, if_neg h0, ← z4]; exact List.mem_cons_of_mem _ hs')) (hv.or hs)) (fun r u3 h => ⟨h.1.eqv (fun j _ => ?_), h.2⟩)
      rw [heq, z4]
      constructor
      · rintro ((q | q) | q)
        · exact Or.inl q
        · exact Or.inr (Or.inl q)
        · exact Or.inr (Or.inr ⟨h0, q⟩)
      · rintro (q | q | q)
        · exact Or.inl (Or.inl q)
        · exact Or.inl (Or.inr q)
        · exact Or.inr q.2
theorem tX3_own {d : Nat} (hd : 241 ≤ d) {ν : Nat → Nat} {c : Nat} {W : Wd} {u : Sg} {y : Nat} {X : Nat → Prop} (hw : WF FT u) (hc : TW ν c W u) (hW : WOK W (NT ν c)) (hG : WGK W (NT ν c)) (y0 : 0 < y) (hy : y ≤ nT u) (ht : clty W (NT ν c) (trT ν u y)) (hr : hT u ≤ 26000) (hX : ∀ z ∈ upT W (trT ν u y), paX W X z) (hl : LimT ν u X) :
    wp (runT d 95 [(y : Int)] u) (RiT ν c DX3_ownAndParents u X (fun j => ∃ z ∈ upT W (trT ν u y), j ∈ adjT z)) := by
  obtain ⟨d, rfl⟩ : ∃ d', d = d' + 1 := ⟨d - 1, by omega⟩
  rw [runT_eq (by omega)]
  show wp (bX3_ownAndParents (runT d) y u) _
  unfold bX3_ownAndParents
  have hwm := (ht.1.lc.2.2.1 ht.2.1).1
  have h20 := hc.2.2.2.1.2.1.2
  have hKF := KF_big
  refine wp_mono (ownP_L4 (by omega) hc hW hG hr hl (wh (trT ν u y) + 1) KF u y 0 _ (by omega) (by omega) (UpT.rf hc.1) hw Gr.rf y0 hy ht hX bitP_0) (fun r u' h => ⟨h.1.eqv (fun j _ => ⟨fun q => q.elim False.elim id, Or.inr⟩), h.2⟩)
theorem hasOf_L21 {d : Nat} (hd : 250 ≤ d) {ν : Nat → Nat} {c : Nat} {W : Wd} {u : Sg} {g : Nat} {X : Nat → Prop} (hc : TW ν c W u) (hW : WOK W (NT ν c)) (hG : WGK W (NT ν c)) (hg : g < wnG W) (hs0 : wgS W g = 0) (hr : hT u ≤ 26000) (hl : LimT ν u X) : ∀ (n f : Nat) (u1 : Sg) (y : Nat), wh (trT ν u1 y) < n → n < f → UpT ν c u u1 X → WF FT u1 → Gr FT DX3_hasOf u u1 → 0 < y → y ≤ nT u1 → clty W (NT ν c) (trT ν u1 y) → adX1 W X (trT ν u1 y) → wp (bX3_hasOf_L21 (runT d) f (g : Int) (wh (wgO W g) : Int) (y : Int) u1 (fun s4 => some (0, s4)) (fun s5 => some (1, s5))) (RbT ν c DX3_hasOf u X (ofM W (trT ν u1 y) g)) := by
  have hgk := (hG.2 g hg).2.1 hs0
  obtain ⟨k1, k2, k3, k4, k5⟩ := hgk
  intro n
  induction n with
  | zero => intro f u1 y h; omega
  | succ n ih =>
    intro f u1 y hwh hf hU hw1 hgr y0 hy hty hX
    obtain ⟨f, rfl⟩ : ∃ f', f = f' + 1 := ⟨f - 1, by omega⟩
    have hs := hc.1
    have hs1 := hU.1
    have h8 := hty.2.1
    have hc1 := hc.up hU.ux hgr (by decide +kernel)
    have hr1 : hT u1 = hT u := hU.2.2.2.1
    have hl1 := hU.lim hl
    have hself : trT ν u1 y ∈ upT W (trT ν u1 y) := by rw [up_eq hW hty]; exact List.mem_cons_self
    have heq := up_ex hW hty (fun z => wh z = wh (wgO W g) ∧ (pa (wgO W g) 0 = 0 ∨ (pa z 0 ≠ 0 ∧ hasT W (tyT W (pa z 0)) (wh (wgA W g)) (pa (wgA W g) 0))))
    have hno : ∀ (u2 : Sg), UpT ν c u u2 X → WF FT u2 → Gr FT DX3_hasOf u u2 → y ≤ nT u2 → trT ν u2 y = trT ν u1 y → ¬ (wh (trT ν u1 y) = wh (wgO W g) ∧ (pa (wgO W g) 0 = 0 ∨ (pa (trT ν u1 y) 0 ≠ 0 ∧ hasT W (tyT W (pa (trT ν u1 y) 0)) (wh (wgA W g)) (pa (wgA W g) 0)))) → wp (cl (runT d 77 [(y : Int)] u2) fun v3 s4 => bX3_hasOf_L21 (runT d) f (g : Int) (wh (wgO W g) : Int) v3 s4 (fun s4 => some (0, s4)) (fun s5 => some (1, s5))) (RbT ν c DX3_hasOf u X (ofM W (trT ν u1 y) g)) := fun u2 hU2 hw2 hg2 hy2 et2 hne => by
      have hs2 := hU2.1
      by_cases h0 : wh (trT ν u1 y) = 0
      · refine wp_eq (rX3_parent0 (by omega) hs2 y0 hy2 (by rw [et2]; exact h8) (by rw [et2]; exact h0)) ?_
        obtain ⟨f, rfl⟩ : ∃ f', f = f' + 1 := ⟨f - 1, by omega⟩
        rw [bX3_hasOf_L21, if_pos (Int.le_refl 0), wp_some]
        refine ⟨Or.inr ⟨rfl, fun q => ?_⟩, hU2, hw2, hg2⟩
        rcases heq.mp q with z | z
        · exact hne z
        · exact z.1 h0
      · obtain ⟨p1, p2⟩ := pa_ok hW hty h0
        have hc2 := hc.up hU2.ux hg2 (by decide +kernel)
        have hr2 : hT u2 = hT u := hU2.2.2.2.1
        refine wp_call (tX3_parent (by omega) hw2 hc2 hW y0 hy2 (by rw [et2]; exact hty) (by rw [et2]; exact h0) (by omega) (by rw [et2]; exact (hX _ hself).1) (hU2.lim hl)) (fun r u3 ⟨z, z1, z2, z3, z4, z5, z6, z7⟩ => ?_)
        subst z1
        rw [et2] at z4
        rw [← z4] at p1 p2
        refine wp_mono (ih f u3 z (by omega) (by omega) (hU2.join z5) z6 (hg2.tr (z7.sub (by decide +kernel))) z2 z3 p1 (fun s hs' => hX s (by rw [up_eq hW hty, if_neg h0, ← z4]; exact List.mem_cons_of_mem _ hs'))) (fun r u4 h => ?_)
        rw [z4] at h
        refine ⟨h.1.imp (fun q => ⟨q.1, heq.mpr (Or.inr ⟨h0, q.2⟩)⟩) (fun q => ⟨q.1, fun w => ?_⟩), h.2⟩
        rcases heq.mp w with z | z
        · exact hne z
        · exact q.2 z.2
    obtain ⟨gg1, gg2, gg3, gg8⟩ := hc1.2.2.2.2.2.2
    obtain ⟨lg, w1, w2, w3⟩ := ((gg8 g hg).2.1 hs0).2
    have hl31 := gg3 31 (by omega) (by omega)
    rw [bX3_hasOf_L21, if_neg (by omega), wp_jn]
    refine wp_eq (headNT (d := d) (by omega) hs1 y0 hy (by rw [h8]; decide) (by omega)) ?_
    refine wp_ite (fun hm => ?_) (fun hm => hno u1 hU hw1 hgr hy rfl (fun q => hm (by omega)))
    have hmm : wh (trT ν u1 y) = wh (wgO W g) := by omega
    have harg := (hty.1.lc.2.2.1 h8).2.1
    have hargO := (k1.1.lc.2.2.1 k2).2.1
    rw [ld_nat (by omega), w1]
    refine wp_ite (fun hb => ?_) (fun hb => ?_)
    · have hA0 : wgA W g = 0 := by rw [← w3, show lg = 0 by omega]; rfl
      rw [wp_some]
      exact ⟨Or.inl ⟨rfl, heq.mpr (Or.inl ⟨hmm, Or.inl (k3.mpr hA0)⟩)⟩, hU, hw1, hgr⟩
    · have lg0 : 0 < lg := by omega
      have hAne : wgA W g ≠ 0 := by
        have : 0 < trT ν u1 lg := tr_pos (okp_T (ν := ν) hs1.1) lg0 (by show lg ≤ nT u1; omega)
        omega
      have hp0 : pa (wgO W g) 0 ≠ 0 := fun q => hAne (k3.mp q)
      have hy0 : pa (trT ν u1 y) 0 ≠ 0 := fun q => hp0 (hargO.mpr (by rw [← hmm]; exact harg.mp q))
      have hAc := k4 hAne
      obtain ⟨a, a1, a2, a3⟩ := rX3_arg (d := d) (by omega) hs1 y0 hy h8 (type_part hty).1
      have ha0 : 0 < a := by
        rcases Nat.eq_zero_or_pos a with q | q
        · exact absurd (by rw [← a3, q]; rfl) hy0
        · exact q
      have hca := ((type_part hty).2 hy0).1
      have hXa := (hX _ hself).2 hy0
      refine wp_eq a1 ?_
      refine wp_call (tX3_typeOf (d := d) (x := a) (X := X) (by omega) hw1 hc1 hW ha0 (by omega) (by rw [a3]; exact hca) (by omega) (by rw [a3]; exact hXa.1) hl1) (fun r u2 ⟨z, z1, z2, z3, z4, z5, z6, z7⟩ => ?_)
      subst z1
      rw [a3] at z4
      have hU2 := hU.join z5
      have hg2 : Gr FT DX3_hasOf u u2 := hgr.tr (z7.sub (by decide +kernel))
      have hc2 := hc.up hU2.ux hg2 (by decide +kernel)
      have hs2 := hU2.1
      have hr2 : hT u2 = hT u := hU2.2.2.2.1
      have hl31' := hc2.2.2.2.2.2.2.2.2.1 31 (by omega) (by omega)
      have n31 : gN u2 31 g = gN u1 31 g := z7.N 31 (by decide) _
      have hlg2 : lg ≤ nT u2 := Nat.le_trans w2 z5.n
      have elg : trT ν u2 lg = wgA W g := by rw [z5.tr hs1 w2]; exact w3
      rw [ld_nat (by omega), n31, w1]
      refine wp_eq (headNT (d := d) (by omega) hs2 lg0 hlg2 (by rw [elg, hAc.2.1]; decide) (by rw [elg, hAc.2.1]; decide)) ?_
      rw [elg, ld_nat (by omega), n31, w1]
      obtain ⟨e, e1, e2, e3⟩ := rX3_arg (d := d) (by omega) hs2 lg0 hlg2 (by rw [elg]; exact hAc.2.1) (by rw [elg]; exact (type_part hAc).1)
      rw [elg] at e3
      refine wp_eq e1 ?_
      have hty2 := ty_ok hW hca
      refine wp_call (tX3_has (d := d) (y := z) (m := wh (wgA W g)) (a := e) (X := X) (by omega) z6 hc2 hW z2 z3 (by rw [z4]; exact hty2) (by omega) (fun q => ?_) (by omega) (by rw [z4]; exact hXa.2) (hU2.lim hl)) (fun r u3 ⟨v1, v2, v3, v4⟩ => ?_)
      · rw [e3]
        exact (hAc.1.lc.2.2.1 hAc.2.1).2.1.mpr (by rw [q]; exact hW.1)
      · rw [z4, e3] at v1
        have hU3 := hU2.join v2
        have hg3 : Gr FT DX3_hasOf u u3 := hg2.tr (v4.sub (by decide +kernel))
        refine wp_ite (fun h0 => ?_) (fun h0 => ?_)
        · refine hno u3 hU3 v3 hg3 ?_ ?_ (fun q => ?_)
          · have := z5.n
            have := v2.n
            omega
          · rw [v2.tr hs2 (Nat.le_trans hy z5.n), z5.tr hs1 hy]
          · rcases v1 with w | w
            · omega
            · rcases q.2 with s | s
              · exact hp0 s
              · exact w.2 s.2
        · rw [wp_some]
          refine ⟨Or.inl ⟨rfl, heq.mpr (Or.inl ⟨hmm, Or.inr ⟨hy0, ?_⟩⟩)⟩, hU3, v3, hg3⟩
          rcases v1 with w | w
          · exact w.2
          · exact absurd w.1 h0
/-- a cluster of the mode of sets is of all -/
theorem ofM_set {W : Wd} {N : Nat → Prop} (hW : WOK W N) (hG : WGK W N) {y g : Nat} (hg : g < wnG W) (hs0 : wgS W g = 0) (hy : clty W N y) (h0 : wh (wgO W g) = 0) : ofM W y g := by
  obtain ⟨k1, k2, k3, k4, k5⟩ := (hG.2 g hg).2.1 hs0
  have hp : pa (wgO W g) 0 = 0 := (k1.1.lc.2.2.1 k2).2.1.mpr (by rw [h0]; exact hW.1)
  obtain ⟨z, hz, h1, h2⟩ := has_set hW (wh y + 1) y (Nat.lt_succ_self _) hy
  exact ⟨z, hz, by rw [h0]; exact h1, Or.inl hp⟩
theorem tX3_hasOf {d : Nat} (hd : 251 ≤ d) {ν : Nat → Nat} {c : Nat} {W : Wd} {u : Sg} {g y : Nat} {X : Nat → Prop} (hw : WF FT u) (hc : TW ν c W u) (hW : WOK W (NT ν c)) (hG : WGK W (NT ν c)) (hg : g < wnG W) (hs0 : wgS W g = 0) (y0 : 0 < y) (hy : y ≤ nT u) (ht : clty W (NT ν c) (trT ν u y)) (hr : hT u ≤ 26000) (hX : adX1 W X (trT ν u y)) (hl : LimT ν u X) :
    wp (runT d 97 [(y : Int), (g : Int)] u) (RbT ν c DX3_hasOf u X (ofM W (trT ν u y) g)) := by
  obtain ⟨d, rfl⟩ : ∃ d', d = d' + 1 := ⟨d - 1, by omega⟩
  rw [runT_eq (by omega)]
  show wp (bX3_hasOf (runT d) y g u) _
  unfold bX3_hasOf
  obtain ⟨gg1, gg2, gg3, gg8⟩ := hc.2.2.2.2.2.2
  have hgk := (hG.2 g hg).2.1 hs0
  obtain ⟨of, w1, w0, w2, w3⟩ := ((gg8 g hg).2.1 hs0).1.pos (gvn_ht hgk.1).2
  have hwm := (ht.1.lc.2.2.1 ht.2.1).1
  have h20 := hc.2.2.2.1.2.1.2
  have hKF := KF_big
  have hl30 := gg3 30 (by omega) (by omega)
  rw [ld_nat (by omega), w1]
  refine wp_eq (headNT (d := d) (by omega) hc.1 w0 w2 (by rw [w3, hgk.2.1]; decide) (by rw [w3, hgk.2.1]; decide)) ?_
  rw [w3]
  refine wp_ite (fun h0 => ?_) (fun h0 => ?_)
  · rw [wp_some]
    exact ⟨Or.inl ⟨rfl, ofM_set hW hG hg hs0 ht (by omega)⟩, UpT.rf hc.1, hw, Gr.rf⟩
  · exact hasOf_L21 (by omega) hc hW hG hg hs0 hr hl (wh (trT ν u y) + 1) KF u y (by omega) (by omega) (UpT.rf hc.1) hw Gr.rf y0 hy ht hX
