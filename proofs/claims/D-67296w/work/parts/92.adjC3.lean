def adXg (W : Wd) (X : Nat → Prop) (t : Nat) : Prop := kd t = 4 → ∀ g, g < wnG W → wgS W g = 1 → wgO W g = wh t → (wgA W g ≠ 0 → ImT X (locg (pa t 0) (pa t 1)) (wgA W g) 0) ∧ (wgB W g ≠ 0 → ImT X (locg (pa t 0) (pa t 1)) (wgB W g) 0)
def adX (W : Wd) (X : Nat → Prop) (t : Nat) : Prop := tyX W X t ∧ adX1 W X (tyT W t) ∧ adXg W X t ∧ ∀ L', AscL L' → (∀ j, j ∈ L' ↔ adT W t j) → X (mk 8 0 (0 :: L'))
def adXX (W : Wd) (X : Nat → Prop) (t : Nat) : Prop := ∀ s, subT s t → isTm s → adX W X s
def RdC (ν : Nat → Nat) (c : Nat) (W : Wd) (X : Nat → Prop) (t : Nat) (u : Sg) : Int → Sg → Prop := fun r u' => ∃ (y : Nat) (L : List Nat), r = (y : Int) ∧ 0 < y ∧ y < nC u' ∧ trC ν u' y = mk 8 0 (0 :: L) ∧ (∀ j, j ∈ L ↔ adT W t j) ∧ Up ν c u u' X ∧ WF FC u' ∧ Gr FC DX1_adjectivesOf0 u u' ∧ MemC ν W u'
def AdSp (ν : Nat → Nat) (c : Nat) (W : Wd) (t : Nat) : Prop := ∀ (d : Nat) (u : Sg) (x : Nat) (X : Nat → Prop), 300 + 6 * htT t ≤ d → WF FC u → CW ν c W u → MemC ν W u → 0 < x → x < nC u → x < gL u 31 → trC ν u x = t → rC u + 40 * htT t ≤ 27000 → adXX W X t → Lim ν u X → wp (runC d 84 [(x : Int)] u) (RdC ν c W X t u)
def FiSp (ν : Nat → Nat) (c : Nat) (W : Wd) (t : Nat) : Prop := ∀ (d : Nat) (u : Sg) (x y : Nat) (X : Nat → Prop), 302 + 6 * htT t ≤ d → WF FC u → CW ν c W u → MemC ν W u → 0 < x → x < nC u → x < gL u 31 → trC ν u x = t → 0 < y → y < nC u → clty W (Nm ν c) (trC ν u y) → rC u + 40 * htT t ≤ 27000 → adXX W X t → Lim ν u X → wp (runC d 81 [(x : Int), (y : Int)] u) (fun r u' => RbC ν c DX1_fits0 u X (fitT W t (trC ν u y)) r u' ∧ MemC ν W u')
theorem clty_len {W : Wd} {N : Nat → Prop} {y : Nat} (h : clty W N y) : (ps y).length ≤ 60000 := by
  rcases h.1.1.n.2 with q | q | q | q | q | q | q | q | q | q | q | q | q | q
  all_goals first
    | (have := h.2.1; omega)
    | skip
  obtain ⟨_, a, js, q, _, q2, _⟩ := q
  rw [q]; simp; omega
theorem fits_ad {ν : Nat → Nat} {c : Nat} {W : Wd} (hW : WOK W (Nm ν c)) (hG : WGK W (Nm ν c)) {t : Nat} (ht : cltm W (Nm ν c) t) (h : AdSp ν c W t) : FiSp ν c W t := by
  intro d u x y X hd hw hc hm x0 hx h31 et y0 hy hty hr hX hl
  obtain ⟨d, rfl⟩ : ∃ d', d = d' + 1 := ⟨d - 1, by omega⟩
  rw [runC_eq (by omega)]
  show wp (bX1_fits0 (runC d) x y u) _
  unfold bX1_fits0
  have hs := hc.1
  have hXt := hX t (sub_rf t) ht.2.1
  have hyt := ty_ok hW ht
  rw [wp_jn]
  refine wp_call (tX1_typeOf (d := d) (x := x) (X := X) (by omega) hw hc hW x0 hx (by rw [et]; exact ht) (by omega) (by rw [et]; exact hXt.1) hl) (fun r u1 ⟨z, z1, z2, z3, z4, z5, z6, z7⟩ => ?_)
  subst z1
  rw [et] at z4
  have hs1 := z5.sc
  have hc1 := hc.up z5.ux z7 (by decide +kernel)
  have hn1 := z5.ux.n hs
  have hy1 : y < nC u1 := by omega
  have ety : trC ν u1 y = trC ν u y := z5.ux.tr hs hy
  have hny := nodeC hs1 y0 hy1
  rw [ety] at hny
  have l1' : gL u1 1 = gL u1 0 := hs1.1.1.2.2.2.1.1
  have hr1 : rC u1 = rC u := z5.2.2.2.2.2.1
  have hm1 := hm.up hs z5.ux z7 (by decide +kernel) (by decide +kernel) (by decide +kernel)
  rw [ld_nat (by omega), hny.2.1 (by have := hty.2.1; omega)]
  obtain ⟨a, a1, a2, a3⟩ := rX1_argOf (d := d) (by omega) hs1 y0 hy1 (by rw [ety]; exact (type_part hty).1)
  rw [ety] at a3
  refine wp_eq a1 ?_
  refine wp_call (tX1_hasMode (d := d) (y := z) (m := wh (trC ν u y)) (a := a) (X := X) (by omega) z6 hc1 hW z2 z3 (by rw [z4]; exact hyt) (by omega) (by omega) (by rw [z4]; exact fun s hs' => (hXt.2.1 s hs').1) (z5.ux.lim hl)) (fun r u2 ⟨v1, v2, v3, v4⟩ => ?_)
  rw [z4, a3] at v1
  have hU2 := z5.join v2
  have hs2 := hU2.sc
  have hn2 := v2.ux.n hs1
  have hg2 : Gr FC DX1_fits0 u u2 := (z7.sub (by decide +kernel)).tr (v4.sub (by decide +kernel))
  have hm2 := hm1.up hs1 v2.ux v4 (by decide +kernel) (by decide +kernel) (by decide +kernel)
  refine wp_ite (fun h0 => ?_) (fun h0 => ?_)
  · rw [wp_some]
    refine ⟨⟨Or.inr ⟨rfl, fun q => ?_⟩, hU2, v3, hg2⟩, hm2⟩
    rcases v1 with w | w
    · omega
    · exact w.2 q.1
  · have hhas : hasT W (tyT W t) (wh (trC ν u y)) (pa (trC ν u y) 0) := by
      rcases v1 with w | w
      · exact w.2
      · exact absurd w.1 h0
    have ety2 : trC ν u2 y = trC ν u y := by rw [v2.ux.tr hs1 hy1]; exact ety
    obtain ⟨d, rfl⟩ : ∃ d', d = d' + 1 := ⟨d - 1, by omega⟩
    have hadj := rX1_adjsOf (d := d) (by omega) hs2 y0 (by omega) (by rw [ety2]; exact (type_part hty).1) (by rw [ety2]; exact clty_len hty)
    rw [ety2] at hadj
    rw [wp_jn]
    refine wp_eq hadj ?_
    refine wp_ite (fun h00 => ?_) (fun h00 => ?_)
    · have hnil : adjT (trC ν u y) = [] := List.length_eq_zero_iff.mp (by omega)
      rw [wp_some]
      refine ⟨⟨Or.inl ⟨rfl, hhas, fun j hj => ?_⟩, hU2, v3, hg2⟩, hm2⟩
      rw [hnil] at hj; cases hj
    · have hc2 := hc.up hU2.ux hg2 (by decide +kernel)
      have etx2 : trC ν u2 x = t := by rw [hU2.ux.tr hs hx]; exact et
      have hr2 : rC u2 = rC u := hU2.2.2.2.2.2.1
      have g31 := hg2.2.2.1 31
      refine wp_call (h (d + 1) u2 x X (by omega) v3 hc2 hm2 x0 (by omega) (by omega) etx2 (by omega) hX (hU2.ux.lim hl)) (fun r u3 ⟨w, L, w1, w2, w3, w4, w5, w6, w7, w8, w9⟩ => ?_)
      subst w1
      have hs3 := w6.sc
      have hn3 := w6.ux.n hs2
      have ety3 : trC ν u3 y = trC ν u y := by rw [w6.ux.tr hs2 (by omega)]; exact ety2
      have hLd : adjT (trC ν u3 w) = L := by rw [w4]; unfold adjT; rw [ps_mk]; rfl
      have hLl : L.length ≤ 264000 := by
        have hb := (w6.ux.lim (hU2.ux.lim hl)).n hs3
        have hnw := (nodeC hs3 w2 w3).2.2.2.1.2
        rw [w4, ps_mk, List.length_cons] at hnw
        omega
      obtain ⟨b1, b2⟩ := rX1_within (d := d + 1) (x := y) (z := w) (by omega) hs3 y0 (by omega) (by rw [ety3]; exact hty.2.1) (by rw [ety3]; exact (type_part hty).1) (by rw [ety3]; have := clty_len hty; omega) w2 w3 (by rw [w4, kd_mk]) (by rw [w4, ps_mk]; simp) (by rw [w4, ps_mk]; simp; omega)
      rw [ety3, hLd] at b1 b2
      have hU3 := hU2.join w6
      have hg3 : Gr FC DX1_fits0 u u3 := hg2.tr (w8.sub (by decide +kernel))
      by_cases hin : ∀ j ∈ adjT (trC ν u y), j ∈ L
      · refine wp_eq (b1 hin) ?_
        rw [if_neg (by decide), wp_some]
        exact ⟨⟨Or.inl ⟨rfl, hhas, fun j hj => (w5 j).mp (hin j hj)⟩, hU3, w7, hg3⟩, w9⟩
      · refine wp_eq (b2 hin) ?_
        rw [if_pos rfl, wp_some]
        exact ⟨⟨Or.inr ⟨rfl, fun q => hin (fun j hj => (w5 j).mpr (q.2 j hj))⟩, hU3, w7, hg3⟩, w9⟩
