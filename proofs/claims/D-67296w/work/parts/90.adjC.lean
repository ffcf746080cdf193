/-! the class's adjectives: the row fills up -/
def MemC (ν : Nat → Nat) (W : Wd) (u : Sg) : Prop := (gL u 32 = gL u 31 ∧ (gL u 31 = 60000 ∨ gL u 31 = 90000)) ∧ ∀ t, t < gL u 31 → gN u 32 t ≤ gI u 33 ∧ (gN u 32 t = gI u 33 → 0 < t ∧ t < nC u ∧ ∃ y : Nat, gN u 31 t = (y : Int) ∧ 0 < y ∧ y < nC u ∧ ∃ L, trC ν u y = mk 8 0 (0 :: L) ∧ ∀ j, j ∈ L ↔ adT W (trC ν u t) j)
theorem MemC.up {ν : Nat → Nat} {c D : Nat} {W : Wd} {u u' : Sg} {X : Nat → Prop} (h : MemC ν W u) (hs : SC ν c u) (hx : Ux ν c u u' X) (hg : Gr FC D u u') (h1 : D.testBit 31 = false) (h2 : D.testBit 32 = false) (h3 : D.testBit 33 = false) : MemC ν W u' := by
  refine ⟨by rw [hg.Ln 31 h1, hg.Ln 32 h2]; exact h.1, fun t ht => ?_⟩
  rw [hg.Ln 31 h1] at ht
  refine ⟨by rw [hg.N 32 h2, hg.I 33 h3]; exact (h.2 t ht).1, fun e => ?_⟩
  rw [hg.N 32 h2, hg.I 33 h3] at e
  obtain ⟨a1, a2, y, a3, a4, a5, L, a6, a7⟩ := (h.2 t ht).2 e
  have hn := hx.n hs
  exact ⟨a1, by omega, y, by rw [hg.N 31 h1]; exact a3, a4, by omega, L, by rw [hx.tr hs a5]; exact a6, by rw [hx.tr hs a2]; exact a7⟩
def AdP (ν : Nat → Nat) (c : Nat) (W : Wd) (u0 : Sg) (X : Nat → Prop) (b : Nat) (L : List Nat) (u : Sg) : Prop := Ux ν c u0 u X ∧ WF FC u ∧ (∀ i, i < b → gN u 11 i = gN u0 11 i) ∧ RwL u b L ∧ L.Nodup ∧ (∀ v ∈ L, v < 30) ∧ Gr FC DX1_adjectivesOf0 u0 u ∧ MemC ν W u
theorem AdP.len {ν : Nat → Nat} {c : Nat} {W : Wd} {u0 : Sg} {X : Nat → Prop} {b : Nat} {L : List Nat} {u : Sg} (h : AdP ν c W u0 X b L u) : L.length ≤ 30 ∧ rC u = b + L.length := ⟨nd_len h.2.2.2.2.1 h.2.2.2.2.2.1, h.2.2.2.1.1⟩
/-- a call that leaves the row -/
theorem AdP.call {ν : Nat → Nat} {c : Nat} {W : Wd} {u0 : Sg} {X : Nat → Prop} {b : Nat} {L : List Nat} {u u' : Sg} {D : Nat} (h : AdP ν c W u0 X b L u) (hU : Up ν c u u' X) (hw : WF FC u') (hg : Gr FC D u u') (hD : D &&& DX1_adjectivesOf0 = D) (hm : MemC ν W u') : AdP ν c W u0 X b L u' := by
  obtain ⟨a1, a2, a3, a4, a5, a6, a7, a8⟩ := h
  have hr : rC u' = rC u := hU.2.2.2.2.2.1
  have hrow := hU.2.2.2.2.2.2
  have hrc := a4.1
  refine ⟨a1.trn hU.ux, hw, fun i hi => by rw [hrow i (by omega), a3 i hi], ⟨by rw [hr]; exact a4.1, fun q v hq => ?_⟩, a5, a6, a7.tr (hg.sub hD), hm⟩
  have := (List.getElem?_eq_some_iff.mp hq).1
  rw [hrow _ (by omega)]; exact a4.2 q v hq
theorem AdP.add {ν : Nat → Nat} {c : Nat} {W : Wd} {u0 : Sg} {X : Nat → Prop} {b : Nat} {L : List Nat} {u : Sg} {d j : Nat} (hd : 4 ≤ d) (hb : b ≤ 28000) (h : AdP ν c W u0 X b L u) (hj : j < 30) {K : Int → Sg → Option (Int × Sg)} {Q : Int → Sg → Prop} (k : ∀ r u', Ux ν c u u' X → AdP ν c W u0 X b (addL L j) u' → ((r = 0 ∧ j ∈ L) ∨ (r = 1 ∧ j ∉ L)) → wp (K r u') Q) : wp (cl (runC d 85 [(b : Int), (j : Int)] u) K) Q := by
  obtain ⟨d, rfl⟩ : ∃ d', d = d' + 1 := ⟨d - 1, by omega⟩
  have hl := h.len
  have hs := h.1.1
  have e := addAdj_L2 (d := d) (j := j) hs (by omega) h.2.2.2.1 L.length 0 KF (by omega) (Nat.lt_of_le_of_lt (by omega : _ ≤ 65536) KF_gt) (fun q v hq => by omega) (x34 := fun v2 s1 => cl (runC d 97 [v2] s1) fun v3 s4 => some (1, s4)) (x26 := fun s5 => some (0, s5))
  rw [runC_eq (by omega)]
  show wp (cl (bX1_addAdjective (runC d) b j u) K) Q
  unfold bX1_addAdjective
  have e' : bX1_addAdjective_L2 (runC d) KF (j : Int) (b : Int) u (fun v2 s1 => cl (runC d 97 [v2] s1) fun v3 s4 => some (1, s4)) (fun s5 => some (0, s5)) = if j ∈ L then some (0, u) else cl (runC d 97 [(j : Int)] u) fun v3 s4 => some (1, s4) := e
  rw [e']
  by_cases hm : j ∈ L
  · rw [if_pos hm]
    have hk := k 0 u (Ux.rf hs) (by unfold addL; rw [if_pos hm]; exact h) (Or.inl ⟨rfl, hm⟩)
    exact hk
  · rw [if_neg hm]
    obtain ⟨a1, a2, a3, a4, a5, a6, a7, a8⟩ := h
    rw [wp_cl]
    refine wp_call (tX2_push (by omega) a2 hs ⟨by omega, by omega⟩ (by omega)) (fun r u' ⟨s1, e1, r1, p1, p2, w1, g1⟩ => ?_)
    rw [wp_some]
    have hx : Ux ν c u u' X := Ux.eqs e1 s1
    refine k 1 u' hx ⟨a1.trn hx, w1, fun i hi => by rw [p1 i (by omega), a3 i hi], ⟨?_, fun q v hq => ?_⟩, addL_nd a5, fun v hv => ?_, a7.tr (g1.sub (by decide +kernel)), a8.up hs hx g1 (by decide +kernel) (by decide +kernel) (by decide +kernel)⟩ (Or.inr ⟨rfl, hm⟩)
    · unfold addL; rw [if_neg hm, r1, List.length_append]; simp; omega
    · unfold addL at hq
      rw [if_neg hm] at hq
      by_cases hql : q < L.length
      · rw [List.getElem?_append_left hql] at hq
        rw [p1 _ (by omega)]; exact a4.2 q v hq
      · rw [List.getElem?_append_right (by omega)] at hq
        have h0 : q - L.length = 0 := by
          have := (List.getElem?_eq_some_iff.mp hq).1
          simp at this; omega
        rw [h0] at hq
        simp at hq
        rw [show b + q = rC u by omega, p2, hq]
    · rcases addL_mem.mp hv with q | q
      · exact a6 v q
      · rw [q]; exact hj
def addAll (L js : List Nat) : List Nat := js.foldl addL L
theorem addAll_mem {v : Nat} : ∀ {js L : List Nat}, v ∈ addAll L js ↔ v ∈ L ∨ v ∈ js
  | [], L => by unfold addAll; simp
  | j :: js, L => by
    have := addAll_mem (v := v) (js := js) (L := addL L j)
    unfold addAll at this ⊢
    rw [List.foldl_cons, this, addL_mem]
    simp
    constructor
    · rintro ((q | q) | q)
      · exact Or.inl q
      · exact Or.inr (Or.inl q)
      · exact Or.inr (Or.inr q)
    · rintro (q | q | q)
      · exact Or.inl (Or.inl q)
      · exact Or.inl (Or.inr q)
      · exact Or.inr q
/-- a number of a type node -/
theorem adjN {ν : Nat → Nat} {c : Nat} {u : Sg} {d : Nat} (hd : 3 ≤ d) (hs : SC ν c u) {x i : Nat} (x0 : 0 < x) (hx : x < nC u) (h8 : kd (trC ν u x) = 8) (hi : i < (ps (trC ν u x)).length) (h1 : 1 ≤ i) : runC d 98 [(x : Int), (i : Int)] u = some (((pa (trC ν u x) i : Nat) : Int), u) := by
  have h := atC hd hs x0 hx hi
  have hp := partC hs x0 hx (pa_get hi)
  rw [h]
  have := hp.2.2 h8 (by omega)
  have h0 := hp.1
  rw [show pt u x i = ((pa (trC ν u x) i : Nat) : Int) by omega]
theorem drop_pa {t i : Nat} (hi : i < (ps t).length) : (ps t).drop i = pa t i :: (ps t).drop (i + 1) := by
  rw [List.drop_eq_getElem_cons hi]
  have := pa_get hi
  rw [List.getElem?_eq_getElem hi] at this
  rw [Option.some.inj this]
theorem drop_adj {t i : Nat} (hi : i < (ps t).length) (h1 : 1 ≤ i) : pa t i ∈ adjT t := by
  unfold adjT
  refine List.mem_of_getElem? (i := i - 1) ?_
  rw [List.getElem?_drop, show 1 + (i - 1) = i by omega]
  exact pa_get hi
theorem adj_L54 {d : Nat} (hd : 4 ≤ d) {ν : Nat → Nat} {c : Nat} {W : Wd} {u0 : Sg} {X : Nat → Prop} {b y ty : Nat} {a1 a3 : Int} {Q : Int → Sg → Prop} (hb : b ≤ 28000) (y0 : 0 < y) (h8 : kd ty = 8) (hty : ∀ j ∈ adjT ty, j < 30) (hlen : (ps ty).length ≤ 60000) : ∀ (m i f : Nat) (u : Sg) (L : List Nat), i + m = (ps ty).length → m < f → 1 ≤ i → y < nC u → trC ν u y = ty → AdP ν c W u0 X b L u → ∀ xx : Int → Int → Int → Int → Sg → Option (Int × Sg), (∀ u2, Ux ν c u u2 X → y < nC u2 → trC ν u2 y = ty → AdP ν c W u0 X b (addAll L ((ps ty).drop i)) u2 → wp (xx a1 (b : Int) a3 (y : Int) u2) Q) → wp (bX1_adjectivesOf0_L54 (runC d) f a1 (b : Int) a3 (y : Int) (i : Int) u xx) Q := by
  intro m
  induction m with
  | zero =>
    intro i f u L hi hf h1 hy ht hA xx k
    obtain ⟨f, rfl⟩ : ∃ f', f = f' + 1 := ⟨f - 1, by omega⟩
    have hs := hA.1.1
    have hn := nodeC hs y0 hy
    rw [ht] at hn
    have hl3 : gL u 3 = gL u 0 := hs.1.1.2.2.2.1.2.2.1
    rw [bX1_adjectivesOf0_L54, ld_nat (by omega), hn.2.2.1, if_neg (by omega)]
    refine k u (Ux.rf hs) hy ht ?_
    rw [List.drop_of_length_le (by omega)]
    exact hA
  | succ m ih =>
    intro i f u L hi hf h1 hy ht hA xx k
    obtain ⟨f, rfl⟩ : ∃ f', f = f' + 1 := ⟨f - 1, by omega⟩
    have hs := hA.1.1
    have hn := nodeC hs y0 hy
    rw [ht] at hn
    have hl3 : gL u 3 = gL u 0 := hs.1.1.2.2.2.1.2.2.1
    have hil : i < (ps ty).length := by omega
    have hat := adjN (d := d) (i := i) (by omega) hs y0 hy (by rw [ht]; exact h8) (by rw [ht]; exact hil) h1
    rw [ht] at hat
    rw [bX1_adjectivesOf0_L54, ld_nat (by omega), hn.2.2.1, if_pos (by omega)]
    refine wp_eq hat ?_
    refine hA.add hd hb (hty _ (drop_adj hil h1)) (fun r u2 hx hA2 _ => ?_)
    rw [wp_ar]
    refine ⟨⟨by omega, by omega⟩, ?_⟩
    rw [show (i : Int) + 1 = ((i + 1 : Nat) : Int) by omega]
    have ht2 : y < nC u2 ∧ trC ν u2 y = ty := ⟨Nat.lt_of_lt_of_le hy (hx.n hs), by rw [hx.tr hs hy]; exact ht⟩
    refine ih (i + 1) f u2 _ (by omega) (by omega) (by omega) ht2.1 ht2.2 hA2 xx (fun u3 z0 z1 z2 z3 => k u3 (hx.trn z0) z1 z2 ?_)
    rw [drop_pa hil]
    exact z3
theorem adj_L46 {d : Nat} (hd : 240 ≤ d) {ν : Nat → Nat} {c : Nat} {W : Wd} {u0 : Sg} {X : Nat → Prop} {b : Nat} {a1 a3 : Int} {Q : Int → Sg → Prop} (hc0 : CW ν c W u0) (hW : WOK W (Nm ν c)) (hG : WGK W (Nm ν c)) (hl : Lim ν u0 X) (hb : b ≤ 27000) : ∀ (n f : Nat) (u : Sg) (y : Nat) (L : List Nat), wh (trC ν u y) < n → n < f → 0 < y → y < nC u → clty W (Nm ν c) (trC ν u y) → (∀ z ∈ upT W (trC ν u y), paX W X z) → AdP ν c W u0 X b L u → ∀ xx : Int → Int → Int → Sg → Option (Int × Sg), (∀ u2, Ux ν c u u2 X → AdP ν c W u0 X b (addAll L ((upT W (trC ν u y)).flatMap adjT)) u2 → wp (xx a1 (b : Int) a3 u2) Q) → wp (bX1_adjectivesOf0_L46 (runC d) f a1 (b : Int) a3 (y : Int) u xx) Q := by
  intro n
  induction n with
  | zero => intro f u y L h; omega
  | succ n ih =>
    intro f u y L hwh hf y0 hy hty hX hA xx k
    obtain ⟨f, rfl⟩ : ∃ f', f = f' + 1 := ⟨f - 1, by omega⟩
    have hlz : (ps (trC ν u y)).length ≤ 60000 := by
      have h1 := hty.1.1.n
      rcases h1.2 with q | q | q | q | q | q | q | q | q | q | q | q | q | q
      all_goals first
        | (have := hty.2.1; omega)
        | skip
      obtain ⟨_, a, js, q, _, q2, _⟩ := q
      rw [q]; simp; omega
    have hlen1 := (type_part hty).1
    rw [bX1_adjectivesOf0_L46, if_neg (by omega)]
    refine adj_L54 (by omega) (by omega) y0 hty.2.1 (clty_adj hG hty) hlz ((ps (trC ν u y)).length - 1) 1 KF u L (by omega) (Nat.lt_of_le_of_lt (by omega : _ ≤ 65536) KF_gt) (Nat.le_refl _) hy rfl hA _ (fun u2 hx2 hy2 ht2 hA2 => ?_)
    have hs2 := hA2.1.1
    have hU := up_eq hW hty
    have hself : trC ν u y ∈ upT W (trC ν u y) := by rw [hU]; exact List.mem_cons_self
    by_cases h0 : wh (trC ν u y) = 0
    · refine wp_eq (rX1_parent0 (by omega) hs2 y0 hy2 (by rw [ht2]; exact hty.2.1) (by rw [ht2]; exact h0)) ?_
      obtain ⟨f, rfl⟩ : ∃ f', f = f' + 1 := ⟨f - 1, by omega⟩
      rw [bX1_adjectivesOf0_L46, if_pos rfl]
      refine k u2 hx2 ?_
      rw [hU, if_pos h0, List.flatMap_cons, List.flatMap_nil, List.append_nil]
      exact hA2
    · have hc2 := hc0.up hA2.1 hA2.2.2.2.2.2.2.1 (by decide +kernel)
      obtain ⟨p1, p2⟩ := pa_ok hW hty h0
      have hl2 := hA2.len
      refine wp_call (tX1_parent hd hA2.2.1 hc2 hW y0 hy2 (by rw [ht2]; exact hty) (by rw [ht2]; exact h0) (by omega) (by rw [ht2]; exact hX _ hself) (hA2.1.lim hl)) (fun r u3 ⟨z, z1, z2, z3, z4, z5, z6, z7⟩ => ?_)
      subst z1
      rw [ht2] at z4
      have hA3 := hA2.call z5 z6 z7 (by decide +kernel) (hA2.2.2.2.2.2.2.2.up hs2 z5.ux z7 (by decide +kernel) (by decide +kernel) (by decide +kernel))
      refine ih f u3 z _ (by rw [z4]; omega) (by omega) z2 z3 (by rw [z4]; exact p1) (fun s hs' => hX s (by rw [hU, if_neg h0, ← z4]; exact List.mem_cons_of_mem _ hs')) hA3 xx (fun u4 hx4 hA4 => k u4 ((hx2.trn z5.ux).trn hx4) ?_)
      rw [hU, if_neg h0, List.flatMap_cons]
      rw [z4] at hA4
      unfold addAll at hA4 ⊢
      rw [List.foldl_append]
      exact hA4
