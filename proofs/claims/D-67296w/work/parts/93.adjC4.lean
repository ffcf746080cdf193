theorem argC {d : Nat} {ν : Nat → Nat} {c : Nat} {W : Wd} {u0 : Sg} {X : Nat → Prop} {b : Nat} {L : List Nat} {u : Sg} {t w fld g m p a b' : Nat} {Q : Int → Sg → Prop} {K0 K1 : Sg → Option (Int × Sg)} (hd : 296 + 6 * htT t ≤ d) (hc0 : CW ν c W u0) (hl : Lim ν u0 X) (hb : b + 40 * htT t ≤ 27000) (hA : AdP ν c W u0 X b L u) (ha : a < nC u) (ea : trC ν u a = pa t 0) (hb' : b' < nC u) (eb : trC ν u b' = pa t 1) (hp : w ≠ 0 → 0 < p ∧ p < nC u ∧ p < gL u 31 ∧ FiSp ν c W (trC ν u p) ∧ htT (trC ν u p) + 1 ≤ htT t ∧ adXX W X (trC ν u p)) (hin : inC ν u (gN u fld g) w) (hlen : g < gL u fld) (hgv : w ≠ 0 → gvn W (Nm ν c) w m ∧ kd w = 8 ∧ m ≤ 2 ∧ (0 < m → cltm W (Nm ν c) (pa t 0)) ∧ (1 < m → cltm W (Nm ν c) (pa t 1))) (hXw : w ≠ 0 → ImT X (locg (pa t 0) (pa t 1)) w 0)
    (k1 : ∀ u', Ux ν c u u' X → AdP ν c W u0 X b L u' → (w ≠ 0 → fitT W (trC ν u p) (sbT (locg (pa t 0) (pa t 1)) 0 w)) → wp (K1 u') Q) (k0 : ∀ u', Ux ν c u u' X → AdP ν c W u0 X b L u' → w ≠ 0 → ¬ fitT W (trC ν u p) (sbT (locg (pa t 0) (pa t 1)) 0 w) → wp (K0 u') Q) :
    wp (ld u fld (g : Int) fun v30 => if v30 = 0 then K1 u else (ld u fld (g : Int) fun v31 => cl (runC d 111 [v31, (a : Int), (b' : Int), 0] u) fun v32 s33 => cl (runC d 81 [(p : Int), v32] s33) fun v34 s35 => if v34 = 0 then K0 s35 else K1 s35)) Q := by
  have hs := hA.1.1
  have hlen' := hA.len
  obtain ⟨y, y1, y2, y3⟩ := hin
  rw [ld_nat hlen, y1]
  refine wp_ite (fun h0 => ?_) (fun h0 => ?_)
  · have hw0 : w = 0 := by rw [← y3, show y = 0 by omega]; rfl
    exact k1 u (Ux.rf hs) hA (fun q => absurd hw0 q)
  · have y0 : 0 < y := by omega
    have hw0 : w ≠ 0 := by
      have : 0 < trC ν u y := tr_pos (okp_C (ν := ν) hs.1) y0 (by show y ≤ nC u - 1; omega)
      omega
    obtain ⟨g1, g2, g3, g4, g5⟩ := hgv hw0
    obtain ⟨p0, p1, p2, p3, p4, p5⟩ := hp hw0
    have hloc := loc_ok (d := 0) g1 g3 g4 g5
    have hht := gvn_ht g1
    have hsz := g1.2.2.2
    have hc := hc0.up hA.1 hA.2.2.2.2.2.2.1 (by decide +kernel)
    have hlu := hA.1.lim hl
    rw [ld_nat hlen, y1]
    refine wp_call (tX2_loci (d := d) (x := y) (a := a) (b := b') (X := X) (by rw [y3]; omega) hA.2.1 hs hc.2.1 y0 y2 ha hb' (by rw [y3]; exact g1.1.1) (by rw [y3, ea, eb]; exact hloc.2.2.2) (by rw [y3]; omega) (by rw [y3, ea, eb]; exact ImT.mono (fun _ q => Or.inr q) _ _ (hXw hw0)) hlu (by rw [y3]; omega)) (fun r u1 ⟨z, z1, z2, z3, z4, z5, z6, z7⟩ => ?_)
    subst z1
    rw [y3, ea, eb] at z4
    have hA1 := hA.call z5 z6 z7 (by decide +kernel) (hA.2.2.2.2.2.2.2.up hs z5.ux z7 (by decide +kernel) (by decide +kernel) (by decide +kernel))
    have hc1 := hc0.up hA1.1 hA1.2.2.2.2.2.2.1 (by decide +kernel)
    have hn1 := z5.ux.n hs
    have ep1 : trC ν u1 p = trC ν u p := z5.ux.tr hs p1
    have hr1 := hA1.len
    have g31 := z7.2.2.1 31
    refine wp_call (p3 d u1 p z X (by omega) z6 hc1 hA1.2.2.2.2.2.2.2 p0 (by omega) (by omega) ep1 z2 z3 (by rw [z4]; exact ⟨hloc.1, by rw [(sb_kd (by omega)).1]; exact g2, hloc.2.1⟩) (by omega) p5 (hA1.1.lim hl)) (fun r u2 ⟨⟨v1, v2, v3, v4⟩, v5⟩ => ?_)
    rw [z4] at v1
    have hA2 := hA1.call v2 v3 v4 (by decide +kernel) v5
    have hx2 : Ux ν c u u2 X := z5.ux.trn v2.ux
    refine wp_ite (fun hz => ?_) (fun hz => ?_)
    · refine k0 u2 hx2 hA2 hw0 ?_
      rcases v1 with q | q
      · omega
      · exact q.2
    · refine k1 u2 hx2 hA2 (fun _ => ?_)
      rcases v1 with q | q
      · exact q.2
      · exact absurd q.1 hz
theorem adj_L299 {d : Nat} (hd : 4 ≤ d) {ν : Nat → Nat} {c : Nat} {W : Wd} {u0 : Sg} {X : Nat → Prop} {b g : Nat} {a1 a3 a4 : Int} {Q : Int → Sg → Prop} (hc0 : CW ν c W u0) (hG : WGK W (Nm ν c)) (hg : g < wnG W) (hg2 : wgS W g ≠ 2) (hb : b ≤ 27000) : ∀ (m i f : Nat) (u : Sg) (L : List Nat), i + m = (ps (wgV W g)).length → m < f → 1 ≤ i → AdP ν c W u0 X b L u → ∀ xx : Int → Int → Int → Int → Int → Sg → Option (Int × Sg), (∀ u2, Ux ν c u u2 X → AdP ν c W u0 X b (addAll L ((ps (wgV W g)).drop i)) u2 → wp (xx a1 (b : Int) a3 a4 (g : Int) u2) Q) → wp (bX1_adjectivesOf0_L299 (runC d) f a1 (b : Int) a3 a4 (g : Int) 1 (i : Int) u xx) Q := by
  obtain ⟨k8, kok, kadj⟩ := (hG.2 g hg).2.2.2.1 hg2
  have hv0 : wgV W g ≠ 0 := fun q => by rw [q, kd0] at k8; omega
  intro m
  induction m with
  | zero =>
    intro i f u L hi hf h1 hA xx k
    obtain ⟨f, rfl⟩ : ∃ f', f = f' + 1 := ⟨f - 1, by omega⟩
    have hs := hA.1.1
    have hc := hc0.up hA.1 hA.2.2.2.2.2.2.1 (by decide +kernel)
    obtain ⟨gg1, gg2, ⟨gg3, gg4, gg5, gg6, gg7⟩, gg8⟩ := hc.2.2.2.2.2.2
    obtain ⟨v, v1, v0, v2, v3⟩ := ((gg8 g hg).2.2.2.2.2).pos hv0
    have hn := nodeC hs v0 v2
    rw [v3] at hn
    have hl3 : gL u 3 = gL u 0 := hs.1.1.2.2.2.1.2.2.1
    rw [bX1_adjectivesOf0_L299, if_neg (by decide), ld_nat (by omega), v1, ld_nat (by omega), hn.2.2.1, if_neg (by omega)]
    refine k u (Ux.rf hs) ?_
    rw [List.drop_of_length_le (by omega)]
    exact hA
  | succ m ih =>
    intro i f u L hi hf h1 hA xx k
    obtain ⟨f, rfl⟩ : ∃ f', f = f' + 1 := ⟨f - 1, by omega⟩
    have hs := hA.1.1
    have hc := hc0.up hA.1 hA.2.2.2.2.2.2.1 (by decide +kernel)
    obtain ⟨gg1, gg2, ⟨gg3, gg4, gg5, gg6, gg7⟩, gg8⟩ := hc.2.2.2.2.2.2
    obtain ⟨v, v1, v0, v2, v3⟩ := ((gg8 g hg).2.2.2.2.2).pos hv0
    have hn := nodeC hs v0 v2
    rw [v3] at hn
    have hl3 : gL u 3 = gL u 0 := hs.1.1.2.2.2.1.2.2.1
    have hil : i < (ps (wgV W g)).length := by omega
    have hpl := hn.2.2.2.1.2
    have hpc := hs.1.1.2.1.2
    have h7 := hs.1.1.2.2.2.2.2.2.2
    have hat := adjN (d := d) (i := i) (by omega) hs v0 v2 (by rw [v3]; exact k8) (by rw [v3]; exact hil) h1
    rw [v3] at hat
    have hi30 : i < 1000000000 := by
      have := kok.n
      rcases this.2 with q | q | q | q | q | q | q | q | q | q | q | q | q | q <;> try omega
    rw [bX1_adjectivesOf0_L299, if_neg (by decide), ld_nat (by omega), v1, ld_nat (by omega), hn.2.2.1, if_pos (by omega), ld_nat (by omega), v1]
    refine wp_eq hat ?_
    refine hA.add hd (by omega) (kadj _ (drop_adj hil h1)) (fun r u2 hx hA2 _ => ?_)
    rw [wp_ar]
    refine ⟨⟨by omega, by omega⟩, ?_⟩
    rw [show (i : Int) + 1 = ((i + 1 : Nat) : Int) by omega]
    refine ih (i + 1) f u2 _ (by omega) (by omega) (by omega) hA2 xx (fun u3 z1 z3 => k u3 (hx.trn z1) ?_)
    rw [drop_pa hil]
    exact z3
theorem ps_type {t : Nat} (h : okT t) (h8 : kd t = 8) : 1 ≤ (ps t).length ∧ (ps t).length ≤ 31 ∧ (ps t).drop 1 = adjT t := by
  rcases h.n.2 with q | q | q | q | q | q | q | q | q | q | q | q | q | q <;> try omega
  obtain ⟨_, a, js, q, _, q2, _⟩ := q
  exact ⟨by rw [q]; simp, by rw [q]; simp; omega, rfl⟩
theorem adj_L130 {d : Nat} {ν : Nat → Nat} {c : Nat} {W : Wd} {u0 : Sg} {X : Nat → Prop} {b x t : Nat} {a3 : Int} {Q : Int → Sg → Prop} (hd : 296 + 6 * htT t ≤ d) (hc0 : CW ν c W u0) (hW : WOK W (Nm ν c)) (hG : WGK W (Nm ν c)) (hl : Lim ν u0 X) (hb : b + 40 * htT t ≤ 27000) (ht : cltm W (Nm ν c) t) (h4 : kd t = 4) (ihc : ∀ c1 ∈ fms t, FiSp ν c W c1) (hX : adXX W X t) (x0 : 0 < x) (h31 : x < gL u0 31) : ∀ (m g f : Nat) (u : Sg) (L : List Nat), g + m = wnG W → m < f → x < nC u → trC ν u x = t → AdP ν c W u0 X b L u → ∀ xx : Int → Int → Int → Sg → Option (Int × Sg), (∀ u2 L2, Ux ν c u u2 X → AdP ν c W u0 X b L2 u2 → (∀ v, v ∈ L2 ↔ v ∈ L ∨ ∃ g', g ≤ g' ∧ g' < wnG W ∧ wgS W g' = 1 ∧ wgO W g' = wh t ∧ argF W (adT W) t g' ∧ v ∈ adjT (wgV W g')) → wp (xx (x : Int) (b : Int) a3 u2) Q) → wp (bX1_adjectivesOf0_L130 (runC d) f (x : Int) (b : Int) a3 ((ps t).length : Int) (g : Int) u xx) Q := by
  have hXt := hX t (sub_rf t) ht.2.1
  obtain ⟨f1, f2⟩ := ht.1.lc.2.1 h4
  obtain ⟨ff1, ff2, ff3⟩ := hW.2.2.1 _ f1
  intro m
  induction m with
  | zero =>
    intro g f u L hg hf hx et hA xx k
    obtain ⟨f, rfl⟩ : ∃ f', f = f' + 1 := ⟨f - 1, by omega⟩
    have hs := hA.1.1
    have hc := hc0.up hA.1 hA.2.2.2.2.2.2.1 (by decide +kernel)
    obtain ⟨gg1, gg2, ⟨gg3, gg4, gg5, gg6, gg7⟩, gg8⟩ := hc.2.2.2.2.2.2
    rw [bX1_adjectivesOf0_L130, wp_un, gg1, if_neg (by omega)]
    refine k u L (Ux.rf hs) hA (fun v => ⟨Or.inl, fun q => q.elim id (fun ⟨g', z1, z2, _⟩ => by omega)⟩)
  | succ m ih =>
    intro g f u L hg hf hx et hA xx k
    obtain ⟨f, rfl⟩ : ∃ f', f = f' + 1 := ⟨f - 1, by omega⟩
    have hs := hA.1.1
    have hc := hc0.up hA.1 hA.2.2.2.2.2.2.1 (by decide +kernel)
    obtain ⟨gg1, gg2, ⟨gg3, gg4, gg5, gg6, gg7⟩, gg8⟩ := hc.2.2.2.2.2.2
    have hgl : g < wnG W := by omega
    obtain ⟨s1, s2, s3, s4, s5, s6⟩ := gg8 g hgl
    have hn := nodeC hs x0 hx
    rw [et] at hn
    have l1' : gL u 1 = gL u 0 := hs.1.1.2.2.2.1.1
    have h31u : gL u0 31 ≤ gL u 31 := hA.2.2.2.2.2.2.1.2.2.1 31
    -- on to the next registration
    have nxt : ∀ (u2 : Sg) (L2 : List Nat), Ux ν c u u2 X → AdP ν c W u0 X b L2 u2 → (∀ v, v ∈ L2 ↔ v ∈ L ∨ (wgS W g = 1 ∧ wgO W g = wh t ∧ argF W (adT W) t g ∧ v ∈ adjT (wgV W g))) → wp (ar ((g : Int) + 1) fun v40 => bX1_adjectivesOf0_L130 (runC d) f (x : Int) (b : Int) a3 ((ps t).length : Int) v40 u2 xx) Q := fun u2 L2 hx2 hA2 hm2 => by
      rw [wp_ar]
      refine ⟨⟨by omega, by omega⟩, ?_⟩
      rw [show (g : Int) + 1 = ((g + 1 : Nat) : Int) by omega]
      have hn2 := hx2.n hs
      refine ih (g + 1) f u2 L2 (by omega) (by omega) (by omega) (by rw [hx2.tr hs hx]; exact et) hA2 xx (fun u3 L3 hx3 hA3 hm3 => k u3 L3 (hx2.trn hx3) hA3 (fun v => ?_))
      rw [hm3, hm2]
      constructor
      · rintro ((q | ⟨q1, q2, q3, q4⟩) | ⟨g', q1, q2, q3⟩)
        · exact Or.inl q
        · exact Or.inr ⟨g, Nat.le_refl _, hgl, q1, q2, q3, q4⟩
        · exact Or.inr ⟨g', by omega, q2, q3⟩
      · rintro (q | ⟨g', q1, q2, q3, q4, q5, q6⟩)
        · exact Or.inl (Or.inl q)
        · by_cases hgg : g' = g
          · rw [hgg] at q3 q4 q5 q6
            exact Or.inl (Or.inr ⟨q3, q4, q5, q6⟩)
          · exact Or.inr ⟨g', by omega, q2, q3, q4, q5, q6⟩
    have skip : (¬ (wgS W g = 1 ∧ wgO W g = wh t)) → wp (ar ((g : Int) + 1) fun v40 => bX1_adjectivesOf0_L130 (runC d) f (x : Int) (b : Int) a3 ((ps t).length : Int) v40 u xx) Q := fun hno => nxt u L (Ux.rf hs) hA (fun v => ⟨Or.inl, fun q => q.elim id (fun z => absurd ⟨z.1, z.2.1⟩ hno)⟩)
    rw [bX1_adjectivesOf0_L130, wp_un, gg1, if_pos (by omega), ld_nat (by omega), s1]
    refine wp_ite (fun hq1 => ?_) (fun hq1 => skip (fun q => hq1 (by omega)))
    have hS1 : wgS W g = 1 := by omega
    obtain ⟨k1, k2, k3, k4, k5⟩ := (hG.2 g hgl).2.2.1 (by omega)
    rw [ld_nat (by omega), s3 (by omega), ld_nat (by omega), hn.2.1 (by omega)]
    refine wp_ite (fun hq2 => ?_) (fun hq2 => skip (fun q => hq2 (by omega)))
    have hO : wgO W g = wh t := by omega
    have hXg := hXt.2.2.1 h4 g hgl hS1 hO
    rw [hO] at k2 k3 k4 k5
    -- the arguments as nodes
    have body : ∀ a b' : Nat, a < nC u → b' < nC u → trC ν u a = pa t 0 → trC ν u b' = pa t 1 → (0 < (ps t).length → a < x) → (1 < (ps t).length → b' < x) → ∀ (K1 : Sg → Option (Int × Sg)) (K0 : Sg → Option (Int × Sg)), (∀ u2, Ux ν c u u2 X → AdP ν c W u0 X b L u2 → argF W (adT W) t g → wp (K1 u2) Q) → (∀ u2, Ux ν c u u2 X → AdP ν c W u0 X b L u2 → ¬ argF W (adT W) t g → wp (K0 u2) Q) → wp (ld u 78 (g : Int) fun v30 => if v30 = 0 then (ld u 79 (g : Int) fun v24 => if v24 = 0 then K1 u else (ld u 79 (g : Int) fun v25 => cl (runC d 111 [v25, (a : Int), (b' : Int), 0] u) fun v26 s27 => cl (runC d 81 [(b' : Int), v26] s27) fun v28 s29 => if v28 = 0 then K0 s29 else K1 s29)) else (ld u 78 (g : Int) fun v31 => cl (runC d 111 [v31, (a : Int), (b' : Int), 0] u) fun v32 s33 => cl (runC d 81 [(a : Int), v32] s33) fun v34 s35 => if v34 = 0 then K0 s35 else (ld s35 79 (g : Int) fun v24 => if v24 = 0 then K1 s35 else (ld s35 79 (g : Int) fun v25 => cl (runC d 111 [v25, (a : Int), (b' : Int), 0] s35) fun v26 s27 => cl (runC d 81 [(b' : Int), v26] s27) fun v28 s29 => if v28 = 0 then K0 s29 else K1 s29)))) Q := fun a b' ha hb' ea eb hax hbx K1 K0 kk1 kk0 => by
      have part : ∀ (i y : Nat), i < (ps t).length → y < x → trC ν u y = pa t i → 0 < y ∧ FiSp ν c W (trC ν u y) ∧ htT (trC ν u y) + 1 ≤ htT t ∧ adXX W X (trC ν u y) := fun i y hi hyx ey => by
        obtain ⟨c1, c2⟩ := fun_part ht h4 hi
        rw [ey]
        refine ⟨?_, ihc _ c2, ht_c c2, fun s hs' ht' => hX s (sub_tr t hs' (sub_c c2 (sub_rf _))) ht'⟩
        rcases Nat.eq_zero_or_pos y with q | q
        · rw [q] at ey
          exact absurd ey.symm (isTm_pos c1.2.1)
        · exact q
      have hcl0 : 0 < (ps t).length → cltm W (Nm ν c) (pa t 0) := fun q => (fun_part ht h4 q).1
      have hcl1 : 1 < (ps t).length → cltm W (Nm ν c) (pa t 1) := fun q => (fun_part ht h4 q).1
      refine argC (t := t) (w := wgA W g) (m := (ps t).length) (p := a) (K1 := fun s => ld s 79 (g : Int) fun v24 => if v24 = 0 then K1 s else (ld s 79 (g : Int) fun v25 => cl (runC d 111 [v25, (a : Int), (b' : Int), 0] s) fun v26 s27 => cl (runC d 81 [(b' : Int), v26] s27) fun v28 s29 => if v28 = 0 then K0 s29 else K1 s29)) (K0 := K0) hd hc0 hl hb hA ha ea hb' eb (fun hw => ?_) s4 (by omega) (fun hw => ?_) hXg.1 (fun u2 hx2 hA2 hfit => ?_) (fun u2 hx2 hA2 hw hnf => ?_)
      · have hl0 : 0 < (ps t).length := by
          rcases Nat.eq_zero_or_pos (ps t).length with q | q
          · exact absurd (k2.mpr (by omega)) hw
          · exact q
        obtain ⟨z1, z2, z3, z4⟩ := part 0 a hl0 (hax hl0) ea
        exact ⟨z1, by have := hax hl0; omega, by have := hax hl0; omega, z2, z3, z4⟩
      · have := k3 hw
        rw [← f2] at this
        exact ⟨this.1, this.2, by omega, hcl0, hcl1⟩
      · -- the second
        have hc2 := hc0.up hA2.1 hA2.2.2.2.2.2.2.1 (by decide +kernel)
        obtain ⟨gg1', gg2', ⟨gg3', gg4', gg5', gg6', gg7'⟩, gg8'⟩ := hc2.2.2.2.2.2.2
        have hn2 := hx2.n hs
        have ea2 : trC ν u2 a = pa t 0 := by rw [hx2.tr hs ha]; exact ea
        have eb2 : trC ν u2 b' = pa t 1 := by rw [hx2.tr hs hb']; exact eb
        have h31' : gL u0 31 ≤ gL u2 31 := hA2.2.2.2.2.2.2.1.2.2.1 31
        have eA : wgA W g ≠ 0 → 0 < (ps t).length ∧ fitF W (adT W) (pa t 0) (sbT (locg (pa t 0) (pa t 1)) 0 (wgA W g)) := fun hw => by
          have hf := hfit hw
          rw [ea] at hf
          refine ⟨?_, hf⟩
          rcases Nat.eq_zero_or_pos (ps t).length with q | q
          · exact absurd (k2.mpr (by omega)) hw
          · exact q
        refine argC (t := t) (w := wgB W g) (m := (ps t).length) (p := b') (K1 := K1) (K0 := K0) hd hc0 hl hb hA2 (by omega) ea2 (by omega) eb2 (fun hw => ?_) (gg8' g hgl).2.2.2.2.1 (by omega) (fun hw => ?_) hXg.2 (fun u3 hx3 hA3 hfit3 => ?_) (fun u3 hx3 hA3 hw hnf => ?_)
        · have hl0 : 1 < (ps t).length := by
            rcases Nat.lt_or_ge 1 (ps t).length with q | q
            · exact q
            · exact absurd (k4.mpr (by omega)) hw
          obtain ⟨z1, z2, z3, z4⟩ := part 1 b' hl0 (hbx hl0) eb
          rw [eb2, ← eb]
          exact ⟨z1, by omega, by have := hbx hl0; omega, z2, z3, z4⟩
        · have := k5 hw
          rw [← f2] at this
          exact ⟨this.1, this.2, by omega, hcl0, hcl1⟩
        · refine kk1 u3 (hx2.trn hx3) hA3 ⟨eA, fun hw => ?_⟩
          have hf := hfit3 hw
          rw [eb2] at hf
          refine ⟨?_, hf⟩
          rcases Nat.lt_or_ge 1 (ps t).length with q | q
          · exact q
          · exact absurd (k4.mpr (by omega)) hw
        · refine kk0 u3 (hx2.trn hx3) hA3 (fun q => hnf ?_)
          rw [eb2]
          exact (q.2 hw).2
      · refine kk0 u2 hx2 hA2 (fun q => hnf ?_)
        rw [ea]
        exact (q.1 hw).2
    -- the ends
    have hgv := (hG.2 g hgl).2.2.2.1 (by omega)
    have hpt := ps_type hgv.2.1 hgv.1
    have yes : ∀ u2, Ux ν c u u2 X → AdP ν c W u0 X b L u2 → argF W (adT W) t g → wp (bX1_adjectivesOf0_L299 (runC d) KF (x : Int) (b : Int) a3 ((ps t).length : Int) (g : Int) 1 1 u2 (fun v12 v13 v14 v15 v16 s11 => ar (v16 + 1) fun v17 => bX1_adjectivesOf0_L130 (runC d) f v12 v13 v14 v15 v17 s11 xx)) Q := fun u2 hx2 hA2 harg => by
      refine adj_L299 (by omega) hc0 hG hgl (by omega) (by omega) ((ps (wgV W g)).length - 1) 1 KF u2 L (by omega) (Nat.lt_of_le_of_lt (by omega : _ ≤ 65536) KF_gt) (Nat.le_refl _) hA2 _ (fun u3 hx3 hA3 => ?_)
      refine nxt u3 _ (hx2.trn hx3) hA3 (fun v => ?_)
      rw [addAll_mem, hpt.2.2]
      exact ⟨fun q => q.imp id (fun z => ⟨hS1, hO, harg, z⟩), fun q => q.imp id (fun z => z.2.2.2)⟩
    have no : ∀ u2, Ux ν c u u2 X → AdP ν c W u0 X b L u2 → ¬ argF W (adT W) t g → wp (bX1_adjectivesOf0_L299 (runC d) KF (x : Int) (b : Int) a3 ((ps t).length : Int) (g : Int) 0 1 u2 (fun v12 v13 v14 v15 v16 s11 => ar (v16 + 1) fun v17 => bX1_adjectivesOf0_L130 (runC d) f v12 v13 v14 v15 v17 s11 xx)) Q := fun u2 hx2 hA2 harg => by
      obtain ⟨kf, hkf⟩ : ∃ kf, KF = kf + 1 := ⟨KF - 1, by decide⟩
      rw [hkf, bX1_adjectivesOf0_L299, if_pos rfl]
      exact nxt u2 L hx2 hA2 (fun v => ⟨Or.inl, fun q => q.elim id (fun z => absurd z.2.2.1 harg)⟩)
    rw [wp_jn]
    refine wp_ite (fun hz => ?_) (fun hz => ?_)
    · show wp (jn _ _) Q
      rw [wp_jn]
      show wp (if ((ps t).length : Int) ≤ 1 then _ else _) Q
      rw [if_pos (by omega)]
      exact body 0 0 (by omega) (by omega) (by rw [pa_out (by omega)]; rfl) (by rw [pa_out (by omega)]; rfl) (fun q => by omega) (fun q => by omega) _ _ yes no
    · obtain ⟨a, a1, a2, a3'⟩ := partN (d := d) (i := 0) (by omega) hs x0 hx (by rw [et]; omega) (Or.inr rfl)
      rw [et] at a3'
      refine wp_eq a1 ?_
      show wp (jn _ _) Q
      rw [wp_jn]
      show wp (if ((ps t).length : Int) ≤ 1 then _ else _) Q
      refine wp_ite (fun hz2 => ?_) (fun hz2 => ?_)
      · exact body a 0 (by omega) (by omega) a3' (by rw [pa_out (by omega)]; rfl) (fun q => a2) (fun q => by omega) _ _ yes no
      · obtain ⟨b', b1, b2, b3⟩ := partN (d := d) (i := 1) (by omega) hs x0 hx (by rw [et]; omega) (Or.inl (by rw [et]; omega))
        rw [et] at b3
        refine wp_eq b1 ?_
        exact body a b' (by omega) (by omega) a3' b3 (fun q => a2) (fun q => b2) _ _ yes no
