theorem adXX.arg {W : Wd} {N : Nat → Prop} {X : Nat → Prop} {t k : Nat} (h : adXX W X t) (ht : cltm W N t) (h4 : kd t = 4) (hk : k < (ps t).length) : tyX W X (pa t k) ∧ ∀ z ∈ upT W (tyT W (pa t k)), paX W X z := by
  obtain ⟨p1, p2⟩ := fun_part ht h4 hk
  have := h (pa t k) (sub_c p2 (sub_rf _)) p1.2.1
  exact ⟨this.1, fun z hz => (this.2.1 z hz).1⟩
theorem tX3_termsSuit {d : Nat} (hd : 271 ≤ d) {ν : Nat → Nat} {c : Nat} {W : Wd} {u : Sg} {x g t : Nat} {X : Nat → Prop} (hw : WF FT u) (hc : TW ν c W u) (hW : WOK W (NT ν c)) (hG : WGK W (NT ν c)) (hm : MemT ν c W u) (x0 : 0 < x) (hx : x ≤ nT u) (et : trT ν u x = t) (ht : cltm W (NT ν c) t) (h4 : kd t = 4) (hg : g < wnG W) (hS : wgS W g = 1) (hO : wgO W g = wh t) (hrem : ∀ y, 0 < y → y ≤ nT u → trT ν u y ∈ fms t → RemT u y) (hr : hT u ≤ 26000) (hX : adXX W X t) (hl : LimT ν u X) :
    wp (runT d 96 [(g : Int), (x : Int)] u) (RbT ν c DX3_has u X (argF W (adT W) t g)) := by
  obtain ⟨d, rfl⟩ : ∃ d', d = d' + 1 := ⟨d - 1, by omega⟩
  rw [runT_eq (by omega)]
  show wp (bX3_termsSuit (runT d) g x u) _
  unfold bX3_termsSuit
  obtain ⟨f1, f2⟩ := ht.1.lc.2.1 h4
  obtain ⟨ff1, ff2, ff3⟩ := hW.2.2.1 _ f1
  have hKF := KF_big
  have hXt := (hX t (sub_rf t) ht.2.1).2.2.1 h4 g hg hS hO
  have hall := argF_all hG hg (by omega) hO f2 (by omega)
  obtain ⟨k1, k2, k3, k4, k5⟩ := (hG.2 g hg).2.2.1 (by omega)
  rw [hO] at k2 k4
  have := termsSuit_L2 (d := d) (by omega) hc hW hG hm x0 hx et ht h4 hg (by omega) hO hrem hr (fun k hk => hX.arg ht h4 hk) (fun k hk => by
    unfold wgK
    by_cases q : k = 0
    · rw [if_pos q]; exact hXt.1 (fun z => by have := k2.mp z; omega)
    · rw [if_neg q]; exact hXt.2 (fun z => by have := k4.mp z; omega)) hl (ps t).length 0 KF u (by omega) (by omega) (UpT.rf hc.1) hw Gr.rf
  refine wp_mono this (fun r u' h => ⟨h.1.imp (fun q => ⟨q.1, hall.mpr (fun k hk => q.2 k (Nat.zero_le _) hk)⟩) (fun q => ⟨q.1, fun w => q.2 (fun k _ hk => hall.mp w k hk)⟩), h.2⟩)
theorem found_L25 {d : Nat} (hd : 280 ≤ d) {ν : Nat → Nat} {c : Nat} {W : Wd} {u : Sg} {x t : Nat} {a2 : Int} {X : Nat → Prop} {Q : Int → Sg → Prop} (hc : TW ν c W u) (hW : WOK W (NT ν c)) (hG : WGK W (NT ν c)) (hm : MemT ν c W u) (x0 : 0 < x) (hx : x ≤ nT u) (et : trT ν u x = t) (ht : cltm W (NT ν c) t) (h4 : kd t = 4) (hrem : ∀ y, 0 < y → y ≤ nT u → trT ν u y ∈ fms t → RemT u y) (hr : hT u ≤ 26000) (hX : adXX W X t) (hl : LimT ν u X) : ∀ (m g f : Nat) (u1 : Sg) (v : Int) (P : Nat → Prop), g + m = wnG W → m < f → UpT ν c u u1 X → WF FT u1 → Gr FT DX3_has u u1 → bitP v P → ∀ xx : Int → Int → Sg → Option (Int × Sg), (∀ u2 v2, UpT ν c u u2 X → WF FT u2 → Gr FT DX3_has u u2 → bitP v2 (fun j => P j ∨ ∃ g', g ≤ g' ∧ g' < wnG W ∧ wgS W g' = 1 ∧ wgO W g' = wh t ∧ argF W (adT W) t g' ∧ j ∈ adjT (wgV W g')) → wp (xx a2 v2 u2) Q) → wp (bX3_found_L25 (runT d) f (x : Int) a2 v (g : Int) u1 xx) Q := by
  have hs := hc.1
  have nw1 : nw (kd t) = 1 := by rw [h4]; decide
  intro m
  induction m with
  | zero =>
    intro g f u1 v P hg hf hU hw1 hgr hv xx k
    obtain ⟨f, rfl⟩ : ∃ f', f = f' + 1 := ⟨f - 1, by omega⟩
    have hc1 := hc.up hU.ux hgr (by decide +kernel)
    obtain ⟨gg1, gg2, gg3, gg8⟩ := hc1.2.2.2.2.2.2
    rw [bX3_found_L25, wp_un, gg1, if_neg (by omega)]
    exact k u1 v hU hw1 hgr (hv.eqv (fun j _ => ⟨Or.inl, fun q => q.elim id (fun ⟨g', z1, z2, _⟩ => by omega)⟩))
  | succ m ih =>
    intro g f u1 v P hg hf hU hw1 hgr hv xx k
    obtain ⟨f, rfl⟩ : ∃ f', f = f' + 1 := ⟨f - 1, by omega⟩
    have hs1 := hU.1
    have hc1 := hc.up hU.ux hgr (by decide +kernel)
    obtain ⟨gg1, gg2, gg3, gg8⟩ := hc1.2.2.2.2.2.2
    have hgl : g < wnG W := by omega
    obtain ⟨s1, s2, s3, s4, s5⟩ := gg8 g hgl
    have l29 := gg3 29 (by omega) (by omega)
    have l32 := gg3 32 (by omega) (by omega)
    have hx1 := Nat.le_trans hx hU.n
    have etx : trT ν u1 x = t := by rw [hU.tr hs hx]; exact et
    have nxt : ∀ (u2 : Sg) (v2 : Int) (P2 : Nat → Prop), UpT ν c u u2 X → WF FT u2 → Gr FT DX3_has u u2 → bitP v2 P2 → (∀ j, P2 j ↔ P j ∨ (wgS W g = 1 ∧ wgO W g = wh t ∧ argF W (adT W) t g ∧ j ∈ adjT (wgV W g))) → wp (ar ((g : Int) + 1) fun v40 => bX3_found_L25 (runT d) f (x : Int) a2 v2 v40 u2 xx) Q := fun u2 v2 P2 hU2 hw2 hg2 hv2 hP2 => by
      rw [wp_ar]
      refine ⟨⟨by omega, by omega⟩, ?_⟩
      rw [show (g : Int) + 1 = ((g + 1 : Nat) : Int) by omega]
      refine ih (g + 1) f u2 v2 P2 (by omega) (by omega) hU2 hw2 hg2 hv2 xx (fun u3 v3 z1 z2 z3 z4 => k u3 v3 z1 z2 z3 (z4.eqv (fun j _ => ?_)))
      rw [hP2]
      constructor
      · rintro ((q | ⟨q1, q2, q3, q4⟩) | ⟨g', q1, q2, q3⟩)
        · exact Or.inl q
        · exact Or.inr ⟨g, Nat.le_refl _, hgl, q1, q2, q3, q4⟩
        · exact Or.inr ⟨g', by omega, q2, q3⟩
      · rintro (q | ⟨g', q1, q2, q3, q4, q5, q6⟩)
        · exact Or.inl (Or.inl q)
        · by_cases hgg : g' = g
          · rw [hgg] at q3 q4 q5 q6
            exact Or.inl (Or.inr ⟨q3, q4, q5, q6⟩)
          · exact Or.inr ⟨g', by omega, q2, q3, q4, q5, q6⟩
    have skip : ∀ (u2 : Sg), UpT ν c u u2 X → WF FT u2 → Gr FT DX3_has u u2 → (¬ (wgS W g = 1 ∧ wgO W g = wh t ∧ argF W (adT W) t g)) → wp (ar ((g : Int) + 1) fun v40 => bX3_found_L25 (runT d) f (x : Int) a2 v v40 u2 xx) Q := fun u2 hU2 hw2 hg2 hno => nxt u2 v P hU2 hw2 hg2 hv (fun j => ⟨Or.inl, fun q => q.elim id (fun z => absurd ⟨z.1, z.2.1, z.2.2.1⟩ hno)⟩)
    rw [bX3_found_L25, wp_un, gg1, if_pos (by omega), ld_nat (by omega), s1]
    refine wp_ite (fun hq1 => ?_) (fun hq1 => skip u1 hU hw1 hgr (fun q => hq1 (by omega)))
    have hS1 : wgS W g = 1 := by omega
    rw [ld_nat (by omega), (s3 (by omega)).1]
    refine wp_eq (headNT (d := d) (by omega) hs1 x0 hx1 (by rw [etx]; exact nw1) (by rw [etx]; omega)) ?_
    rw [etx]
    refine wp_ite (fun hq2 => ?_) (fun hq2 => skip u1 hU hw1 hgr (fun q => hq2 (by omega)))
    have hO : wgO W g = wh t := by omega
    have hr1 : hT u1 = hT u := hU.2.2.2.1
    have hrem1 : ∀ y, 0 < y → y ≤ nT u1 → trT ν u1 y ∈ fms t → RemT u1 y := fun y y0 hy hym => by
      obtain ⟨i, h8, hi, hc0⟩ := fms_at.mp hym
      have hil : i < (ps t).length := (List.getElem?_eq_some_iff.mp hi).1
      obtain ⟨b, _, b2, b3⟩ := partNT (d := d) (i := i) (by omega) hs x0 hx (by rw [et]; exact hil) (Or.inl (by rw [et]; omega))
      rw [et, pa_at hi] at b3
      have e := trT_inj hs1 (x := y) (y := b) hy (by have := hU.n; omega) (by rw [hU.tr hs (x := b) (by omega), b3])
      exact (hrem y y0 (by omega) (by rw [← hU.tr hs (by omega)]; exact hym)).up hgr (by decide +kernel) (by decide +kernel)
    refine wp_call (tX3_termsSuit (d := d) (by omega) hw1 hc1 hW hG (hm.up hs hU.ux hgr (by decide +kernel) (by decide +kernel) (by decide +kernel)) x0 hx1 etx ht h4 hgl hS1 hO hrem1 (by omega) hX (hU.lim hl)) (fun r u2 ⟨v1, v2, v3, v4⟩ => ?_)
    have hU2 := hU.join v2
    have hg2 := hgr.tr v4
    refine wp_ite (fun h0 => ?_) (fun h0 => ?_)
    · refine skip u2 hU2 v3 hg2 (fun q => ?_)
      rcases v1 with w | w
      · omega
      · exact w.2 q.2.2
    · have harg : argF W (adT W) t g := by
        rcases v1 with w | w
        · exact w.2
        · exact absurd w.1 h0
      have hc2 := hc.up hU2.ux hg2 (by decide +kernel)
      obtain ⟨gg1', gg2', gg3', gg8'⟩ := hc2.2.2.2.2.2.2
      obtain ⟨_, _, _, s4', _⟩ := gg8' g hgl
      have l35 := gg3' 35 (by omega) (by omega)
      have hset : bitP (gN u2 35 g) (fun j => j ∈ adjT (wgV W g)) := s4' (by omega)
      rw [ld_nat (by omega), wp_un]
      exact nxt u2 _ _ hU2 v3 hg2 (hv.or hset) (fun j => ⟨fun q => q.imp id (fun z => ⟨hS1, hO, harg, z⟩), fun q => q.imp id (fun z => z.2.2.2)⟩)
theorem found_L101 {d : Nat} (hd : 280 ≤ d) {ν : Nat → Nat} {c : Nat} {W : Wd} {u : Sg} {y ty : Nat} {X : Nat → Prop} {Q : Int → Sg → Prop} (hc : TW ν c W u) (hW : WOK W (NT ν c)) (hG : WGK W (NT ν c)) (y0 : 0 < y) (hy : y ≤ nT u) (ey : trT ν u y = ty) (hty : clty W (NT ν c) ty) (hr : hT u ≤ 26000) (hX : adX1 W X ty) (hl : LimT ν u X) : ∀ (m g f : Nat) (u1 : Sg) (v mo : Int) (P : Nat → Prop), g + m = wnG W → m < f → UpT ν c u u1 X → WF FT u1 → Gr FT DX3_has u u1 → bitP v P → ∀ xx : Int → Int → Int → Sg → Option (Int × Sg), (∀ u2 v2 m2 (P2 : Nat → Prop), UpT ν c u u2 X → WF FT u2 → Gr FT DX3_has u u2 → bitP v2 P2 → (∀ j, P j → P2 j) → (∀ S : Nat → Prop, cluA W ty S → (∀ j, P j → S j) → ∀ j, P2 j → S j) → ((m2 = mo ∧ v2 = v ∧ P2 = P ∧ ∀ g', g ≤ g' → g' < wnG W → wgS W g' = 0 → (∀ j ∈ adjT (wgO W g'), P j) → ofM W ty g' → ∀ j ∈ adjT (wgV W g'), P j) ∨ (m2 = 1 ∧ ∃ j, j < 32 ∧ P2 j ∧ ¬ P j)) → wp (xx (y : Int) v2 m2 u2) Q) → wp (bX3_found_L101 (runT d) f (y : Int) v mo (g : Int) u1 xx) Q := by
  have hs := hc.1
  intro m
  induction m with
  | zero =>
    intro g f u1 v mo P hg hf hU hw1 hgr hv xx k
    obtain ⟨f, rfl⟩ : ∃ f', f = f' + 1 := ⟨f - 1, by omega⟩
    have hc1 := hc.up hU.ux hgr (by decide +kernel)
    obtain ⟨gg1, gg2, gg3, gg8⟩ := hc1.2.2.2.2.2.2
    rw [bX3_found_L101, wp_un, gg1, if_neg (by omega)]
    exact k u1 v mo P hU hw1 hgr hv (fun _ q => q) (fun S _ h => h) (Or.inl ⟨rfl, rfl, rfl, fun g' z1 z2 => by omega⟩)
  | succ m ih =>
    intro g f u1 v mo P hg hf hU hw1 hgr hv xx k
    obtain ⟨f, rfl⟩ : ∃ f', f = f' + 1 := ⟨f - 1, by omega⟩
    have hs1 := hU.1
    have hc1 := hc.up hU.ux hgr (by decide +kernel)
    obtain ⟨gg1, gg2, gg3, gg8⟩ := hc1.2.2.2.2.2.2
    have hgl : g < wnG W := by omega
    obtain ⟨s1, s2, s3, s4, s5⟩ := gg8 g hgl
    have l29 := gg3 29 (by omega) (by omega)
    have l30 := gg3 30 (by omega) (by omega)
    have l35 := gg3 35 (by omega) (by omega)
    have same : ∀ u2, UpT ν c u u2 X → WF FT u2 → Gr FT DX3_has u u2 → (wgS W g = 0 → (∀ j ∈ adjT (wgO W g), P j) → ofM W ty g → ∀ j ∈ adjT (wgV W g), P j) → wp (ar ((g : Int) + 1) fun v23 => bX3_found_L101 (runT d) f (y : Int) v mo v23 u2 xx) Q := fun u2 hU2 hw2 hg2 hok => by
      rw [wp_ar]
      refine ⟨⟨by omega, by omega⟩, ?_⟩
      rw [show (g : Int) + 1 = ((g + 1 : Nat) : Int) by omega]
      refine ih (g + 1) f u2 v mo P (by omega) (by omega) hU2 hw2 hg2 hv xx (fun u3 v3 m3 P3 z1 z2 z3 z4 z5 z6 z7 => k u3 v3 m3 P3 z1 z2 z3 z4 z5 z6 ?_)
      refine z7.imp (fun q => ⟨q.1, q.2.1, q.2.2.1, fun g' w1 w2 w3 => ?_⟩) id
      by_cases hgg : g' = g
      · rw [hgg] at w3 ⊢; exact hok w3
      · exact q.2.2.2 g' (by omega) w2 w3
    rw [bX3_found_L101, wp_un, gg1, if_pos (by omega), ld_nat (by omega), s1]
    refine wp_ite (fun hq0 => ?_) (fun hq0 => same u1 hU hw1 hgr (fun q => absurd (by omega) hq0))
    have hS0 : wgS W g = 0 := by omega
    obtain ⟨k1, k2, k3, k4, k5⟩ := (hG.2 g hgl).2.1 hS0
    have hgv := (hG.2 g hgl).2.2.2.1 (by omega)
    have hset : bitP (gN u1 35 g) (fun j => j ∈ adjT (wgV W g)) := s4 (by omega)
    rw [ld_nat (by omega), wp_un]
    refine wp_ite (fun hq => same u1 hU hw1 hgr (fun _ _ _ j hj => (hv.orid hset).mp hq j (by have := hgv.2.2 j hj; omega) hj)) (fun hq => ?_)
    have hnew : ∃ j, j < 32 ∧ j ∈ adjT (wgV W g) ∧ ¬ P j := Classical.byContradiction (fun hno => hq ((hv.orid hset).mpr (fun j hj hm => Classical.byContradiction (fun hp => hno ⟨j, hj, hm, hp⟩))))
    obtain ⟨of, o1, o0, o2, o3⟩ := (s2 hS0).1.pos (gvn_ht k1).2
    rw [ld_nat (by omega), o1]
    obtain ⟨s, e, hbs⟩ := rX3_setOf (d := d) (by omega) hs1 o0 o2 (by rw [o3]; exact k1.1.1) (by rw [o3]; exact k2) (by rw [o3]; exact k5)
    rw [o3] at hbs
    refine wp_eq e ?_
    rw [wp_un, wp_un]
    have hsub := hbs.sub hv
    refine wp_ite (fun hz => ?_) (fun hz => same u1 hU hw1 hgr (fun _ q => absurd (hsub.mpr (fun j _ hj => q j hj)) hz))
    have hall : ∀ j ∈ adjT (wgO W g), P j := fun j hj => hsub.mp hz j (by have := k5 j hj; omega) hj
    have hr1 : hT u1 = hT u := hU.2.2.2.1
    have ey1 : trT ν u1 y = ty := by rw [hU.tr hs hy]; exact ey
    refine wp_call (tX3_hasOf (d := d) (g := g) (y := y) (X := X) (by omega) hw1 hc1 hW hG hgl hS0 y0 (Nat.le_trans hy hU.n) (by rw [ey1]; exact hty) (by omega) (by rw [ey1]; exact hX) (hU.lim hl)) (fun r u2 ⟨v1, v2, v3, v4⟩ => ?_)
    rw [ey1] at v1
    have hU2 := hU.join v2
    have hg2 : Gr FT DX3_has u u2 := hgr.tr (v4.sub (by decide +kernel))
    refine wp_ite (fun h0 => ?_) (fun h0 => ?_)
    · refine same u2 hU2 v3 hg2 (fun _ _ q => ?_)
      rcases v1 with w | w
      · omega
      · exact absurd q w.2
    · have hof : ofM W ty g := by
        rcases v1 with w | w
        · exact w.2
        · exact absurd w.1 h0
      have hc2 := hc.up hU2.ux hg2 (by decide +kernel)
      obtain ⟨gg1', gg2', gg3', gg8'⟩ := hc2.2.2.2.2.2.2
      obtain ⟨_, _, _, s4', _⟩ := gg8' g hgl
      have l35' := gg3' 35 (by omega) (by omega)
      have hset' : bitP (gN u2 35 g) (fun j => j ∈ adjT (wgV W g)) := s4' (by omega)
      rw [ld_nat (by omega), wp_un, wp_ar]
      refine ⟨⟨by omega, by omega⟩, ?_⟩
      rw [show (g : Int) + 1 = ((g + 1 : Nat) : Int) by omega]
      refine ih (g + 1) f u2 _ 1 _ (by omega) (by omega) hU2 v3 hg2 (hv.or hset') xx (fun u3 v3' m3 P3 z1 z2 z3 z4 z5 z6 z7 => k u3 v3' m3 P3 z1 z2 z3 z4 (fun j hj => z5 j (Or.inl hj)) (fun S hS hSP => z6 S hS (fun j hj => ?_)) (Or.inr ⟨?_, ?_⟩))
      · rcases hj with q | q
        · exact hSP j q
        · exact hS g hgl hS0 (fun i hi => hSP i (hall i hi)) hof j q
      · rcases z7 with q | q <;> exact q.1
      · obtain ⟨j, n1, n2, n3⟩ := hnew
        exact ⟨j, n1, z5 j (Or.inr n2), n3⟩
theorem filt_lt {p q : Nat → Bool} : ∀ {l : List Nat}, (∀ x ∈ l, p x = true → q x = true) → (∃ x ∈ l, q x = true ∧ p x = false) → (l.filter p).length < (l.filter q).length
  | [], _, ⟨x, hx, _⟩ => by cases hx
  | a :: l, h, ⟨x, hx, h1, h2⟩ => by
    have hle : ∀ {l : List Nat}, (∀ x ∈ l, p x = true → q x = true) → (l.filter p).length ≤ (l.filter q).length := fun {l} hl => by
      induction l with
      | nil => simp
      | cons b l ih =>
        have := ih (fun x hx => hl x (List.mem_cons_of_mem _ hx))
        rw [List.filter_cons, List.filter_cons]
        by_cases hp : p b = true
        · rw [if_pos hp, if_pos (hl b List.mem_cons_self hp)]; simp; exact this
        · rw [if_neg hp]
          split
          · simp; omega
          · exact this
    rw [List.filter_cons, List.filter_cons]
    have ht : ∀ x ∈ l, p x = true → q x = true := fun x hx => h x (List.mem_cons_of_mem _ hx)
    rcases List.mem_cons.mp hx with e | e
    · subst e
      rw [if_neg (by rw [h2]; decide), if_pos h1]
      have := hle ht
      simp; omega
    · have := filt_lt ht ⟨x, e, h1, h2⟩
      by_cases hp : p a = true
      · rw [if_pos hp, if_pos (h a List.mem_cons_self hp)]; simp; exact this
      · rw [if_neg hp]
        split
        · simp; omega
        · exact this
def cntB (v : Int) : Nat := ((List.range 32).filter (fun j => bt v j)).length
theorem cntB_le (v : Int) : cntB v ≤ 32 := by
  unfold cntB
  have := List.length_filter_le (fun j => bt v j) (List.range 32)
  simpa using this
theorem cntB_lt {v v' : Int} {P P' : Nat → Prop} (hv : bitP v P) (hv' : bitP v' P') (h : ∀ j, P j → P' j) (hn : ∃ j, j < 32 ∧ P' j ∧ ¬ P j) : cntB v < cntB v' := by
  unfold cntB
  refine filt_lt (fun j hj hb => ?_) ?_
  · have h32 := List.mem_range.mp hj
    exact (hv'.2 j h32).mpr (h j ((hv.2 j h32).mp hb))
  · obtain ⟨j, h1, h2, h3⟩ := hn
    refine ⟨j, List.mem_range.mpr h1, (hv'.2 j h1).mpr h2, ?_⟩
    cases e : bt v j with
    | false => rfl
    | true => exact absurd ((hv.2 j h1).mp e) h3
theorem found_L90 {d : Nat} (hd : 280 ≤ d) {ν : Nat → Nat} {c : Nat} {W : Wd} {u : Sg} {y ty : Nat} {X : Nat → Prop} {Q : Int → Sg → Prop} (hc : TW ν c W u) (hW : WOK W (NT ν c)) (hG : WGK W (NT ν c)) (y0 : 0 < y) (hy : y ≤ nT u) (ey : trT ν u y = ty) (hty : clty W (NT ν c) ty) (hr : hT u ≤ 26000) (hX : adX1 W X ty) (hl : LimT ν u X) : ∀ (n f : Nat) (u1 : Sg) (v : Int) (P : Nat → Prop), 32 < n + cntB v → n + 1 < f → UpT ν c u u1 X → WF FT u1 → Gr FT DX3_has u u1 → bitP v P → ∀ xx : Int → Sg → Option (Int × Sg), (∀ u2 v2 (P2 : Nat → Prop), UpT ν c u u2 X → WF FT u2 → Gr FT DX3_has u u2 → bitP v2 P2 → (∀ j, P j → P2 j) → (∀ S : Nat → Prop, cluA W ty S → (∀ j, P j → S j) → ∀ j, P2 j → S j) → cluA W ty P2 → wp (xx v2 u2) Q) → wp (bX3_found_L90 (runT d) f (y : Int) v 1 u1 xx) Q := by
  intro n
  induction n with
  | zero =>
    intro f u1 v P hn
    have := cntB_le v
    omega
  | succ n ih =>
    intro f u1 v P hn hf hU hw1 hgr hv xx k
    obtain ⟨f, rfl⟩ : ∃ f', f = f' + 1 := ⟨f - 1, by omega⟩
    have h30 := hc.2.2.2.2.2.2.2.1
    have hKF := KF_big
    rw [bX3_found_L90, if_neg (by decide)]
    refine found_L101 hd hc hW hG y0 hy ey hty hr hX hl (wnG W) 0 KF u1 v 0 P (by omega) (by omega) hU hw1 hgr hv _ (fun u2 v2 m2 P2 z1 z2 z3 z4 z5 z6 z7 => ?_)
    rcases z7 with ⟨q1, q2, q3, q4⟩ | ⟨q1, q2⟩
    · obtain ⟨f, rfl⟩ : ∃ f', f = f' + 1 := ⟨f - 1, by omega⟩
      rw [q1, bX3_found_L90, if_pos rfl]
      refine k u2 v2 P2 z1 z2 z3 z4 z5 z6 (fun g h1 h2 h3 h4 j hj => ?_)
      rw [q3] at h3 ⊢
      exact q4 g (Nat.zero_le _) h1 h2 h3 h4 j hj
    · rw [q1]
      have hlt := cntB_lt hv z4 z5 q2
      exact ih f u2 v2 P2 (by omega) (by omega) z1 z2 z3 z4 xx (fun u3 v3 P3 w1 w2 w3 w4 w5 w6 w7 => k u3 v3 P3 w1 w2 w3 w4 (fun j hj => w5 j (z5 j hj)) (fun S hS hSP => w6 S hS (z6 S hS hSP)) w7)
theorem tX3_found {d : Nat} (hd : 281 ≤ d) {ν : Nat → Nat} {c : Nat} {W : Wd} {u : Sg} {x t : Nat} {X : Nat → Prop} (hw : WF FT u) (hc : TW ν c W u) (hW : WOK W (NT ν c)) (hG : WGK W (NT ν c)) (hm : MemT ν c W u) (x0 : 0 < x) (hx : x ≤ nT u) (et : trT ν u x = t) (ht : cltm W (NT ν c) t) (hrem : kd t = 4 → ∀ y, 0 < y → y ≤ nT u → trT ν u y ∈ fms t → RemT u y) (hr : hT u ≤ 26000) (hX : adXX W X t) (hl : LimT ν u X) :
    wp (runT d 94 [(x : Int)] u) (RiT ν c DX3_has u X (adT W t)) := by
  obtain ⟨d, rfl⟩ : ∃ d', d = d' + 1 := ⟨d - 1, by omega⟩
  rw [runT_eq (by omega)]
  show wp (bX3_found (runT d) x u) (RiT ν c DX3_has u X (adT W t))
  unfold bX3_found
  have hs := hc.1
  have hXt := hX t (sub_rf t) ht.2.1
  have hyt := ty_ok hW ht
  have h30 := hc.2.2.2.2.2.2.2.1
  have hKF := KF_big
  refine wp_jnG (fun j => ∀ (y : Nat) (v : Int) (u2 : Sg) (P : Nat → Prop), 0 < y → y ≤ nT u2 → trT ν u2 y = tyT W t → UpT ν c u u2 X → WF FT u2 → Gr FT DX3_has u u2 → bitP v P → (∀ j, P j ↔ basA W (adT W) t j) → wp (j (y : Int) v u2) (RiT ν c DX3_has u X (adT W t))) ?_ ?_
  · intro y v u2 P y0 hy ey hU hw2 hg2 hv hP
    have hc2 := hc.up hU.ux hg2 (by decide +kernel)
    have hr2 : hT u2 = hT u := hU.2.2.2.1
    refine found_L90 (by omega) hc2 hW hG y0 hy ey hyt (by omega) hXt.2.1 (hU.lim hl) 33 KF u2 v P (by omega) (by omega) (UpT.rf hU.1) hw2 Gr.rf hv _ (fun u3 v3 P3 w1 w2 w3 w4 w5 w6 w7 => ?_)
    rw [wp_some]
    refine ⟨w4.eqv (fun j _ => ⟨fun q => w6 (adT W t) (adT.clu W t) (fun i hi => adT.bas ((hP i).mp hi)) j q, fun q => q.min (fun i hi => w5 i ((hP i).mpr hi)) w7⟩), hU.join w1, w2, hg2.tr w3⟩
  · intro j hj
    refine wp_call (tX3_typeOf (d := d) (x := x) (X := X) (by omega) hw hc hW x0 hx (by rw [et]; exact ht) (by omega) (by rw [et]; exact hXt.1) hl) (fun r u1 ⟨y, z1, y0, z3, z4, z5, z6, z7⟩ => ?_)
    subst z1
    rw [et] at z4
    have hs1 := z5.1
    have hg1 : Gr FT DX3_has u u1 := z7.sub (by decide +kernel)
    have hc1 := hc.up z5.ux hg1 (by decide +kernel)
    have hr1 : hT u1 = hT u := z5.2.2.2.1
    refine wp_call (tX3_own (d := d) (y := y) (X := X) (by omega) z6 hc1 hW hG y0 z3 (by rw [z4]; exact hyt) (by omega) (by rw [z4]; exact fun s hs' => (hXt.2.1 s hs').1) (z5.lim hl)) (fun r u2 ⟨v1, v2, v3, v4⟩ => ?_)
    rw [z4] at v1
    have hU2 := z5.join v2
    have hs2 := hU2.1
    have hg2 : Gr FT DX3_has u u2 := hg1.tr (v4.sub (by decide +kernel))
    have hx2 := Nat.le_trans hx hU2.n
    have etx2 : trT ν u2 x = t := by rw [hU2.tr hs hx]; exact et
    have hn := nodeT hs2 x0 hx2
    rw [etx2] at hn
    have hy2 := Nat.le_trans z3 v2.n
    have ey2 : trT ν u2 y = tyT W t := by rw [v2.tr hs1 z3]; exact z4
    rw [ld_nat (hs2.k hx2), hn.1]
    refine wp_ite (fun h4 => ?_) (fun h4 => ?_)
    · have k4 : kd t = 4 := by
        rcases ht.k with q | q | q
        · rw [q] at h4; exact absurd h4 (by decide)
        · exact q
        · rw [q] at h4; exact absurd h4 (by decide)
      have hc2 := hc.up hU2.ux hg2 (by decide +kernel)
      have hr2 : hT u2 = hT u := hU2.2.2.2.1
      have hrem2 : ∀ y, 0 < y → y ≤ nT u2 → trT ν u2 y ∈ fms t → RemT u2 y := fun y y0 hy hym => by
        obtain ⟨i, h8, hi, hc0⟩ := fms_at.mp hym
        have hil : i < (ps t).length := (List.getElem?_eq_some_iff.mp hi).1
        obtain ⟨b, _, b2, b3⟩ := partNT (d := d) (i := i) (by omega) hs x0 hx (by rw [et]; exact hil) (Or.inl (by rw [et]; omega))
        rw [et, pa_at hi] at b3
        have e := trT_inj hs2 (x := y) (y := b) hy (by have := hU2.n; omega) (by rw [hU2.tr hs (x := b) (by omega), b3])
        exact (hrem k4 y y0 (by omega) (by rw [← hU2.tr hs (by omega)]; exact hym)).up hg2 (by decide +kernel) (by decide +kernel)
      refine found_L25 (by omega) hc2 hW hG (hm.up hs hU2.ux hg2 (by decide +kernel) (by decide +kernel) (by decide +kernel)) x0 hx2 etx2 ht k4 hrem2 (by omega) hX (hU2.lim hl) (wnG W) 0 KF u2 r _ (by omega) (by omega) (UpT.rf hs2) v3 Gr.rf v1 _ (fun u3 v3' w1 w2 w3 w4 => ?_)
      refine hj y v3' u3 _ y0 (Nat.le_trans hy2 w1.n) (by rw [w1.tr hs2 hy2]; exact ey2) (hU2.join w1) w2 (hg2.tr w3) w4 (fun j => ?_)
      unfold basA
      constructor
      · rintro (q | ⟨g', q1, q2, q3, q4, q5, q6⟩)
        · exact Or.inl q
        · exact Or.inr ⟨k4, g', q2, q3, q4, q5, q6⟩
      · rintro (q | ⟨_, g', q2, q3, q4, q5, q6⟩)
        · exact Or.inl q
        · exact Or.inr ⟨g', Nat.zero_le _, q2, q3, q4, q5, q6⟩
    · refine hj y r u2 _ y0 hy2 ey2 hU2 v3 hg2 v1 (fun j => ?_)
      unfold basA
      exact ⟨Or.inl, fun q => q.elim id (fun z => absurd (by rw [z.1]; decide) h4)⟩
