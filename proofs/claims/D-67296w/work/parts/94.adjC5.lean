theorem adj_L400 {d : Nat} (hd : 4 ≤ d) {ν : Nat → Nat} {c : Nat} {W : Wd} {u : Sg} {b g : Nat} {L : List Nat} {a1 a3 a4 : Int} {Q : Int → Sg → Prop} (hc : CW ν c W u) (hG : WGK W (Nm ν c)) (hg : g < wnG W) (hg0 : wgS W g = 0) (hb : rC u ≤ 29000) (hR : RwL u b L) {xx : Int → Int → Int → Int → Int → Int → Sg → Option (Int × Sg)} : ∀ (m i f : Nat), i + m = (ps (wgO W g)).length → m + 1 < f → 1 ≤ i → ((∀ j ∈ (ps (wgO W g)).drop i, j ∈ L) → wp (xx a1 (b : Int) a3 a4 (g : Int) 1 u) Q) → (¬ (∀ j ∈ (ps (wgO W g)).drop i, j ∈ L) → wp (xx a1 (b : Int) a3 a4 (g : Int) 0 u) Q) → wp (bX1_adjectivesOf0_L400 (runC d) f a1 (b : Int) a3 a4 (g : Int) 1 (i : Int) u xx) Q := by
  have hs := hc.1
  obtain ⟨gg1, gg2, ⟨gg3, gg4, gg5, gg6, gg7⟩, gg8⟩ := hc.2.2.2.2.2.2
  obtain ⟨k1, k2, k3, k4, k5⟩ := (hG.2 g hg).2.1 hg0
  obtain ⟨v, v1, v0, v2, v3⟩ := ((gg8 g hg).2.1 hg0).pos (gvn_ht k1).2
  have hn := nodeC hs v0 v2
  rw [v3] at hn
  have hl3 : gL u 3 = gL u 0 := hs.1.1.2.2.2.1.2.2.1
  have hpt := ps_type k1.1.1 k2
  intro m
  induction m with
  | zero =>
    intro i f hi hf h1 ky kn
    obtain ⟨f, rfl⟩ : ∃ f', f = f' + 1 := ⟨f - 1, by omega⟩
    rw [bX1_adjectivesOf0_L400, ld_nat (by omega), v1, ld_nat (by omega), hn.2.2.1, if_neg (by omega)]
    refine ky (fun j hj => ?_)
    rw [List.drop_of_length_le (by omega)] at hj
    cases hj
  | succ m ih =>
    intro i f hi hf h1 ky kn
    obtain ⟨f, rfl⟩ : ∃ f', f = f' + 1 := ⟨f - 1, by omega⟩
    have hil : i < (ps (wgO W g)).length := by omega
    have hat := adjN (d := d) (i := i) (by omega) hs v0 v2 (by rw [v3]; exact k2) (by rw [v3]; exact hil) h1
    rw [v3] at hat
    obtain ⟨r1, r2⟩ := rX1_inRow (d := d) (j := pa (wgO W g) i) (by omega) hs hb hR
    rw [bX1_adjectivesOf0_L400, ld_nat (by omega), v1, ld_nat (by omega), hn.2.2.1, if_pos (by omega), if_neg (by decide), ld_nat (by omega), v1]
    refine wp_eq hat ?_
    by_cases hin : pa (wgO W g) i ∈ L
    · refine wp_eq (r1 hin) ?_
      rw [wp_ar]
      refine ⟨⟨by omega, by omega⟩, ?_⟩
      rw [show (i : Int) + 1 = ((i + 1 : Nat) : Int) by omega]
      refine ih (i + 1) f (by omega) (by omega) (by omega) (fun q => ky (fun j hj => ?_)) (fun q => kn (fun z => q (fun j hj => z j (by rw [drop_pa hil]; exact List.mem_cons_of_mem _ hj))))
      rw [drop_pa hil] at hj
      rcases List.mem_cons.mp hj with w | w
      · rw [w]; exact hin
      · exact q j w
    · have hno := kn (fun z => hin (z _ (by rw [drop_pa hil]; exact List.mem_cons_self)))
      refine wp_eq (r2 hin) ?_
      rw [wp_ar]
      refine ⟨⟨by omega, by omega⟩, ?_⟩
      obtain ⟨f, rfl⟩ : ∃ f', f = f' + 1 := ⟨f - 1, by omega⟩
      rw [bX1_adjectivesOf0_L400, ld_nat (by omega), v1, ld_nat (by omega), hn.2.2.1]
      refine wp_ite (fun _ => ?_) (fun _ => hno)
      rw [if_pos rfl]
      exact hno
theorem addL_len (L : List Nat) (j : Nat) : L.length ≤ (addL L j).length := by
  unfold addL
  split
  · exact Nat.le_refl _
  · simp
theorem addAll_len : ∀ (js L : List Nat), L.length ≤ (addAll L js).length
  | [], L => Nat.le_refl _
  | j :: js, L => by
    have := addAll_len js (addL L j)
    have h2 := addL_len L j
    unfold addAll at this ⊢
    rw [List.foldl_cons]; omega
theorem addAll_id : ∀ {js L : List Nat}, (∀ j ∈ js, j ∈ L) → addAll L js = L
  | [], L, _ => rfl
  | j :: js, L, h => by
    have e : addL L j = L := by unfold addL; rw [if_pos (h j List.mem_cons_self)]
    have := addAll_id (js := js) (L := L) (fun k hk => h k (List.mem_cons_of_mem _ hk))
    unfold addAll at this ⊢
    rw [List.foldl_cons, e]; exact this
theorem adj_L479 {d : Nat} (hd : 4 ≤ d) {ν : Nat → Nat} {c : Nat} {W : Wd} {u0 : Sg} {X : Nat → Prop} {b g : Nat} {a1 a3 : Int} {Q : Int → Sg → Prop} (hc0 : CW ν c W u0) (hG : WGK W (Nm ν c)) (hg : g < wnG W) (hg2 : wgS W g ≠ 2) (hb : b ≤ 27000) : ∀ (m i f : Nat) (u : Sg) (L : List Nat) (mo : Int), i + m = (ps (wgV W g)).length → m < f → 1 ≤ i → AdP ν c W u0 X b L u → ∀ xx : Int → Int → Int → Int → Int → Sg → Option (Int × Sg), (∀ u2 m2, Ux ν c u u2 X → AdP ν c W u0 X b (addAll L ((ps (wgV W g)).drop i)) u2 → ((m2 = mo ∧ ∀ j ∈ (ps (wgV W g)).drop i, j ∈ L) ∨ (m2 = 1 ∧ L.length < (addAll L ((ps (wgV W g)).drop i)).length)) → wp (xx a1 (b : Int) a3 m2 (g : Int) u2) Q) → wp (bX1_adjectivesOf0_L479 (runC d) f a1 (b : Int) a3 mo (g : Int) 1 (i : Int) u xx) Q := by
  obtain ⟨k8, kok, kadj⟩ := (hG.2 g hg).2.2.2.1 hg2
  have hv0 : wgV W g ≠ 0 := fun q => by rw [q, kd0] at k8; omega
  have hpt := ps_type kok k8
  intro m
  induction m with
  | zero =>
    intro i f u L mo hi hf h1 hA xx k
    obtain ⟨f, rfl⟩ : ∃ f', f = f' + 1 := ⟨f - 1, by omega⟩
    have hs := hA.1.1
    have hc := hc0.up hA.1 hA.2.2.2.2.2.2.1 (by decide +kernel)
    obtain ⟨gg1, gg2, ⟨gg3, gg4, gg5, gg6, gg7⟩, gg8⟩ := hc.2.2.2.2.2.2
    obtain ⟨v, v1, v0, v2, v3⟩ := ((gg8 g hg).2.2.2.2.2).pos hv0
    have hn := nodeC hs v0 v2
    rw [v3] at hn
    have hl3 : gL u 3 = gL u 0 := hs.1.1.2.2.2.1.2.2.1
    have hdr : (ps (wgV W g)).drop i = [] := List.drop_of_length_le (by omega)
    rw [bX1_adjectivesOf0_L479, if_neg (by decide), ld_nat (by omega), v1, ld_nat (by omega), hn.2.2.1, if_neg (by omega)]
    rw [hdr] at k
    exact k u mo (Ux.rf hs) hA (Or.inl ⟨rfl, fun j hj => by cases hj⟩)
  | succ m ih =>
    intro i f u L mo hi hf h1 hA xx k
    obtain ⟨f, rfl⟩ : ∃ f', f = f' + 1 := ⟨f - 1, by omega⟩
    have hs := hA.1.1
    have hc := hc0.up hA.1 hA.2.2.2.2.2.2.1 (by decide +kernel)
    obtain ⟨gg1, gg2, ⟨gg3, gg4, gg5, gg6, gg7⟩, gg8⟩ := hc.2.2.2.2.2.2
    obtain ⟨v, v1, v0, v2, v3⟩ := ((gg8 g hg).2.2.2.2.2).pos hv0
    have hn := nodeC hs v0 v2
    rw [v3] at hn
    have hl3 : gL u 3 = gL u 0 := hs.1.1.2.2.2.1.2.2.1
    have hil : i < (ps (wgV W g)).length := by omega
    have hat := adjN (d := d) (i := i) (by omega) hs v0 v2 (by rw [v3]; exact k8) (by rw [v3]; exact hil) h1
    rw [v3] at hat
    have hdp := drop_pa hil
    rw [hdp] at k
    rw [bX1_adjectivesOf0_L479, if_neg (by decide), ld_nat (by omega), v1, ld_nat (by omega), hn.2.2.1, if_pos (by omega), ld_nat (by omega), v1]
    refine wp_eq hat ?_
    refine hA.add hd (by omega) (kadj _ (drop_adj hil h1)) (fun r u2 hx hA2 hr => ?_)
    refine wp_ite (fun h0 => ?_) (fun h0 => ?_)
    · have hin : pa (wgV W g) i ∈ L := by
        rcases hr with q | q
        · exact q.2
        · omega
      have eL : addL L (pa (wgV W g) i) = L := by unfold addL; rw [if_pos hin]
      rw [wp_ar]
      refine ⟨⟨by omega, by omega⟩, ?_⟩
      rw [show (i : Int) + 1 = ((i + 1 : Nat) : Int) by omega]
      refine ih (i + 1) f u2 _ mo (by omega) (by omega) (by omega) hA2 xx (fun u3 m3 z1 z2 z3 => k u3 m3 (hx.trn z1) z2 ?_)
      have ea : addAll L (pa (wgV W g) i :: (ps (wgV W g)).drop (i + 1)) = addAll (addL L (pa (wgV W g) i)) ((ps (wgV W g)).drop (i + 1)) := rfl
      rw [ea]
      rw [eL] at z3 ⊢
      refine z3.imp (fun q => ⟨q.1, fun j hj => ?_⟩) id
      rcases List.mem_cons.mp hj with w | w
      · rw [w]; exact hin
      · exact q.2 j w
    · have hin : pa (wgV W g) i ∉ L := by
        rcases hr with q | q
        · exact absurd q.1 h0
        · exact q.2
      have eL : (addL L (pa (wgV W g) i)).length = L.length + 1 := by unfold addL; rw [if_neg hin]; simp
      rw [wp_ar]
      refine ⟨⟨by omega, by omega⟩, ?_⟩
      rw [show (i : Int) + 1 = ((i + 1 : Nat) : Int) by omega]
      refine ih (i + 1) f u2 _ 1 (by omega) (by omega) (by omega) hA2 xx (fun u3 m3 z1 z2 z3 => k u3 m3 (hx.trn z1) z2 (Or.inr ⟨?_, ?_⟩))
      · rcases z3 with q | q <;> exact q.1
      · have ea : addAll L (pa (wgV W g) i :: (ps (wgV W g)).drop (i + 1)) = addAll (addL L (pa (wgV W g) i)) ((ps (wgV W g)).drop (i + 1)) := rfl
        have := addAll_len ((ps (wgV W g)).drop (i + 1)) (addL L (pa (wgV W g) i))
        rw [ea]; omega
theorem adj_L372 {d : Nat} (hd : 260 ≤ d) {ν : Nat → Nat} {c : Nat} {W : Wd} {u0 : Sg} {X : Nat → Prop} {b y ty : Nat} {a1 : Int} {Q : Int → Sg → Prop} (hc0 : CW ν c W u0) (hW : WOK W (Nm ν c)) (hG : WGK W (Nm ν c)) (hl : Lim ν u0 X) (hb : b ≤ 26960) (y0 : 0 < y) (hty : clty W (Nm ν c) ty) (hX : adX1 W X ty) : ∀ (m g f : Nat) (u : Sg) (L : List Nat) (mo : Int), g + m = wnG W → m < f → y < nC u → trC ν u y = ty → AdP ν c W u0 X b L u → ∀ xx : Int → Int → Int → Int → Sg → Option (Int × Sg), (∀ u2 L2 m2, Ux ν c u u2 X → AdP ν c W u0 X b L2 u2 → (∀ v ∈ L, v ∈ L2) → (∀ S : Nat → Prop, cluA W ty S → (∀ v ∈ L, S v) → ∀ v ∈ L2, S v) → ((m2 = mo ∧ L2 = L ∧ ∀ g', g ≤ g' → g' < wnG W → wgS W g' = 0 → (∀ j ∈ adjT (wgO W g'), j ∈ L) → ofM W ty g' → ∀ j ∈ adjT (wgV W g'), j ∈ L) ∨ (m2 = 1 ∧ L.length < L2.length)) → wp (xx a1 (b : Int) (y : Int) m2 u2) Q) → wp (bX1_adjectivesOf0_L372 (runC d) f a1 (b : Int) (y : Int) mo (g : Int) u xx) Q := by
  intro m
  induction m with
  | zero =>
    intro g f u L mo hg hf hy et hA xx k
    obtain ⟨f, rfl⟩ : ∃ f', f = f' + 1 := ⟨f - 1, by omega⟩
    have hs := hA.1.1
    have hc := hc0.up hA.1 hA.2.2.2.2.2.2.1 (by decide +kernel)
    obtain ⟨gg1, gg2, ⟨gg3, gg4, gg5, gg6, gg7⟩, gg8⟩ := hc.2.2.2.2.2.2
    rw [bX1_adjectivesOf0_L372, wp_un, gg1, if_neg (by omega)]
    exact k u L mo (Ux.rf hs) hA (fun _ q => q) (fun S _ h => h) (Or.inl ⟨rfl, rfl, fun g' z1 z2 => by omega⟩)
  | succ m ih =>
    intro g f u L mo hg hf hy et hA xx k
    obtain ⟨f, rfl⟩ : ∃ f', f = f' + 1 := ⟨f - 1, by omega⟩
    have hs := hA.1.1
    have hc := hc0.up hA.1 hA.2.2.2.2.2.2.1 (by decide +kernel)
    obtain ⟨gg1, gg2, ⟨gg3, gg4, gg5, gg6, gg7⟩, gg8⟩ := hc.2.2.2.2.2.2
    have hgl : g < wnG W := by omega
    obtain ⟨s1, s2, s3, s4, s5, s6⟩ := gg8 g hgl
    have hlen := hA.len
    -- nothing new by this one
    have same : ∀ u2, Ux ν c u u2 X → AdP ν c W u0 X b L u2 → (wgS W g = 0 → (∀ j ∈ adjT (wgO W g), j ∈ L) → ofM W ty g → ∀ j ∈ adjT (wgV W g), j ∈ L) → wp (ar ((g : Int) + 1) fun v23 => bX1_adjectivesOf0_L372 (runC d) f a1 (b : Int) (y : Int) mo v23 u2 xx) Q := fun u2 hx2 hA2 hok => by
      rw [wp_ar]
      refine ⟨⟨by omega, by omega⟩, ?_⟩
      rw [show (g : Int) + 1 = ((g + 1 : Nat) : Int) by omega]
      have hn2 := hx2.n hs
      refine ih (g + 1) f u2 L mo (by omega) (by omega) (by omega) (by rw [hx2.tr hs hy]; exact et) hA2 xx (fun u3 L3 m3 z1 z2 z3 z4 z5 => k u3 L3 m3 (hx2.trn z1) z2 z3 z4 ?_)
      refine z5.imp (fun q => ⟨q.1, q.2.1, fun g' w1 w2 w3 => ?_⟩) id
      by_cases hgg : g' = g
      · rw [hgg] at w3 ⊢; exact hok w3
      · exact q.2.2 g' (by omega) w2 w3
    rw [bX1_adjectivesOf0_L372, wp_un, gg1, if_pos (by omega), ld_nat (by omega), s1]
    refine wp_ite (fun hq0 => ?_) (fun hq0 => same u (Ux.rf hs) hA (fun q => absurd (by omega) hq0))
    have hS0 : wgS W g = 0 := by omega
    obtain ⟨k1, k2, k3, k4, k5⟩ := (hG.2 g hgl).2.1 hS0
    have hpo := ps_type k1.1.1 k2
    have hgv := (hG.2 g hgl).2.2.2.1 (by omega)
    have hpt := ps_type hgv.2.1 hgv.1
    have off : ∀ u2, Ux ν c u u2 X → AdP ν c W u0 X b L u2 → (wgS W g = 0 → (∀ j ∈ adjT (wgO W g), j ∈ L) → ofM W ty g → ∀ j ∈ adjT (wgV W g), j ∈ L) → wp (bX1_adjectivesOf0_L479 (runC d) KF a1 (b : Int) (y : Int) mo (g : Int) 0 1 u2 (fun v13 v14 v15 v16 v17 s12 => ar (v17 + 1) fun v18 => bX1_adjectivesOf0_L372 (runC d) f v13 v14 v15 v16 v18 s12 xx)) Q := fun u2 hx2 hA2 hok => by
      obtain ⟨kf, hkf⟩ : ∃ kf, KF = kf + 1 := ⟨KF - 1, by decide⟩
      rw [hkf, bX1_adjectivesOf0_L479, if_pos rfl]
      exact same u2 hx2 hA2 hok
    refine adj_L400 (by omega) hc hG hgl hS0 (by omega) hA.2.2.2.1 ((ps (wgO W g)).length - 1) 1 KF (by omega) (Nat.lt_of_le_of_lt (by omega : _ ≤ 65536) KF_gt) (Nat.le_refl _) (fun hall => ?_) (fun hnall => ?_)
    · rw [hpo.2.2] at hall
      rw [wp_jn, wp_jn, if_neg (by decide)]
      refine wp_call (tX1_ofMode (d := d) (g := g) (y := y) (X := X) (by omega) hA.2.1 hc hW hG hgl hS0 y0 hy (by rw [et]; exact hty) (by omega) (by rw [et]; exact hX) (hA.1.lim hl)) (fun r u2 ⟨v1, v2, v3, v4⟩ => ?_)
      rw [et] at v1
      have hA2 := hA.call v2 v3 v4 (by decide +kernel) (hA.2.2.2.2.2.2.2.up hs v2.ux v4 (by decide +kernel) (by decide +kernel) (by decide +kernel))
      refine wp_ite (fun h0 => ?_) (fun h0 => ?_)
      · refine off u2 v2.ux hA2 (fun _ _ q => ?_)
        rcases v1 with w | w
        · omega
        · exact absurd q w.2
      · have hof : ofM W ty g := by
          rcases v1 with w | w
          · exact w.2
          · exact absurd w.1 h0
        refine adj_L479 (by omega) hc0 hG hgl (by omega) (by omega) ((ps (wgV W g)).length - 1) 1 KF u2 L mo (by omega) (Nat.lt_of_le_of_lt (by omega : _ ≤ 65536) KF_gt) (Nat.le_refl _) hA2 _ (fun u3 m3 z1 z2 z3 => ?_)
        rw [hpt.2.2] at z2 z3
        have hx3 : Ux ν c u u3 X := v2.ux.trn z1
        have hn3 := hx3.n hs
        rw [wp_ar]
        refine ⟨⟨by omega, by omega⟩, ?_⟩
        rw [show (g : Int) + 1 = ((g + 1 : Nat) : Int) by omega]
        refine ih (g + 1) f u3 _ m3 (by omega) (by omega) (by omega) (by rw [hx3.tr hs hy]; exact et) z2 xx (fun u4 L4 m4 w1 w2 w3 w4 w5 => k u4 L4 m4 (hx3.trn w1) w2 (fun v hv => w3 v (addAll_mem.mpr (Or.inl hv))) (fun S hS hSL => w4 S hS (fun v hv => ?_)) ?_)
        · rcases addAll_mem.mp hv with q | q
          · exact hSL v q
          · exact hS g hgl hS0 (fun j hj => hSL j (hall j hj)) hof v q
        · have hle := addAll_len (adjT (wgV W g)) L
          rcases z3 with ⟨q1, q2⟩ | ⟨q1, q2⟩
          · have e := addAll_id q2
            rw [e] at w5
            refine w5.imp (fun q => ⟨by rw [q.1, q1], q.2.1, fun g' n1 n2 n3 n4 n5 => ?_⟩) id
            by_cases hgg : g' = g
            · rw [hgg]; exact q2
            · exact q.2.2 g' (by omega) n2 n3 n4 n5
          · refine Or.inr ?_
            rcases w5 with q | q
            · exact ⟨by rw [q.1, q1], by rw [q.2.1]; exact q2⟩
            · exact ⟨q.1, by omega⟩
    · rw [hpo.2.2] at hnall
      rw [wp_jn, wp_jn, if_pos rfl]
      exact off u (Ux.rf hs) hA (fun _ q => absurd q hnall)
theorem adj_L361 {d : Nat} (hd : 260 ≤ d) {ν : Nat → Nat} {c : Nat} {W : Wd} {u0 : Sg} {X : Nat → Prop} {b y ty : Nat} {a1 : Int} {Q : Int → Sg → Prop} (hc0 : CW ν c W u0) (hW : WOK W (Nm ν c)) (hG : WGK W (Nm ν c)) (hl : Lim ν u0 X) (hb : b ≤ 26960) (y0 : 0 < y) (hty : clty W (Nm ν c) ty) (hX : adX1 W X ty) : ∀ (n f : Nat) (u : Sg) (L : List Nat), 30 < n + L.length → n + 1 < f → y < nC u → trC ν u y = ty → AdP ν c W u0 X b L u → ∀ xx : Int → Int → Sg → Option (Int × Sg), (∀ u2 L2, Ux ν c u u2 X → AdP ν c W u0 X b L2 u2 → (∀ v ∈ L, v ∈ L2) → (∀ S : Nat → Prop, cluA W ty S → (∀ v ∈ L, S v) → ∀ v ∈ L2, S v) → cluA W ty (fun v => v ∈ L2) → wp (xx a1 (b : Int) u2) Q) → wp (bX1_adjectivesOf0_L361 (runC d) f a1 (b : Int) (y : Int) 1 u xx) Q := by
  intro n
  induction n with
  | zero =>
    intro f u L hn hf hy et hA
    have := hA.len
    omega
  | succ n ih =>
    intro f u L hn hf hy et hA xx k
    obtain ⟨f, rfl⟩ : ∃ f', f = f' + 1 := ⟨f - 1, by omega⟩
    have hs := hA.1.1
    have h30 := hc0.2.2.2.2.2.2.2.1
    rw [bX1_adjectivesOf0_L361, if_neg (by decide)]
    refine adj_L372 hd hc0 hW hG hl hb y0 hty hX (wnG W) 0 KF u L 0 (by omega) (Nat.lt_of_le_of_lt (by omega : _ ≤ 65536) KF_gt) hy et hA _ (fun u2 L2 m2 z1 z2 z3 z4 z5 => ?_)
    have hn2 := z1.n hs
    rcases z5 with ⟨q1, q2, q3⟩ | ⟨q1, q2⟩
    · obtain ⟨f, rfl⟩ : ∃ f', f = f' + 1 := ⟨f - 1, by omega⟩
      rw [q1, bX1_adjectivesOf0_L361, if_pos rfl]
      refine k u2 L2 z1 z2 z3 z4 (fun g h1 h2 h3 h4 j hj => ?_)
      rw [q2] at h3 ⊢
      exact q3 g (Nat.zero_le _) h1 h2 h3 h4 j hj
    · rw [q1]
      refine ih f u2 L2 (by omega) (by omega) (by omega) (by rw [z1.tr hs hy]; exact et) z2 xx (fun u3 L3 w1 w2 w3 w4 w5 => k u3 L3 (z1.trn w1) w2 (fun v hv => w3 v (z3 v hv)) (fun S hS hSL => w4 S hS (z4 S hS hSL)) w5)
