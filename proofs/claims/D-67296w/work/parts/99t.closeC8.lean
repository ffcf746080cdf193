theorem rX1_atHand_in {d : Nat} {ν : Nat → Nat} {c : Nat} {u : Sg} {H : List Nat} {p : Nat → Nat} {x : Nat} (hd : 5 ≤ d) (h : HaC ν u H p) (hs : SC ν c u) (hx : x < nC u) (hm : trC ν u x ∈ H) : runC d 45 [(x : Int)] u = some (0, u) := by
  obtain ⟨d, rfl⟩ : ∃ d', d = d' + 2 := ⟨d - 2, by omega⟩
  rw [runC_eq (by omega)]
  show bX1_atHand (runC (d + 1)) x u = _
  unfold bX1_atHand
  rw [cl_eq ((rX1_isAtHand (d := d) (by omega) h hs hx).1 hm), if_neg (by decide)]
/-- a term and what it is to be equal to -/
theorem tX1_instW {d : Nat} (hd : 930 ≤ d) {ν : Nat → Nat} {c : Nat} {W : Wd} {S : Fs} {X : XFm} {K B : Nat → Prop} {Kl : List Nat} {u : Sg} {l : Ls} {x z : Nat} {Q : Int → Sg → Prop} {K1 : Int → Sg → Option (Int × Sg)} {K0 : Sg → Option (Int × Sg)} (hAt : ∀ n, AtSp ν c W S X Kl n) (hS : Clo W K B S) (hC : CaL ν c W S Kl u l) (hg : GdL W u l) (hl : LimH ν u S X l.1) (hr : rC u ≤ 20000) (hx : x < nC u) (hxH : trC ν u x ∈ l.1) (z0 : 0 < z) (hz : z < nC u) (hzt : cltm W (Nm ν c) (trC ν u z)) (hzf : fH S (trC ν u z)) (hE : fE S (trC ν u x) (trC ν u z)) (k1 : ∀ (r : Int) (u4 : Sg) (l4 : Ls), ClW ν c W S X Kl u l (fH (FsO l) (trC ν u z) ∧ fE (FsO l) (trC ν u x) (trC ν u z)) r u4 l4 → gI u4 45 = 0 → wp (K1 r u4) Q) (k0 : ∀ (u3 : Sg) (l3 : Ls), ClW ν c W S X Kl u l False 0 u3 l3 → gI u3 45 = 1 → wp (K0 u3) Q) : wp (cl (runC d 45 [(z : Int)] u) fun _ s25 => un (gI s25 45) fun v26 => if v26 = 0 then (cl (runC d 55 [(x : Int), (z : Int)] s25) fun v27 s28 => K1 v27 s28) else K0 s25) Q := by
  obtain ⟨H, p, M, J⟩ := l
  have hs := hC.1.1
  have hH : HaC ν u H p := hC.2.2.1.1
  have hxH : trC ν u x ∈ H := hxH
  by_cases hin : trC ν u z ∈ H
  · refine wp_eq (rX1_atHand_in (by omega) hH hs hz hin) ?_
    rw [wp_un, hg.1, if_pos rfl]
    refine wp_call (tX1_join (X := X) (by omega) hS hC (Or.inl hg) hx hz hxH hin hE) (fun r u4 ⟨l4, z1, z2, z3, z4⟩ => ?_)
    rw [hg.1] at z4
    exact k1 r u4 l4 (z1.mono (fun q => ⟨hin, q⟩)) z4
  · refine wp_call (hAt 100 d u z H p M J [] (by omega) (by omega) hC hg.1 (fun q hq h0 => Or.inl (hg.2.1 q hq h0)) (fun y hy _ => hg.2.2 y hy) z0 hz hzt hzf hr hl) (fun _ u3 h => ?_)
    obtain ⟨H', p', M', J', h1, h2, h3, h4, h5⟩ := h
    have hp : DecP p H.length := hH.2.2.2.2.2.2
    have hp' : DecP p' H'.length := h2.2.2.1.1.2.2.2.2.2.2
    obtain ⟨e1, e2, e3, e4, e5⟩ := h1.ex hp hp'
    rcases h5 with ⟨b, hA, hG, hP⟩ | ⟨b, hb⟩
    · rw [wp_un, b, if_pos rfl]
      have hC3 : CaL ν c W S Kl u3 (H', p', M', J') := h2
      have hg3 : GdL W u3 (H', p', M', J') := ⟨b, hA, fun y hy => hG y hy (by simp)⟩
      have hn3 := h3.ux.n hs
      have ex : trC ν u3 x = trC ν u x := h3.ux.tr hs hx
      have ez : trC ν u3 z = trC ν u z := h3.ux.tr hs hz
      refine wp_call (tX1_join (X := X) (x := x) (y := z) (by omega) hS hC3 (Or.inl hg3) (by omega) (by omega) (by rw [ex]; exact h1.H hxH) (by rw [ez]; exact hP) (by rw [ex, ez]; exact hE)) (fun r u4 ⟨l4, z1, z2, z3, z4⟩ => ?_)
      rw [b] at z4
      rw [ex, ez] at z1
      refine k1 r u4 l4 ⟨e1.tr z1.1, z1.2.1, (h3.w (fun _ => trivial)).tr z1.2.2.1 z1.1.1 (Or.inl b) z1.2.1.2.2.1.1.1.2.1 (fun _ => trivial), h4.tr z1.2.2.2.1, Or.inl ⟨z1.gl z4, Or.inr ?_⟩⟩ z4
      rcases (z1.2.2.2.2.resolve_right (fun q => by rw [q.1] at z4; cases z4)).2 with ⟨_, _, q⟩ | ⟨q1, q2⟩
      · obtain ⟨i, j, i1, j1, ij⟩ := q
        have i1 : H'[i]? = some (trC ν u x) := i1
        have j1 : H'[j]? = some (trC ν u z) := j1
        have ij : rt p' i = rt p' j := ij
        obtain ⟨⟨a, ha⟩, b1, b2, _⟩ := h1
        have hjl := (List.getElem?_eq_some_iff.mp j1).1
        have hj : H.length ≤ j := by
          refine Decidable.byContradiction (fun q => hin ?_)
          rw [ha, List.getElem?_append_left (by omega)] at j1
          exact List.mem_of_getElem? j1
        obtain ⟨i', hi'⟩ := List.getElem?_of_mem hxH
        have hil := (List.getElem?_eq_some_iff.mp hi').1
        have hnd : H'.Nodup := h2.2.2.1.1.2.2.1
        have e : i = i' := nodup_at hnd i1 (by rw [ha, List.getElem?_append_left hil]; exact hi')
        have r1 := (rt_le hp' i (by omega)).1
        rw [ij, rt_root hp' hjl (b2 j hj hjl)] at r1
        omega
      · exact ⟨q1, by omega⟩
    · rw [wp_un, b, if_neg (by decide)]
      exact k0 u3 (H', p', M', J') ⟨e1, h2, h3.w (fun _ => trivial), h4, Or.inr ⟨b, hb⟩⟩ b
theorem argS_S {W : Wd} {F S : Fs} (h : subF F S) {t g : Nat} (q : argS W F t g) : argS W S t g := h.arg q
theorem closeTerm_L41 {d : Nat} (hd : 930 ≤ d) {ν : Nat → Nat} {c : Nat} {W : Wd} {S : Fs} {X : XFm} {K B : Nat → Prop} {Kl : List Nat} {u0 : Sg} {l0 : Ls} {C0 : Prop} {x t : Nat} {Q : Int → Sg → Prop} (hW : WOK W (Nm ν c)) (hG : WGK W (Nm ν c)) (hK : KlOK W (Nm ν c) Kl) (hAt : ∀ n, AtSp ν c W S X Kl n) (hS : Clo W K B S) (hXT : XTm W S X) (hs0 : SC ν c u0) (hl : LimH ν u0 S X l0.1) (hr : rC u0 ≤ 20000) (x0 : 0 < x) (ht : cltm W (Nm ν c) t) (htf : fH S t) (h4 : kd t = 4) : ∀ (m g f : Nat) (u1 : Sg) (l1 : Ls) (fl : Int), g + m = wnG W → m < f → ClW ν c W S X Kl u0 l0 (C0 ∧ ∀ g', g' < g → clT W (FsO l0) g' t) fl u1 l1 → gI u1 45 = 0 → x < nC u1 → trC ν u1 x = t → t ∈ l1.1 → ∀ (xx : Int → Sg → Option (Int × Sg)) (xy : Sg → Option (Int × Sg)), (∀ (u2 : Sg) (l2 : Ls) (fl2 : Int), ClW ν c W S X Kl u0 l0 (C0 ∧ ∀ g, g < wnG W → clT W (FsO l0) g t) fl2 u2 l2 → gI u2 45 = 0 → wp (xx fl2 u2) Q) → (∀ (u2 : Sg) (l2 : Ls), ClW ν c W S X Kl u0 l0 False 0 u2 l2 → gI u2 45 = 1 → wp (xy u2) Q) → wp (bX1_closeTerm_L41 (runC d) f (x : Int) fl (wh t : Int) ((ps t).length : Int) (g : Int) u1 xx xy) Q := by
  obtain ⟨f1, f2⟩ := ht.1.lc.2.1 h4
  obtain ⟨ff1, ff2, ff3⟩ := hW.2.2.1 _ f1
  intro m
  induction m with
  | zero =>
    intro g f u1 l1 fl hg hfu hw hb hx et htH xx xy k ky
    obtain ⟨f, rfl⟩ : ∃ f', f = f' + 1 := ⟨f - 1, by omega⟩
    have hC := hw.2.1
    obtain ⟨gg1, gg2, ⟨gg3, gg4, gg5, gg6, gg7⟩, gg8⟩ := hC.1.2.2.2.2.2.2
    rw [bX1_closeTerm_L41, wp_un, gg1, if_neg (by omega)]
    exact k u1 l1 fl (hw.mono (fun q => ⟨q.1, fun g' hg' => q.2 g' (by omega)⟩)) hb
  | succ m ih =>
    intro g f u1 l1 fl hg hfu hw hb hx et htH xx xy k ky
    obtain ⟨f, rfl⟩ : ∃ f', f = f' + 1 := ⟨f - 1, by omega⟩
    have hC := hw.2.1
    have hs := hC.1.1
    obtain ⟨gg1, gg2, ⟨gg3, gg4, gg5, gg6, gg7⟩, gg8⟩ := hC.1.2.2.2.2.2.2
    have hgl : g < wnG W := by omega
    obtain ⟨s1, s2, s3, s4, s5, s6⟩ := gg8 g hgl
    -- on to the next registration
    have nxt : ∀ (u2 : Sg) (l2 : Ls) (fl2 : Int), ClW ν c W S X Kl u0 l0 ((C0 ∧ ∀ g', g' < g → clT W (FsO l0) g' t) ∧ clT W (FsO l0) g t) fl2 u2 l2 → gI u2 45 = 0 → Ux ν c u1 u2 (fun _ => True) → t ∈ l2.1 → wp (ar ((g : Int) + 1) fun v12 => bX1_closeTerm_L41 (runC d) f (x : Int) fl2 (wh t : Int) ((ps t).length : Int) v12 u2 xx xy) Q := fun u2 l2 fl2 z1 z2 z3 z4 => by
      rw [wp_ar]
      refine ⟨⟨by omega, by omega⟩, ?_⟩
      rw [show (g : Int) + 1 = ((g + 1 : Nat) : Int) by omega]
      have hn2 := z3.n hs
      refine ih (g + 1) f u2 l2 fl2 (by omega) (by omega) (z1.mono (fun q => ⟨q.1.1, fun g' hg' => ?_⟩)) z2 (by omega) (by rw [z3.tr hs hx]; exact et) z4 xx xy k ky
      by_cases hgg : g' = g
      · rw [hgg]; exact q.2
      · exact q.1.2 g' (by omega)
    have skip : ¬ (wgS W g ≠ 0 ∧ wgO W g = wh t) → wp (ar ((g : Int) + 1) fun v12 => bX1_closeTerm_L41 (runC d) f (x : Int) fl (wh t : Int) ((ps t).length : Int) v12 u1 xx xy) Q := fun hno => nxt u1 l1 fl (hw.mono (fun q => ⟨q, fun hO _ => ⟨fun z => absurd ⟨by omega, hO⟩ hno, fun z => absurd ⟨by omega, hO⟩ hno⟩⟩)) hb (Ux.rf hs) htH
    rw [bX1_closeTerm_L41, wp_un, gg1, if_pos (by omega), wp_un, hb, if_pos rfl, ld_nat (by omega), s1]
    refine wp_ite (fun hq1 => skip (fun q => q.1 (by omega))) (fun hq1 => ?_)
    have hS0 : wgS W g ≠ 0 := by omega
    obtain ⟨k1, k2, k3, k4, k5⟩ := (hG.2 g hgl).2.2.1 hS0
    have hS2 := (hG.2 g hgl).1
    rw [ld_nat (by omega), s3 hS0]
    refine wp_ite (fun hq2 => ?_) (fun hq2 => skip (fun q => hq2 (by omega)))
    have hO : wgO W g = wh t := by omega
    obtain ⟨X1, X2, X3⟩ := hXT t htf h4 g hgl hS0 hO
    rw [hO] at k2 k3 k4 k5
    have hcl0 : 0 < (ps t).length → cltm W (Nm ν c) (pa t 0) := fun q => (fun_part ht h4 q).1
    have hcl1 : 1 < (ps t).length → cltm W (Nm ν c) (pa t 1) := fun q => (fun_part ht h4 q).1
    have hsub := hC.sub hS
    have body : ∀ a b' : Nat, a < nC u1 → b' < nC u1 → trC ν u1 a = pa t 0 → trC ν u1 b' = pa t 1 → ∀ (K1 : Sg → Option (Int × Sg)) (K0 : Sg → Option (Int × Sg)), (∀ u2, ClW ν c W S X Kl u0 l0 (C0 ∧ ∀ g', g' < g → clT W (FsO l0) g' t) fl u2 l1 → gI u2 45 = 0 → Ux ν c u1 u2 (fun _ => True) → argS W (FsO l1) t g → wp (K1 u2) Q) → (∀ u2, ClW ν c W S X Kl u0 l0 (C0 ∧ ∀ g', g' < g → clT W (FsO l0) g' t) fl u2 l1 → gI u2 45 = 0 → Ux ν c u1 u2 (fun _ => True) → ¬ argS W (FsO l1) t g → wp (K0 u2) Q) → wp (ld u1 78 (g : Int) fun v43 => if v43 = 0 then (ld u1 79 (g : Int) fun v37 => if v37 = 0 then K1 u1 else (ld u1 79 (g : Int) fun v38 => cl (runC d 111 [v38, (a : Int), (b' : Int), 0] u1) fun v39 s40 => cl (runC d 61 [(b' : Int), v39] s40) fun v41 s42 => if v41 = 0 then K0 s42 else K1 s42)) else (ld u1 78 (g : Int) fun v44 => cl (runC d 111 [v44, (a : Int), (b' : Int), 0] u1) fun v45 s46 => cl (runC d 61 [(a : Int), v45] s46) fun v47 s48 => if v47 = 0 then K0 s48 else (ld s48 79 (g : Int) fun v37 => if v37 = 0 then K1 s48 else (ld s48 79 (g : Int) fun v38 => cl (runC d 111 [v38, (a : Int), (b' : Int), 0] s48) fun v39 s40 => cl (runC d 61 [(b' : Int), v39] s40) fun v41 s42 => if v41 = 0 then K0 s42 else K1 s42)))) Q := fun a b' ha hb' ea eb K1 K0 kk1 kk0 => by
      refine argC2 (t := t) (w := wgA W g) (m := (ps t).length) (p := a) (K1 := fun s => ld s 79 (g : Int) fun v24 => if v24 = 0 then K1 s else (ld s 79 (g : Int) fun v25 => cl (runC d 111 [v25, (a : Int), (b' : Int), 0] s) fun v26 s27 => cl (runC d 61 [(b' : Int), v26] s27) fun v28 s29 => if v28 = 0 then K0 s29 else K1 s29)) (K0 := K0) (by omega) hl hr hw hb ha ea hb' eb ha s4 (by omega) (fun hw => ?_) (fun q => ImT.mono (xf_at htH) _ _ (X1 q)) (fun u2 hw2 hb2 hx2 hfit => ?_) (fun u2 hw2 hb2 hx2 hw hnf => ?_)
      · have := k3 hw
        rw [← f2] at this
        exact ⟨this.1, this.2, by omega, hcl0, hcl1⟩
      · -- the second
        have hC2 := hw2.2.1
        obtain ⟨gg1', gg2', ⟨gg3', gg4', gg5', gg6', gg7'⟩, gg8'⟩ := hC2.1.2.2.2.2.2.2
        have hn2 := hx2.n hs
        have ea2 : trC ν u2 a = pa t 0 := by rw [hx2.tr hs ha]; exact ea
        have eb2 : trC ν u2 b' = pa t 1 := by rw [hx2.tr hs hb']; exact eb
        rw [ea] at hfit
        refine argC2 (t := t) (w := wgB W g) (m := (ps t).length) (p := b') (K1 := K1) (K0 := K0) (by omega) hl hr hw2 hb2 (by omega) ea2 (by omega) eb2 (by omega) (gg8' g hgl).2.2.2.2.1 (by omega) (fun hw => ?_) (fun q => ImT.mono (xf_at htH) _ _ (X2 (fun z => hsub.fit (hfit z)) q)) (fun u3 hw3 hb3 hx3 hfit3 => ?_) (fun u3 hw3 hb3 hx3 hw hnf => ?_)
        · have := k5 hw
          rw [← f2] at this
          exact ⟨this.1, this.2, by omega, hcl0, hcl1⟩
        · rw [eb2] at hfit3
          exact kk1 u3 hw3 hb3 (hx2.trn hx3) ⟨hfit, hfit3⟩
        · rw [eb2] at hnf
          exact kk0 u3 hw3 hb3 (hx2.trn hx3) (fun q => hnf (q.2 hw))
      · rw [ea] at hnf
        exact kk0 u2 hw2 hb2 hx2 (fun q => hnf (q.1 hw))
    have no : ∀ u2, ClW ν c W S X Kl u0 l0 (C0 ∧ ∀ g', g' < g → clT W (FsO l0) g' t) fl u2 l1 → gI u2 45 = 0 → Ux ν c u1 u2 (fun _ => True) → ¬ argS W (FsO l1) t g → wp (ar ((g : Int) + 1) fun v12 => bX1_closeTerm_L41 (runC d) f (x : Int) fl (wh t : Int) ((ps t).length : Int) v12 u2 xx xy) Q := fun u2 hw2 hb2 hx2 hna => nxt u2 l1 fl (hw2.mono2 (fun e q => ⟨q, fun _ z => absurd (by rw [← e] at z; exact z) hna⟩)) hb2 hx2 htH
    have yes : ∀ a b' : Nat, a < nC u1 → b' < nC u1 → trC ν u1 a = pa t 0 → trC ν u1 b' = pa t 1 → ∀ u2, ClW ν c W S X Kl u0 l0 (C0 ∧ ∀ g', g' < g → clT W (FsO l0) g' t) fl u2 l1 → gI u2 45 = 0 → Ux ν c u1 u2 (fun _ => True) → argS W (FsO l1) t g → wp (ld u2 76 (g : Int) fun v13 => if v13 = 1 then (bX1_closeTerm_L228 (runC d) KF (x : Int) fl (wh t : Int) ((ps t).length : Int) (g : Int) 1 u2 (fun v15 v16 v17 v18 v19 s14 => ar (v19 + 1) fun v20 => bX1_closeTerm_L41 (runC d) f v15 v16 v17 v18 v20 s14 xx xy)) else (ld u2 80 (g : Int) fun v21 => cl (runC d 111 [v21, (a : Int), (b' : Int), 0] u2) fun v22 s23 => cl (runC d 45 [v22] s23) fun _ s25 => un (gI s25 45) fun v26 => if v26 = 0 then (cl (runC d 55 [(x : Int), v22] s25) fun v27 s28 => un (o_or fl v27) fun v29 => ar ((g : Int) + 1) fun v30 => bX1_closeTerm_L41 (runC d) f (x : Int) v29 (wh t : Int) ((ps t).length : Int) v30 s28 xx xy) else (xy s25))) Q := fun a b' ha hb' ea eb u2 hw2 hb2 hx2 harg => by
      have hC2 := hw2.2.1
      have hs2 := hC2.1.1
      obtain ⟨gg1', gg2', ⟨gg3', gg4', gg5', gg6', gg7'⟩, gg8'⟩ := hC2.1.2.2.2.2.2.2
      obtain ⟨s1', s2', s3', s4', s5', s6'⟩ := gg8' g hgl
      have hn2 := hx2.n hs
      have ex2 : trC ν u2 x = t := by rw [hx2.tr hs hx]; exact et
      rw [ld_nat (by omega), s1']
      refine wp_ite (fun hq => ?_) (fun hq => ?_)
      · have hS1 : wgS W g = 1 := by omega
        obtain ⟨v1', v2', v3'⟩ := (hG.2 g hgl).2.2.2.1 (by omega)
        have hptV := ps_type v2' v1'
        refine close_L228 (t := t) (l0 := l0) (by omega) hW hG hK hl hgl (by omega) (hS.2.2.2.1 t g htf h4 hgl hS1 hO (hsub.arg harg)) ((ps (wgV W g)).length - 1) 1 KF u2 l1 fl (by omega) (Nat.lt_of_le_of_lt (by omega : _ ≤ 65536) KF_gt) (Nat.le_refl _) (hw2.mono (fun q => ⟨q, fun k' q1 q2 => by omega⟩)) hb2 (by omega) ex2 htH _ (fun u3 l3 fl3 z1 z2 z3 z4 => nxt u3 l3 fl3 (z1.mono (fun q => ⟨q.1, fun _ _ => ⟨fun _ => q.2, fun z => by omega⟩⟩)) z2 (hx2.trn z3) z4)
      · have hS2' : wgS W g = 2 := by omega
        obtain ⟨v1', v2'⟩ := (hG.2 g hgl).2.2.2.2 hS2'
        rw [hO, ← f2] at v1'
        have hloc := loc_ok (d := 0) v1' (by omega) hcl0 hcl1
        have hht := gvn_ht v1'
        have hsz := v1'.2.2.2
        obtain ⟨y, y1, y0, y2, y3⟩ := s6'.pos hht.2
        have ea2 : trC ν u2 a = pa t 0 := by rw [hx2.tr hs ha]; exact ea
        have eb2 : trC ν u2 b' = pa t 1 := by rw [hx2.tr hs hb']; exact eb
        have hrr : rC u2 = rC u0 := hw2.2.2.1.r
        rw [ld_nat (by omega), y1]
        refine wp_call (tX2_loci (d := d) (x := y) (a := a) (b := b') (X := xf X l1.1) (by rw [y3]; omega) hC2.2.1 hs2 hC2.1.2.1 y0 y2 (by omega) (by omega) (by rw [y3]; exact v1'.1.1) (by rw [y3, ea2, eb2]; exact hloc.2.2.2) (by rw [y3]; omega) (by rw [y3, ea2, eb2]; exact ImT.mono (fun _ q => Or.inr (xf_at htH _ q)) _ _ (X3 (hsub.arg harg) hS2')) ((hw2.lm hl hb2).l hC2) (by rw [y3]; omega)) (fun r u3 ⟨z, z1, z2, z3, z4, z5, z6, z7⟩ => ?_)
        subst z1
        rw [y3, ea2, eb2] at z4
        have hw3 := hw2.st z5 z6 z7 (by decide +kernel) (by decide +kernel) (by decide +kernel)
        have hb3 : gI u3 45 = 0 := by rw [z7.I 45 (by decide +kernel)]; exact hb2
        have hC3 := hw3.2.1
        have hn3 := z5.ux.n hs2
        have ex3 : trC ν u3 x = t := by rw [z5.ux.tr hs2 (by omega)]; exact ex2
        have hcl := hS.2.2.2.2.1 t g htf h4 hgl hS2' hO (hsub.arg harg)
        have hr3 : rC u3 = rC u0 := hw3.2.2.1.r
        refine tX1_instW (x := x) (z := z) (by omega) hAt hS hC3 (hw3.gl hb3) (hw3.lm hl hb3) (by omega) (by omega) (by rw [ex3]; exact htH) z2 z3 (by rw [z4]; exact ⟨hloc.1, sb_tm hloc.2.2.1 v2', hloc.2.1⟩) (by rw [z4]; exact hcl.1) (by rw [ex3, z4]; exact hcl.2) (fun r u4 l4 w1 w2 => ?_) (fun u4 l4 w1 w2 => ?_)
        · rw [wp_un]
          rw [ex3, z4] at w1
          exact nxt u4 l4 _ (hw3.seq (Or.inl hb3) w1 (fun e q1 q2 => ⟨q1, fun _ _ => ⟨fun z => by omega, fun _ => by rw [← e]; exact q2⟩⟩)) w2 ((hx2.trn (z5.ux.mono (fun _ _ => trivial))).trn (w1.2.2.1.ux.mono (fun _ _ => trivial))) (w1.1.H htH)
        · refine ky u4 l4 ⟨hw3.1.tr w1.1, w1.2.1, hw3.2.2.1.tr w1.2.2.1 w1.1.1 (Or.inl hb3) w1.2.1.2.2.1.1.1.2.1 (fun _ => trivial), hw3.2.2.2.1.tr w1.2.2.2.1, Or.inr ⟨w2, ?_⟩⟩ w2
          rcases w1.2.2.2.2 with q | q
          · have := q.1.1
            rw [w2] at this; cases this
          · exact q.2
    rw [wp_jn]
    refine wp_ite (fun hz => ?_) (fun hz => ?_)
    · show wp (jn _ _) Q
      rw [wp_jn]
      show wp (if ((ps t).length : Int) ≤ 1 then _ else _) Q
      rw [if_pos (by omega)]
      refine body 0 0 (by omega) (by omega) (by rw [pa_out (by omega)]; rfl) (by rw [pa_out (by omega)]; rfl) _ _ (fun u2 q1 q2 q3 q4 => ?_) (fun u2 q1 q2 q3 q4 => ?_)
      · show wp (if (1 : Int) = 0 then _ else _) Q
        rw [if_neg (by decide)]
        exact yes 0 0 (by omega) (by omega) (by rw [pa_out (by omega)]; rfl) (by rw [pa_out (by omega)]; rfl) u2 q1 q2 q3 q4
      · show wp (if (0 : Int) = 0 then _ else _) Q
        rw [if_pos rfl]
        exact no u2 q1 q2 q3 q4
    · obtain ⟨a, a1, a2, a3'⟩ := partN (d := d) (i := 0) (by omega) hs x0 hx (by rw [et]; omega) (Or.inr rfl)
      rw [et] at a3'
      refine wp_eq a1 ?_
      show wp (jn _ _) Q
      rw [wp_jn]
      show wp (if ((ps t).length : Int) ≤ 1 then _ else _) Q
      refine wp_ite (fun hz2 => ?_) (fun hz2 => ?_)
      · refine body a 0 (by omega) (by omega) a3' (by rw [pa_out (by omega)]; rfl) _ _ (fun u2 q1 q2 q3 q4 => ?_) (fun u2 q1 q2 q3 q4 => ?_)
        · show wp (if (1 : Int) = 0 then _ else _) Q
          rw [if_neg (by decide)]
          exact yes a 0 (by omega) (by omega) a3' (by rw [pa_out (by omega)]; rfl) u2 q1 q2 q3 q4
        · show wp (if (0 : Int) = 0 then _ else _) Q
          rw [if_pos rfl]
          exact no u2 q1 q2 q3 q4
      · obtain ⟨b', b1, b2, b3⟩ := partN (d := d) (i := 1) (by omega) hs x0 hx (by rw [et]; omega) (Or.inl (by rw [et]; omega))
        rw [et] at b3
        refine wp_eq b1 ?_
        refine body a b' (by omega) (by omega) a3' b3 _ _ (fun u2 q1 q2 q3 q4 => ?_) (fun u2 q1 q2 q3 q4 => ?_)
        · show wp (if (1 : Int) = 0 then _ else _) Q
          rw [if_neg (by decide)]
          exact yes a b' (by omega) (by omega) a3' b3 u2 q1 q2 q3 q4
        · show wp (if (0 : Int) = 0 then _ else _) Q
          rw [if_pos rfl]
          exact no u2 q1 q2 q3 q4
