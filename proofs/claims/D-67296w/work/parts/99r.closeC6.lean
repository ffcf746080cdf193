theorem or_0 {f : Int} (h : f = 0 ∨ f = 1) : o_or f 0 = f := by rcases h with h | h <;> rw [h] <;> decide
theorem or_1 {f : Int} (h : f = 0 ∨ f = 1) : o_or f 1 = 1 := by rcases h with h | h <;> rw [h] <;> decide
theorem ClW.fl {ν : Nat → Nat} {c : Nat} {W : Wd} {S : Fs} {X : XFm} {Kl : List Nat} {u0 u1 : Sg} {l0 l1 : Ls} {C : Prop} {f : Int} (h : ClW ν c W S X Kl u0 l0 C f u1 l1) (h0 : gI u1 45 = 0) : f = 0 ∨ f = 1 := (h.2.2.2.2.resolve_right (fun z => by rw [z.1] at h0; cases h0)).2.imp And.left And.left
theorem close_L224 {d : Nat} (hd : 8 ≤ d) {ν : Nat → Nat} {c : Nat} {W : Wd} {S : Fs} {X : XFm} {Kl : List Nat} {u0 : Sg} {l0 : Ls} {C0 : Prop} {g x t : Nat} {a3 a4 : Int} {Q : Int → Sg → Prop} (hW : WOK W (Nm ν c)) (hG : WGK W (Nm ν c)) (hK : KlOK W (Nm ν c) Kl) (hs0 : SC ν c u0) (hl : LimH ν u0 S X l0.1) (hg : g < wnG W) (hg0 : wgS W g = 0) (hf : ∀ j ∈ adjT (wgV W g), fA S t j) : ∀ (n i f : Nat) (u1 : Sg) (l1 : Ls) (fl : Int), i + n = (ps (wgV W g)).length → n < f → 1 ≤ i → ClW ν c W S X Kl u0 l0 (C0 ∧ ∀ k, 1 ≤ k → k < i → fA (FsO l0) t (pa (wgV W g) k)) fl u1 l1 → gI u1 45 = 0 → x < nC u1 → trC ν u1 x = t → t ∈ l1.1 → ∀ xx : Int → Int → Int → Int → Sg → Option (Int × Sg), (∀ (u2 : Sg) (l2 : Ls) (fl2 : Int), ClW ν c W S X Kl u0 l0 (C0 ∧ ∀ j ∈ adjT (wgV W g), fA (FsO l0) t j) fl2 u2 l2 → gI u2 45 = 0 → Ux ν c u1 u2 (fun _ => True) → wp (xx (g : Int) fl2 a3 a4 u2) Q) → wp (bX1_closeClasses_L224 (runC d) f (g : Int) fl a3 a4 (x : Int) 1 (i : Int) u1 xx) Q := by
  obtain ⟨v1', v2', v3'⟩ := (hG.2 g hg).2.2.2.1 (by omega)
  have hpt := ps_type v2' v1'
  have hv0 : wgV W g ≠ 0 := fun q => by rw [q, kd0] at v1'; omega
  intro n
  induction n with
  | zero =>
    intro i f u1 l1 fl hi hfu h1 hw hb hx et htH xx k
    obtain ⟨f, rfl⟩ : ∃ f', f = f' + 1 := ⟨f - 1, by omega⟩
    have hC := hw.2.1
    have hs := hC.1.1
    obtain ⟨gg1, gg2, ⟨gg3, gg4, gg5, gg6, gg7⟩, gg8⟩ := hC.1.2.2.2.2.2.2
    obtain ⟨v, w1, w0, w2, w3⟩ := (gg8 g hg).2.2.2.2.2.pos hv0
    have hnv := nodeC hs w0 w2
    rw [w3] at hnv
    have l3 : gL u1 3 = gL u1 0 := hs.1.1.2.2.2.1.2.2.1
    rw [bX1_closeClasses_L224, if_neg (by decide), ld_nat (by omega), w1, ld_nat (by omega), hnv.2.2.1, if_neg (by omega)]
    refine k u1 l1 fl (hw.mono (fun q => ⟨q.1, fun j hj => ?_⟩)) hb (Ux.rf hs)
    rw [← hpt.2.2] at hj
    obtain ⟨k', hk'⟩ := List.getElem?_of_mem hj
    rw [List.getElem?_drop] at hk'
    rw [← pa_at hk']
    exact q.2 _ (by omega) (by have := (List.getElem?_eq_some_iff.mp hk').1; omega)
  | succ n ih =>
    intro i f u1 l1 fl hi hfu h1 hw hb hx et htH xx k
    obtain ⟨f, rfl⟩ : ∃ f', f = f' + 1 := ⟨f - 1, by omega⟩
    have hC := hw.2.1
    have hs := hC.1.1
    obtain ⟨gg1, gg2, ⟨gg3, gg4, gg5, gg6, gg7⟩, gg8⟩ := hC.1.2.2.2.2.2.2
    obtain ⟨v, w1, w0, w2, w3⟩ := (gg8 g hg).2.2.2.2.2.pos hv0
    have hnv := nodeC hs w0 w2
    rw [w3] at hnv
    have l3 : gL u1 3 = gL u1 0 := hs.1.1.2.2.2.1.2.2.1
    have hil : i < (ps (wgV W g)).length := by omega
    have hat := adjN (d := d) (i := i) (by omega) hs w0 w2 (by rw [w3]; exact v1') (by rw [w3]; exact hil) h1
    rw [w3] at hat
    have hj := drop_adj hil h1
    have hJ : FcJ ν u1 l1.2.2.2 := hC.2.2.2.2.1
    obtain ⟨c1, c2⟩ := rX1_classHas (d := d) (j := pa (wgV W g) i) (M := l1.2.2.1) (by omega) hC.2.2.1.1 hJ hs hx
    rw [et] at c1 c2
    have nxt : ∀ (u2 : Sg) (l2 : Ls) (fl2 : Int), ClW ν c W S X Kl u0 l0 (C0 ∧ ∀ k, 1 ≤ k → k < i + 1 → fA (FsO l0) t (pa (wgV W g) k)) fl2 u2 l2 → gI u2 45 = 0 → Ux ν c u1 u2 (fun _ => True) → t ∈ l2.1 → wp (ar ((i : Int) + 1) fun v13 => bX1_closeClasses_L224 (runC d) f (g : Int) fl2 a3 a4 (x : Int) 1 v13 u2 xx) Q := fun u2 l2 fl2 z1 z2 z3 z4 => by
      rw [wp_ar]
      refine ⟨⟨by omega, by omega⟩, ?_⟩
      rw [show (i : Int) + 1 = ((i + 1 : Nat) : Int) by omega]
      have := z3.n hs
      exact ih (i + 1) f u2 l2 fl2 (by omega) (by omega) (by omega) z1 z2 (by omega) (by rw [z3.tr hs hx]; exact et) z4 xx (fun u3 l3 fl3 y1 y2 y3 => k u3 l3 fl3 y1 y2 (z3.trn y3))
    rw [bX1_closeClasses_L224, if_neg (by decide), ld_nat (by omega), w1, ld_nat (by omega), hnv.2.2.1, if_pos (by omega), ld_nat (by omega), w1]
    refine wp_eq hat ?_
    by_cases hc : fA (FsL l1.1 l1.2.1 l1.2.2.1 l1.2.2.2) t (pa (wgV W g) i)
    · refine wp_eq (c1 hc) ?_
      rw [if_neg (by decide)]
      refine nxt u1 l1 fl (hw.mono2 (fun e q => ⟨q.1, fun k' q1 q2 => ?_⟩)) hb (Ux.rf hs) htH
      by_cases hk : k' = i
      · rw [hk, ← e]; exact hc
      · exact q.2 k' q1 (by omega)
    · refine wp_eq (c2 hc) ?_
      rw [if_pos rfl, ld_nat (by omega), w1]
      refine wp_eq hat ?_
      refine wp_call (tX1_adjW (X := X) (x := x) (j := pa (wgV W g) i) (by omega) hW hK hC (hw.gl hb) hx (by rw [et]; exact htH) (v3' _ hj) (by rw [et]; exact hf _ hj) (hw.lm hl hb)) (fun r u2 ⟨hr, l2, z1, z2, z3⟩ => ?_)
      rw [et] at z1
      have hsq := hw.seq (Or.inl hb) z1 (C'' := C0 ∧ ∀ k, 1 ≤ k → k < i + 1 → fA (FsO l0) t (pa (wgV W g) k)) (fun e q1 q2 => ⟨q1.1, fun k' r1 r2 => by
        by_cases hk : k' = i
        · rw [hk, ← e]; exact ⟨t, q2, Or.inl rfl⟩
        · exact q1.2 k' r1 (by omega)⟩)
      have hfl := hw.fl hb
      rcases hr with hr | hr
      · rw [hr, or_0 hfl] at hsq
        rw [hr, if_pos rfl]
        exact nxt u2 l2 fl hsq z3 (z1.2.2.1.ux.mono (fun _ _ => trivial)) (by rw [z2]; exact htH)
      · rw [hr, or_1 hfl] at hsq
        rw [hr, if_neg (by decide)]
        exact nxt u2 l2 1 hsq z3 (z1.2.2.1.ux.mono (fun _ _ => trivial)) (by rw [z2]; exact htH)
def clG (W : Wd) (F : Fs) (g t : Nat) : Prop := (∀ j ∈ adjT (wgO W g), fA F t j) → ofS W F t g → ∀ j ∈ adjT (wgV W g), fA F t j
theorem close_L12 {d : Nat} (hd : 8 ≤ d) {ν : Nat → Nat} {c : Nat} {W : Wd} {S : Fs} {X : XFm} {K B : Nat → Prop} {Kl : List Nat} {u0 : Sg} {l0 : Ls} {C0 : Prop} {g o : Nat} {Q : Int → Sg → Prop} (hW : WOK W (Nm ν c)) (hG : WGK W (Nm ν c)) (hK : KlOK W (Nm ν c) Kl) (hS : Clo W K B S) (hs0 : SC ν c u0) (hl : LimH ν u0 S X l0.1) (hg : g < wnG W) (hg0 : wgS W g = 0) (o0 : 0 < o) (ho : o < nC u0) (eo : trC ν u0 o = wgO W g) : ∀ (m i f : Nat) (u1 : Sg) (l1 : Ls) (fl : Int), 100 < i + m → i ≤ 100 → m < f → ClW ν c W S X Kl u0 l0 (C0 ∧ ∀ i' t, i' < i → l0.1[i']? = some t → clG W (FsO l0) g t) fl u1 l1 → gI u1 45 = 0 → ∀ xx : Int → Sg → Option (Int × Sg), (∀ (u2 : Sg) (l2 : Ls) (fl2 : Int), ClW ν c W S X Kl u0 l0 (C0 ∧ ∀ t ∈ l0.1, clG W (FsO l0) g t) fl2 u2 l2 → gI u2 45 = 0 → wp (xx fl2 u2) Q) → wp (bX1_closeClasses_L12 (runC d) f (g : Int) fl (o : Int) (i : Int) u1 xx) Q := by
  obtain ⟨kk1, kk2, kk3, kk4, kk5⟩ := (hG.2 g hg).2.1 hg0
  have hptO := ps_type kk1.1.1 kk2
  obtain ⟨v1', v2', v3'⟩ := (hG.2 g hg).2.2.2.1 (by omega)
  have hptV := ps_type v2' v1'
  intro m
  induction m with
  | zero => intro i f u1 l1 fl h1 h2; omega
  | succ m ih =>
    intro i f u1 l1 fl h1 h2 hfu hw hb xx k
    obtain ⟨f, rfl⟩ : ∃ f', f = f' + 1 := ⟨f - 1, by omega⟩
    have hC := hw.2.1
    have hs := hC.1.1
    have hH : HaC ν u1 l1.1 l1.2.1 := hC.2.2.1.1
    have h43 := hH.1.1
    have h100 := hH.1.2.1
    have h101 := hH.1.2.2.1
    rw [bX1_closeClasses_L12, wp_un, h43]
    refine wp_ite (fun hlt => ?_) (fun hge => ?_)
    · have hi : i < l1.1.length := by omega
      have gi : l1.1[i]? = some l1.1[i] := List.getElem?_eq_getElem hi
      obtain ⟨x, x1, x2, x3, x4, x5⟩ := hH.2.2.2.1 i _ gi
      have htH := List.mem_of_getElem? gi
      have hno := hw.2.2.1.ux.n hs0
      have ho1 : o < nC u1 := by omega
      have eo1 : trC ν u1 o = wgO W g := by rw [hw.2.2.1.ux.tr hs0 ho]; exact eo
      have hM : l1.2.2.1.length ≤ 131072 := by
        have : FcM ν u1 l1.2.2.1 := hC.2.2.2.1
        have := this.1
        omega
      -- the next term
      have nxt : ∀ (u2 : Sg) (l2 : Ls) (fl2 : Int), ClW ν c W S X Kl u0 l0 ((C0 ∧ ∀ i' t, i' < i → l0.1[i']? = some t → clG W (FsO l0) g t) ∧ clG W (FsO l0) g l1.1[i]) fl2 u2 l2 → gI u2 45 = 0 → wp (ar ((i : Int) + 1) fun v22 => bX1_closeClasses_L12 (runC d) f (g : Int) fl2 (o : Int) v22 u2 xx) Q := fun u2 l2 fl2 z1 z2 => by
        rw [wp_ar]
        refine ⟨⟨by omega, by omega⟩, ?_⟩
        rw [show (i : Int) + 1 = ((i + 1 : Nat) : Int) by omega]
        refine ih (i + 1) f u2 l2 fl2 (by omega) (by omega) (by omega) (z1.mono (fun q => ⟨q.1.1, fun i' t q1 q2 => ?_⟩)) z2 xx k
        by_cases hii : i' = i
        · rw [hii] at q2
          have q3 := hw.1.at q2
          rw [gi] at q3
          rw [← Option.some.inj q3]
          exact q.2
        · exact q.1.2 i' t (by omega) q2
      rw [ld_nat (by omega), x1]
      have k36 := closeClasses_L36 (d := d) (a2 := fl) (a4 := (i : Int)) (xx := fun v4 v5 v6 v7 v8 v9 s3 => bX1_closeClasses_L178 (runC d) KF v4 v5 v6 v7 v8 v9 1 s3 (fun v11 v12 v13 v14 v15 v16 s10 => bX1_closeClasses_L224 (runC d) KF v11 v12 v13 v14 v15 v16 1 s10 (fun v18 v19 v20 v21 s17 => ar (v21 + 1) fun v22 => bX1_closeClasses_L12 (runC d) f v18 v19 v20 v22 s17 xx))) (by omega) hW hG hK hC hg hg0 o0 ho1 eo1 x3 l1.2.2.1.length 0 KF (by omega) (Nat.lt_of_le_of_lt (by omega : _ ≤ 300000) KF_300)
      rw [x4] at k36
      obtain ⟨kf, hkf⟩ : ∃ kf, KF = kf + 1 := ⟨KF - 1, by decide⟩
      have hnod : l1.1.Nodup := hH.2.2.1
      have hof := ofK_iff (W := W) (t := l1.1[i]) (g := g) hnod hC.h0
      by_cases hq : ofS W (FsO l1) l1.1[i] g
      · rw [show bX1_closeClasses_L36 (runC d) KF (g : Int) fl (o : Int) (i : Int) (x : Int) 0 0 u1 _ = _ from k36.1 (by
          obtain ⟨q, q1, q2⟩ := hof.mp hq
          obtain ⟨k', hk'⟩ := List.getElem?_of_mem q1
          exact ⟨k', q, Nat.zero_le _, hk', q2⟩)]
        have k178 := closeClasses_L178 (d := d) (a2 := fl) (a4 := (i : Int)) (xx := fun v11 v12 v13 v14 v15 v16 s10 => bX1_closeClasses_L224 (runC d) KF v11 v12 v13 v14 v15 v16 1 s10 (fun v18 v19 v20 v21 s17 => ar (v21 + 1) fun v22 => bX1_closeClasses_L12 (runC d) f v18 v19 v20 v22 s17 xx)) (by omega) hG hC hg hg0 o0 ho1 eo1 x3 ((ps (wgO W g)).length - 1) 1 KF (by omega) (Nat.lt_of_le_of_lt (by omega : _ ≤ 65536) KF_gt) (Nat.le_refl _)
        rw [x4, hptO.2.2] at k178
        by_cases hadj : ∀ j ∈ adjT (wgO W g), fA (FsO l1) l1.1[i] j
        · show wp (bX1_closeClasses_L178 (runC d) KF (g : Int) fl (o : Int) (i : Int) (x : Int) 1 1 u1 _) Q
          rw [show bX1_closeClasses_L178 (runC d) KF (g : Int) fl (o : Int) (i : Int) (x : Int) 1 1 u1 _ = _ from k178.1 hadj]
          have hsub := hC.sub hS
          have hfS : ∀ j ∈ adjT (wgV W g), fA S l1.1[i] j := hS.2.2.2.2.2 _ g (hsub.1 _ htH) hg hg0 (fun j hj => hsub.2.2.2 _ _ (hadj j hj)) (hsub.of hq)
          refine close_L224 (t := l1.1[i]) (l0 := l0) hd hW hG hK hs0 hl hg hg0 hfS ((ps (wgV W g)).length - 1) 1 KF u1 l1 fl (by omega) (Nat.lt_of_le_of_lt (by omega : _ ≤ 65536) KF_gt) (Nat.le_refl _) (hw.mono (fun q => ⟨q, fun k' q1 q2 => by omega⟩)) hb x3 x4 htH _ (fun u2 l2 fl2 z1 z2 z3 => nxt u2 l2 fl2 (z1.mono (fun q => ⟨q.1, fun _ _ => q.2⟩)) z2)
        · show wp (bX1_closeClasses_L178 (runC d) KF (g : Int) fl (o : Int) (i : Int) (x : Int) 1 1 u1 _) Q
          rw [show bX1_closeClasses_L178 (runC d) KF (g : Int) fl (o : Int) (i : Int) (x : Int) 1 1 u1 _ = _ from k178.2 hadj]
          show wp (bX1_closeClasses_L224 (runC d) KF (g : Int) fl (o : Int) (i : Int) (x : Int) 0 1 u1 _) Q
          rw [hkf, bX1_closeClasses_L224, if_pos rfl]
          exact nxt u1 l1 fl (hw.mono2 (fun e q => ⟨q, fun z => absurd (by rw [← e] at z; exact z) hadj⟩)) hb
      · rw [show bX1_closeClasses_L36 (runC d) KF (g : Int) fl (o : Int) (i : Int) (x : Int) 0 0 u1 _ = _ from k36.2 (fun ⟨k', q, _, q1, q2⟩ => hq (hof.mpr ⟨q, List.mem_of_getElem? q1, q2⟩))]
        show wp (bX1_closeClasses_L178 (runC d) KF (g : Int) fl (o : Int) (i : Int) (x : Int) 0 1 u1 _) Q
        have hn' := nodeC hs o0 ho1
        have l3 : gL u1 3 = gL u1 0 := hs.1.1.2.2.2.1.2.2.1
        have fin : wp (bX1_closeClasses_L224 (runC d) KF (g : Int) fl (o : Int) (i : Int) (x : Int) 0 1 u1 (fun v18 v19 v20 v21 s17 => ar (v21 + 1) fun v22 => bX1_closeClasses_L12 (runC d) f v18 v19 v20 v22 s17 xx)) Q := by
          rw [hkf, bX1_closeClasses_L224, if_pos rfl]
          exact nxt u1 l1 fl (hw.mono2 (fun e q => ⟨q, fun _ z => absurd (by rw [← e] at z; exact z) hq⟩)) hb
        rw [hkf, bX1_closeClasses_L178, ld_nat (by omega), ← hkf]
        refine wp_ite (fun _ => ?_) (fun _ => fin)
        rw [if_pos rfl]
        exact fin
    · refine k u1 l1 fl (hw.mono2 (fun e q => ⟨q.1, fun t ht => ?_⟩)) hb
      obtain ⟨i', hi'⟩ := List.getElem?_of_mem ht
      refine q.2 i' t ?_ hi'
      rw [← e] at hi'
      have := (List.getElem?_eq_some_iff.mp hi').1
      omega
theorem tX1_closeClasses {d : Nat} (hd : 9 ≤ d) {ν : Nat → Nat} {c : Nat} {W : Wd} {S : Fs} {X : XFm} {K B : Nat → Prop} {Kl : List Nat} {u : Sg} {l : Ls} {g : Nat} (hW : WOK W (Nm ν c)) (hG : WGK W (Nm ν c)) (hK : KlOK W (Nm ν c) Kl) (hS : Clo W K B S) (hC : CaL ν c W S Kl u l) (hgd : GdL W u l) (hl : LimH ν u S X l.1) (hg : g < wnG W) (hg0 : wgS W g = 0) : wp (runC d 64 [(g : Int)] u) (fun r u' => ∃ l1, ClW ν c W S X Kl u l (∀ t ∈ l.1, clG W (FsO l) g t) r u' l1 ∧ gI u' 45 = 0) := by
  obtain ⟨d, rfl⟩ : ∃ d', d = d' + 1 := ⟨d - 1, by omega⟩
  rw [runC_eq (by omega)]
  show wp (bX1_closeClasses (runC d) g u) _
  unfold bX1_closeClasses
  have hs := hC.1.1
  obtain ⟨gg1, gg2, ⟨gg3, gg4, gg5, gg6, gg7⟩, gg8⟩ := hC.1.2.2.2.2.2.2
  obtain ⟨k1, k2, k3, k4, k5⟩ := (hG.2 g hg).2.1 hg0
  obtain ⟨o, o1, o0, o2, o3⟩ := ((gg8 g hg).2.1 hg0).pos (gvn_ht k1).2
  rw [ld_nat (by omega), o1]
  refine close_L12 (C0 := True) (l0 := l) (by omega) hW hG hK hS hs hl hg hg0 o0 o2 o3 101 0 KF u l 0 (by omega) (by omega) (Nat.lt_of_le_of_lt (by omega : _ ≤ 65536) KF_gt) (ClW.rf hC hgd ⟨trivial, fun i' t h => by omega⟩) hgd.1 _ (fun u2 l2 fl2 z1 z2 => ?_)
  rw [wp_some]
  exact ⟨l2, z1.mono And.right, z2⟩
