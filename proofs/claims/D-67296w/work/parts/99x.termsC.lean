theorem rX1_isTerm {d : Nat} {u : Sg} {k : Nat} : runC (d + 3) 12 [(k : Int)] u = some (if k ≤ 5 then 1 else 0, u) := by
  rw [runC_eq (by omega)]
  show bX1_isTerm (runC (d + 2)) k u = _
  unfold bX1_isTerm
  by_cases h : k ≤ 5
  · rw [if_pos (by omega), if_pos h]
  · rw [if_neg (by omega), if_neg h]
/-- the closed terms of a form -/
def inHd (f : Nat) (H : List Nat) : Prop := ∀ s, subT s f → isTm s → loT s = 0 → s ∈ H
def TmSp (ν : Nat → Nat) (c : Nat) (W : Wd) (S : Fs) (X : XFm) (Kl : List Nat) (t : Nat) : Prop := ∀ (d : Nat) (u : Sg) (x : Nat) (H : List Nat) (p : Nat → Nat) (M : List (Nat × Nat × Nat)) (J : List (Nat × Nat)), 930 + htT t ≤ d → CaP ν c W S Kl u H p M J → gI u 45 = 0 → ArgOK M H → (∀ y ∈ H, GoodC W H M J y) → 0 < x → x < nC u → trC ν u x = t → frW W (Nm ν c) t → lvL t 0 → (∀ s, subT s t → isTm s → loT s = 0 → fH S s) → rC u ≤ 20000 → LimH ν u S X H → wp (runC d 44 [(x : Int)] u) (fun _ u' => AtR ν c W S X Kl [] u H p M J (fun H' _ _ => inHd t H') u')
theorem termsOf_L63 {d : Nat} {ν : Nat → Nat} {c : Nat} {W : Wd} {S : Fs} {X : XFm} {Kl : List Nat} {u0 : Sg} {H0 : List Nat} {p0 : Nat → Nat} {M0 : List (Nat × Nat × Nat)} {J0 : List (Nat × Nat)} {x t lim : Nat} {Qq : Int → Sg → Prop} (ihc : ∀ c1 ∈ fms t, TmSp ν c W S X Kl c1) (hd : 929 + htT t ≤ d) (hs0 : SC ν c u0) (x0 : 0 < x) (hx : x < nC u0) (ext : trC ν u0 x = t) (hfr : frW W (Nm ν c) t) (hlv : lvL t 0) (hS : ∀ s, subT s t → isTm s → loT s = 0 → fH S s) (hlim : lim ≤ (ps t).length) (hl8 : kd t = 8 → lim ≤ 1) (hl9 : kd t ≠ 8 → lim = (ps t).length) (hlen : lim ≤ 300000) (hr : rC u0 ≤ 20000) (hl : LimH ν u0 S X H0) : ∀ (m i f : Nat) (u1 : Sg) (H1 : List Nat) (p1 : Nat → Nat) (M1 : List (Nat × Nat × Nat)) (J1 : List (Nat × Nat)), i + m = lim → m < f → ExC H0 p0 M0 J0 H1 p1 M1 J1 → CaP ν c W S Kl u1 H1 p1 M1 J1 → UpZ ν c S X u0 u1 H1 True → GrH u0 u1 → StA W S [] u1 H1 M1 J1 → (gI u1 45 = 0 → ∀ j, j < i → pa t j ≠ 0 → inHd (pa t j) H1) → ∀ xx : Sg → Option (Int × Sg), (∀ (u2 : Sg) (H2 : List Nat) (p2 : Nat → Nat) (M2 : List (Nat × Nat × Nat)) (J2 : List (Nat × Nat)), ExC H0 p0 M0 J0 H2 p2 M2 J2 → CaP ν c W S Kl u2 H2 p2 M2 J2 → UpZ ν c S X u0 u2 H2 True → GrH u0 u2 → StA W S [] u2 H2 M2 J2 → (gI u2 45 = 0 → ∀ j, j < lim → pa t j ≠ 0 → inHd (pa t j) H2) → wp (xx u2) Qq) → wp (bX1_termsOf_L63 (runC d) f (x : Int) (lim : Int) (i : Int) u1 xx) Qq := by
  intro m
  induction m with
  | zero =>
    intro i f u1 H1 p1 M1 J1 hi hf hE hC hU hg hst hin xx k
    obtain ⟨f, rfl⟩ : ∃ f', f = f' + 1 := ⟨f - 1, by omega⟩
    rw [bX1_termsOf_L63, if_neg (by omega)]
    exact k u1 H1 p1 M1 J1 hE hC hU hg hst (fun q j hj => hin q j (by omega))
  | succ m ih =>
    intro i f u1 H1 p1 M1 J1 hi hf hE hC hU hg hst hin xx k
    obtain ⟨f, rfl⟩ : ∃ f', f = f' + 1 := ⟨f - 1, by omega⟩
    have hs := hC.1.1
    have hnn := hU.ux.n hs0
    have hx1 : x < nC u1 := by omega
    have et : trC ν u1 x = t := by rw [hU.ux.tr hs0 hx]; exact ext
    have hil : i < (ps t).length := by omega
    have h8 : kd t ≠ 8 ∨ i = 0 := by
      by_cases q : kd t = 8
      · have := hl8 q
        exact Or.inr (by omega)
      · exact Or.inl q
    rw [bX1_termsOf_L63, if_pos (by omega), wp_un]
    refine wp_ite (fun hb => ?_) (fun hb => ?_)
    · obtain ⟨s1, s2, s3⟩ := hst.resolve_right (fun q => by rw [q.1] at hb; cases hb)
      obtain ⟨y, y1, y2, y3⟩ := partN (d := d) (i := i) (by omega) hs x0 hx1 (by rw [et]; exact hil) (by rw [et]; exact h8)
      rw [et] at y3
      refine wp_eq y1 ?_
      have nxt : ∀ (u2 : Sg) (H2 : List Nat) (p2 : Nat → Nat) (M2 : List (Nat × Nat × Nat)) (J2 : List (Nat × Nat)), ExC H1 p1 M1 J1 H2 p2 M2 J2 → CaP ν c W S Kl u2 H2 p2 M2 J2 → UpZ ν c S X u1 u2 H2 True → GrH u1 u2 → StA W S [] u2 H2 M2 J2 → (gI u2 45 = 0 → pa t i ≠ 0 → inHd (pa t i) H2) → wp (ar ((i : Int) + 1) fun v9 => bX1_termsOf_L63 (runC d) f (x : Int) (lim : Int) v9 u2 xx) Qq := fun u2 H2 p2 M2 J2 e1 e2 e3 e4 e5 e6 => by
        rw [wp_ar]
        refine ⟨⟨by omega, by omega⟩, ?_⟩
        rw [show (i : Int) + 1 = ((i + 1 : Nat) : Int) by omega]
        refine ih (i + 1) f u2 H2 p2 M2 J2 (by omega) (by omega) (hE.tr e1) e2 (hU.tr e3 e1.1 (Or.inl hb) e2.2.2.1.1.1.2.1 (fun _ => trivial)) (hg.tr e4) e5 (fun q j hj hj0 => ?_) xx k
        by_cases hji : j = i
        · rw [hji] at hj0 ⊢; exact e6 q hj0
        · intro s q1 q2 q3
          exact e1.H (hin hb j (by omega) hj0 s q1 q2 q3)
      refine wp_ite (fun hy0 => ?_) (fun hy0 => ?_)
      · have e0 : pa t i = 0 := by rw [← y3, show y = 0 by omega]; rfl
        exact nxt u1 H1 p1 M1 J1 (ExC.rf _ _ _ _) hC (UpZ.of (OvL.rf hC) id (Up.rf hs)) GrH.rf (Or.inl ⟨s1, s2, s3⟩) (fun _ q => absurd e0 q)
      · have hp0 : pa t i ≠ 0 := by
          rw [← y3]
          have : 0 < trC ν u1 y := tr_pos (okp_C (ν := ν) hs.1) (by omega) (by show y ≤ nC u1 - 1; omega)
          omega
        have hfm : pa t i ∈ fms t := fms_at.mpr ⟨i, h8, pa_get hil, hp0⟩
        have hht := ht_c hfm
        have hr1 : rC u1 = rC u0 := hU.r
        refine wp_eq y1 ?_
        refine wp_call (ihc _ hfm d u1 y H1 p1 M1 J1 (by omega) hC hb s2 (fun z hz => s3 z hz (by simp)) (by omega) (by omega) y3 (hfr.part hfm) (fun l hl' => hlv l (lv_part hfr.1.n hfm l hl')) (fun s q1 q2 q3 => hS s (sub_c hfm q1) q2 q3) (by omega) (hl.up (hU.z hb).ux (fun t ht => hE.H ht))) (fun _ u2 h => ?_)
        obtain ⟨H2, p2, M2, J2, e1, e2, e3, e4, e5⟩ := h
        refine nxt u2 H2 p2 M2 J2 e1 e2 e3 e4 (e5.imp (fun q => ⟨q.1, q.2.1, q.2.2.1⟩) id) (fun q _ => ?_)
        rcases e5 with z | z
        · exact z.2.2.2
        · rw [z.1] at q; cases q
    · exact k u1 H1 p1 M1 J1 hE hC hU hg hst (fun q => absurd q hb)
theorem tX1_termsOf {ν : Nat → Nat} {c : Nat} {W : Wd} {S : Fs} {X : XFm} {Kl : List Nat} (hAt : ∀ n, AtSp ν c W S X Kl n) : ∀ (n t : Nat), htT t < n → TmSp ν c W S X Kl t := by
  intro n
  induction n with
  | zero => intro t h; omega
  | succ n ih =>
    intro t htn d u x H p M J hd hC hb hA hG x0 hx et hfr hlv hS hr hl
    obtain ⟨d, rfl⟩ : ∃ d', d = d' + 4 := ⟨d - 4, by omega⟩
    rw [runC_eq (by omega)]
    show wp (bX1_termsOf (runC (d + 3)) x u) _
    unfold bX1_termsOf
    have hs := hC.1.1
    have hn := nodeC hs x0 hx
    rw [et] at hn
    have hbd := (hl.l hC).n hs
    have l3 : gL u 3 = gL u 0 := hs.1.1.2.2.2.1.2.2.1
    have l5 : gL u 5 = gL u 0 := hs.1.1.2.2.2.1.2.2.2.2.1
    have ihc : ∀ c1 ∈ fms t, TmSp ν c W S X Kl c1 := fun c1 h1 => ih c1 (by have := ht_c h1; omega)
    -- down to the parts
    have down : ¬ (isTm t ∧ loT t = 0) → ∀ (lim : Nat) (xx : Sg → Option (Int × Sg)), lim ≤ (ps t).length → (kd t = 8 → lim ≤ 1) → (kd t ≠ 8 → lim = (ps t).length) → (1 ≤ (ps t).length → kd t = 8 → lim = 1) → xx = (fun s5 => some (0, s5)) → wp (bX1_termsOf_L63 (runC (d + 3)) KF (x : Int) (lim : Int) 0 u xx) (fun _ u' => AtR ν c W S X Kl [] u H p M J (fun H' _ _ => inHd t H') u') := fun hno lim xx g1 g2 g3 g4 gx => by
      subst gx
      refine termsOf_L63 (t := t) ihc (by omega) hs x0 hx et hfr hlv hS g1 g2 g3 (by omega) hr hl lim 0 KF u H p M J (by omega) (Nat.lt_of_le_of_lt (by omega : _ ≤ 300000) KF_300) (ExC.rf _ _ _ _) hC (UpZ.of (OvL.rf hC) id (Up.rf hs)) GrH.rf (Or.inl ⟨hb, hA, fun y hy _ => hG y hy⟩) (fun _ j hj => by omega) _ (fun u2 H2 p2 M2 J2 e1 e2 e3 e4 e5 e6 => ?_)
      rw [wp_some]
      refine ⟨H2, p2, M2, J2, e1, e2, e3, e4, e5.imp (fun q => ⟨q.1, q.2.1, q.2.2, fun s q1 q2 q3 => ?_⟩) id⟩
      rw [subT_eq] at q1
      rcases q1 with z | ⟨c1, z1, z2⟩
      · exact absurd ⟨by rw [← z]; exact q2, by rw [← z]; exact q3⟩ hno
      · obtain ⟨i, i1, i2, i3⟩ := fms_at.mp z1
        have hi := (List.getElem?_eq_some_iff.mp i2).1
        have e := pa_at i2
        have hil : i < lim := by
          rcases i1 with w | w
          · rw [g3 w]; exact hi
          · by_cases q8 : kd t = 8
            · rw [g4 (by omega) q8]; omega
            · rw [g3 q8]; exact hi
        have := e6 q.1 i hil (by rw [e]; exact i3)
        rw [e] at this
        exact this s z2 q2 q3
    have go : ¬ (isTm t ∧ loT t = 0) → wp (jn (fun (a1 t0 : Int) (s4 : Sg) => bX1_termsOf_L63 (runC (d + 3)) KF a1 t0 0 s4 (fun s5 => some (0, s5))) fun j3 => ld u 0 (x : Int) fun v6 => if v6 = 8 then (j3 (x : Int) 1 u) else (ld u 3 (x : Int) fun v7 => j3 (x : Int) v7 u)) (fun _ u' => AtR ν c W S X Kl [] u H p M J (fun H' _ _ => inHd t H') u') := fun hno => by
      rw [wp_jn, ld_nat (by omega), hn.1]
      refine wp_ite (fun h8 => ?_) (fun h8 => ?_)
      · have h8' : kd t = 8 := by omega
        have := (ps_type hfr.1 h8').1
        exact down hno 1 _ this (fun _ => Nat.le_refl _) (fun q => absurd h8' q) (fun _ _ => rfl) rfl
      · have h8' : kd t ≠ 8 := by omega
        rw [ld_nat (by omega), hn.2.2.1]
        exact down hno (ps t).length _ (Nat.le_refl _) (fun q => absurd q h8') (fun _ => rfl) (fun _ q => absurd q h8') rfl
    rw [wp_jn, ld_nat (by omega), hn.1]
    refine wp_eq rX1_isTerm ?_
    have hkk := okN_kd hfr.1.n
    by_cases h5 : kd t ≤ 5
    · have htm : isTm t := by
        unfold isTm isFo at *
        omega
      rw [if_pos h5, if_neg (by decide), ld_nat (by omega), lo_C hs x x0 hx (by rw [et]; exact hfr.1), et]
      refine wp_ite (fun h0 => ?_) (fun h0 => go (fun q => h0 (by omega)))
      have hcl : cltm W (Nm ν c) t := ⟨hfr, htm, by omega, hlv⟩
      refine wp_call (hAt 100 (d + 3) u x H p M J [] (by omega) (by omega) hC hb (fun q hq h0 => Or.inl (hA q hq h0)) (fun y hy _ => hG y hy) x0 hx (by rw [et]; exact hcl) (by rw [et]; exact hS t (sub_rf t) htm (by omega)) hr hl) (fun _ u2 h => ?_)
      rw [wp_some]
      obtain ⟨H2, p2, M2, J2, e1, e2, e3, e4, e5⟩ := h
      refine ⟨H2, p2, M2, J2, e1, e2, e3.w (fun _ => trivial), e4, e5.imp (fun q => ⟨q.1, q.2.1, q.2.2.1, fun s q1 q2 _ => ?_⟩) id⟩
      have := q.2.2.2
      rw [et] at this
      exact good_sub (fun t ht => (e2.2.2.2.2.2.1 t ht).1) (fun y hy => q.2.2.1 y hy (by simp)) (htT t + 1) t (by omega) this s q1 q2
    · rw [if_neg h5, if_pos rfl]
      refine go (fun q => h5 ?_)
      have := q.1
      unfold isTm at this
      omega
