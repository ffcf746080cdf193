/-- an instance may come: no term loses its last variable, or one that does is at hand then -/
def instOK (F : Fs) (t b : Nat) : Prop := ¬ exW (fun s e => ¬ fH F (sbT (putg t) e s)) b 0 ∨ exW (fun s e => fH F (sbT (putg t) e s)) b 0
/-- the terms of the formulas, and the constants that rounds brought -/
def tT (l : Ls) (fi t : Nat) : Prop := (∃ i, i < fi ∧ l.1[i]? = some t) ∨ (t ∈ l.1 ∧ kd t = 1 ∧ wh t % 2 = 1)
theorem PlS.up {ν : Nat → Nat} {c : Nat} {u u' : Sg} {X : Nat → Prop} (h : PlS ν c u u') (hr : rC u' = rC u) : Up ν c u u' X := ⟨h.1.1, h.1.2.1, h.1.2.2, by rw [h.2.1.st]; exact Ext.rf, fun t ht => Or.inl ((h.2.1.nd t).mp ht), hr, h.2.2.1⟩
theorem round_L87 {d : Nat} {ν : Nat → Nat} {c : Nat} {W : Wd} {S : Fs} {X : Nat → Prop} {Kl : List Nat} {l : Ls} {Fu : Nat → Prop} {Bl Ol : List Nat} {c0 fi x f : Nat} {ν0 : Nat → Nat} {u0 : Sg} {n k : Int} {Q : Int → Sg → Prop} (hKl : Kl.length ≤ 2500) (hl : LimR ν0 u0 X Kl Fu) (hKX : ∀ f ∈ Kl, ∀ z, subT z f → ndC ν0 u0 z) (hr0 : rC u0 ≤ 20000) (x0 : 0 < x) (h18 : kd f = 18) (ho : okT f) (hd : 20 + htQ (pa f 1) ≤ d) (hsz : szQ (pa f 1) ≤ 900) (hFu : ∀ t, tT l fi t → fitS (FsO l) t (pa f 0) → instOK (FsO l) t (pa f 1) → Fu (sbT (putg t) 0 (pa f 1))) : ∀ (m i fu : Nat) (u : Sg) (Cl : List Nat), i + m = l.1.length → m < fu → RdI ν c W S X Kl l Fu Cl Bl Ol c0 fi ν0 u0 u → x < nC u → trC ν u x = f → (gI u 45 = 0 → ∀ (i' t : Nat), i' < i → l.1[i']? = some t → tT l fi t → fitS (FsO l) t (pa f 0) → instOK (FsO l) t (pa f 1) → sbT (putg t) 0 (pa f 1) ∈ Kl ∨ sbT (putg t) 0 (pa f 1) ∈ Cl) → ∀ xx : Int → Int → Sg → Option (Int × Sg), (∀ (u2 : Sg) (Cl2 : List Nat), (∀ g ∈ Cl, g ∈ Cl2) → RdI ν c W S X Kl l Fu Cl2 Bl Ol c0 fi ν0 u0 u2 → (gI u2 45 = 0 → gI u 45 = 0 ∧ ∀ t, tT l fi t → fitS (FsO l) t (pa f 0) → instOK (FsO l) t (pa f 1) → sbT (putg t) 0 (pa f 1) ∈ Kl ∨ sbT (putg t) 0 (pa f 1) ∈ Cl2) → wp (xx n k u2) Q) → wp (bX1_round_L87 (runC d) fu n k (x : Int) (i : Int) u xx) Q := by
  obtain ⟨y, b, hps, hk8, hfb, hby⟩ : ∃ y b, ps f = [y, b] ∧ kd y = 8 ∧ isFo b ∧ b ≠ yesT := by
    rcases ho.n.2 with q | q | q | q | q | q | q | q | q | q | q | q | q | q <;> try omega
    obtain ⟨_, _, y, b, e, q1, q2, q3⟩ := q
    exact ⟨y, b, e, q1, q2, q3⟩
  have py : pa f 0 = y := pa_at (by rw [hps]; rfl)
  have pb : pa f 1 = b := pa_at (by rw [hps]; rfl)
  rw [pb] at hd hsz
  simp only [py, pb] at hFu ⊢
  have hoy : okT y := ho.c (fms_at.mpr ⟨0, Or.inr rfl, by rw [hps]; rfl, fun q => by rw [q, kd0] at hk8; omega⟩)
  have hob : okT b := ho.c (fms_at.mpr ⟨1, Or.inl (by omega), by rw [hps]; rfl, isFo_pos hfb⟩)
  have hqb := htQ_sz b (isFo_pos hfb)
  intro m
  induction m with
  | zero =>
    intro i fu u Cl hi hf hR hx ex hdn xx kk
    obtain ⟨fu, rfl⟩ : ∃ f', fu = f' + 1 := ⟨fu - 1, by omega⟩
    have h43 : gI u 43 = (l.1.length : Int) := hR.1.1.2.2.1.1.1.1
    rw [bX1_round_L87, wp_un, h43, if_neg (by omega)]
    refine kk u Cl (fun _ q => q) hR (fun q => ⟨q, fun t ht h1 h2 => ?_⟩)
    have htm : t ∈ l.1 := ht.elim (fun ⟨j, _, hj⟩ => List.mem_of_getElem? hj) (fun z => z.1)
    obtain ⟨j, hj⟩ := List.getElem?_of_mem htm
    exact hdn q j t (by have := (List.getElem?_eq_some_iff.mp hj).1; omega) hj ht h1 h2
  | succ m ih =>
    intro i fu u Cl hi hf hR hx ex hdn xx kk
    obtain ⟨fu, rfl⟩ : ∃ f', fu = f' + 1 := ⟨fu - 1, by omega⟩
    have hA := hR.1
    have hC := hA.1
    have hs := hC.1.1
    have hH : HaC ν u l.1 l.2.1 := hC.2.2.1.1
    have h43 : gI u 43 = (l.1.length : Int) := hH.1.1
    have hil : i < l.1.length := by omega
    have hgi : l.1[i]? = some l.1[i] := List.getElem?_eq_getElem hil
    generalize et : l.1[i] = t at hgi
    have htH : t ∈ l.1 := List.mem_of_getElem? hgi
    have htc := (hC.2.2.2.2.2.1 t htH).1
    obtain ⟨tn, t1, t2, t3, t4, t5, t6, t7⟩ := hH.2.2.2.1 i t hgi
    have hbd := (hR.lim hl).n hs
    have l40 := hH.1.2.2.1
    have hlen := hH.1.2.1
    -- on to the next
    have nxt : ∀ (u2 : Sg) (Cl2 : List Nat), (∀ g ∈ Cl, g ∈ Cl2) → RdI ν c W S X Kl l Fu Cl2 Bl Ol c0 fi ν0 u0 u2 → x < nC u2 → trC ν u2 x = f → (gI u2 45 = 0 → gI u 45 = 0 ∧ (tT l fi t → fitS (FsO l) t y → instOK (FsO l) t b → sbT (putg t) 0 b ∈ Kl ∨ sbT (putg t) 0 b ∈ Cl2)) → wp (ar ((i : Int) + 1) fun v9 => bX1_round_L87 (runC d) fu n k (x : Int) v9 u2 xx) Q := fun u2 Cl2 z1 z2 z3 z4 z5 => by
      rw [wp_ar]
      refine ⟨⟨by omega, by omega⟩, ?_⟩
      rw [show (i : Int) + 1 = ((i + 1 : Nat) : Int) by omega]
      refine ih (i + 1) fu u2 Cl2 (by omega) (by omega) z2 z3 z4 (fun hb i' t' q1 q2 q3 q4 q5 => ?_) xx (fun u3 Cl3 w1 w2 w3 => kk u3 Cl3 (fun g hg => w1 g (z1 g hg)) w2 (fun hb => ⟨(z5 (w3 hb).1).1, (w3 hb).2⟩))
      obtain ⟨c1, c2⟩ := z5 hb
      by_cases hii : i' = i
      · rw [hii, hgi] at q2
        have e := Option.some.inj q2
        rw [← e] at q3 q4 q5 ⊢
        exact c2 q3 q4 q5
      · exact (hdn c1 i' t' (by omega) q2 q3 q4 q5).imp id (z1 _)
    rw [bX1_round_L87, wp_un, h43, if_pos (by omega), wp_un]
    refine wp_ite (fun hb0 => ?_) (fun hb0 => kk u Cl (fun _ q => q) hR (fun q => absurd q hb0))
    -- of a term that is one of them
    refine wp_jnG (fun j => tT l fi t → wp (j n k (x : Int) (i : Int) (tn : Int) u) Q) (fun hT => ?_) (fun j3 hj3 => ?_)
    · obtain ⟨yn, y1, y2, y3⟩ := partN (d := d) (i := 0) (by omega) hs x0 hx (by rw [ex, hps]; simp) (Or.inr rfl)
      rw [ex, py] at y3
      have yn0 : 0 < yn := Nat.pos_of_ne_zero (fun q => by rw [q] at y3; rw [← y3, show trC ν u 0 = 0 from rfl, kd0] at hk8; omega)
      have hcf := rX1_classFits (d := d) (by omega) hH hC.h0 hC.2.2.2.1 hC.2.2.2.2.1 hs (x := tn) (y := yn) t3 yn0 (by omega) (by rw [y3]; exact hk8) (by rw [y3]; exact hoy)
      rw [t4, y3] at hcf
      have hcf' : Yq (runC d 61 [(tn : Int), (yn : Int)] u) u (fitS (FsO l) t y) := hcf
      show wp (cl (runC d 98 [(x : Int), 0] u) _) Q
      refine wp_eq y1 ?_
      by_cases hfit : fitS (FsO l) t y
      · refine wp_eq (hcf'.1 hfit) ?_
        rw [if_neg (by decide)]
        -- the instance
        refine wp_jnG (fun j => ∀ u2 : Sg, RdI ν c W S X Kl l Fu Cl Bl Ol c0 fi ν0 u0 u2 → EqS u u2 → gI u2 45 = gI u 45 → instOK (FsO l) t b → wp (j n k (x : Int) (i : Int) (tn : Int) u2) Q) (fun u2 hR2 e2 e45 hok => ?_) (fun j10 hj10 => ?_)
        · have hs2 := hR2.1.1.1.1
          have ex2 : trC ν u2 x = f := by rw [e2.tr]; exact ex
          have hx2 : x < nC u2 := by rw [e2.n]; exact hx
          obtain ⟨bn, b1, b2, b3⟩ := partN (d := d) (i := 1) (by omega) hs2 x0 hx2 (by rw [ex2, hps]; simp) (Or.inl (by rw [ex2]; omega))
          rw [ex2, pb] at b3
          have bn0 : 0 < bn := Nat.pos_of_ne_zero (fun q => isFo_pos hfb (by rw [← b3, q]; rfl))
          have et2 : trC ν u2 tn = t := by rw [e2.tr]; exact t4
          have b02 : gI u2 45 = 0 := by rw [e45]; exact hb0
          have hlu := hR2.limg hl hKX b02 (hFu t hT hfit hok)
          have hrr : rC u2 = rC u0 := hR2.rr
          have hbd2 := hlu.n hs2
          show wp (cl (runC d 98 [(x : Int), 1] u2) _) Q
          refine wp_eq b1 ?_
          refine wp_call (tX2_put (d := d) (x := bn) (s := tn) (X := fun z => X z ∨ subT z (sbT (putg t) 0 b)) (by rw [b3]; omega) hR2.1.1.2.1 hs2 hR2.1.1.1.2.1 bn0 (by omega) t2 (by rw [e2.n]; exact t3) (by rw [b3]; exact hob) (by rw [et2]; exact htc.1.1) (by rw [et2]; exact htc.2.1) (by rw [b3]; exact hsz) (by rw [b3, et2]; exact ImT_put htc.1.1 htc.2.1 b hob 0 (fun z hz => Or.inr (Or.inr hz))) hlu (by rw [b3]; omega)) (fun r u3 ⟨z, z1, z2, z3, z4, z5, z6, z7⟩ => ?_)
          rw [b3, et2] at z4
          rw [z1]
          obtain ⟨hR3, e453⟩ := RdJ.frP hR2 (Or.inl rfl) b02 z5 z6 z7 (by decide +kernel)
          have hbd3 := (z5.ux.lim hlu).n hR3.1.1.1.1
          have hn23 := z5.n hs2
          refine wp_call (rd_come (by omega) hKl hKX hR3 (Or.inr ⟨by rw [z4], by rw [e453]; exact b02⟩) z2 z3 (by omega) (by rw [z4]; exact hFu t hT hfit hok)) (fun r4 u4 ⟨Cl4, c1, c2, e4, c3⟩ => ?_)
          refine nxt u4 Cl4 c1 c2 (by rw [e4.n]; omega) (by rw [e4.tr, z5.tr hs2 hx2]; exact ex2) (fun hb => ?_)
          obtain ⟨c4, c5⟩ := c3 hb
          rw [z4] at c5
          exact ⟨hb0, fun _ _ _ => c5⟩
        · -- what is lost
          have g1 : Gr FC (2 ^ 58) u (sI u 58 0) := Gr_sI (by decide +kernel)
          have w1 : WF FC (sI u 58 0) := hC.2.1.sI ⟨by omega, by omega⟩ (fun _ => Or.inl rfl)
          obtain ⟨e1, hU1⟩ := g1.ux (X := X) hs (by decide +kernel)
          obtain ⟨hR1, f1⟩ := hR.fr hU1 w1 g1 (by decide +kernel)
          have g2 : Gr FC (2 ^ 59) (sI u 58 0) (sI (sI u 58 0) 59 0) := Gr_sI (by decide +kernel)
          have w2 : WF FC (sI (sI u 58 0) 59 0) := w1.sI ⟨by omega, by omega⟩ (fun _ => Or.inl rfl)
          obtain ⟨e2, hU2⟩ := g2.ux (X := X) hR1.1.1.1.1 (by decide +kernel)
          obtain ⟨hR2, f2⟩ := hR1.fr hU2 w2 g2 (by decide +kernel)
          have i58 : gI (sI (sI u 58 0) 59 0) 58 = 0 := rfl
          have i59 : gI (sI (sI u 58 0) 59 0) 59 = 0 := rfl
          rw [wp_un, wp_un]
          generalize sI (sI u 58 0) 59 0 = u2 at *
          have e02 := e1.trn e2
          have hs2 := hR2.1.1.1.1
          have ex2 : trC ν u2 x = f := by rw [e02.tr]; exact ex
          have hx2 : x < nC u2 := by rw [e02.n]; exact hx
          obtain ⟨bn, b1, b2, b3⟩ := partN (d := d) (i := 1) (by omega) hs2 x0 hx2 (by rw [ex2, hps]; simp) (Or.inl (by rw [ex2]; omega))
          rw [ex2, pb] at b3
          have bn0 : 0 < bn := Nat.pos_of_ne_zero (fun q => isFo_pos hfb (by rw [← b3, q]; rfl))
          have et2 : trC ν u2 tn = t := by rw [e02.tr]; exact t4
          have hrr : rC u2 = rC u0 := hR2.rr
          have hbd2 := (hR2.lim hl).n hs2
          refine wp_eq b1 ?_
          refine wp_call (tX1_placed (s := tn) (ts := t) (H := l.1) (p := l.2.1) htc.1.1 htc.2.1 b hob d u2 bn 0 (by omega) w2 hs2 hR2.1.1.2.2.1.1 t2 (by rw [e02.n]; exact t3) et2 bn0 (by omega) b3 (by omega) (by omega) (by omega)) (fun r u3 ⟨p1, p2, p3, z, p4, p5⟩ => ?_)
          obtain ⟨hR3, f3⟩ := hR2.fr (p1.up p2) p1.2.2.2.1 p1.2.2.2.2 (by decide +kernel)
          have e03 := e02.trn p1.2.1
          have f03 : gI u3 45 = gI u 45 := by rw [f3, f2, f1]
          have nok : ∀ q : ¬ instOK (FsO l) t b, wp (ar ((i : Int) + 1) fun v27 => bX1_round_L87 (runC d) fu n k (x : Int) v27 u3 xx) Q := fun q => nxt u3 Cl (fun _ q => q) hR3 (by rw [e03.n]; exact hx) (by rw [e03.tr]; exact ex) (fun hb => ⟨hb0, fun _ _ h => absurd h q⟩)
          rw [wp_un]
          by_cases hmis : exW (fun s e => ¬ atI l.1 t s e) b 0
          · rw [p3.2.1 hmis, if_neg (by decide), wp_un]
            by_cases hfnd : exW (atI l.1 t) b 0
            · rw [p3.1.1 hfnd, if_neg (by decide)]
              exact hj10 u3 hR3 e03 f03 (Or.inr hfnd)
            · rw [p3.1.2 hfnd, i58, if_pos rfl]
              exact nok (fun q => q.elim (fun z => z hmis) hfnd)
          · rw [p3.2.2 hmis, i59, if_pos rfl]
            exact hj10 u3 hR3 e03 f03 (Or.inl hmis)
      · refine wp_eq (hcf'.2 hfit) ?_
        rw [if_pos rfl]
        exact nxt u Cl (fun _ q => q) hR hx ex (fun hb => ⟨hb, fun _ h => absurd h hfit⟩)
    · have h44 := hR.2.2.2.2.2.1.1
      have h57 := hR.2.2.2.2.2.1.2
      have hnO := hR.2.2.2.1.2
      rw [ld_nat (by omega), t1, wp_un, h44]
      refine wp_ite (fun hfi => hj3 (Or.inl ⟨i, by omega, hgi⟩)) (fun hfi => ?_)
      obtain ⟨d', rfl⟩ : ∃ d', d = d' + 1 := ⟨d - 1, by omega⟩
      obtain ⟨k1, k2⟩ := rX1_isNew (d := d') (by omega) hs t2 t3 h57
      rw [t4] at k1 k2
      have hnew : (kd t = 1 ∧ ∃ j, c0 ≤ j ∧ j < c ∧ wh t = ν j) ↔ kd t = 1 ∧ wh t % 2 = 1 := by
        constructor
        · rintro ⟨a, j, j1, j2, j3⟩
          obtain ⟨g, _, e⟩ := (hnO j j2).2 j1
          exact ⟨a, by omega⟩
        · rintro ⟨a, h⟩
          obtain ⟨j, j1, j2⟩ := (htc.1.2 t (sub_rf t)).1 a
          refine ⟨a, j, ?_, j1, j2.symm⟩
          refine Classical.byContradiction (fun q => ?_)
          have := (hnO j j1).1 (by omega)
          omega
      by_cases hq : kd t = 1 ∧ wh t % 2 = 1
      · refine wp_eq (k1 (hnew.mpr hq)) ?_
        rw [if_neg (by decide)]
        exact hj3 (Or.inr ⟨htH, hq⟩)
      · refine wp_eq (k2 (fun z => hq (hnew.mp z))) ?_
        rw [if_pos rfl]
        refine nxt u Cl (fun _ q => q) hR hx ex (fun hb => ⟨hb, fun hT => ?_⟩)
        rcases hT with ⟨j, j1, j2⟩ | z
        · have : j = i := (List.getElem?_inj (by have := (List.getElem?_eq_some_iff.mp j2).1; omega) hH.2.2.1).mp (by rw [j2, hgi])
          omega
        · exact absurd z.2 hq
