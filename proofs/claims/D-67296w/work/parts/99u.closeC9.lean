/-- the terms of an atom -/
theorem atm_part {W : Wd} {N : Nat → Prop} {f i : Nat} (h : frW W N f) (hc : closT f) (hk : kd f = 10 ∨ kd f = 11 ∨ kd f = 12 ∨ kd f = 13) (hi : i < (ps f).length) : cltm W N (pa f i) ∧ pa f i ∈ fms f := by
  have hg := pa_get hi
  have hall : ∀ c ∈ ps f, isTm c := by
    rcases h.1.n.2 with q | q | q | q | q | q | q | q | q | q | q | q | q | q <;> try omega
    · obtain ⟨_, _, a, b, e, ha, hb⟩ := q
      intro c hc'
      rw [e] at hc'
      rcases List.mem_cons.mp hc' with z | z
      · rw [z]; exact ha
      · rw [List.mem_singleton.mp z]; exact hb
    · exact q.2.2
    · obtain ⟨_, a, e, ha⟩ := q
      intro c hc'
      rw [e] at hc'
      rw [List.mem_singleton.mp hc']; exact ha
  have ht := hall _ (List.mem_of_getElem? hg)
  have hm : pa f i ∈ fms f := fms_at.mpr ⟨i, Or.inl (by omega), hg, isTm_pos ht⟩
  exact ⟨⟨h.part hm, ht, hc.part h.1.n (by omega) hm⟩, hm⟩
theorem eq_len {W : Wd} {N : Nat → Prop} {f : Nat} (h : frW W N f) : (kd f = 10 → (ps f).length = 2) ∧ (kd f = 13 → (ps f).length = 1) ∧ (kd f = 16 → ps f = [pa f 0] ∧ pa f 0 ∈ fms f ∧ kd (pa f 0) ≠ 16) := by
  refine ⟨fun hk => ?_, fun hk => ?_, fun hk => ?_⟩
  · rcases h.1.n.2 with q | q | q | q | q | q | q | q | q | q | q | q | q | q <;> try omega
    obtain ⟨_, _, a, b, e, _⟩ := q
    rw [e]; rfl
  · rcases h.1.n.2 with q | q | q | q | q | q | q | q | q | q | q | q | q | q <;> try omega
    obtain ⟨_, a, e, _⟩ := q
    rw [e]; rfl
  · rcases h.1.n.2 with q | q | q | q | q | q | q | q | q | q | q | q | q | q <;> try omega
    obtain ⟨_, _, a, e, ha, hb⟩ := q
    have ea : pa f 0 = a := pa_at (by rw [e]; rfl)
    rw [ea]
    exact ⟨e, fms_at.mpr ⟨0, Or.inr rfl, by rw [e]; rfl, isFo_pos ha⟩, hb⟩
/-- what is known, in the class -/
def KnC (ν : Nat → Nat) (u : Sg) (Kl : List Nat) : Prop := gI u 35 = (Kl.length : Int) ∧ Kl.length ≤ gL u 34 ∧ ∀ (i f : Nat), Kl[i]? = some f → inC ν u (gN u 34 i) f
theorem KnC.up {ν : Nat → Nat} {c D : Nat} {u u' : Sg} {X : Nat → Prop} {Kl : List Nat} (h : KnC ν u Kl) (hs : SC ν c u) (hx : Ux ν c u u' X) (hg : Gr FC D u u') (h34 : D.testBit 34 = false) (h35 : D.testBit 35 = false) : KnC ν u' Kl := by
  obtain ⟨a, b, e⟩ := h
  refine ⟨by rw [hg.I 35 h35]; exact a, by rw [hg.Ln 34 h34]; exact b, fun i f hi => ?_⟩
  rw [hg.N 34 h34]
  exact (e i f hi).up hs hx
/-- the closed terms of what is known are at hand -/
def HKn (Kl H : List Nat) : Prop := ∀ f ∈ Kl, ∀ s, subT s f → isTm s → loT s = 0 → s ∈ H
def KP (W : Wd) (l : Ls) (f : Nat) : Prop := (kd f = 10 → eqL l.1 l.2.1 (pa f 0) (pa f 1)) ∧ (kd f = 13 → fA (FsO l) (pa f 0) (2 * wh f)) ∧ (kd f = 16 → kd (pa f 0) = 13 → fA (FsO l) (pa (pa f 0) 0) (2 * wh (pa f 0) + 1)) ∧ (kd f = 14 → chF W (pa f 1) (mk 8 (wh f) [pa f 0]) l.1 l.2.2.1 l.2.2.2)
def XKn (W : Wd) (X : XFm) (Kl : List Nat) : Prop := ∀ f ∈ Kl, kd f = 14 → X.1 (mk 8 (wh f) [pa f 0]) ∧ ∀ z ∈ upT W (mk 8 (wh f) [pa f 0]), (pa z 0 = 0 → paX W X.1 z) ∧ (pa z 0 ≠ 0 → paX W (X.2 (pa z 0)) z)
theorem ALM_kn {W : Wd} {Kl H : List Nat} {f : Nat} (hf : f ∈ Kl) (h14 : kd f = 14) : ∀ z ∈ upT W (mk 8 (wh f) [pa f 0]), (pa f 1, wh z, pa z 0) ∈ ALM W Kl H := fun z hz => by
  unfold ALM
  exact List.mem_append_right _ (List.mem_flatMap.mpr ⟨f, List.mem_filter.mpr ⟨hf, by simpa using h14⟩, List.mem_map.mpr ⟨z, hz, rfl⟩⟩)
theorem close_L17 {d : Nat} (hd : 930 ≤ d) {ν : Nat → Nat} {c : Nat} {W : Wd} {S : Fs} {X : XFm} {K B : Nat → Prop} {Kl : List Nat} {u0 : Sg} {l0 : Ls} {C0 : Prop} {Q : Int → Sg → Prop} (hW : WOK W (Nm ν c)) (hG : WGK W (Nm ν c)) (hK : KlOK W (Nm ν c) Kl) (hKK : ∀ f ∈ Kl, K f) (hAt : ∀ n, AtSp ν c W S X Kl n) (hS : Clo W K B S) (hXK : XKn W X Kl) (hs0 : SC ν c u0) (hl : LimH ν u0 S X l0.1) (hr : rC u0 ≤ 20000) (hkn : KnC ν u0 Kl) (hhk : HKn Kl l0.1) : ∀ (m i fu : Nat) (u1 : Sg) (l1 : Ls) (fl : Int), i + m = Kl.length → m < fu → ClW ν c W S X Kl u0 l0 (C0 ∧ ∀ i' f, i' < i → Kl[i']? = some f → KP W l0 f) fl u1 l1 → ∀ xx : Int → Sg → Option (Int × Sg), (∀ (u2 : Sg) (l2 : Ls) (fl2 : Int), ClW ν c W S X Kl u0 l0 (C0 ∧ ∀ f ∈ Kl, KP W l0 f) fl2 u2 l2 → wp (xx fl2 u2) Q) → wp (bX1_close_L17 (runC d) fu fl (i : Int) u1 xx) Q := by
  have hK500 := hK.1
  intro m
  induction m with
  | zero =>
    intro i fu u1 l1 fl hi hfu hw xx k
    obtain ⟨fu, rfl⟩ : ∃ f', fu = f' + 1 := ⟨fu - 1, by omega⟩
    obtain ⟨n1, n2, n3⟩ := hkn.up hs0 hw.2.2.1.ux hw.2.2.2.1.1 (by decide +kernel) (by decide +kernel)
    rw [bX1_close_L17, wp_un, n1, if_neg (by omega)]
    refine k u1 l1 fl (hw.mono (fun q => ⟨q.1, fun f hf => ?_⟩))
    obtain ⟨i', hi'⟩ := List.getElem?_of_mem hf
    exact q.2 i' f (by have := (List.getElem?_eq_some_iff.mp hi').1; omega) hi'
  | succ m ih =>
    intro i fu u1 l1 fl hi hfu hw xx k
    obtain ⟨fu, rfl⟩ : ∃ f', fu = f' + 1 := ⟨fu - 1, by omega⟩
    obtain ⟨n1, n2, n3⟩ := hkn.up hs0 hw.2.2.1.ux hw.2.2.2.1.1 (by decide +kernel) (by decide +kernel)
    have hC := hw.2.1
    have hs := hC.1.1
    have hil : i < Kl.length := by omega
    have gi : Kl[i]? = some Kl[i] := List.getElem?_eq_getElem hil
    generalize ef : Kl[i] = f at gi
    have hfK : f ∈ Kl := List.mem_of_getElem? gi
    obtain ⟨hfr, hfc⟩ := hK.2 f hfK
    have hf0 : f ≠ 0 := fun q => by
      have := okN_kd hfr.1.n
      rw [q] at this
      unfold isTm isFo at this
      rw [kd0] at this
      omega
    obtain ⟨y, y1, y0, y2, y3⟩ := (n3 i f gi).pos hf0
    have hn := nodeC hs y0 y2
    rw [y3] at hn
    have l1' : gL u1 1 = gL u1 0 := hs.1.1.2.2.2.1.1
    obtain ⟨q10, q13, q16⟩ := eq_len hfr
    have hrr : rC u1 = rC u0 := hw.2.2.1.r
    -- the next known formula
    have nxt : ∀ (u2 : Sg) (l2 : Ls) (fl2 : Int), ClW ν c W S X Kl u0 l0 ((C0 ∧ ∀ i' f, i' < i → Kl[i']? = some f → KP W l0 f) ∧ KP W l0 f) fl2 u2 l2 → wp (ar ((i : Int) + 1) fun v => bX1_close_L17 (runC d) fu fl2 v u2 xx) Q := fun u2 l2 fl2 z1 => by
      rw [wp_ar]
      refine ⟨⟨by omega, by omega⟩, ?_⟩
      rw [show (i : Int) + 1 = ((i + 1 : Nat) : Int) by omega]
      refine ih (i + 1) fu u2 l2 fl2 (by omega) (by omega) (z1.mono (fun q => ⟨q.1.1, fun i' f' q1 q2 => ?_⟩)) xx k
      by_cases hii : i' = i
      · rw [hii, gi] at q2
        rw [← Option.some.inj q2]; exact q.2
      · exact q.1.2 i' f' (by omega) q2
    have skip : KP W l0 f → wp (ar ((i : Int) + 1) fun v => bX1_close_L17 (runC d) fu fl v u1 xx) Q := fun hkp => nxt u1 l1 fl (hw.mono (fun q => ⟨q, hkp⟩))
    have inH : ∀ s, subT s f → cltm W (Nm ν c) s → s ∈ l1.1 := fun s h1 h2 => hw.1.H (hhk f hfK s h1 h2.2.1 h2.2.2.1)
    rw [bX1_close_L17, wp_un, n1, if_pos (by omega), wp_un]
    refine wp_ite (fun hb => ?_) (fun hb => ?_)
    · rw [wp_jn, ld_nat (by omega), y1, ld_nat (by omega), hn.1]
      by_cases h16 : kd f = 16
      · obtain ⟨r1, r2, r3⟩ := q16 h16
        obtain ⟨z, z1, z2, z3⟩ := partN (d := d) (i := 0) (by omega) hs y0 y2 (by rw [y3, r1]; simp) (Or.inr rfl)
        rw [y3] at z3
        have hgr := hfr.part r2
        have hgc := hfc.part hfr.1.n (by omega) r2
        have z0 : 0 < z := Nat.pos_of_ne_zero (fun q => by
          have e0 : pa f 0 = 0 := by rw [← z3, q]; rfl
          have := okN_kd hgr.1.n
          rw [e0] at this
          unfold isTm isFo at this
          rw [kd0] at this
          omega)
        have hz : z < nC u1 := by omega
        have hnz := nodeC hs z0 hz
        rw [z3] at hnz
        rw [if_pos (by omega)]
        refine wp_eq z1 ?_
        show wp (jn _ _) Q
        rw [wp_jn, ld_nat (by omega), hnz.1]
        by_cases h13 : kd (pa f 0) = 13
        · rw [if_neg (by omega)]
          show wp (ld u1 0 (z : Int) _) Q
          rw [ld_nat (by omega), hnz.1, if_pos (by omega), wp_jn]
          have hp1 := (eq_len hgr).2.1 h13
          obtain ⟨t1, t2⟩ := atm_part (i := 0) hgr hgc (by omega) (by omega)
          obtain ⟨a, a1, a2, a3⟩ := partN (d := d) (i := 0) (by omega) hs z0 hz (by rw [z3]; omega) (Or.inr rfl)
          rw [z3] at a3
          have haH := inH _ (sub_c r2 (sub_c t2 (sub_rf _))) t1
          have hwA := hgr.lc.2.2.2.2.1 h13
          have hA15 := hG.1
          refine wp_eq a1 ?_
          rw [ld_nat (by omega), hnz.2.1 (by omega), wp_ar]
          refine ⟨⟨by omega, by omega⟩, ?_⟩
          rw [if_neg (by omega)]
          show wp (ar _ _) Q
          rw [wp_ar]
          refine ⟨⟨by omega, by omega⟩, ?_⟩
          rw [show 2 * (wh (pa f 0) : Int) + 1 = ((2 * wh (pa f 0) + 1 : Nat) : Int) by omega]
          refine wp_call (tX1_adjW (X := X) (x := a) (j := 2 * wh (pa f 0) + 1) (by omega) hW hK hC (hw.gl hb) (by omega) (by rw [a3]; exact haH) (by omega) (by rw [a3]; exact hS.2.1.2.2.2.2.2.1 f (hKK f hfK) h16 h13) (hw.lm hl hb)) (fun r u2 ⟨hr01, l2, w1, w2, w3⟩ => ?_)
          rw [wp_un]
          rw [a3] at w1
          exact nxt u2 l2 _ (hw.seq (Or.inl hb) w1 (fun e q1 q2 => ⟨q1, fun q => by omega, fun q => by omega, fun _ _ => by rw [← e]; exact ⟨_, q2, Or.inl rfl⟩, fun q => by omega⟩))
        · have hkp : KP W l0 f := ⟨fun q => by omega, fun q => by omega, fun _ q => absurd q h13, fun q => by omega⟩
          by_cases h10 : kd (pa f 0) = 10
          · rw [if_pos (by omega), if_neg (by omega)]
            show wp (ld u1 0 (z : Int) _) Q
            rw [ld_nat (by omega), hnz.1, if_neg (by omega), ld_nat (by omega), hnz.1, if_neg (by omega)]
            exact skip hkp
          · rw [if_neg (by omega)]
            show wp (ld u1 0 (z : Int) _) Q
            rw [ld_nat (by omega), hnz.1, if_neg (by omega), ld_nat (by omega), hnz.1]
            refine wp_ite (fun _ => ?_) (fun _ => skip hkp)
            rw [if_neg (by omega)]
            exact skip hkp
      · rw [if_neg (by omega)]
        show wp (jn _ _) Q
        rw [wp_jn, ld_nat (by omega), hn.1]
        by_cases h10 : kd f = 10
        · rw [if_pos (by omega), if_pos rfl]
          have hp2 := q10 h10
          obtain ⟨t1, t2⟩ := atm_part (i := 0) hfr hfc (by omega) (by omega)
          obtain ⟨t3, t4⟩ := atm_part (i := 1) hfr hfc (by omega) (by omega)
          obtain ⟨a, a1, a2, a3⟩ := partN (d := d) (i := 0) (by omega) hs y0 y2 (by rw [y3]; omega) (Or.inr rfl)
          obtain ⟨b, b1, b2, b3⟩ := partN (d := d) (i := 1) (by omega) hs y0 y2 (by rw [y3]; omega) (Or.inl (by rw [y3]; omega))
          rw [y3] at a3 b3
          refine wp_eq a1 (wp_eq b1 ?_)
          refine wp_call (tX1_join (X := X) (x := a) (y := b) (by omega) hS hC (Or.inl (hw.gl hb)) (by omega) (by omega) (by rw [a3]; exact inH _ (sub_c t2 (sub_rf _)) t1) (by rw [b3]; exact inH _ (sub_c t4 (sub_rf _)) t3) (by rw [a3, b3]; exact hS.2.1.2.2.2.1 f (hKK f hfK) h10)) (fun r u2 ⟨l2, w1, w2, w3, w4⟩ => ?_)
          rw [wp_un]
          rw [a3, b3] at w1
          exact nxt u2 l2 _ (hw.seq (Or.inl hb) w1 (fun e q1 q2 => ⟨q1, fun _ => by rw [← e]; exact q2, fun q => by omega, fun q => by omega, fun q => by omega⟩))
        · rw [if_neg (by omega)]
          show wp (ld u1 0 (y : Int) _) Q
          rw [ld_nat (by omega), hn.1]
          by_cases h13 : kd f = 13
          · rw [if_pos (by omega), wp_jn]
            have hp1 := q13 h13
            obtain ⟨t1, t2⟩ := atm_part (i := 0) hfr hfc (by omega) (by omega)
            obtain ⟨a, a1, a2, a3⟩ := partN (d := d) (i := 0) (by omega) hs y0 y2 (by rw [y3]; omega) (Or.inr rfl)
            rw [y3] at a3
            have haH := inH _ (sub_c t2 (sub_rf _)) t1
            have hwA := hfr.lc.2.2.2.2.1 h13
            have hA15 := hG.1
            refine wp_eq a1 ?_
            rw [ld_nat (by omega), hn.2.1 (by omega), wp_ar]
            refine ⟨⟨by omega, by omega⟩, ?_⟩
            rw [if_pos rfl]
            show wp (ar _ _) Q
            rw [wp_ar]
            refine ⟨⟨by omega, by omega⟩, ?_⟩
            rw [show 2 * (wh f : Int) + 0 = ((2 * wh f : Nat) : Int) by omega]
            refine wp_call (tX1_adjW (X := X) (x := a) (j := 2 * wh f) (by omega) hW hK hC (hw.gl hb) (by omega) (by rw [a3]; exact haH) (by omega) (by rw [a3]; exact hS.2.1.2.2.2.2.1 f (hKK f hfK) h13) (hw.lm hl hb)) (fun r u2 ⟨hr01, l2, w1, w2, w3⟩ => ?_)
            rw [wp_un]
            rw [a3] at w1
            exact nxt u2 l2 _ (hw.seq (Or.inl hb) w1 (fun e q1 q2 => ⟨q1, fun q => by omega, fun _ => by rw [← e]; exact ⟨_, q2, Or.inl rfl⟩, fun q => by omega, fun q => by omega⟩))
          · rw [if_neg (by omega), ld_nat (by omega), hn.1]
            by_cases h14 : kd f = 14
            · rw [if_pos (by omega), if_pos rfl, ld_nat (by omega), hn.2.1 (by omega)]
              obtain ⟨t1, t2, t3, t4, t5⟩ := clty14 hfr hfc h14
              have h20 := hC.1.2.2.2.1.2.1.2
              obtain ⟨X1, X2⟩ := hXK f hfK h14
              obtain ⟨a, a1, a2, a3⟩ := partN (d := d) (i := 0) (by omega) hs y0 y2 (by rw [y3]; omega) (Or.inr rfl)
              rw [y3] at a3
              refine wp_eq a1 ?_
              refine wp_call (tX1_plain (d := d) (m := wh f) (arg := a) (X := xf X l1.1) (by omega) hC.2.1 hs (by omega) (by omega) (by omega) (by rw [a3]; exact Or.inl X1) ((hw.lm hl hb).l hC)) (fun v u2 ⟨v', w1, w2, w3, w4, w5, w6, w7⟩ => ?_)
              subst w1
              rw [a3] at w4
              have hw2 := hw.st w5 w6 w7 (by decide +kernel) (by decide +kernel) (by decide +kernel)
              have hb2 : gI u2 45 = 0 := by rw [w7.I 45 (by decide +kernel)]; exact hb
              have hC2 := hw2.2.1
              have hs2 := hC2.1.1
              have hn2 := w5.ux.n hs
              have y3' : trC ν u2 y = f := by rw [w5.ux.tr hs y2]; exact y3
              obtain ⟨b, b1, b2, b3⟩ := partN (d := d) (i := 1) (by omega) hs2 y0 (by omega) (by rw [y3']; omega) (Or.inl (by rw [y3']; omega))
              rw [y3'] at b3
              have hfb : pa f 1 ∈ fms f := fms_at.mpr ⟨1, Or.inl (by omega), pa_get (by omega), isTm_pos t2.2.1⟩
              have hbH := inH _ (sub_c hfb (sub_rf _)) t2
              refine wp_eq b1 ?_
              have hgd := hw2.gl hb2
              have hr2 : rC u2 = rC u0 := hw2.2.2.1.r
              refine wp_call (tX1_hasType (x := b) (y := v') (n := 100) (Q := []) hW hG (hK.wh h20) hK.1 (hAt 100) (by omega) (by omega) hC2 hb2 hgd.2.1 (fun z hz _ => hgd.2.2 z hz) (by omega) (by rw [b3]; exact hbH) w2 w3 (by rw [w4]; exact t1) (by rw [b3, w4]; exact hS.1.2.2.2.2 f (hKK f hfK) h14) (by rw [w4]; exact X2) (by rw [b3, w4]; exact ALM_kn hfK h14) (by omega) (hw2.lm hl hb2)) (fun r u3 h => ?_)
              rw [b3, w4] at h
              obtain ⟨l3, hw3⟩ := AtR.cl (P := fun H' M' J' => chF W (pa f 1) (mk 8 (wh f) [pa f 0]) H' M' J') hC2.2.2.1.1.2.2.2.2.2.2 h
              rw [wp_un]
              exact nxt u3 l3 _ (hw2.seq (Or.inl hb2) hw3 (fun e q1 q2 => ⟨q1, fun q => by omega, fun q => by omega, fun q => by omega, fun _ => by rw [← e]; exact q2⟩))
            · rw [if_neg (by omega)]
              exact skip ⟨fun q => absurd q h10, fun q => absurd q h13, fun q => absurd q h16, fun q => absurd q h14⟩
    · refine k u1 l1 fl ⟨hw.1, hC, hw.2.2.1, hw.2.2.2.1, Or.inr ?_⟩
      rcases hw.2.2.2.2 with q | q
      · exact absurd q.1.1 hb
      · exact q
