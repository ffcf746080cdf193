/-! a closed case that contradicts itself, in the model -/
theorem o_and1 : ∀ j : Nat, j < 30 → o_and (j : Int) 1 = ((j % 2 : Nat) : Int) := by decide +kernel
theorem o_or1 : ∀ j : Nat, j < 30 → j % 2 = 0 → o_or (j : Int) 1 = ((j + 1 : Nat) : Int) := by decide +kernel
theorem hld_9 {F : Fs} {K : Nat → Prop} {f : Nat} (h : kd f = 9) : hld F K f := by
  unfold hld
  rw [hldN, if_pos h]
  trivial
theorem no_con {F : Fs} {K : Nat → Prop} {k : Nat} : (k = noT ∨ (kd k = 16 ∧ kd (pa k 0) ≠ 13 ∧ hld F K (pa k 0))) ↔ (kd k = 16 ∧ kd (pa k 0) ≠ 13 ∧ hld F K (pa k 0)) := by
  refine ⟨fun q => q.elim (fun e => ?_) id, Or.inr⟩
  have e1 : kd k = 16 := by rw [e]; exact kd_no
  have e2 : pa k 0 = yesT := by rw [e]; unfold noT; exact pa_mk0
  have e3 : kd (pa k 0) = 9 := by rw [e2]; unfold yesT; exact kd_mk _ _ _
  exact ⟨e1, by omega, hld_9 e3⟩
theorem contraT_L2 {d : Nat} (hd : 6 ≤ d) {ν : Nat → Nat} {u : Sg} {l : Ls} (h : HaT ν u l.1 l.2.1) (hJ : FcJT u l.1 l.2.2.2) (hJl : l.2.2.2.length ≤ 100000) (hj : ∀ q ∈ l.2.2.2, q.2 < 30) {xx xy : Sg → Option (Int × Sg)} : ∀ (m i f : Nat), i + m = l.2.2.2.length → m < f → ((∃ (k t j : Nat), i ≤ k ∧ l.2.2.2[k]? = some (t, j) ∧ j % 2 = 0 ∧ fA (FsQ l) t (j + 1)) → bX3_isContradictory_L2 (runT d) f (i : Int) u xx xy = xy u) ∧ (¬ (∃ (k t j : Nat), i ≤ k ∧ l.2.2.2[k]? = some (t, j) ∧ j % 2 = 0 ∧ fA (FsQ l) t (j + 1)) → bX3_isContradictory_L2 (runT d) f (i : Int) u xx xy = xx u) := by
  have hJ' := hJ
  obtain ⟨⟨j1, j2, j3, j4, j5⟩, j6⟩ := hJ'
  intro m
  induction m with
  | zero =>
    intro i f hi hf
    obtain ⟨f, rfl⟩ : ∃ f', f = f' + 1 := ⟨f - 1, by omega⟩
    rw [bX3_isContradictory_L2, un_eq, j1, if_neg (by omega)]
    exact ⟨fun ⟨k, t, j, q1, q2, _⟩ => by have := (List.getElem?_eq_some_iff.mp q2).1; omega, fun _ => rfl⟩
  | succ m ih =>
    intro i f hi hf
    obtain ⟨f, rfl⟩ : ∃ f', f = f' + 1 := ⟨f - 1, by omega⟩
    have hil : i < l.2.2.2.length := by omega
    obtain ⟨t', j', hget⟩ : ∃ t' j', l.2.2.2[i]? = some (t', j') := ⟨_, _, List.getElem?_eq_getElem hil⟩
    obtain ⟨⟨y, y1, y2⟩, e2⟩ := j6 i t' j' hget
    have hj30 : j' < 30 := hj _ (List.mem_of_getElem? hget)
    obtain ⟨n1, n2⟩ := ih (i + 1) f (by omega) (by omega)
    have skip : ¬ (j' % 2 = 0 ∧ fA (FsQ l) t' (j' + 1)) → ((∃ (k t j : Nat), i ≤ k ∧ l.2.2.2[k]? = some (t, j) ∧ j % 2 = 0 ∧ fA (FsQ l) t (j + 1)) → bX3_isContradictory_L2 (runT d) f ((i + 1 : Nat) : Int) u xx xy = xy u) ∧ (¬ (∃ (k t j : Nat), i ≤ k ∧ l.2.2.2[k]? = some (t, j) ∧ j % 2 = 0 ∧ fA (FsQ l) t (j + 1)) → bX3_isContradictory_L2 (runT d) f ((i + 1 : Nat) : Int) u xx xy = xx u) := fun hc => by
      refine ⟨fun ⟨k, t, j, q1, q2, q3⟩ => n1 ⟨k, t, j, ?_, q2, q3⟩, fun q => n2 (fun ⟨k, t, j, q1, q2, q3⟩ => q ⟨k, t, j, by omega, q2, q3⟩)⟩
      by_cases hk : k = i
      · rw [hk, hget] at q2
        have e := Option.some.inj q2
        simp only [Prod.mk.injEq] at e
        rw [← e.1, ← e.2] at q3
        exact absurd q3 hc
      · omega
    rw [bX3_isContradictory_L2, un_eq, j1, if_pos (by omega), ld_nat (by omega), e2, un_eq, o_and1 j' hj30]
    by_cases h2 : j' % 2 = 0
    · rw [if_pos (by omega), ld_nat (by omega), y1, ld_nat (by omega), e2, un_eq, o_or1 j' hj30 h2]
      obtain ⟨c1, c2⟩ := rX3_hasAdj (d := d) (j := j' + 1) (by omega) h hJ hJl y2
      by_cases hc : fA (FsQ l) t' (j' + 1)
      · rw [cl_eq (c1 hc), if_neg (by decide)]
        exact ⟨fun _ => rfl, fun q => absurd ⟨i, t', j', Nat.le_refl _, hget, h2, hc⟩ q⟩
      · rw [cl_eq (c2 hc), if_pos rfl, ar_pos ⟨by omega, by omega⟩, show (i : Int) + 1 = ((i + 1 : Nat) : Int) by omega]
        exact skip (fun q => hc q.2)
    · rw [if_neg (by omega), ar_pos ⟨by omega, by omega⟩, show (i : Int) + 1 = ((i + 1 : Nat) : Int) by omega]
      exact skip (fun q => h2 q.1)
theorem contraT_L52 {d : Nat} {ν : Nat → Nat} {c : Nat} {W : Wd} {S : Fs} {X : Nat → Prop} {Kl : List Nat} {l : Ls} {u0 : Sg} (hW : WOK W (NT ν c)) (hG : WGK W (NT ν c)) (hK : KlOK W (NT ν c) Kl) (hht : ∀ f ∈ Kl, 20 + 3 * htT f ≤ d) (hin : ∀ f ∈ Kl, inHd f l.1) (hs0 : ST ν c u0) (hr : hT u0 ≤ 26000) (hX : ∀ f ∈ Kl, ∀ s, subN s f → kd s = 17 → ∀ p ∈ ps s, X (notT p)) (hl : LimT ν u0 X) (hd3 : 20 ≤ d) : ∀ (m i fu : Nat) (u : Sg), i + m = Kl.length → m < fu → AsT ν c W S Kl l u → UpT ν c u0 u X → Gr FT 16382 u0 u → (∀ j k, j < i → Kl[j]? = some k → ¬ (kd k = 16 ∧ kd (pa k 0) ≠ 13 ∧ hld (FsQ l) (fun f => f ∈ Kl) (pa k 0))) → wp (bX3_isContradictory_L52 (runT d) fu (i : Int) u (fun s2 => some (0, s2)) (fun s3 => some (1, s3)) (fun s4 => some (1, s4)) (fun s5 => some (1, s5)) (fun s6 => some (1, s6)) (fun s7 => some (1, s7)) (fun s8 => some (1, s8))) (RbT ν c 16382 u0 X (∃ k, k ∈ Kl ∧ (kd k = 16 ∧ kd (pa k 0) ≠ 13 ∧ hld (FsQ l) (fun f => f ∈ Kl) (pa k 0)))) := by
  have hK500 := hK.1
  intro m
  induction m with
  | zero =>
    intro i fu u hi hf hA hU hg hno
    obtain ⟨fu, rfl⟩ : ∃ f', fu = f' + 1 := ⟨fu - 1, by omega⟩
    have n1 := hA.2.1.1
    rw [bX3_isContradictory_L52, wp_un, n1, if_neg (by omega), wp_some]
    refine ⟨Or.inr ⟨rfl, fun ⟨k, q1, q2⟩ => ?_⟩, hU, hA.1.2.1, hg⟩
    obtain ⟨j, hj⟩ := List.getElem?_of_mem q1
    exact hno j k (by have := (List.getElem?_eq_some_iff.mp hj).1; omega) hj q2
  | succ m ih =>
    intro i fu u hi hf hA hU hg hno
    obtain ⟨fu, rfl⟩ : ∃ f', fu = f' + 1 := ⟨fu - 1, by omega⟩
    have n1 := hA.2.1.1
    have n2 := hA.2.1.2.1
    have hC := hA.1
    have hkS := hA.2
    have hs := hC.1.1
    have hw := hC.2.1
    have hH3 : HaT ν u l.1 l.2.1 := hC.2.2.1.1
    have hil : i < Kl.length := by omega
    have gi : Kl[i]? = some Kl[i] := List.getElem?_eq_getElem hil
    generalize ef : Kl[i] = k at gi
    have hkK := List.mem_of_getElem? gi
    obtain ⟨hfr, hfc⟩ := hK.2 k hkK
    obtain ⟨y, y1, y0, y2, y3, y4, y5⟩ := hkS.2.2.2.1 i k gi
    have hn := nodeT hs y0 y2
    rw [y3] at hn
    have hk16 : tkT (kd k) = 15 ↔ kd k = 16 := (tkT_in (okT_kin hfr.1)).2.2.2.2.2.1
    have nxt : ∀ u2, AsT ν c W S Kl l u2 → UpT ν c u u2 X → Gr FT 16382 u u2 → ¬ (kd k = 16 ∧ kd (pa k 0) ≠ 13 ∧ hld (FsQ l) (fun f => f ∈ Kl) (pa k 0)) → wp (ar ((i : Int) + 1) fun v10 => bX3_isContradictory_L52 (runT d) fu v10 u2 (fun s2 => some (0, s2)) (fun s3 => some (1, s3)) (fun s4 => some (1, s4)) (fun s5 => some (1, s5)) (fun s6 => some (1, s6)) (fun s7 => some (1, s7)) (fun s8 => some (1, s8))) (RbT ν c 16382 u0 X (∃ k, k ∈ Kl ∧ (kd k = 16 ∧ kd (pa k 0) ≠ 13 ∧ hld (FsQ l) (fun f => f ∈ Kl) (pa k 0)))) := fun u2 z1 z2 z3 z4 => by
      rw [wp_ar]
      refine ⟨⟨by omega, by omega⟩, ?_⟩
      rw [show (i : Int) + 1 = ((i + 1 : Nat) : Int) by omega]
      refine ih (i + 1) fu u2 (by omega) (by omega) z1 (hU.join z2) (hg.tr z3) (fun j k' q1 q2 => ?_)
      by_cases hji : j = i
      · rw [hji, gi] at q2
        rw [← Option.some.inj q2]; exact z4
      · exact hno j k' (by omega) q2
    have nxt0 := nxt u hA (UpT.rf hs) Gr.rf
    rw [bX3_isContradictory_L52, wp_un, n1, if_pos (by omega), ld_nat (by omega), y1, ld_nat (hs.k y2), hn.1]
    by_cases h16 : kd k = 16
    · rw [if_pos (hk16.mpr h16)]
      obtain ⟨z, z1, z0, hz, z3, z4, z5, z6⟩ := notT_at (d := d) (by omega) hs y0 y2 y3 hfr h16
      have hnz := nodeT hs z0 hz
      rw [z3] at hnz
      have hh := ht_c z5
      have hdk := hht k hkK
      have hpf : isFo (pa k 0) := by
        rcases hfr.1.n.2 with q | q | q | q | q | q | q | q | q | q | q | q | q | q <;> try omega
        obtain ⟨_, _, g, e, hg', _⟩ := q
        rw [pa_at (show (ps k)[0]? = some g by rw [e]; rfl)]
        exact hg'
      have hpf' := hpf
      unfold isFo at hpf'
      have tk : tkT (kd (pa k 0)) = (kd (pa k 0) : Int) - 1 := tkT_hi (by omega)
      have yes : kd (pa k 0) ≠ 13 → hld (FsQ l) (fun f => f ∈ Kl) (pa k 0) → wp (some ((1 : Int), u)) (RbT ν c 16382 u0 X (∃ k, k ∈ Kl ∧ (kd k = 16 ∧ kd (pa k 0) ≠ 13 ∧ hld (FsQ l) (fun f => f ∈ Kl) (pa k 0)))) := fun q1 q2 => by
        rw [wp_some]
        exact ⟨Or.inl ⟨rfl, k, hkK, h16, q1, q2⟩, hU, hw, hg⟩
      refine wp_eq z1 ?_
      rw [ld_nat (hs.k hz), hnz.1, tk]
      by_cases k9 : kd (pa k 0) = 9
      · rw [if_pos (by omega)]
        exact yes (by omega) (hld_9 k9)
      rw [if_neg (by omega)]
      by_cases k10 : kd (pa k 0) = 10
      · have hlen := (eq_len z4).1 k10
        have nw0 : nw (kd (pa k 0)) = 0 := by rw [k10]; decide
        obtain ⟨a, a1, a2, a3⟩ := partNT (d := d) (i := 0) (by omega) hs z0 hz (by rw [z3]; omega) (Or.inr rfl)
        obtain ⟨b, b1, b2, b3⟩ := partNT (d := d) (i := 1) (by omega) hs z0 hz (by rw [z3]; omega) (Or.inl (by rw [z3]; omega))
        rw [z3, nw0] at a1 b1
        rw [z3] at a3 b3
        rw [if_pos (by omega)]
        refine wp_eq a1 (wp_eq b1 ?_)
        obtain ⟨e1, e2⟩ := rX3_equal (d := d) (by omega) hH3 hs (by omega : a ≤ nT u) (by omega : b ≤ nT u)
        rw [a3, b3] at e1 e2
        have hhl : hld (FsQ l) (fun f => f ∈ Kl) (pa k 0) ↔ eqX l.1 l.2.1 (pa (pa k 0) 0) (pa (pa k 0) 1) := by
          unfold hld
          rw [hldN, if_neg (by omega), if_pos k10]
          exact Iff.rfl
        by_cases hq : eqX l.1 l.2.1 (pa (pa k 0) 0) (pa (pa k 0) 1)
        · refine wp_eq (e1 hq) ?_
          rw [if_neg (by decide)]
          exact yes (by omega) (hhl.mpr hq)
        · refine wp_eq (e2 hq) ?_
          rw [if_pos rfl]
          exact nxt0 (fun q => hq (hhl.mp q.2.2))
      rw [if_neg (by omega)]
      have said : kd (pa k 0) = 11 ∨ kd (pa k 0) = 12 → wp (cl (runT d 101 [(z : Int), 0] u) fun v14 s15 => if v14 = 0 then (ar ((i : Int) + 1) fun v10 => bX3_isContradictory_L52 (runT d) fu v10 s15 (fun s2 => some (0, s2)) (fun s3 => some (1, s3)) (fun s4 => some (1, s4)) (fun s5 => some (1, s5)) (fun s6 => some (1, s6)) (fun s7 => some (1, s7)) (fun s8 => some (1, s8))) else (some (1, s15))) (RbT ν c 16382 u0 X (∃ k, k ∈ Kl ∧ (kd k = 16 ∧ kd (pa k 0) ≠ 13 ∧ hld (FsQ l) (fun f => f ∈ Kl) (pa k 0)))) := fun hk12 => by
        obtain ⟨e1, e2⟩ := rX3_isKnownAtom (d := d) (l := l) (ng := 0) (by omega) hH3 hkS hK hs z0 hz z3 (by omega) (at_len z4 hk12) (by omega)
        have hhl : hld (FsQ l) (fun f => f ∈ Kl) (pa k 0) ↔ saidS (FsQ l) (fun f => f ∈ Kl) (pa k 0) 0 := by
          unfold hld
          rw [hldN, if_neg (by omega), if_neg (by omega), if_neg (by omega), if_neg (by omega), if_neg (by omega), if_neg (by omega), if_neg (by omega)]
        by_cases hq : saidS (FsQ l) (fun f => f ∈ Kl) (pa k 0) 0
        · refine wp_eq (e1 hq) ?_
          rw [if_neg (by decide)]
          exact yes (by omega) (hhl.mpr hq)
        · refine wp_eq (e2 hq) ?_
          rw [if_pos rfl]
          exact nxt0 (fun q => hq (hhl.mp q.2.2))
      by_cases k11 : kd (pa k 0) = 11
      · rw [if_pos (by omega)]
        exact said (Or.inl k11)
      rw [if_neg (by omega)]
      by_cases k12 : kd (pa k 0) = 12
      · rw [if_pos (by omega)]
        exact said (Or.inr k12)
      rw [if_neg (by omega)]
      by_cases k13 : kd (pa k 0) = 13
      · rw [if_pos (by omega)]
        exact nxt0 (fun q => q.2.1 k13)
      rw [if_neg (by omega)]
      by_cases k14 : kd (pa k 0) = 14
      · have hlen := len14 z4 k14
        have nw1 : nw (kd (pa k 0)) = 1 := by rw [k14]; decide
        obtain ⟨a, a1, a2, a3⟩ := partNT (d := d) (i := 0) (by omega) hs z0 hz (by rw [z3]; omega) (Or.inr rfl)
        obtain ⟨b, b1, b2, b3⟩ := partNT (d := d) (i := 1) (by omega) hs z0 hz (by rw [z3]; omega) (Or.inl (by rw [z3]; omega))
        rw [z3, nw1] at a1 b1
        rw [z3] at a3 b3
        have g0 : runT d 7 [(z : Int), 0] u = some (dt u z 0, u) := getT (d := d) (i := 0) (by omega) hs z0 hz (by rw [z3]; omega)
        rw [hnz.2.2.2.1 nw1 (by omega)] at g0
        have hcl14 := clty14 z4 (hfc.part hfr.1.n (by omega) z5) k14
        have hb1 : pa (pa k 0) 1 ∈ l.1 := by
          have hm : pa (pa k 0) 1 ∈ fms (pa k 0) := fms_at.mpr ⟨1, Or.inl (by omega), pa_get (by omega), isTm_pos hcl14.2.1.2.1⟩
          exact hin k hkK _ (sub_c z5 (sub_c hm (sub_rf _))) hcl14.2.1.2.1 hcl14.2.1.2.2.1
        rw [if_pos (by omega)]
        refine wp_eq b1 ?_
        obtain ⟨ii, i1, i2⟩ := indT (d := d - 1) (by omega) hC (by omega : b ≤ nT u) b3 hb1
        rw [show d - 1 + 1 = d by omega] at i2
        refine wp_eq i2 (wp_eq g0 (wp_eq a1 ?_))
        have hml := hC.ml hW (hK.wh hC.1.2.2.2.1.2.1.2) hK.1
        have hM9 := hC.2.2.2.2.2.2.2.1.2
        obtain ⟨e1, e2⟩ := rX3_hasHere (d := d) (l := l) (m := wh (pa k 0)) (by omega) hH3 hs hC.2.2.2.1 (by omega) (fun q hq => (hM9 q hq).2.2.2.1) i1 (by omega : a ≤ nT u) (fun q => by have := hcl14.2.2.2.1; omega)
        rw [a3] at e1 e2
        have hhl : hld (FsQ l) (fun f => f ∈ Kl) (pa k 0) ↔ fM (FsQ l) (pa (pa k 0) 1) (wh (pa k 0)) (pa (pa k 0) 0) := by
          unfold hld
          rw [hldN, if_neg (by omega), if_neg (by omega), if_neg (by omega), if_pos k14]
        by_cases hq : fM (FsQ l) (pa (pa k 0) 1) (wh (pa k 0)) (pa (pa k 0) 0)
        · refine wp_eq (e1 hq) ?_
          rw [if_neg (by decide)]
          exact yes (by omega) (hhl.mpr hq)
        · refine wp_eq (e2 hq) ?_
          rw [if_pos rfl]
          exact nxt0 (fun q => hq (hhl.mp q.2.2))
      rw [if_neg (by omega), if_neg (by omega), if_neg (by omega)]
      by_cases k17 : kd (pa k 0) = 17
      · rw [if_pos (by omega)]
        have hrr : hT u = hT u0 := hU.2.2.2.1
        refine wp_call (tX3_holds (X := X) hW hG hK (htT (pa k 0) + 1) d u z (pa k 0) (by omega) hA z0 hz z3 (by omega) hpf z4 (by omega) (fun s q1 q2 => hX k hkK s (subN_c (by omega) z5 q1) q2) (hU.lim hl)) (fun r u1 ⟨w1, w2, w3, w4⟩ => ?_)
        have hA1 := hA.up w2 w3 w4
        rcases w1 with ⟨e1, e2⟩ | ⟨e1, e2⟩
        · rw [e1, if_neg (by decide), wp_some]
          exact ⟨Or.inl ⟨rfl, k, hkK, h16, by omega, e2⟩, hU.join w2, w3, hg.tr w4⟩
        · rw [e1, if_pos rfl]
          exact nxt u1 hA1 w2 w4 (fun z => e2 z.2.2)
      have k18 : kd (pa k 0) = 18 := by omega
      rw [if_neg (by omega), if_pos (by omega), wp_un]
      have hhl : hld (FsQ l) (fun f => f ∈ Kl) (pa k 0) ↔ pa k 0 ∈ Kl := by
        unfold hld
        rw [hldN, if_neg (by omega), if_neg (by omega), if_neg (by omega), if_neg (by omega), if_neg (by omega), if_neg (by omega), if_pos k18]
      have hmk := hkS.mem hs hz z3
      by_cases hlt : z < gL u 51
      · rw [if_pos (by omega), ld_nat hlt, wp_un]
        by_cases he : gN u 51 z = gI u 54
        · rw [if_pos he]
          exact yes (by omega) (hhl.mpr (hmk.mpr ⟨hlt, he⟩))
        · rw [if_neg he]
          exact nxt0 (fun q => he (hmk.mp (hhl.mp q.2.2)).2)
      · rw [if_neg (by omega)]
        exact nxt0 (fun q => hlt (hmk.mp (hhl.mp q.2.2)).1)
    · rw [if_neg (fun q => h16 (hk16.mp q))]
      exact nxt0 (fun q => h16 q.1)
theorem tX3_contra {d : Nat} {ν : Nat → Nat} {c : Nat} {W : Wd} {S : Fs} {X : Nat → Prop} {Kl : List Nat} {l : Ls} {u : Sg} (hW : WOK W (NT ν c)) (hG : WGK W (NT ν c)) (hK : KlOK W (NT ν c) Kl) (hht : ∀ f ∈ Kl, 21 + 3 * htT f ≤ d) (hin : ∀ f ∈ Kl, inHd f l.1) (hA : AsT ν c W S Kl l u) (hr : hT u ≤ 26000) (hX : ∀ f ∈ Kl, ∀ s, subN s f → kd s = 17 → ∀ p ∈ ps s, X (notT p)) (hl : LimT ν u X) (hd3 : 21 ≤ d) : wp (runT d 99 [] u) (RbT ν c 16382 u X (conS (FsQ l) (fun f => f ∈ Kl))) := by
  obtain ⟨d, rfl⟩ : ∃ d', d = d' + 1 := ⟨d - 1, by omega⟩
  rw [runT_eq (by omega)]
  show wp (bX3_isContradictory (runT d) u) _
  unfold bX3_isContradictory
  have hC := hA.1
  have hs := hC.1.1
  have hH3 : HaT ν u l.1 l.2.1 := hC.2.2.1.1
  have hJ := hC.2.2.2.2.1
  have hj30 : ∀ q ∈ l.2.2.2, q.2 < 30 := fun q hq => (hC.2.2.2.2.2.2.2.2.1.2 q hq).2.1
  have hml := hC.ml hW (hK.wh hC.1.2.2.2.1.2.1.2) hK.1
  have hK500 := hK.1
  have hnd : l.1.Nodup := hH3.2.2.1
  have key := @contraT_L2 d (by omega) ν u l hH3 hJ (by omega) hj30
  have p1 : (∃ (k t j : Nat), 0 ≤ k ∧ l.2.2.2[k]? = some (t, j) ∧ j % 2 = 0 ∧ fA (FsQ l) t (j + 1)) ↔ ∃ t j, j < 30 ∧ fA (FsQ l) t j ∧ fA (FsQ l) t (jx j) := by
    constructor
    · rintro ⟨k, t, j, _, q1, q2, q3⟩
      have := List.mem_of_getElem? q1
      refine ⟨t, j, hj30 _ this, ⟨t, this, Or.inl rfl⟩, ?_⟩
      unfold jx
      rw [if_pos q2]
      exact q3
    · rintro ⟨t, j, _, q1, q2⟩
      have main : ∀ j', j' % 2 = 0 → fA (FsQ l) t j' → fA (FsQ l) t (j' + 1) → (∃ (k t j : Nat), 0 ≤ k ∧ l.2.2.2[k]? = some (t, j) ∧ j % 2 = 0 ∧ fA (FsQ l) t (j + 1)) := fun j' e ⟨t', z1, z2⟩ ⟨t2, z3, z4⟩ => by
        obtain ⟨k, hk⟩ := List.getElem?_of_mem z1
        exact ⟨k, t', j', Nat.zero_le _, hk, e, t2, z3, z4.trn hnd z2.sy⟩
      unfold jx at q2
      by_cases h2 : j % 2 = 0
      · rw [if_pos h2] at q2
        exact main j h2 q1 q2
      · rw [if_neg h2] at q2
        exact main (j - 1) (by omega) q2 (by rw [show j - 1 + 1 = j by omega]; exact q1)
  have p2 : (∃ k, k ∈ Kl ∧ (k = noT ∨ (kd k = 16 ∧ kd (pa k 0) ≠ 13 ∧ hld (FsQ l) (fun f => f ∈ Kl) (pa k 0)))) ↔ ∃ k, k ∈ Kl ∧ (kd k = 16 ∧ kd (pa k 0) ≠ 13 ∧ hld (FsQ l) (fun f => f ∈ Kl) (pa k 0)) := ⟨fun ⟨k, a, b⟩ => ⟨k, a, no_con.mp b⟩, fun ⟨k, a, b⟩ => ⟨k, a, no_con.mpr b⟩⟩
  by_cases hq : ∃ t j, j < 30 ∧ fA (FsQ l) t j ∧ fA (FsQ l) t (jx j)
  · rw [show bX3_isContradictory_L2 (runT d) KF 0 u _ _ = _ from (key l.2.2.2.length 0 KF (by omega) (Nat.lt_of_le_of_lt (by omega : _ ≤ 300000) KF_300)).1 (p1.mpr hq), wp_some]
    exact ⟨Or.inl ⟨rfl, Or.inl hq⟩, UpT.rf hs, hC.2.1, Gr.rf⟩
  · rw [show bX3_isContradictory_L2 (runT d) KF 0 u _ _ = _ from (key l.2.2.2.length 0 KF (by omega) (Nat.lt_of_le_of_lt (by omega : _ ≤ 300000) KF_300)).2 (fun z => hq (p1.mp z))]
    refine wp_mono (contraT_L52 (X := X) (l := l) hW hG hK (fun f hf => by have := hht f hf; omega) hin hs hr hX hl (by omega) Kl.length 0 KF u (by omega) (Nat.lt_of_le_of_lt (by omega : _ ≤ 65536) KF_gt) hA (UpT.rf hs) Gr.rf (fun j k hj => by omega)) (fun r u' h => h.iff ⟨fun q => Or.inr (p2.mpr q), fun q => p2.mp (q.resolve_left hq)⟩)
