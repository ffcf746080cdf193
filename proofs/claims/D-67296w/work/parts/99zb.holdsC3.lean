theorem at_len {W : Wd} {N : Nat → Prop} {f : Nat} (h : frW W N f) (hk : kd f = 11 ∨ kd f = 12) : (ps f).length ≤ 60000 := by
  rcases h.1.n.2 with q | q | q | q | q | q | q | q | q | q | q | q | q | q <;> try omega
  obtain ⟨_, _, a, b, e, _⟩ := q
  rw [e]; simp
theorem len14 {W : Wd} {N : Nat → Prop} {f : Nat} (h : frW W N f) (hk : kd f = 14) : (ps f).length = 2 := by
  rcases h.1.n.2 with q | q | q | q | q | q | q | q | q | q | q | q | q | q <;> try omega
  obtain ⟨_, a, b, e, _⟩ := q
  rw [e]; rfl
theorem tX1_fails {d n : Nat} {ν : Nat → Nat} {c : Nat} {W : Wd} {S : Fs} {X : Nat → Prop} {Kl : List Nat} {l : Ls} {u : Sg} {x z f : Nat} (hG : WGK W (Nm ν c)) (hK : KlOK W (Nm ν c) Kl) (hH : HoSp ν c W S X Kl l n) (hd : 21 + 3 * n ≤ d) (hA : AsC ν c W S Kl l u) (hx : x < nC u) (ef : trC ν u x = f) (z0 : 0 < z) (hz : z < nC u) (ez : trC ν u z = pa f 0) (hg : isFo (pa f 0)) (h16 : kd (pa f 0) ≠ 16) (hfr : frW W (Nm ν c) (pa f 0)) (hht : htT (pa f 0) < n) (hr : rC u ≤ 20000) (hX : ∀ s, subN s (pa f 0) → kd s = 17 → ∀ p ∈ ps s, X (notT p)) (hl : Lim ν u X) : wp (runC d 68 [(z : Int), (x : Int)] u) (RbC ν c 8191 u X (flsB (FsO l) (fun f => f ∈ Kl) (hldN (FsO l) (fun f => f ∈ Kl) n) f)) := by
  obtain ⟨d, rfl⟩ : ∃ d', d = d' + 2 := ⟨d - 2, by omega⟩
  rw [runC_eq (by omega)]
  show wp (bX1_fails (runC (d + 1)) z x u) _
  unfold bX1_fails
  obtain ⟨hC, hkS⟩ := hA
  have hA : AsC ν c W S Kl l u := ⟨hC, hkS⟩
  have hs := hC.1.1
  have hw := hC.2.1
  have hH3 : HaC ν u l.1 l.2.1 := hC.2.2.1.1
  have hJ : FcJ ν u l.2.2.2 := hC.2.2.2.2.1
  have hkn := hkS.kn
  have hn := nodeC hs z0 hz
  rw [ez] at hn
  have hbd := hl.n hs
  have l1 : gL u 1 = gL u 0 := hs.1.1.2.2.2.1.1
  generalize eg : pa f 0 = g at *
  have fl : flsB (FsO l) (fun f => f ∈ Kl) (hldN (FsO l) (fun f => f ∈ Kl) n) f = if kd g = 9 then False else if kd g = 10 then eqN (FsO l) (fun f => f ∈ Kl) (pa g 0) (pa g 1) else if kd g = 13 then fA (FsO l) (pa g 0) (2 * wh g + 1) else if kd g = 17 then ∃ p ∈ ps g, hldN (FsO l) (fun f => f ∈ Kl) n (notT p) else if kd g = 18 then f ∈ Kl else saidS (FsO l) (fun f => f ∈ Kl) g 1 := by
    unfold flsB
    rw [eg]
  rw [fl, ld_nat (by omega), hn.1]
  unfold isFo at hg
  by_cases k9 : kd g = 9
  · rw [if_pos (by omega), if_pos k9, wp_some]
    exact ⟨Or.inr ⟨rfl, id⟩, Up.rf hs, hw, Gr.rf⟩
  rw [if_neg (by omega), if_neg k9]
  by_cases k10 : kd g = 10
  · rw [if_pos (by omega), if_pos k10]
    have hlen := (eq_len hfr).1 k10
    obtain ⟨a, a1, a2, a3⟩ := partN (d := d + 1) (i := 0) (by omega) hs z0 hz (by rw [ez]; omega) (Or.inr rfl)
    obtain ⟨b, b1, b2, b3⟩ := partN (d := d + 1) (i := 1) (by omega) hs z0 hz (by rw [ez]; omega) (Or.inl (by rw [ez]; omega))
    rw [ez] at a3 b3
    refine wp_eq a1 (wp_eq b1 ?_)
    have := fails_L90 (d := d + 1) (M := l.2.2.1) (J := l.2.2.2) (by omega) hH3 hkn hK hs (by omega : a < nC u) (by omega : b < nC u)
    rw [a3, b3] at this
    exact this.rb1 hs hw
  rw [if_neg (by omega), if_neg k10]
  by_cases k13 : kd g = 13
  · rw [if_neg (by omega), if_neg (by omega), if_pos (by omega), if_pos k13]
    have hlen := (eq_len hfr).2.1 k13
    obtain ⟨a, a1, a2, a3⟩ := partN (d := d + 1) (i := 0) (by omega) hs z0 hz (by rw [ez]; omega) (Or.inr rfl)
    rw [ez] at a3
    have hwA := hfr.lc.2.2.2.2.1 k13
    have hA15 := hG.1
    refine wp_eq a1 ?_
    rw [ld_nat (by omega), hn.2.1 (by omega), wp_ar]
    refine ⟨⟨by omega, by omega⟩, ?_⟩
    rw [wp_ar]
    refine ⟨⟨by omega, by omega⟩, ?_⟩
    rw [show 2 * (wh g : Int) + 1 = ((2 * wh g + 1 : Nat) : Int) by omega]
    have := rX1_classHas (d := d + 1) (j := 2 * wh g + 1) (M := l.2.2.1) (by omega) hH3 hJ hs (by omega : a < nC u)
    rw [a3] at this
    exact this.rb hs hw
  rw [if_neg k13]
  by_cases k17 : kd g = 17
  · rw [if_neg (by omega), if_neg (by omega), if_neg (by omega), if_neg (by omega), if_neg (by omega), if_neg (by omega), if_pos (by omega), if_pos k17]
    exact fails_L274 hH (by omega) hs hw z0 hz ez k17 hht hfr hr hX hl (ps g).length 0 KF u (by omega) (Nat.lt_of_le_of_lt (by omega : _ ≤ 300000) KF_300) hA (Up.rf hs) Gr.rf (fun j hj => by omega)
  rw [if_neg k17]
  by_cases k18 : kd g = 18
  · rw [if_neg (by omega), if_neg (by omega), if_neg (by omega), if_neg (by omega), if_neg (by omega), if_neg (by omega), if_neg (by omega), if_pos (by omega), if_pos k18]
    have := rX1_isKnownHere (d := d) (by omega) hkS hs hx
    rw [ef] at this
    exact this.rb hs hw
  rw [if_neg k18]
  by_cases k14 : kd g = 14
  · rw [if_neg (by omega), if_neg (by omega), if_neg (by omega), if_pos (by omega)]
    have := fails_L328 (d := d + 1) (M := l.2.2.1) (J := l.2.2.2) (by omega) hH3 hC.h0 hkn hK hs z0 hz (by rw [ez]; exact k14) (by rw [ez]; exact len14 hfr k14)
    rw [ez] at this
    exact this.rb1 hs hw
  · have hat : kd g = 11 ∨ kd g = 12 := by omega
    have := rX1_isSaid (d := d + 1) (ng := 1) (M := l.2.2.1) (J := l.2.2.2) (by omega) hH3 hkn hK hs z0 hz (by rw [ez]; omega) (by rw [ez]; exact at_len hfr hat) (by omega)
    rw [ez] at this
    rcases hat with q | q
    · rw [if_pos (by omega)]
      exact this.rb hs hw
    · rw [if_neg (by omega), if_pos (by omega)]
      exact this.rb hs hw
theorem tX1_holds {ν : Nat → Nat} {c : Nat} {W : Wd} {S : Fs} {X : Nat → Prop} {Kl : List Nat} {l : Ls} (hG : WGK W (Nm ν c)) (hK : KlOK W (Nm ν c) Kl) : ∀ n, HoSp ν c W S X Kl l n := by
  intro n
  induction n with
  | zero => intro d u x f _ _ _ _ _ h; omega
  | succ n ih =>
    intro d u x f hd hA x0 hx ef hht hg hfr hr hX hl
    obtain ⟨d, rfl⟩ : ∃ d', d = d' + 2 := ⟨d - 2, by omega⟩
    rw [runC_eq (by omega)]
    show wp (bX1_holds (runC (d + 1)) x u) _
    unfold bX1_holds
    obtain ⟨hC, hkS⟩ := hA
    have hA : AsC ν c W S Kl l u := ⟨hC, hkS⟩
    have hs := hC.1.1
    have hw := hC.2.1
    have hH3 : HaC ν u l.1 l.2.1 := hC.2.2.1.1
    have hM : FcM ν u l.2.2.1 := hC.2.2.2.1
    have hJ : FcJ ν u l.2.2.2 := hC.2.2.2.2.1
    have hkn := hkS.kn
    have hn := nodeC hs x0 hx
    rw [ef] at hn
    have hbd := hl.n hs
    have l1 : gL u 1 = gL u 0 := hs.1.1.2.2.2.1.1
    rw [hldN, ld_nat (by omega), hn.1]
    unfold isFo at hg
    by_cases k9 : kd f = 9
    · rw [if_pos (by omega), if_pos k9, wp_some]
      exact ⟨Or.inl ⟨rfl, trivial⟩, Up.rf hs, hw, Gr.rf⟩
    rw [if_neg (by omega), if_neg k9]
    by_cases k10 : kd f = 10
    · rw [if_pos (by omega), if_pos k10]
      have hlen := (eq_len hfr).1 k10
      obtain ⟨a, a1, a2, a3⟩ := partN (d := d + 1) (i := 0) (by omega) hs x0 hx (by rw [ef]; omega) (Or.inr rfl)
      obtain ⟨b, b1, b2, b3⟩ := partN (d := d + 1) (i := 1) (by omega) hs x0 hx (by rw [ef]; omega) (Or.inl (by rw [ef]; omega))
      rw [ef] at a3 b3
      refine wp_eq a1 (wp_eq b1 ?_)
      have := rX1_equal (d := d + 1) (by omega) hH3 hs (by omega : a < nC u) (by omega : b < nC u)
      rw [a3, b3] at this
      exact this.rb hs hw
    rw [if_neg (by omega), if_neg k10]
    by_cases k13 : kd f = 13
    · rw [if_neg (by omega), if_neg (by omega), if_pos (by omega), if_pos k13]
      have hlen := (eq_len hfr).2.1 k13
      obtain ⟨a, a1, a2, a3⟩ := partN (d := d + 1) (i := 0) (by omega) hs x0 hx (by rw [ef]; omega) (Or.inr rfl)
      rw [ef] at a3
      have hwA := hfr.lc.2.2.2.2.1 k13
      have hA15 := hG.1
      refine wp_eq a1 ?_
      rw [ld_nat (by omega), hn.2.1 (by omega), wp_ar]
      refine ⟨⟨by omega, by omega⟩, ?_⟩
      rw [show 2 * (wh f : Int) = ((2 * wh f : Nat) : Int) by omega]
      have := rX1_classHas (d := d + 1) (j := 2 * wh f) (M := l.2.2.1) (by omega) hH3 hJ hs (by omega : a < nC u)
      rw [a3] at this
      exact this.rb hs hw
    rw [if_neg k13]
    by_cases k14 : kd f = 14
    · rw [if_neg (by omega), if_neg (by omega), if_neg (by omega), if_pos (by omega), if_pos k14]
      have hlen := len14 hfr k14
      obtain ⟨a, a1, a2, a3⟩ := partN (d := d + 1) (i := 0) (by omega) hs x0 hx (by rw [ef]; omega) (Or.inr rfl)
      obtain ⟨b, b1, b2, b3⟩ := partN (d := d + 1) (i := 1) (by omega) hs x0 hx (by rw [ef]; omega) (Or.inl (by rw [ef]; omega))
      rw [ef] at a3 b3
      refine wp_eq b1 ?_
      rw [ld_nat (by omega), hn.2.1 (by omega)]
      refine wp_eq a1 ?_
      have := rX1_classHasMode (d := d + 1) (m := wh f) (J := l.2.2.2) (by omega) hH3 hC.h0 hM hs (by omega : b < nC u) (by omega : a < nC u)
      rw [a3, b3] at this
      exact this.rb hs hw
    rw [if_neg k14]
    by_cases k16 : kd f = 16
    · rw [if_neg (by omega), if_neg (by omega), if_neg (by omega), if_neg (by omega), if_neg (by omega), if_pos (by omega), if_pos k16]
      obtain ⟨r1, r2, r3⟩ := (eq_len hfr).2.2 k16
      obtain ⟨z, z1, z2, z3⟩ := partN (d := d + 1) (i := 0) (by omega) hs x0 hx (by rw [ef, r1]; simp) (Or.inr rfl)
      rw [ef] at z3
      have hpf : isFo (pa f 0) := by
        rcases hfr.1.n.2 with q | q | q | q | q | q | q | q | q | q | q | q | q | q <;> try omega
        obtain ⟨_, _, g, e, hg', _⟩ := q
        rw [pa_at (show (ps f)[0]? = some g by rw [e]; rfl)]
        exact hg'
      have z0 : 0 < z := Nat.pos_of_ne_zero (fun q => isFo_pos hpf (by rw [← z3, q]; rfl))
      have hh := ht_c r2
      refine wp_eq z1 ?_
      refine wp_call (tX1_fails (n := n) hG hK ih (by omega) hA hx ef z0 (by omega) z3 hpf r3 (hfr.part r2) (by omega) hr (fun s q1 q2 => hX s (subN_c (by omega) r2 q1) q2) hl) (fun r u' h => ?_)
      rw [wp_some]
      exact h
    rw [if_neg k16]
    by_cases k17 : kd f = 17
    · rw [if_neg (by omega), if_neg (by omega), if_neg (by omega), if_neg (by omega), if_neg (by omega), if_neg (by omega), if_pos (by omega), if_pos k17]
      exact holds_L148 ih (by omega) hs hw x0 hx ef k17 (by omega) hfr hr hX hl (ps f).length 0 KF u (by omega) (Nat.lt_of_le_of_lt (by omega : _ ≤ 300000) KF_300) hA (Up.rf hs) Gr.rf (fun j hj => by omega)
    rw [if_neg k17]
    by_cases k18 : kd f = 18
    · rw [if_neg (by omega), if_neg (by omega), if_neg (by omega), if_neg (by omega), if_neg (by omega), if_neg (by omega), if_neg (by omega), if_pos (by omega), if_pos k18]
      have := rX1_isKnownHere (d := d) (by omega) hkS hs hx
      rw [ef] at this
      exact this.rb hs hw
    rw [if_neg k18]
    have hat : kd f = 11 ∨ kd f = 12 := by omega
    have := rX1_isSaid (d := d + 1) (ng := 0) (M := l.2.2.1) (J := l.2.2.2) (by omega) hH3 hkn hK hs x0 hx (by rw [ef]; omega) (by rw [ef]; exact at_len hfr hat) (by omega)
    rw [ef] at this
    rcases hat with q | q
    · rw [if_pos (by omega)]
      exact this.rb hs hw
    · rw [if_neg (by omega), if_pos (by omega)]
      exact this.rb hs hw
