theorem OpC.gh {ν : Nat → Nat} {c : Nat} {u u' : Sg} {X : Nat → Prop} {Ol : List Nat} (h : OpC ν u Ol) (hs : SC ν c u) (hx : Ux ν c u u' X) (hg : GrH u u') (hrun : 1 ≤ gI u 36) : OpC ν u' Ol := by
  have hn := hx.n hs
  obtain ⟨k1, k2, k3⟩ := hg.2 38 (Or.inr rfl)
  have e36 : gI u' 36 = gI u 36 := hg.1.I 36 (by decide +kernel)
  refine ⟨fun x q1 => ⟨?_, fun q2 => ?_⟩, fun f hf => ?_⟩
  · rw [e36]
    by_cases hl : x < gL u 38
    · rw [k2 x hl]; exact (h.1 x hl).1
    · rw [k3 x (by omega) q1]; omega
  · rw [e36] at q2
    by_cases hl : x < gL u 38
    · rw [k2 x hl] at q2
      obtain ⟨a, b, c'⟩ := (h.1 x hl).2 q2
      exact ⟨a, by omega, by rw [hx.tr hs b]; exact c'⟩
    · rw [k3 x (by omega) q1] at q2; omega
  · obtain ⟨x, a, b, c1, d, e⟩ := h.2 f hf
    exact ⟨x, a, by omega, by rw [k2 x b, e36]; exact c1, by omega, by rw [hx.tr hs d]; exact e⟩
theorem UN.mono {ν0 ν : Nat → Nat} {u0 u : Sg} {X Y : Nat → Prop} (h : UN ν0 u0 ν u X) (hm : ∀ t, X t → Y t) : UN ν0 u0 ν u Y := ⟨h.1, h.2.1, fun t ht => (h.2.2.1 t ht).imp id (hm t), h.2.2.2⟩
theorem RkI.gh {ν : Nat → Nat} {c : Nat} {W : Wd} {S S' : Fs} {X X' : Nat → Prop} {Kl Kl' : List Nat} {l l' : Ls} {Kn Cl Bl Ol : List Nat} {c0 fi : Nat} {ν0 : Nat → Nat} {u0 u u' : Sg} (h : RkI ν c W S X Kl l Kn Cl Bl Ol c0 fi ν0 u0 u) (hC : CaL ν c W S' Kl' u' l') (hU : Up ν c u u' X') (hX : ∀ t, X t → X' t) (hg : GrH u u') : RkI ν c W S' X' Kl' l' Kn Cl Bl Ol c0 fi ν0 u0 u' := by
  obtain ⟨h1, h2, h3, h4, ⟨h5, h6⟩, h7, h8, h10, h11⟩ := h
  have hs := h1.1.1
  have hrun := h1.2.2.1.2
  exact ⟨hC, h2.up hs hU.ux hg hrun, h3.fr hs hU.ux hg.1 (by decide +kernel) (by decide +kernel), h4.fr hs hU.ux hg.1 (by decide +kernel) (by decide +kernel), ⟨h5.gh hs hU.ux hg hrun, h6⟩, (h7.mono hX).tr (hU.un hs (hg.1.I 36 (by decide +kernel))), by rw [hg.1.I 44 (by decide +kernel), hg.1.I 57 (by decide +kernel)]; exact h8, by unfold KnL; rw [hg.1.Ln 34 (by decide +kernel)]; exact h10, by unfold CtL; rw [hg.1.Ln 85 (by decide +kernel)]; exact h11⟩
def SgL (W : Wd) (S : Fs) (u : Sg) (l : Ls) : Prop := GdL W u l ∨ (gI u 45 = 1 ∧ Bey S l.1)
def LimA (ν0 : Nat → Nat) (u0 : Sg) (S : Fs) (X : XFm) : Prop := ∀ H : List Nat, H.Nodup → H.length ≤ 101 → (∀ t ∈ H, fH S t) → Lim ν0 u0 (xf X H)
theorem LimA.h {ν0 ν : Nat → Nat} {u0 u : Sg} {S : Fs} {X : XFm} {H : List Nat} (h : LimA ν0 u0 S X) (hU : UN ν0 u0 ν u (xf X H)) : LimH ν u S X H := fun H' a b c d => (hU.mono (xf_mono d)).lim (h H' a (by omega) c)
/-- the same, once it is beyond with one more term that was refused -/
def RkO (ν : Nat → Nat) (c : Nat) (W : Wd) (S : Fs) (X : XFm) (Kl : List Nat) (l : Ls) (Kn Cl Bl Ol : List Nat) (c0 fi : Nat) (ν0 : Nat → Nat) (u0 u : Sg) : Prop := ∃ G, OvL S l.1 G ∧ (gI u 45 = 0 → G = l.1) ∧ RkI ν c W S (xf X G) Kl l Kn Cl Bl Ol c0 fi ν0 u0 u
theorem RkO.z {ν : Nat → Nat} {c : Nat} {W : Wd} {S : Fs} {X : XFm} {Kl : List Nat} {l : Ls} {Kn Cl Bl Ol : List Nat} {c0 fi : Nat} {ν0 : Nat → Nat} {u0 u : Sg} (h : RkO ν c W S X Kl l Kn Cl Bl Ol c0 fi ν0 u0 u) (hb : gI u 45 = 0) : RkI ν c W S (xf X l.1) Kl l Kn Cl Bl Ol c0 fi ν0 u0 u := by
  obtain ⟨G, _, e, hR⟩ := h
  rw [e hb] at hR
  exact hR
theorem RkO.of {ν : Nat → Nat} {c : Nat} {W : Wd} {S : Fs} {X : XFm} {Kl : List Nat} {l : Ls} {Kn Cl Bl Ol : List Nat} {c0 fi : Nat} {ν0 : Nat → Nat} {u0 u : Sg} (h : RkI ν c W S (xf X l.1) Kl l Kn Cl Bl Ol c0 fi ν0 u0 u) : RkO ν c W S X Kl l Kn Cl Bl Ol c0 fi ν0 u0 u := ⟨l.1, OvL.rf h.1, fun _ => rfl, h⟩
/-- the terms of one formula come to hand -/
theorem rk_terms {d : Nat} {ν : Nat → Nat} {c : Nat} {W : Wd} {S : Fs} {X : XFm} {Kl : List Nat} {l : Ls} {Kn Cl Bl Ol : List Nat} {c0 fi : Nat} {ν0 : Nat → Nat} {u0 u : Sg} {x f : Nat} (hAt : ∀ n, AtSp ν c W S X Kl n) (hd : 930 + htT f ≤ d) (hR : RkI ν c W S (xf X l.1) Kl l Kn Cl Bl Ol c0 fi ν0 u0 u) (hl : LimA ν0 u0 S X) (hr0 : rC u0 ≤ 20000) (hg : GdL W u l) (x0 : 0 < x) (hx : x < nC u) (ex : trC ν u x = f) (hfr : frW W (Nm ν c) f) (hlv : lvL f 0) (hS : ∀ s, subT s f → isTm s → loT s = 0 → fH S s) : wp (runC d 44 [(x : Int)] u) (fun _ u' => ∃ l' : Ls, RkO ν c W S X Kl l' Kn Cl Bl Ol c0 fi ν0 u0 u' ∧ ExC l.1 l.2.1 l.2.2.1 l.2.2.2 l'.1 l'.2.1 l'.2.2.1 l'.2.2.2 ∧ True ∧ GrH u u' ∧ SgL W S u' l' ∧ (gI u' 45 = 0 → inHd f l'.1)) := by
  have hrr : rC u = rC u0 := hR.2.2.2.2.2.1.2.2.2.1
  refine wp_mono (tX1_termsOf hAt (htT f + 1) f (by omega) d u x l.1 l.2.1 l.2.2.1 l.2.2.2 hd hR.1 hg.1 hg.2.1 hg.2.2 x0 hx ex hfr hlv hS (by omega) (hl.h hR.2.2.2.2.2.1)) (fun r u' ⟨H', p', M', J', e1, e2, ⟨G, g1, g2, g3, g4⟩, e4, e5⟩ => ?_)
  refine ⟨(H', p', M', J'), ⟨G, g1, fun q => g2 (Or.inl q), hR.gh e2 g4 (xf_mono (fun t ht => g1.1 t (e1.H ht))) e4⟩, e1, trivial, e4, e5.imp (fun q => ⟨q.1, q.2.1, fun y hy => q.2.2.1 y hy (by simp)⟩) id, fun q => ?_⟩
  rcases e5 with z | z
  · exact z.2.2.2
  · rw [z.1] at q; cases q
/-- a constant that a round brought comes to hand -/
theorem rk_at {d : Nat} {ν : Nat → Nat} {c : Nat} {W : Wd} {S : Fs} {X : XFm} {Kl : List Nat} {l : Ls} {Kn Cl Bl Ol : List Nat} {c0 fi : Nat} {ν0 : Nat → Nat} {u0 u : Sg} {x : Nat} (hAt : ∀ n, AtSp ν c W S X Kl n) (hd : 920 ≤ d) (hR : RkI ν c W S (xf X l.1) Kl l Kn Cl Bl Ol c0 fi ν0 u0 u) (hl : LimA ν0 u0 S X) (hr0 : rC u0 ≤ 20000) (hg : GdL W u l) (x0 : 0 < x) (hx : x < nC u) (hc : cltm W (Nm ν c) (trC ν u x)) (hS : fH S (trC ν u x)) : wp (runC d 45 [(x : Int)] u) (fun _ u' => ∃ l' : Ls, RkO ν c W S X Kl l' Kn Cl Bl Ol c0 fi ν0 u0 u' ∧ ExC l.1 l.2.1 l.2.2.1 l.2.2.2 l'.1 l'.2.1 l'.2.2.1 l'.2.2.2 ∧ True ∧ GrH u u' ∧ SgL W S u' l' ∧ (gI u' 45 = 0 → trC ν u x ∈ l'.1)) := by
  have hrr : rC u = rC u0 := hR.2.2.2.2.2.1.2.2.2.1
  refine wp_mono (hAt 100 d u x l.1 l.2.1 l.2.2.1 l.2.2.2 [] (by omega) (by omega) hR.1 hg.1 (fun q hq h0 => Or.inl (hg.2.1 q hq h0)) (fun y hy _ => hg.2.2 y hy) x0 hx hc hS (by omega) (hl.h hR.2.2.2.2.2.1)) (fun r u' ⟨H', p', M', J', e1, e2, ⟨G, g1, g2, g3, g4⟩, e4, e5⟩ => ?_)
  refine ⟨(H', p', M', J'), ⟨G, g1, fun q => g2 (Or.inl q), hR.gh e2 g4 (xf_mono (fun t ht => g1.1 t (e1.H ht))) e4⟩, e1, trivial, e4, e5.imp (fun q => ⟨q.1, q.2.1, fun y hy => q.2.2.1 y hy (by simp)⟩) id, fun q => ?_⟩
  rcases e5 with z | z
  · exact z.2.2.2
  · rw [z.1] at q; cases q
theorem idP_ex {H H' : List Nat} {p p' : Nat → Nat} {M M' : List (Nat × Nat × Nat)} {J J' : List (Nat × Nat)} (h : ExC H p M J H' p' M' J') (hp : idP p H.length) : idP p' H'.length := fun i hi => by
  by_cases q : i < H.length
  · rw [h.2.1 i q]; exact hp i q
  · exact h.2.2.1 i (by omega) hi
/-- the terms of the formulas of a case come to hand -/
theorem refuted_L60 {d : Nat} {ν : Nat → Nat} {c : Nat} {W : Wd} {S : Fs} {X : XFm} {Kl : List Nat} {Kn Cl Bl Ol : List Nat} {c0 fi : Nat} {ν0 : Nat → Nat} {u0 : Sg} {Q : Int → Sg → Prop} (hAt : ∀ n, AtSp ν c W S X Kl n) (hl : LimA ν0 u0 S X) (hr0 : rC u0 ≤ 20000) (hKn : Kn.length ≤ 2500) (hf : ∀ f ∈ Kn, 930 + htT f ≤ d ∧ frW W (Nm ν c) f ∧ lvL f 0 ∧ ∀ s, subT s f → isTm s → loT s = 0 → fH S s) : ∀ (m i fu : Nat) (u : Sg) (l : Ls), i + m = Kn.length → m < fu → RkO ν c W S X Kl l Kn Cl Bl Ol c0 fi ν0 u0 u → SgL W S u l → idP l.2.1 l.1.length → (gI u 45 = 0 → ∀ (j f : Nat), j < i → Kn[j]? = some f → inHd f l.1) → ∀ xx : Sg → Option (Int × Sg), (∀ (u2 : Sg) (l2 : Ls), RkO ν c W S X Kl l2 Kn Cl Bl Ol c0 fi ν0 u0 u2 → SgL W S u2 l2 → idP l2.2.1 l2.1.length → (gI u2 45 = 0 → HKn Kn l2.1) → wp (xx u2) Q) → wp (bX1_refuted_L60 (runC d) fu (i : Int) u xx) Q := by
  intro m
  induction m with
  | zero =>
    intro i fu u l hi hfu hRO hst hid hdn xx k
    obtain ⟨G, gv, ge, hR⟩ := id hRO
    obtain ⟨fu, rfl⟩ : ∃ f', fu = f' + 1 := ⟨fu - 1, by omega⟩
    rw [bX1_refuted_L60, wp_un, hR.2.1.1.1, if_neg (by omega)]
    refine k u l hRO hst hid (fun q f hf' => ?_)
    obtain ⟨j, hj⟩ := List.getElem?_of_mem hf'
    exact hdn q j f (by have := (List.getElem?_eq_some_iff.mp hj).1; omega) hj
  | succ m ih =>
    intro i fu u l hi hfu hRO hst hid hdn xx k
    obtain ⟨G, gv, ge, hR⟩ := id hRO
    obtain ⟨fu, rfl⟩ : ∃ f', fu = f' + 1 := ⟨fu - 1, by omega⟩
    have hil : i < Kn.length := by omega
    have gi : Kn[i]? = some Kn[i] := List.getElem?_eq_getElem hil
    generalize ef : Kn[i] = f at gi
    obtain ⟨x, x1, x2, x3, x4, _⟩ := hR.2.1.2.2.1 i f gi
    obtain ⟨f1, f2, f3, f4⟩ := hf f (List.mem_of_getElem? gi)
    have l34 := hR.2.1.1.2
    rw [bX1_refuted_L60, wp_un, hR.2.1.1.1, if_pos (by omega), wp_un]
    refine wp_ite (fun hb => ?_) (fun hb => ?_)
    · have hg : GdL W u l := hst.resolve_right (fun q => by rw [q.1] at hb; cases hb)
      rw [ld_nat (by omega), x1]
      refine wp_call (rk_terms hAt f1 (hRO.z hb) hl hr0 hg x2 x3 x4 f2 f3 f4) (fun r u1 ⟨l1, a1, a2, a3, a4, a5, a6⟩ => ?_)
      rw [wp_ar]
      refine ⟨⟨by omega, by omega⟩, ?_⟩
      rw [show (i : Int) + 1 = ((i + 1 : Nat) : Int) by omega]
      refine ih (i + 1) fu u1 l1 (by omega) (by omega) a1 a5 (idP_ex a2 hid) (fun q j g hj hg' => ?_) xx k
      by_cases hji : j = i
      · rw [hji, gi] at hg'
        rw [← Option.some.inj hg']
        exact a6 q
      · exact fun s q1 q2 q3 => a2.H (hdn hb j g (by omega) hg' s q1 q2 q3)
    · exact k u l hRO hst hid (fun q => absurd q hb)
