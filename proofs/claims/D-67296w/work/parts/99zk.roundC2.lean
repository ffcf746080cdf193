/-- of a NOT AND all but one part holds -/
def oL (F : Fs) (K : Nat → Prop) (g p : Nat) : Prop := ∃ i, i < (ps g).length ∧ p = pa g i ∧ ¬ hld F K p ∧ ∀ j, j < (ps g).length → j ≠ i → hld F K (pa g j)
def OLm (F : Fs) (K : Nat → Prop) (ν : Nat → Nat) (u : Sg) (g i many : Nat) (lf : Int) : Prop := (many = 0 ∧ ∀ j, j < i → hld F K (pa g j)) ∨ (many = 1 ∧ ∃ k, k < i ∧ ¬ hld F K (pa g k) ∧ (∀ j, j < i → j ≠ k → hld F K (pa g j)) ∧ ∃ z : Nat, lf = (z : Int) ∧ 0 < z ∧ z < nC u ∧ trC ν u z = pa g k) ∨ (many = 2 ∧ ∃ k1 k2, k1 < k2 ∧ k2 < i ∧ ¬ hld F K (pa g k1) ∧ ¬ hld F K (pa g k2))
theorem OLm.up {F : Fs} {K : Nat → Prop} {ν : Nat → Nat} {c : Nat} {u u' : Sg} {X : Nat → Prop} {g i many : Nat} {lf : Int} (h : OLm F K ν u g i many lf) (hs : SC ν c u) (hU : Up ν c u u' X) : OLm F K ν u' g i many lf := by
  have hn := hU.n hs
  refine h.imp id (Or.imp (fun ⟨a, k, k1, k2, k3, z, z1, z2, z3, z4⟩ => ⟨a, k, k1, k2, k3, z, z1, z2, by omega, by rw [hU.tr hs z3]; exact z4⟩) id)
theorem oneLeft_L7 {d : Nat} {ν : Nat → Nat} {c : Nat} {W : Wd} {S : Fs} {X : Nat → Prop} {Kl : List Nat} {l : Ls} {Fu : Nat → Prop} {Cl Bl Ol : List Nat} {c0 fi x g : Nat} {ν0 : Nat → Nat} {u0 : Sg} {Q : Int → Sg → Prop} (hG : WGK W (Nm ν c)) (hK : KlOK W (Nm ν c) Kl) (hd : 20 + 3 * htT g ≤ d) (hl : LimR ν0 u0 X Kl Fu) (hr0 : rC u0 ≤ 20000) (x0 : 0 < x) (h17 : kd g = 17) (hfr : frW W (Nm ν c) g) (hX : ∀ s, subN s g → kd s = 17 → ∀ p ∈ ps s, X (notT p)) : ∀ (m i fu many : Nat) (lf : Int) (u : Sg), i + m = (ps g).length → m < fu → RdI ν c W S X Kl l Fu Cl Bl Ol c0 fi ν0 u0 u → x < nC u → trC ν u x = g → OLm (FsO l) (fun f => f ∈ Kl) ν u g i many lf → ∀ xx : Int → Int → Sg → Option (Int × Sg), (∀ (u2 : Sg) (lf2 : Int) (many2 : Nat), RdI ν c W S X Kl l Fu Cl Bl Ol c0 fi ν0 u0 u2 → gI u2 45 = gI u 45 → (OLm (FsO l) (fun f => f ∈ Kl) ν u2 g (ps g).length many2 lf2) → wp (xx lf2 (many2 : Int) u2) Q) → wp (bX1_oneLeft_L7 (runC d) fu (x : Int) lf (many : Int) (i : Int) u xx) Q := by
  have hall : ∀ p ∈ ps g, isFo p := by
    rcases hfr.1.n.2 with q | q | q | q | q | q | q | q | q | q | q | q | q | q <;> try omega
    exact fun p hp => (q.2.2.2 p hp).1
  intro m
  induction m with
  | zero =>
    intro i fu many lf u hi hf hR hx ex hO xx kk
    obtain ⟨fu, rfl⟩ : ∃ f', fu = f' + 1 := ⟨fu - 1, by omega⟩
    have hs := hR.1.1.1.1
    have hn := nodeC hs x0 hx
    rw [ex] at hn
    have l3 : gL u 3 = gL u 0 := hs.1.1.2.2.2.1.2.2.1
    rw [bX1_oneLeft_L7, ld_nat (by omega), hn.2.2.1, if_neg (by omega)]
    rw [show i = (ps g).length by omega] at hO
    exact kk u lf many hR rfl hO
  | succ m ih =>
    intro i fu many lf u hi hf hR hx ex hO xx kk
    obtain ⟨fu, rfl⟩ : ∃ f', fu = f' + 1 := ⟨fu - 1, by omega⟩
    have hs := hR.1.1.1.1
    have hn := nodeC hs x0 hx
    rw [ex] at hn
    have l3 : gL u 3 = gL u 0 := hs.1.1.2.2.2.1.2.2.1
    have hil : i < (ps g).length := by omega
    have hgi := pa_get hil
    have hlu := hR.lim hl
    have hbd := hlu.n hs
    rw [bX1_oneLeft_L7, ld_nat (by omega), hn.2.2.1, if_pos (by omega)]
    refine wp_ite (fun hm2 => ?_) (fun hm2 => ?_)
    · obtain ⟨y, y1, y2, y3⟩ := partN (d := d) (i := i) (by omega) hs x0 hx (by rw [ex]; exact hil) (Or.inl (by rw [ex]; omega))
      rw [ex] at y3
      have hp := hall _ (List.mem_of_getElem? hgi)
      have hfm : pa g i ∈ fms g := fms_at.mpr ⟨i, Or.inl (by omega), hgi, isFo_pos hp⟩
      have hht := ht_c hfm
      have y0 : 0 < y := Nat.pos_of_ne_zero (fun q => isFo_pos hp (by rw [← y3, q]; rfl))
      have hrr : rC u = rC u0 := hR.rr
      refine wp_eq y1 ?_
      refine wp_call (tX1_holds (X := X) hG hK (htT (pa g i) + 1) d u y (pa g i) (by omega) hR.1 y0 (by omega) y3 (by omega) hp (hfr.part hfm) (by omega) (fun s q1 q2 => hX s (subN_c (by omega) hfm q1) q2) hlu) (fun r u1 ⟨w1, w2, w3, w4⟩ => ?_)
      obtain ⟨hR1, e45⟩ := hR.fr w2 w3 w4 (by decide +kernel)
      have hn1 := w2.n hs
      have hs1 := hR1.1.1.1.1
      have ex1 : trC ν u1 x = g := by rw [w2.tr hs hx]; exact ex
      have hO1 := hO.up hs w2
      rcases w1 with ⟨e1, e2⟩ | ⟨e1, e2⟩
      · rw [e1, if_neg (by decide), wp_ar]
        refine ⟨⟨by omega, by omega⟩, ?_⟩
        rw [show (i : Int) + 1 = ((i + 1 : Nat) : Int) by omega]
        refine ih (i + 1) fu many lf u1 (by omega) (by omega) hR1 (by omega) ex1 ?_ xx (fun u2 lf2 m2 z1 z2 z3 => kk u2 lf2 m2 z1 (by rw [z2, e45]) z3)
        have e2' : hld (FsO l) (fun f => f ∈ Kl) (pa g i) := e2
        rcases hO1 with ⟨a, b⟩ | ⟨a, k, k1, k2, k3, z⟩ | ⟨a, k1, k2, q⟩
        · refine Or.inl ⟨a, fun j hj => ?_⟩
          by_cases hji : j = i
          · rw [hji]; exact e2'
          · exact b j (by omega)
        · refine Or.inr (Or.inl ⟨a, k, by omega, k2, fun j hj hjk => ?_, z⟩)
          by_cases hji : j = i
          · rw [hji]; exact e2'
          · exact k3 j (by omega) hjk
        · exact Or.inr (Or.inr ⟨a, k1, k2, q.1, by omega, q.2.2⟩)
      · have e2' : ¬ hld (FsO l) (fun f => f ∈ Kl) (pa g i) := e2
        obtain ⟨y', y1', y2', y3'⟩ := partN (d := d) (i := i) (by omega) hs1 x0 (by omega : x < nC u1) (by rw [ex1]; exact hil) (Or.inl (by rw [ex1]; omega))
        rw [ex1] at y3'
        have y0' : 0 < y' := Nat.pos_of_ne_zero (fun q => isFo_pos hp (by rw [← y3', q]; rfl))
        rw [e1, if_pos rfl]
        refine wp_eq y1' ?_
        rw [wp_ar]
        refine ⟨⟨by omega, by omega⟩, ?_⟩
        rw [wp_ar]
        refine ⟨⟨by omega, by omega⟩, ?_⟩
        rw [show (i : Int) + 1 = ((i + 1 : Nat) : Int) by omega, show (many : Int) + 1 = ((many + 1 : Nat) : Int) by omega]
        refine ih (i + 1) fu (many + 1) (y' : Int) u1 (by omega) (by omega) hR1 (by omega) ex1 ?_ xx (fun u2 lf2 m2 z1 z2 z3 => kk u2 lf2 m2 z1 (by rw [z2, e45]) z3)
        rcases hO1 with ⟨a, b⟩ | ⟨a, k, k1, k2, k3, z⟩ | ⟨a, k1, k2, q⟩
        · exact Or.inr (Or.inl ⟨by omega, i, by omega, e2', fun j hj hji => b j (by omega), y', rfl, y0', by omega, y3'⟩)
        · exact Or.inr (Or.inr ⟨by omega, k, i, k1, by omega, k2, e2'⟩)
        · omega
    · have hm : many = 2 := by rcases hO with q | q | q <;> omega
      refine kk u lf many hR rfl ?_
      obtain ⟨_, k1, k2, q1, q2, q3⟩ := (hO.resolve_left (fun q => by omega)).resolve_left (fun q => by omega)
      exact Or.inr (Or.inr ⟨hm, k1, k2, q1, by omega, q3⟩)
theorem not_wf {f : Nat} (h : okT f) : kd f = 16 → ∃ g, ps f = [g] ∧ 0 < g := fun k => by
  rcases h.n.2 with q | q | q | q | q | q | q | q | q | q | q | q | q | q <;> try omega
  obtain ⟨_, _, g, e, hg, _⟩ := q
  exact ⟨g, e, Nat.pos_of_ne_zero (isFo_pos hg)⟩
theorem tX1_oneLeft {d : Nat} {ν : Nat → Nat} {c : Nat} {W : Wd} {S : Fs} {X : Nat → Prop} {Kl : List Nat} {l : Ls} {Fu : Nat → Prop} {Cl Bl Ol : List Nat} {c0 fi x g : Nat} {ν0 : Nat → Nat} {u0 u : Sg} (hG : WGK W (Nm ν c)) (hK : KlOK W (Nm ν c) Kl) (hd : 21 + 3 * htT g ≤ d) (hl : LimR ν0 u0 X Kl Fu) (hKX : ∀ f ∈ Kl, ∀ z, subT z f → ndC ν0 u0 z) (hr0 : rC u0 ≤ 20000) (x0 : 0 < x) (h17 : kd g = 17) (hfr : frW W (Nm ν c) g) (hX : ∀ s, subN s g → kd s = 17 → ∀ p ∈ ps s, X (notT p)) (hFu : ∀ p, oL (FsO l) (fun f => f ∈ Kl) g p → Fu (notT p)) (hR : RdI ν c W S X Kl l Fu Cl Bl Ol c0 fi ν0 u0 u) (hx : x < nC u) (ex : trC ν u x = g) : wp (runC d 77 [(x : Int)] u) (fun _ u' => ∃ Cl', (∀ f ∈ Cl, f ∈ Cl') ∧ RdI ν c W S X Kl l Fu Cl' Bl Ol c0 fi ν0 u0 u' ∧ (gI u' 45 = 0 → gI u 45 = 0 ∧ ∀ p, oL (FsO l) (fun f => f ∈ Kl) g p → notT p ∈ Kl ∨ notT p ∈ Cl')) := by
  obtain ⟨d, rfl⟩ : ∃ d', d = d' + 1 := ⟨d - 1, by omega⟩
  rw [runC_eq (by omega)]
  show wp (bX1_oneLeft (runC d) x u) _
  unfold bX1_oneLeft
  have hs := hR.1.1.1.1
  have hKl := hK.1
  have hn := nodeC hs x0 hx
  rw [ex] at hn
  have lenb : (ps g).length ≤ 300000 := by have := hn.2.2.2.1.2; have := hn.2.2.2.2.2; have := hs.1.1.2.2.2.2.2.2.2; omega
  refine oneLeft_L7 hG hK (by omega) hl hr0 x0 h17 hfr hX (ps g).length 0 KF 0 0 u (by omega) (Nat.lt_of_le_of_lt (by omega : _ ≤ 300000) KF_300) hR hx ex (Or.inl ⟨rfl, fun j hj => by omega⟩) _ (fun u2 lf2 m2 z1 z2 z3 => ?_)
  have hs2 := z1.1.1.1.1
  refine wp_ite (fun hm => ?_) (fun hm => ?_)
  · obtain ⟨_, k, k1, k2, k3, z, a1, a2, a3, a4⟩ := (z3.resolve_left (fun q => by omega)).resolve_right (fun q => by omega)
    have hpm := List.mem_of_getElem? (pa_get k1)
    have hfm : pa g k ∈ fms g := fms_at.mpr ⟨k, Or.inl (by omega), pa_get k1, by
      rcases hfr.1.n.2 with q | q | q | q | q | q | q | q | q | q | q | q | q | q <;> try omega
      exact isFo_pos (q.2.2.2 _ hpm).1⟩
    have hol : oL (FsO l) (fun f => f ∈ Kl) g (pa g k) := ⟨k, k1, rfl, k2, k3⟩
    have hlu := z1.lim hl
    have hrr : rC u2 = rC u0 := z1.rr
    rw [a1]
    refine wp_call (tX2_not (X := X) (by omega) z1.1.1.2.1 hs2 a2 a3 (by omega) (by rw [a4]; exact not_wf (hfr.part hfm).1) (by rw [a4]; exact hX g (subN_rf g) h17 _ hpm) hlu) (fun r u3 ⟨y, b1, b2, b3, b4, b5, b6, b7⟩ => ?_)
    rw [b1]
    rw [a4] at b4
    obtain ⟨hR3, e45⟩ := z1.fr b5 b6 b7 (by decide +kernel)
    have hbd := (hR3.lim hl).n hR3.1.1.1.1
    refine wp_call (rd_come (by omega) hKl hKX hR3 (Or.inl rfl) b2 b3 (by omega) (by rw [b4]; exact hFu _ hol)) (fun r4 u4 ⟨Cl4, c1, c2, e4, c3⟩ => ?_)
    rw [wp_some]
    refine ⟨Cl4, c1, c2, fun hb => ?_⟩
    obtain ⟨c4, c5⟩ := c3 hb
    refine ⟨by rw [← z2, ← e45]; exact c4, fun p ⟨i, i1, i2, i3, i4⟩ => ?_⟩
    have : i = k := Classical.byContradiction (fun q => i3 (by rw [i2]; exact k3 i i1 q))
    rw [i2, this, ← b4]
    exact c5
  · rw [wp_some]
    refine ⟨Cl, fun _ q => q, z1, fun hb => ⟨by rw [← z2]; exact hb, fun p ⟨i, i1, i2, i3, i4⟩ => ?_⟩⟩
    rw [i2] at i3
    rcases z3 with ⟨a, b⟩ | ⟨a, _⟩ | ⟨a, k1, k2, q1, q2, q3, q4⟩
    · exact absurd (b i i1) i3
    · omega
    · exfalso
      by_cases h1 : k1 = i
      · exact q4 (i4 k2 q2 (by omega))
      · exact q3 (i4 k1 (by omega) h1)
