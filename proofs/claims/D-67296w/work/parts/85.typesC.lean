theorem rX1_argOf {ν : Nat → Nat} {c : Nat} {u : Sg} {d : Nat} (hd : 4 ≤ d) (hs : SC ν c u) {x : Nat} (x0 : 0 < x) (hx : x < nC u) (hi : 1 ≤ (ps (trC ν u x)).length) : ∃ y : Nat, runC d 30 [(x : Int)] u = some ((y : Int), u) ∧ y < x ∧ trC ν u y = pa (trC ν u x) 0 := by
  obtain ⟨d, rfl⟩ : ∃ d', d = d' + 1 := ⟨d - 1, by omega⟩
  obtain ⟨y, y1, y2, y3⟩ := partN (d := d) (i := 0) (by omega) hs x0 hx (by omega) (Or.inr rfl)
  refine ⟨y, ?_, y2, y3⟩
  rw [runC_eq (by omega)]
  show bX1_argOf (runC d) x u = _
  unfold bX1_argOf
  have y1 : runC d 98 [(x : Int), 0] u = some ((y : Int), u) := y1
  rw [cl_eq y1]
theorem rX1_parent0 {ν : Nat → Nat} {c : Nat} {u : Sg} {d : Nat} (hd : 4 ≤ d) (hs : SC ν c u) {x : Nat} (x0 : 0 < x) (hx : x < nC u) (h8 : kd (trC ν u x) = 8) (h0 : wh (trC ν u x) = 0) : runC d 51 [(x : Int)] u = some (0, u) := by
  obtain ⟨d, rfl⟩ : ∃ d', d = d' + 1 := ⟨d - 1, by omega⟩
  rw [runC_eq (by omega)]
  show bX1_parent (runC d) x u = _
  unfold bX1_parent
  have hn := nodeC hs x0 hx
  obtain ⟨⟨q1, q2, q3⟩, ⟨q4, q5⟩, ⟨q6, q7⟩, ⟨l1, l2, l3, l4, l5, l6⟩, l8, l11, l0, l7⟩ := id hs.1.1
  rw [ld_nat (by omega), hn.2.1 (by omega), if_pos (by omega)]
theorem tX1_parent {d : Nat} (hd : 240 ≤ d) {ν : Nat → Nat} {c : Nat} {W : Wd} {u : Sg} {x : Nat} {X : Nat → Prop} (hw : WF FC u) (hc : CW ν c W u) (hW : WOK W (Nm ν c)) (x0 : 0 < x) (hx : x < nC u) (ht : clty W (Nm ν c) (trC ν u x)) (h0 : wh (trC ν u x) ≠ 0) (hr : rC u ≤ 28000) (hX : paX W X (trC ν u x)) (hl : Lim ν u X) :
    wp (runC d 51 [(x : Int)] u) (RsT ν c DX1_parent u (paT W (trC ν u x)) X) := by
  obtain ⟨d, rfl⟩ : ∃ d', d = d' + 1 := ⟨d - 1, by omega⟩
  rw [runC_eq (by omega)]
  show wp (bX1_parent (runC d) x u) _
  unfold bX1_parent
  have hs := hc.1
  have hn := nodeC hs x0 hx
  have h8 := ht.2.1
  obtain ⟨⟨q1, q2, q3⟩, ⟨q4, q5⟩, ⟨q6, q7⟩, ⟨l1, l2, l3, l4, l5, l6⟩, l8, l11, l0, l7⟩ := id hs.1.1
  obtain ⟨f1, f2, f3⟩ := ht.1.lc.2.2.1 h8
  obtain ⟨g1, g2, g3, g4⟩ := hW.2.1 _ (by omega) f1
  obtain ⟨m1, m2, m3, m4, m5, m6⟩ := hc.2.2.2.1
  obtain ⟨r, r1, r0, r2, r3⟩ := (m6 _ (by omega) f1).1.pos (gvn_ht g1).2
  have ep : paT W (trC ν u x) = sbT (locg (pa (trC ν u x) 0) 0) 0 (wmP W (wh (trC ν u x))) := by unfold paT; rw [if_neg h0]
  have hloc := loc_ok (b := 0) (d := 0) g1 (by omega) (fun z => ((type_part ht).2 (fun q => by have := f2.mp q; omega)).1) (fun z => by omega)
  have hht := (gvn_ht g1).1
  have hsz := g1.2.2.2
  obtain ⟨a, a1, a2, a3⟩ := rX1_argOf (d := d) (by omega) hs x0 hx (type_part ht).1
  rw [ld_nat (by omega), hn.2.1 (by omega), if_neg (by omega), ld_nat (by omega), hn.2.1 (by omega), ld_nat (by omega), r1]
  refine wp_eq a1 ?_
  have := tX2_loci (d := d) (x := r) (a := a) (b := 0) (X := X) (by rw [r3]; omega) hw hs hc.2.1 r0 r2 (by omega) (by omega) (by rw [r3]; exact g1.1.1) (by rw [r3, a3]; exact hloc.2.2.2) (by rw [r3]; omega) (by rw [r3, a3]; exact ImT.mono (fun _ q => Or.inr q) _ _ (hX h0)) hl (by rw [r3]; omega)
  rw [r3, a3, show trC ν u 0 = 0 from rfl, ← ep] at this
  exact wp_call this (fun v s q => wp_some.mpr (RsT.D (by decide +kernel) q))
/-- the answer is yes or no -/
def RbC (ν : Nat → Nat) (c D : Nat) (u : Sg) (X : Nat → Prop) (P : Prop) : Int → Sg → Prop := fun r u' => ((r = 1 ∧ P) ∨ (r = 0 ∧ ¬ P)) ∧ Up ν c u u' X ∧ WF FC u' ∧ Gr FC D u u'
theorem RbC.D {ν : Nat → Nat} {c D D' : Nat} {u : Sg} {X : Nat → Prop} {P : Prop} {r : Int} {u' : Sg} (hD : D &&& D' = D) (h : RbC ν c D u X P r u') : RbC ν c D' u X P r u' := ⟨h.1, h.2.1, h.2.2.1, Gr.sub hD h.2.2.2⟩
theorem Up.join {ν : Nat → Nat} {c : Nat} {u u1 u2 : Sg} {X : Nat → Prop} (h : Up ν c u u1 X) (h' : Up ν c u1 u2 X) : Up ν c u u2 X := (h.trn h').mono (fun t h => h.elim Or.inr Or.inr)
theorem hasMode_L3 {d : Nat} (hd : 240 ≤ d) {ν : Nat → Nat} {c : Nat} {W : Wd} {u : Sg} {m a : Nat} {X : Nat → Prop} (hc : CW ν c W u) (hW : WOK W (Nm ν c)) (ha : a < nC u) (hr : rC u ≤ 28000) (hl : Lim ν u X) : ∀ (n f : Nat) (u1 : Sg) (y : Nat), wh (trC ν u1 y) < n → n < f → Up ν c u u1 X → WF FC u1 → Gr FC DX1_hasMode u u1 → 0 < y → y < nC u1 → clty W (Nm ν c) (trC ν u1 y) → (∀ z ∈ upT W (trC ν u1 y), paX W X z) → wp (bX1_hasMode_L3 (runC d) f (m : Int) (a : Int) (y : Int) u1 (fun s => some (0, s)) (fun s => some (1, s))) (RbC ν c DX1_hasMode u X (hasT W (trC ν u1 y) m (trC ν u a))) := by
  intro n
  induction n with
  | zero => intro f u1 y h; omega
  | succ n ih =>
    intro f u1 y hwh hf hU hw1 hg y0 hy hty hX
    obtain ⟨f, rfl⟩ : ∃ f', f = f' + 1 := ⟨f - 1, by omega⟩
    have hs := hc.1
    have hs1 := hU.sc
    have hn := nodeC hs1 y0 hy
    have h8 := hty.2.1
    obtain ⟨⟨q1, q2, q3⟩, ⟨q4, q5⟩, ⟨q6, q7⟩, ⟨l1, l2, l3, l4, l5, l6⟩, l8, l11, l0, l7⟩ := id hs1.1.1
    have hc1 := hc.up hU.ux hg (by decide +kernel)
    have hr1 : rC u1 = rC u := hU.2.2.2.2.2.1
    have hl1 := hU.ux.lim hl
    have ha1 : trC ν u1 a = trC ν u a := hU.ux.tr hs ha
    have hself : trC ν u1 y ∈ upT W (trC ν u1 y) := by rw [up_eq hW hty]; exact List.mem_cons_self
    have heq := has_eq hW hty m (trC ν u a)
    have hno : ∀ (hne : ¬ (wh (trC ν u1 y) = m ∧ pa (trC ν u1 y) 0 = trC ν u a)), wp (cl (runC d 51 [(y : Int)] u1) fun v3 s4 => bX1_hasMode_L3 (runC d) f (m : Int) (a : Int) v3 s4 (fun s => some (0, s)) (fun s => some (1, s))) (RbC ν c DX1_hasMode u X (hasT W (trC ν u1 y) m (trC ν u a))) := fun hne => by
      by_cases h0 : wh (trC ν u1 y) = 0
      · refine wp_eq (rX1_parent0 (by omega) hs1 y0 hy h8 h0) ?_
        obtain ⟨f, rfl⟩ : ∃ f', f = f' + 1 := ⟨f - 1, by omega⟩
        rw [bX1_hasMode_L3, if_pos rfl, wp_some]
        refine ⟨Or.inr ⟨rfl, fun q => ?_⟩, hU, hw1, hg⟩
        rcases heq.mp q with z | z
        · exact hne z
        · exact z.1 h0
      · obtain ⟨p1, p2⟩ := pa_ok hW hty h0
        refine wp_call (tX1_parent hd hw1 hc1 hW y0 hy hty h0 (by omega) (hX _ hself) hl1) (fun r u2 ⟨z, z1, z2, z3, z4, z5, z6, z7⟩ => ?_)
        subst z1
        rw [← z4] at p1 p2
        refine wp_mono (ih f u2 z (by omega) (by omega) (hU.join z5) z6 (hg.tr (z7.sub (by decide +kernel))) z2 z3 p1 (fun s hs' => hX s (by rw [up_eq hW hty, if_neg h0, ← z4]; exact List.mem_cons_of_mem _ hs'))) (fun r u3 h => ?_)
        rw [z4] at h
        refine ⟨h.1.imp (fun q => ⟨q.1, heq.mpr (Or.inr ⟨h0, q.2⟩)⟩) (fun q => ⟨q.1, fun w => ?_⟩), h.2⟩
        rcases heq.mp w with z | z
        · exact hne z
        · exact q.2 z.2
    rw [bX1_hasMode_L3, if_neg (by omega), wp_jn, ld_nat (by omega), hn.2.1 (by omega)]
    refine wp_ite (fun hm => ?_) (fun hm => hno (fun q => hm (by omega)))
    obtain ⟨b, b1, b2, b3⟩ := rX1_argOf (d := d) (by omega) hs1 y0 hy (type_part hty).1
    refine wp_eq b1 ?_
    refine wp_ite (fun hb => ?_) (fun hb => hno (fun q => hb ?_))
    · rw [wp_some]
      refine ⟨Or.inl ⟨rfl, heq.mpr (Or.inl ⟨by omega, ?_⟩)⟩, hU, hw1, hg⟩
      have e : b = a := by omega
      rw [← b3, e]; exact ha1
    · have hna := hU.ux.n hs
      have := trC_inj hs1 (x := b) (y := a) (by omega) (by omega) (by rw [b3, q.2, ha1])
      omega
theorem tX1_hasMode {d : Nat} (hd : 241 ≤ d) {ν : Nat → Nat} {c : Nat} {W : Wd} {u : Sg} {y m a : Nat} {X : Nat → Prop} (hw : WF FC u) (hc : CW ν c W u) (hW : WOK W (Nm ν c)) (y0 : 0 < y) (hy : y < nC u) (ht : clty W (Nm ν c) (trC ν u y)) (ha : a < nC u) (hr : rC u ≤ 28000) (hX : ∀ z ∈ upT W (trC ν u y), paX W X z) (hl : Lim ν u X) :
    wp (runC d 82 [(y : Int), (m : Int), (a : Int)] u) (RbC ν c DX1_hasMode u X (hasT W (trC ν u y) m (trC ν u a))) := by
  obtain ⟨d, rfl⟩ : ∃ d', d = d' + 1 := ⟨d - 1, by omega⟩
  rw [runC_eq (by omega)]
  show wp (bX1_hasMode (runC d) y m a u) _
  unfold bX1_hasMode
  have hwm := (ht.1.lc.2.2.1 ht.2.1).1
  have h20 := hc.2.2.2.1.2.1.2
  exact hasMode_L3 (by omega) hc hW ha hr hl (wh (trC ν u y) + 1) KF u y (by omega) (Nat.lt_of_le_of_lt (by omega : _ ≤ 65536) KF_gt) (Up.rf hc.1) hw Gr.rf y0 hy ht hX
