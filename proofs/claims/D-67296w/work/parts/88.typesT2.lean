theorem rX3_parent0 {ν : Nat → Nat} {c : Nat} {u : Sg} {d : Nat} (hd : 4 ≤ d) (hs : ST ν c u) {x : Nat} (x0 : 0 < x) (hx : x ≤ nT u) (h8 : kd (trT ν u x) = 8) (h0 : wh (trT ν u x) = 0) : runT d 77 [(x : Int)] u = some (0, u) := by
  obtain ⟨d, rfl⟩ : ∃ d', d = d' + 1 := ⟨d - 1, by omega⟩
  rw [runT_eq (by omega)]
  show bX3_parent (runT d) x u = _
  unfold bX3_parent
  have h := headNT (d := d) (by omega) hs x0 hx (by rw [h8]; decide) (by omega)
  rw [h0] at h
  rw [cl_eq h, if_pos (show ((0 : Nat) : Int) = 0 from rfl)]
theorem rX3_arg {ν : Nat → Nat} {c : Nat} {u : Sg} {d : Nat} (hd : 3 ≤ d) (hs : ST ν c u) {x : Nat} (x0 : 0 < x) (hx : x ≤ nT u) (h8 : kd (trT ν u x) = 8) (hl : 1 ≤ (ps (trT ν u x)).length) : ∃ y : Nat, runT d 7 [(x : Int), 1] u = some ((y : Int), u) ∧ y < x ∧ trT ν u y = pa (trT ν u x) 0 := by
  obtain ⟨a, a1, a2, a3⟩ := partNT (d := d) (i := 0) hd hs x0 hx (by omega) (Or.inr rfl)
  have nw1 : nw (kd (trT ν u x)) = 1 := by rw [h8]; decide
  rw [nw1] at a1
  exact ⟨a, a1, a2, a3⟩
theorem tX3_parent {d : Nat} (hd : 240 ≤ d) {ν : Nat → Nat} {c : Nat} {W : Wd} {u : Sg} {x : Nat} {X : Nat → Prop} (hw : WF FT u) (hc : TW ν c W u) (hW : WOK W (NT ν c)) (x0 : 0 < x) (hx : x ≤ nT u) (ht : clty W (NT ν c) (trT ν u x)) (h0 : wh (trT ν u x) ≠ 0) (hr : hT u ≤ 26000) (hX : paX W X (trT ν u x)) (hl : LimT ν u X) :
    wp (runT d 77 [(x : Int)] u) (RvT ν c DX3_parent u (paT W (trT ν u x)) X) := by
  obtain ⟨d, rfl⟩ : ∃ d', d = d' + 1 := ⟨d - 1, by omega⟩
  rw [runT_eq (by omega)]
  show wp (bX3_parent (runT d) x u) _
  unfold bX3_parent
  have hs := hc.1
  have h8 := ht.2.1
  have hb := hl.n hs
  obtain ⟨f1, f2, f3⟩ := ht.1.lc.2.2.1 h8
  obtain ⟨g1, g2, g3, g4⟩ := hW.2.1 _ (by omega) f1
  obtain ⟨m1, m2, m3, m4, m5, m6⟩ := hc.2.2.2.1
  obtain ⟨r, r1, r0, r2, r3⟩ := (m6 _ (by omega) f1).1.pos (gvn_ht g1).2
  have ep : paT W (trT ν u x) = sbT (locg (pa (trT ν u x) 0) 0) 0 (wmP W (wh (trT ν u x))) := by unfold paT; rw [if_neg h0]
  -- the end, from a state in which the term for the locus is laid
  have go : ∀ u1, EqH u u1 → WF FT u1 → Gr FT DX3_parent u u1 → MvT ν u1 (wmH W (wh (trT ν u x))) (pa (trT ν u x) 0) 0 → gL u1 25 = gL u 25 → (∀ i, gN u1 25 i = gN u 25 i) → wp (ld u1 25 (wh (trT ν u x) : Int) fun v5 => cl (runT d 78 [v5] u1) fun v6 s7 => some (v6, s7)) (RvT ν c DX3_parent u (paT W (trT ν u x)) X) := fun u1 e1 w1 G1 mv l25 n25 => by
    rw [ld_nat (by omega), n25, r1]
    have er : trT ν u1 r = wmP W (wh (trT ν u x)) := by rw [e1.1.tr]; exact r3
    have := tX3_move (d := d) (x := r) (X := X) (W := W) (N := NT ν c) (by omega) w1 (e1.st hs) r0 (by rw [e1.1.n]; exact r2) (by rw [er]; exact g1) mv (fun z => ((type_part ht).2 (fun q => by have := f2.mp q; omega)).1) (fun z => by omega) (by rw [e1.hh]; omega) (by rw [er]; exact hX h0) (e1.lim hl)
    rw [er, ← ep] at this
    exact wp_mono (RvT.cl this) (fun r u' h => RvT.ofEqH e1 G1 (RvT.sub (by decide) h))
  refine wp_eq (headNT (d := d) (by omega) hs x0 hx (by rw [h8]; decide) (by omega)) ?_
  rw [if_neg (by omega), wp_jn, wp_un]
  have e1 : EqH u (sI u 16 0) := EqH.sI (by omega)
  have w1 : WF FT (sI u 16 0) := kdT_I hw (by decide)
  have hs1 := e1.st hs
  have etx : trT ν (sI u 16 0) x = trT ν u x := e1.1.tr
  obtain ⟨a, a1, a2, a3⟩ := rX3_arg (d := d) (by omega) hs1 x0 (by rw [e1.1.n]; exact hx) (by rw [etx]; exact h8) (by rw [etx]; exact (type_part ht).1)
  rw [etx, e1.1.tr] at a3
  refine wp_eq a1 ?_
  refine wp_ite (fun hz => ?_) (fun hz => ?_)
  · have ha0 : a = 0 := by omega
    have hp0 : pa (trT ν u x) 0 = 0 := by rw [← a3, ha0]; rfl
    have hm0 : wmH W (wh (trT ν u x)) = 0 := f2.mp hp0
    refine go _ e1 w1 (Gr_sI (by decide)) ?_ rfl (fun _ => rfl)
    rw [hm0]
    exact ⟨by rw [gI_sI, if_pos rfl]; rfl, by omega, hc.2.1.1, hc.2.1.2, 0, 0, (fun q => by omega), fun q => by omega⟩
  · have ha : 0 < a := by omega
    have hl14 := hc.2.1.1
    have hl15 := hc.2.1.2
    have e2 : EqH u (sA (sI u 16 0) 14 0 0) := e1.trn (EqH.sA (by omega))
    have hs2 := e2.st hs
    have w2 : WF FT (sA (sI u 16 0) 14 0 0) := kdT_A w1 (by omega) (by decide)
    have etx2 : trT ν (sA (sI u 16 0) 14 0 0) x = trT ν u x := e2.1.tr
    obtain ⟨b, b1, b2, b3⟩ := rX3_arg (d := d) (by omega) hs2 x0 (by rw [e2.1.n]; exact hx) (by rw [etx2]; exact h8) (by rw [etx2]; exact (type_part ht).1)
    rw [etx2, e2.1.tr] at b3
    have eab : b = a := trT_inj hs (by omega) (by omega) (by rw [b3, a3])
    subst eab
    rw [stA_pos ⟨by omega, by rw [gL_sI]; omega⟩]
    refine wp_eq b1 ?_
    rw [wp_gd]
    refine ⟨by simp [keeps], ?_⟩
    rw [stA_pos ⟨by omega, by rw [gL_sA, gL_sI]; omega⟩, wp_un]
    have hp0 : pa (trT ν u x) 0 ≠ 0 := fun q => by
      have : 0 < trT ν u b := tr_pos (okp_T (ν := ν) hs.1) ha (by show b ≤ nT u; omega)
      omega
    have hm1 : wmH W (wh (trT ν u x)) = 1 := by
      have := g4
      have : wmH W (wh (trT ν u x)) ≠ 0 := fun q => hp0 (f2.mpr q)
      omega
    have hcl := ((type_part ht).2 hp0).1
    refine go _ (e2.trn ((EqH.sA (by omega)).trn (EqH.sI (by omega)))) (kdT_I (kdT_A w2 (by omega) ⟨by omega, by omega⟩) (by decide)) (((Gr_sI (by decide)).tr (Gr_sA (by decide))).tr ((Gr_sA (by decide)).tr (Gr_sI (by decide)))) ?_ (by rw [gL_sI, gL_sA, gL_sA, gL_sI]) (fun i => by rw [gN_sI, gN_sA, if_neg (by omega), gN_sA, if_neg (by omega), gN_sI])
    rw [hm1]
    have en : nT (sI (sA (sA (sI u 16 0) 14 0 0) 15 0 (b : Int)) 16 1) = nT u := (e2.trn ((EqH.sA (by omega)).trn (EqH.sI (by omega)))).1.n
    have et : ∀ y, trT ν (sI (sA (sA (sI u 16 0) 14 0 0) 15 0 (b : Int)) 16 1) y = trT ν u y := fun y => (e2.trn ((EqH.sA (by omega)).trn (EqH.sI (by omega)))).1.tr
    refine ⟨by rw [gI_sI, if_pos rfl]; rfl, by omega, by rw [gL_sI, gL_sA, gL_sA, gL_sI]; exact hl14, by rw [gL_sI, gL_sA, gL_sA, gL_sI]; exact hl15, b, 0, fun _ => ⟨?_, ?_, ha, by rw [en]; omega, by rw [et]; exact b3, hcl.1.1, hcl.2.1, hcl.2.2.1⟩, fun q => by omega⟩
    · rw [gN_sI, gN_sA, if_neg (by omega), gN_sA, if_pos ⟨rfl, rfl⟩]
    · rw [gN_sI, gN_sA, if_pos ⟨rfl, rfl⟩]
def RbT (ν : Nat → Nat) (c D : Nat) (u : Sg) (X : Nat → Prop) (P : Prop) : Int → Sg → Prop := fun r u' => ((r = 1 ∧ P) ∨ (r = 0 ∧ ¬ P)) ∧ UpT ν c u u' X ∧ WF FT u' ∧ Gr FT D u u'
theorem UpT.join {ν : Nat → Nat} {c : Nat} {u u1 u2 : Sg} {X : Nat → Prop} (h : UpT ν c u u1 X) (h' : UpT ν c u1 u2 X) : UpT ν c u u2 X := (h.trn h').mono (fun t h => h.elim Or.inr Or.inr)
theorem has_L9 {d : Nat} (hd : 240 ≤ d) {ν : Nat → Nat} {c : Nat} {W : Wd} {u : Sg} {m a : Nat} {X : Nat → Prop} (hc : TW ν c W u) (hW : WOK W (NT ν c)) (ha : a ≤ nT u) (hr : hT u ≤ 26000) (hl : LimT ν u X) : ∀ (n f : Nat) (u1 : Sg) (y : Nat), wh (trT ν u1 y) < n → n < f → UpT ν c u u1 X → WF FT u1 → Gr FT DX3_has u u1 → 0 < y → y ≤ nT u1 → clty W (NT ν c) (trT ν u1 y) → (∀ z ∈ upT W (trT ν u1 y), paX W X z) → wp (bX3_has_L9 (runT d) f (m : Int) (a : Int) (y : Int) u1 (fun s => some (0, s)) (fun s => some (1, s))) (RbT ν c DX3_has u X (hasT W (trT ν u1 y) m (trT ν u a))) := by
  intro n
  induction n with
  | zero => intro f u1 y h; omega
  | succ n ih =>
    intro f u1 y hwh hf hU hw1 hg y0 hy hty hX
    obtain ⟨f, rfl⟩ : ∃ f', f = f' + 1 := ⟨f - 1, by omega⟩
    have hs := hc.1
    have hs1 := hU.1
    have h8 := hty.2.1
    have hc1 := hc.up hU.ux hg (by decide +kernel)
    have hr1 : hT u1 = hT u := hU.2.2.2.1
    have hl1 := hU.lim hl
    have ha1 : trT ν u1 a = trT ν u a := hU.tr hs ha
    have hself : trT ν u1 y ∈ upT W (trT ν u1 y) := by rw [up_eq hW hty]; exact List.mem_cons_self
    have heq := has_eq hW hty m (trT ν u a)
    have hno : ∀ (hne : ¬ (wh (trT ν u1 y) = m ∧ pa (trT ν u1 y) 0 = trT ν u a)), wp (cl (runT d 77 [(y : Int)] u1) fun v3 s4 => bX3_has_L9 (runT d) f (m : Int) (a : Int) v3 s4 (fun s => some (0, s)) (fun s => some (1, s))) (RbT ν c DX3_has u X (hasT W (trT ν u1 y) m (trT ν u a))) := fun hne => by
      by_cases h0 : wh (trT ν u1 y) = 0
      · refine wp_eq (rX3_parent0 (by omega) hs1 y0 hy h8 h0) ?_
        obtain ⟨f, rfl⟩ : ∃ f', f = f' + 1 := ⟨f - 1, by omega⟩
        rw [bX3_has_L9, if_pos (Int.le_refl 0), wp_some]
        refine ⟨Or.inr ⟨rfl, fun q => ?_⟩, hU, hw1, hg⟩
        rcases heq.mp q with z | z
        · exact hne z
        · exact z.1 h0
      · obtain ⟨p1, p2⟩ := pa_ok hW hty h0
        refine wp_call (tX3_parent hd hw1 hc1 hW y0 hy hty h0 (by omega) (hX _ hself) hl1) (fun r u2 ⟨z, z1, z2, z3, z4, z5, z6, z7⟩ => ?_)
        subst z1
        rw [← z4] at p1 p2
        refine wp_mono (ih f u2 z (by omega) (by omega) (hU.join z5) z6 (hg.tr (z7.sub (by decide +kernel))) z2 z3 p1 (fun s hs' => hX s (by rw [up_eq hW hty, if_neg h0, ← z4]; exact List.mem_cons_of_mem _ hs'))) (fun r u3 h => ?_)
        rw [z4] at h
        refine ⟨h.1.imp (fun q => ⟨q.1, heq.mpr (Or.inr ⟨h0, q.2⟩)⟩) (fun q => ⟨q.1, fun w => ?_⟩), h.2⟩
        rcases heq.mp w with z | z
        · exact hne z
        · exact q.2 z.2
    rw [bX3_has_L9, if_neg (by omega), wp_jn]
    refine wp_eq (headNT (d := d) (by omega) hs1 y0 hy (by rw [h8]; decide) (by omega)) ?_
    refine wp_ite (fun hm => ?_) (fun hm => hno (fun q => hm (by omega)))
    obtain ⟨b, b1, b2, b3⟩ := rX3_arg (d := d) (by omega) hs1 y0 hy h8 (type_part hty).1
    refine wp_eq b1 ?_
    refine wp_ite (fun hb => ?_) (fun hb => hno (fun q => hb ?_))
    · rw [wp_some]
      refine ⟨Or.inl ⟨rfl, heq.mpr (Or.inl ⟨by omega, ?_⟩)⟩, hU, hw1, hg⟩
      have e : b = a := by omega
      rw [← b3, e]; exact ha1
    · have hna := hU.n
      have := trT_inj hs1 (x := b) (y := a) (by omega) (by omega) (by rw [b3, q.2, ha1])
      omega
theorem tX3_has {d : Nat} (hd : 241 ≤ d) {ν : Nat → Nat} {c : Nat} {W : Wd} {u : Sg} {y m a : Nat} {X : Nat → Prop} (hw : WF FT u) (hc : TW ν c W u) (hW : WOK W (NT ν c)) (y0 : 0 < y) (hy : y ≤ nT u) (ht : clty W (NT ν c) (trT ν u y)) (ha : a ≤ nT u) (hma : m = 0 → trT ν u a = 0) (hr : hT u ≤ 26000) (hX : ∀ z ∈ upT W (trT ν u y), paX W X z) (hl : LimT ν u X) :
    wp (runT d 89 [(y : Int), (m : Int), (a : Int)] u) (RbT ν c DX3_has u X (hasT W (trT ν u y) m (trT ν u a))) := by
  obtain ⟨d, rfl⟩ : ∃ d', d = d' + 1 := ⟨d - 1, by omega⟩
  rw [runT_eq (by omega)]
  show wp (bX3_has (runT d) y m a u) _
  unfold bX3_has
  refine wp_ite (fun h0 => ?_) (fun h0 => ?_)
  · have hm : m = 0 := by omega
    rw [wp_some]
    refine ⟨Or.inl ⟨rfl, ?_⟩, UpT.rf hc.1, hw, Gr.rf⟩
    rw [hma hm, hm]
    exact has_set hW (wh (trT ν u y) + 1) _ (by omega) ht
  · have hwm := (ht.1.lc.2.2.1 ht.2.1).1
    have h20 := hc.2.2.2.1.2.1.2
    have hKF := KF_big
    exact has_L9 (by omega) hc hW ha hr hl (wh (trT ν u y) + 1) KF u y (by omega) (by omega) (UpT.rf hc.1) hw Gr.rf y0 hy ht hX
