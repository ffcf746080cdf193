theorem fltT_len {f : Nat} (h : okT f) : (fltT f).length ≤ szT f := by
  unfold fltT
  by_cases k9 : kd f = 9
  · rw [if_pos k9]; exact Nat.zero_le _
  rw [if_neg k9]
  by_cases k17 : kd f = 17
  · have e : flt f = ps f := by
      unfold flt
      rw [if_neg (fun q => by rw [q, kd_no] at k17; omega), if_pos k17]
    rw [if_pos k17, ← e]; exact flt_len h
  · rw [if_neg k17]
    have h0 : f ≠ 0 := fun q => by
      have := okN_kd h.n
      unfold isTm isFo at this
      rw [q, kd0] at this
      omega
    rw [szT_eq]
    unfold szS
    rw [if_neg h0]
    show 1 ≤ _
    split <;> omega
theorem not_in {f : Nat} (h : okT f) : kd f = 16 → ∃ g, ps f = [g] ∧ 0 < g ∧ f = mk 16 0 [g] ∧ (kd g = 9 → g = yesT) := fun h16 => by
  have hn := h.n
  rcases hn.2 with q | q | q | q | q | q | q | q | q | q | q | q | q | q <;> try omega
  obtain ⟨q1, q2, g, q3, q4, q5⟩ := q
  have g0 := isFo_pos q4
  have og := h.c (fms_mem (t := f) (c := g) (by rw [q3]; exact List.mem_cons_self) (by omega) g0)
  exact ⟨g, q3, by omega, by rw [← q3, ← q2, ← q1]; exact hn.1, fun k => yes_kd og.n k⟩
theorem tX3_and {d : Nat} (hd : 9 ≤ d) {ν : Nat → Nat} {c : Nat} {u : Sg} {x1 x2 : Nat} {X : Nat → Prop} (hw : WF FT u) (hs : ST ν c u) (x10 : 0 < x1) (hx1 : x1 ≤ nT u) (x20 : 0 < x2) (hx2 : x2 ≤ nT u) (o1 : okT (trT ν u x1)) (o2 : okT (trT ν u x2)) (z1 : szT (trT ν u x1) ≤ 450) (z2 : szT (trT ν u x2) ≤ 450) (h5 : hT u ≤ 28000) (hX : X (andT [trT ν u x1, trT ν u x2])) (hl : LimT ν u X) :
    wp (runT d 37 [(x1 : Int), (x2 : Int)] u) (RvT ν c DX3_and u (andT [trT ν u x1, trT ν u x2]) X) := by
  obtain ⟨d, rfl⟩ : ∃ d', d = d' + 1 := ⟨d - 1, by omega⟩
  rw [runT_eq (by omega)]
  show wp (bX3_and (runT d) x1 x2 u) _
  unfold bX3_and
  have hb := hl.n hs
  rw [wp_un, hs.r.1]
  refine wp_call ((PshT.nil hs hw).give (by omega) rfl x10 hx1 rfl (by omega) (by omega)) (fun _ u1 p1 => ?_)
  have l1 := p1.len
  refine wp_call (p1.give (by omega) rfl x20 hx2 rfl (by simp at l1; omega) (by omega)) (fun _ u2 p2 => ?_)
  have l2 := p2.len
  obtain ⟨ys, hh, e1, e2⟩ := id p2
  have he := hh.2.1
  have hL : LimT ν u2 X := fun l q1 q2 => hl l q1 (fun t ht => (q2 t ht).imp (fun ⟨y, y0, hy, et⟩ => ⟨y, y0, by rw [← he.n]; exact hy, by rw [← he.tr]; exact et⟩) id)
  have hok : ∀ f ∈ [trT ν u x1, trT ν u x2], okT f := fun f hf => by
    simp at hf
    rcases hf with q | q
    · rw [q]; exact o1
    · rw [q]; exact o2
  have hfl : ([trT ν u x1, trT ν u x2].flatMap fltT).length ≤ 900 := by
    have a1 := fltT_len o1
    have a2 := fltT_len o2
    simp only [List.flatMap_cons, List.flatMap_nil, List.length_append, List.length_nil]
    omega
  have hR : RowT ν u2 (hT u) [trT ν u x1, trT ν u x2] := by
    refine ⟨l2.symm, fun i t hi => ?_⟩
    have e1' : ys.map (trT ν u) = [trT ν u x1, trT ν u x2] := e1
    rw [← e1', List.getElem?_map] at hi
    cases hy : ys[i]? with
    | none => rw [hy] at hi; simp at hi
    | some y =>
      rw [hy] at hi
      simp at hi
      have hil : i < ys.length := (List.getElem?_eq_some_iff.mp hy).1
      have q2 := rowH_at u2 (a := hT u) (i := i) (by have := hh.2.2.1; rw [List.length_map] at this; omega)
      rw [hh.2.2.2.1, List.getElem?_map, hy] at q2
      simp at q2
      have := e2 y (List.mem_of_getElem? hy)
      exact ⟨y, q2.symm, this.1, by rw [he.n]; exact this.2, by rw [he.tr]; exact hi⟩
  refine wp_call (tX3_and2 (by omega) hh.2.2.2.2.2.1 hh.1 hR (fun f hf => and_pos (hok f hf)) (fun f hf => not_in (hok f hf)) (fun f hf k => yes_kd (hok f hf).n k) (by simp at l2; omega) (by omega) hX hL) (fun r u' ⟨x, q1, q2, q3, q4, ⟨q5, q6, q7⟩, q8, q9, q10, q11⟩ => ?_)
  rw [wp_some]
  refine ⟨x, q1, q2, q3, q4, ⟨q5, by rw [← he.st]; exact q6, fun t ht => ?_, q8, fun i hi => by rw [q9 i hi, hh.2.2.2.2.1 i hi]⟩, q10, Gr.tr (Gr.sub (by decide) hh.2.2.2.2.2.2) (Gr.sub (by decide) q11)⟩
  rcases q7 t ht with ⟨y, y0, hy, et⟩ | q
  · exact Or.inl ⟨y, y0, by rw [← he.n]; exact hy, by rw [← he.tr]; exact et⟩
  · exact Or.inr q
theorem RvT.chain {ν : Nat → Nat} {c D1 D2 D : Nat} {u u1 : Sg} {t : Nat} {X : Nat → Prop} (h1 : UpT ν c u u1 X) (g1 : Gr FT D1 u u1) (e1 : D1 &&& D = D1) (e2 : D2 &&& D = D2) {r : Int} {u' : Sg} (h : RvT ν c D2 u1 t X r u') : RvT ν c D u t X r u' := by
  obtain ⟨x, q1, q2, q3, q4, q5, q6, q7⟩ := h
  exact ⟨x, q1, q2, q3, q4, (h1.trn q5).mono (fun t ht => Or.inr (ht.elim id id)), q6, Gr.tr (Gr.sub e1 g1) (Gr.sub e2 q7)⟩
theorem UpT.lim {ν : Nat → Nat} {c : Nat} {u u1 : Sg} {X : Nat → Prop} (h : UpT ν c u u1 X) (hl : LimT ν u X) : LimT ν u1 X := hl.up h (fun _ q => q) (fun _ q => q)
theorem tX3_implies {d : Nat} (hd : 11 ≤ d) {ν : Nat → Nat} {c : Nat} {u : Sg} {x1 x2 : Nat} {X : Nat → Prop} (hw : WF FT u) (hs : ST ν c u) (x10 : 0 < x1) (hx1 : x1 ≤ nT u) (x20 : 0 < x2) (hx2 : x2 ≤ nT u) (o1 : okT (trT ν u x1)) (o2 : okT (trT ν u x2)) (f1 : isFo (trT ν u x1)) (f2 : isFo (trT ν u x2)) (z1 : szT (trT ν u x1) ≤ 450) (z2 : szT (notT (trT ν u x2)) ≤ 450) (h5 : hT u ≤ 28000) (hX1 : X (notT (trT ν u x2))) (hX2 : X (andT [trT ν u x1, notT (trT ν u x2)])) (hX : X (impT (trT ν u x1) (trT ν u x2))) (hl : LimT ν u X) :
    wp (runT d 39 [(x1 : Int), (x2 : Int)] u) (RvT ν c DX3_implies u (impT (trT ν u x1) (trT ν u x2)) X) := by
  obtain ⟨d, rfl⟩ : ∃ d', d = d' + 1 := ⟨d - 1, by omega⟩
  rw [runT_eq (by omega)]
  show wp (bX3_implies (runT d) x1 x2 u) _
  unfold bX3_implies
  refine wp_call (tX3_not (by omega) hw hs x20 hx2 (by omega) (not_ps o2) hX1 hl) (fun r u1 ⟨y, q1, q2, q3, q4, q5, q6, q7⟩ => ?_)
  subst q1
  have t1 := q5.tr hs hx1
  have on := okT_not o2 f2
  have hh1 : hT u1 = hT u := q5.2.2.2.1
  refine wp_call (tX3_and (x2 := y) (X := X) (by omega) q6 q5.1 x10 (Nat.le_trans hx1 q5.n) q2 q3 (by rw [t1]; exact o1) (by rw [q4]; exact on.1) (by rw [t1]; exact z1) (by rw [q4]; exact z2) (by omega) (by rw [t1, q4]; exact hX2) (q5.lim hl)) (fun r u2 ⟨z, p1, p2, p3, p4, p5, p6, p7⟩ => ?_)
  subst p1
  rw [t1, q4] at p4
  have oa := okT_and (L := [trT ν u x1, notT (trT ν u x2)]) (fun f hf => by
    simp at hf
    rcases hf with q | q
    · rw [q]; exact ⟨o1, f1⟩
    · rw [q]; exact on)
  have hu : UpT ν c u u2 X := (q5.trn p5).mono (fun t ht => Or.inr (ht.elim id id))
  have hh2 : hT u2 = hT u := hu.2.2.2.1
  have hnn := tX3_not (d := d) (X := X) (by omega) p6 p5.1 p2 p3 (by omega) (by rw [p4]; exact not_ps oa.1) (by rw [p4]; exact hX) (hu.lim hl)
  rw [p4] at hnn
  exact wp_mono (RvT.cl hnn) (fun r u' h => RvT.chain hu (Gr.tr (Gr.sub (D' := DX3_implies) (by decide) q7) (Gr.sub (by decide) p7)) (by decide) (by decide) h)
theorem tX3_all {d : Nat} (hd : 9 ≤ d) {ν : Nat → Nat} {c : Nat} {u : Sg} {x1 x2 : Nat} {X : Nat → Prop} (hw : WF FT u) (hs : ST ν c u) (hx1 : x1 ≤ nT u) (x20 : 0 < x2) (hx2 : x2 ≤ nT u) (o2 : okT (trT ν u x2)) (h5 : hT u < 29000) (hX : X (alT (trT ν u x1) (trT ν u x2))) (hl : LimT ν u X) :
    wp (runT d 44 [(x1 : Int), (x2 : Int)] u) (RvT ν c DX3_all u (alT (trT ν u x1) (trT ν u x2)) X) := by
  obtain ⟨d, rfl⟩ : ∃ d', d = d' + 1 := ⟨d - 1, by omega⟩
  rw [runT_eq (by omega)]
  show wp (bX3_all (runT d) x1 x2 u) _
  unfold bX3_all
  have hb := hl.n hs
  have hn := nodeT hs x20 hx2
  rw [ld_nat (hs.k hx2), hn.1]
  refine wp_ite (fun h => ?_) (fun h => ?_)
  · have e := yes_kd o2.n (tkT_8 h)
    have ea : alT (trT ν u x1) (trT ν u x2) = trT ν u x2 := by unfold alT; rw [if_pos e, e]
    rw [wp_some, ea]
    exact ⟨x2, rfl, x20, hx2, rfl, UpT.rf hs, hw, Gr.rf⟩
  · have e : ¬ trT ν u x2 = yesT := fun q => h (by rw [q, kd_yes]; decide)
    have ea : alT (trT ν u x1) (trT ν u x2) = mk 18 0 [trT ν u x1, trT ν u x2] := by unfold alT; rw [if_neg e]
    rw [ea] at hX ⊢
    have ht := tX3_two (d := d) (k := 17) (v := (x1 : Int)) (w := (x2 : Int)) (X := X) (by omega) hw hs (by simp [okR]) (by omega) (by omega) (by omega) (by omega) (fun p hp => by have := fptT_sub hp; simp at this; omega) (by omega) (by rw [tree_all]; exact hX) hl
    rw [tree_all] at ht
    exact wp_mono (RvT.cl ht) (fun r u' ⟨y, q1, q2, q3, q4, q5, q6, q7⟩ => ⟨y, q1, q2, q3, q4, q5, q6, Gr.sub (by decide) q7⟩)
