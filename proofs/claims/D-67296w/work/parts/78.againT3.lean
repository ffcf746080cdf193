theorem DatIs.at {ν : Nat → Nat} {u : Sg} {h s i t : Nat} (hd : DatIs ν u h s) (h0 : nw (kd s) = 0) (h8 : kd s ≠ 8) (hi : (ps s)[i]? = some t) : ∃ y : Nat, gN u 12 (h + i) = (y : Int) ∧ y ≤ nT u ∧ trT ν u y = t := by
  obtain ⟨y, y1, _, y3⟩ := hd.2.2 i t hi
  rw [h0, Nat.add_zero] at y1
  exact ⟨y, y1, y3 (fun q => h8 q.1)⟩
theorem tX3_again {d : Nat} (hd : 11 ≤ d) {ν : Nat → Nat} {c : Nat} {u1 : Sg} {x h s : Nat} {X : Nat → Prop} (hw : WF FT u1) (hs : ST ν c u1) (x0 : 0 < x) (hx : x ≤ nT u1) (hk : kd (trT ν u1 x) = kd s) (ho : okT s) (h3 : ¬ kd s ≤ 3) (hD : DatIs ν u1 h s) (hz : (ps s).length ≤ 900) (h5 : hT u1 ≤ 28000) (hX : X s) (hl : LimT ν u1 X) :
    wp (runT d 43 [(x : Int), (h : Int)] u1) (RvT ν c DX3_again (sI u1 13 (h : Int)) s X) := by
  obtain ⟨d, rfl⟩ : ∃ d', d = d' + 1 := ⟨d - 1, by omega⟩
  rw [runT_eq (by omega)]
  show wp (bX3_again (runT d) x h u1) _
  unfold bX3_again
  have hb := hl.n hs
  have hr := hs.r
  have hh : h ≤ hT u1 := by have := hD.1; omega
  obtain ⟨e1, e2, e3, e4⟩ := setH (a := h) hs hw (by omega)
  have hbk := Hand.back hs hw hh
  have eT : trT ν (sI u1 13 (h : Int)) = trT ν u1 := funext fun _ => e1.tr
  have hL : LimT ν (sI u1 13 (h : Int)) X := fun l q1 q2 => hl l q1 (fun t ht => (q2 t ht).imp (fun ⟨y, y0, hy, et⟩ => ⟨y, y0, by rw [← e1.n]; exact hy, by rw [← e1.tr]; exact et⟩) id)
  have s0 : s ≠ 0 := fun q => by rw [q, kd0] at h3; exact h3 (by omega)
  have hin := okT_kin ho
  obtain ⟨t2, t1, t3, t8, t7, t15, t16, t17⟩ := tkT_in hin
  have hn := nodeT hs x0 hx
  have hrl : (rowH u1 h).length ≤ 1000 := by rw [rowH_len]; have := hD.1; have := nw_le (kd s); omega
  have node : wp (runT d 5 [tkT (kd s), (h : Int)] u1) (RvT ν c DX3_again (sI u1 13 (h : Int)) s X) := by
    have et : treeT ν (sI u1 13 (h : Int)) (tkT (kd s), rowH u1 h) = s := by
      have := hD.row ho h3
      unfold treeT at this ⊢
      rw [eT]; exact this
    have := tX3_node (d := d) (D := DX3_again) (X := X) (by omega) hbk (hD.okr ho h3 (by omega)) (hD.nn (nw_le _)) (by have := hD.fm ho h3; rw [e1.n]; exact this) (fun q => by have := t1.mp q; omega) (fun q => by have := t2.mp q; omega) hrl (by rw [et]; exact hX) hL e2 (by decide) (Gr.sub (by decide) hbk.2.2.2.2.2.2)
    rw [et, e3] at this
    exact this
  rw [ld_nat (hs.k hx), hn.1, hk]
  refine wp_ite (fun q => ?_) (fun q7 => ?_)
  · rw [q] at node
    exact RvT.cl node
  refine wp_ite (fun q => ?_) (fun q15 => ?_)
  · have k16 := t15.mp q
    have h0 : nw (kd s) = 0 := by rw [k16]; decide
    have hf : ∃ f, ps s = [f] ∧ isFo f ∧ kd f ≠ 16 ∧ wh s = 0 := by
      rcases ho.n.2 with z | z | z | z | z | z | z | z | z | z | z | z | z | z <;> try omega
      obtain ⟨_, w0, f, z1, z2, z3⟩ := z
      exact ⟨f, z1, z2, z3, w0⟩
    obtain ⟨f, f1, f2, f3, f4⟩ := hf
    obtain ⟨y, y1, y2, y3⟩ := hD.at (i := 0) (t := f) h0 (by omega) (by rw [f1]; rfl)
    rw [Nat.add_zero] at y1
    have hlt : h < gL u1 12 := by have := hD.1; rw [f1, h0] at this; simp at this; omega
    have y0 : 0 < y := by
      rcases Nat.eq_zero_or_pos y with q | q
      · rw [q, show trT ν u1 0 = 0 from rfl] at y3
        exact absurd y3.symm (isFo_pos f2)
      · exact q
    have en : notT f = s := by
      unfold notT
      rw [if_neg f3, ho.n.1, k16, f4, f1]
    have ey : trT ν (sI u1 13 (h : Int)) y = f := by rw [eT]; exact y3
    rw [ld_nat hlt, y1, wp_un]
    have := tX3_not (d := d) (X := X) (by omega) e4 e2 y0 (by rw [e1.n]; exact y2) (by rw [e3]; omega) (by rw [ey]; exact fun q => absurd q f3) (by rw [ey, en]; exact hX) hL
    rw [ey, en] at this
    exact wp_mono (RvT.cl this) (fun r u' ⟨z, q1, q2, q3, q4, q5, q6, q7⟩ => ⟨z, q1, q2, q3, q4, q5, q6, Gr.sub (by decide) q7⟩)
  refine wp_ite (fun q => ?_) (fun q16 => ?_)
  · have k17 := t16.mp q
    have h0 : nw (kd s) = 0 := by rw [k17]; decide
    obtain ⟨a1, a2⟩ := andT_ok ho.n k17
    have hch : ∀ f ∈ ps s, okT f ∧ isFo f ∧ kd f ≠ 17 ∧ f ≠ yesT ∧ f ≠ noT := fun f hf => by
      rcases ho.n.2 with z | z | z | z | z | z | z | z | z | z | z | z | z | z <;> try omega
      have := z.2.2.2 f hf
      exact ⟨ho.c (fms_mem hf (by omega) (isFo_pos this.1)), this⟩
    have hno : noT ∉ ps s := fun q => (hch _ q).2.2.2.2 rfl
    have hfe : (ps s).flatMap fltT = ps s := by
      rw [flat_eq hno (fun f hf k9 => absurd (yes_kd (hch f hf).1.n k9) (hch f hf).2.2.2.1), a2]
    have hR : RowT ν u1 h (ps s) := by
      refine ⟨by have := hD.1; omega, fun i t hi => ?_⟩
      obtain ⟨y, y1, y2, y3⟩ := hD.at h0 (by omega) hi
      refine ⟨y, y1, ?_, y2, y3⟩
      rcases Nat.eq_zero_or_pos y with q | q
      · rw [q, show trT ν u1 0 = 0 from rfl] at y3
        exact absurd y3.symm (isFo_pos (hch t (List.mem_of_getElem? hi)).2.1)
      · exact q
    have := tX3_and2 (d := d) (X := X) (by omega) hw hs hR (fun f hf => and_pos (hch f hf).1) (fun f hf => not_in (hch f hf).1) (fun f hf k => yes_kd (hch f hf).1.n k) (by rw [hfe]; omega) (by rw [hfe]; omega) (by rw [a1]; exact hX) hl
    rw [a1] at this
    refine wp_call this (fun r u' ⟨z, q1, q2, q3, q4, ⟨q5, q6, q7⟩, q8, q9, q10, q11⟩ => ?_)
    rw [wp_some]
    refine ⟨z, q1, q2, q3, q4, ⟨q5, by rw [e1.st]; exact q6, fun t ht => ?_, by rw [q8, e3], fun i hi => ?_⟩, q10, Gr.tr (Gr.sub (by decide) hbk.2.2.2.2.2.2) (Gr.sub (by decide) q11)⟩
    · rcases q7 t ht with ⟨y, y0, hy, et⟩ | q
      · exact Or.inl ⟨y, y0, by rw [e1.n]; exact hy, by rw [e1.tr]; exact et⟩
      · exact Or.inr q
    · rw [e3] at hi
      exact q9 i hi
  refine wp_ite (fun q => ?_) (fun q17 => ?_)
  · have k18 := t17.mp q
    have h0 : nw (kd s) = 0 := by rw [k18]; decide
    have hf : ∃ y f, ps s = [y, f] ∧ isFo f ∧ f ≠ yesT ∧ wh s = 0 := by
      rcases ho.n.2 with z | z | z | z | z | z | z | z | z | z | z | z | z | z <;> try omega
      obtain ⟨_, w0, y, f, z1, z2, z3, z4⟩ := z
      exact ⟨y, f, z1, z3, z4, w0⟩
    obtain ⟨ty, f, f1, f2, f3, f4⟩ := hf
    have of' := ho.c (fms_mem (t := s) (c := f) (by rw [f1]; simp) (by omega) (isFo_pos f2))
    obtain ⟨y, y1, y2, y3⟩ := hD.at (i := 0) (t := ty) h0 (by omega) (by rw [f1]; rfl)
    obtain ⟨z, z1, z2, z3⟩ := hD.at (i := 1) (t := f) h0 (by omega) (by rw [f1]; rfl)
    rw [Nat.add_zero] at y1
    have hlt : h + 1 < gL u1 12 := by have := hD.1; rw [f1, h0] at this; simp at this; omega
    have z0 : 0 < z := by
      rcases Nat.eq_zero_or_pos z with q | q
      · rw [q, show trT ν u1 0 = 0 from rfl] at z3
        exact absurd z3.symm (isFo_pos f2)
      · exact q
    have en : alT ty f = s := by
      unfold alT
      rw [if_neg f3, ho.n.1, k18, f4, f1]
    have ey : trT ν (sI u1 13 (h : Int)) y = ty := by rw [eT]; exact y3
    have ez : trT ν (sI u1 13 (h : Int)) z = f := by rw [eT]; exact z3
    rw [ld_nat (by omega), y1, wp_ar]
    refine ⟨⟨by omega, by omega⟩, ?_⟩
    rw [show (h : Int) + 1 = ((h + 1 : Nat) : Int) by omega, ld_nat hlt, z1, wp_un]
    have := tX3_all (d := d) (X := X) (by omega) e4 e2 (by rw [e1.n]; exact y2) z0 (by rw [e1.n]; exact z2) (by rw [ez]; exact of') (by rw [e3]; omega) (by rw [ey, ez, en]; exact hX) hL
    rw [ey, ez, en] at this
    exact wp_mono (RvT.cl this) (fun r u' ⟨z, q1, q2, q3, q4, q5, q6, q7⟩ => ⟨z, q1, q2, q3, q4, q5, q6, Gr.sub (by decide) q7⟩)
  · rw [ld_nat (hs.k hx), hn.1, hk]
    exact RvT.cl node
