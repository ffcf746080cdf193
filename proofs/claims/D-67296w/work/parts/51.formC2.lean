/-! and, implies, iff, all, mode, put, bind, loci -/
theorem okT_yes : okT yesT := by
  rw [okT_eq]
  have k : kd yesT = 9 := kd_mk _ _ _
  have w : wh yesT = 0 := wh_mk _ _ _
  have p : ps yesT = [] := ps_mk _ _ _
  refine ⟨⟨by rw [k, w, p]; rfl, ?_⟩, fun c hc => ?_⟩
  · rw [k, w, p]
    exact Or.inr (Or.inr (Or.inr (Or.inr (Or.inr (Or.inr (Or.inl ⟨rfl, rfl, rfl⟩))))))
  · have := (fms_ps hc).1
    rw [p] at this; cases this
theorem fms8 {t : Nat} (h : kd t ≠ 8) {c : Nat} : c ∈ fms t ↔ c ∈ ps t ∧ c ≠ 0 := ⟨fms_ps, fun ⟨a, b⟩ => fms_mem a h b⟩
theorem okT_notmk {f : Nat} (h : okT f) (hf : isFo f) (h16 : kd f ≠ 16) : okT (mk 16 0 [f]) := by
  rw [okT_eq]
  refine ⟨⟨by rw [kd_mk, wh_mk, ps_mk], ?_⟩, fun c hc => ?_⟩
  · rw [kd_mk, wh_mk, ps_mk]
    exact Or.inr (Or.inr (Or.inr (Or.inr (Or.inr (Or.inr (Or.inr (Or.inr (Or.inr (Or.inr (Or.inr (Or.inl ⟨rfl, rfl, f, rfl, hf, h16⟩)))))))))))
  · have := (fms_ps hc).1
    rw [ps_mk] at this
    simp at this
    rw [this]; exact h
theorem okT_not {f : Nat} (h : okT f) (hf : isFo f) : okT (notT f) ∧ isFo (notT f) := by
  unfold notT
  by_cases h16 : kd f = 16
  · rw [if_pos h16]
    rcases h.n.2 with q | q | q | q | q | q | q | q | q | q | q | q | q | q <;> try omega
    obtain ⟨q1, q2, g, q3, q4, q5⟩ := q
    rw [q3]
    exact ⟨h.c (fms_mem (by rw [q3]; simp) (by omega) (isFo_pos q4)), q4⟩
  · rw [if_neg h16]
    refine ⟨okT_notmk h hf h16, ?_⟩
    unfold isFo; rw [kd_mk]; omega
theorem okT_no : okT noT ∧ isFo noT := by
  have hf : isFo yesT := by unfold isFo; rw [kd_yes]; omega
  refine ⟨?_, by unfold isFo; rw [kd_no]; omega⟩
  have k : kd noT = 16 := kd_mk _ _ _
  have w : wh noT = 0 := wh_mk _ _ _
  have p : ps noT = [yesT] := ps_mk _ _ _
  have h16 : kd yesT ≠ 16 := by rw [kd_yes]; decide
  rw [okT_eq]
  refine ⟨⟨by rw [k, w, p]; rfl, ?_⟩, fun c hc => ?_⟩
  · rw [k, w, p]
    exact Or.inr (Or.inr (Or.inr (Or.inr (Or.inr (Or.inr (Or.inr (Or.inr (Or.inr (Or.inr (Or.inr (Or.inl ⟨rfl, rfl, yesT, rfl, hf, h16⟩)))))))))))
  · have h := (fms_ps hc).1
    rw [p] at h
    have h := List.mem_singleton.mp h
    rw [h]; exact okT_yes
theorem not_ps {f : Nat} (h : okT f) : kd f = 16 → ∃ g, ps f = [g] ∧ 0 < g := fun h16 => by
  rcases h.n.2 with q | q | q | q | q | q | q | q | q | q | q | q | q | q <;> try omega
  obtain ⟨q1, q2, g, q3, q4, q5⟩ := q
  exact ⟨g, q3, Nat.pos_of_ne_zero (isFo_pos q4)⟩
theorem flt_ok {f : Nat} (h : okT f) (hf : isFo f) : ∀ g ∈ flt f, okT g ∧ isFo g ∧ kd g ≠ 17 ∧ g ≠ yesT ∧ g ≠ noT := fun g hg => by
  unfold flt at hg
  split at hg
  · cases hg
  · rename_i hno
    split at hg
    · rename_i h17
      rcases h.n.2 with q | q | q | q | q | q | q | q | q | q | q | q | q | q <;> try omega
      obtain ⟨r1, r2, r3, r4⟩ := q.2.2.2 g hg
      exact ⟨h.c (fms_mem hg (by omega) (isFo_pos r1)), r1, r2, r3, r4⟩
    · rename_i h17
      split at hg
      · cases hg
      · rename_i hy
        simp at hg
        rw [hg]; exact ⟨h, hf, h17, hy, hno⟩
theorem okT_and {L : List Nat} (h : ∀ f ∈ L, okT f ∧ isFo f) : okT (andT L) ∧ isFo (andT L) := by
  have hF : ∀ g ∈ L.flatMap flt, okT g ∧ isFo g ∧ kd g ≠ 17 ∧ g ≠ yesT ∧ g ≠ noT := fun g hg => by
    obtain ⟨f, hf, hgf⟩ := List.mem_flatMap.mp hg
    exact flt_ok (h f hf).1 (h f hf).2 g hgf
  unfold andT
  split
  · exact okT_no
  · split
    · exact ⟨okT_yes, by unfold isFo; rw [kd_yes]; omega⟩
    · rename_i f hfm
      have := hF f (by rw [hfm]; simp)
      exact ⟨this.1, this.2.1⟩
    · rename_i l h1 h2
      have hlen : 2 ≤ (L.flatMap flt).length := by
        match hl : L.flatMap flt with
        | [] => exact absurd hl h1
        | [f] => exact absurd hl (h2 f)
        | _ :: _ :: _ => simp
      refine ⟨?_, by unfold isFo; rw [kd_mk]; omega⟩
      rw [okT_eq]
      refine ⟨⟨by rw [kd_mk, wh_mk, ps_mk], ?_⟩, fun c hc => ?_⟩
      · rw [kd_mk, wh_mk, ps_mk]
        exact Or.inr (Or.inr (Or.inr (Or.inr (Or.inr (Or.inr (Or.inr (Or.inr (Or.inr (Or.inr (Or.inr (Or.inr (Or.inl ⟨rfl, rfl, hlen, fun f hf => (hF f hf).2⟩))))))))))))
      · have := (fms_ps hc).1
        rw [ps_mk] at this
        exact (hF c this).1
theorem and_pos {f : Nat} (h : okT f) : kd f = 17 → ∀ t ∈ ps f, 0 < t := fun h17 t ht => by
  rcases h.n.2 with q | q | q | q | q | q | q | q | q | q | q | q | q | q <;> try omega
  exact Nat.pos_of_ne_zero (isFo_pos (q.2.2.2 t ht).1)
theorem flt_len {f : Nat} (h : okT f) : (flt f).length ≤ szT f := by
  unfold flt
  split
  · simp
  · split
    · rename_i h17
      exact len_sz h (fun e => by rw [e, kd0] at h17; omega)
    · split
      · simp
      · rename_i h1 h2 h3
        by_cases h0 : f = 0
        · subst h0
          have := h.n.2
          rw [kd0] at this
          rcases this with q | q | q | q | q | q | q | q | q | q | q | q | q | q <;> omega
        · have := sz_pos h0
          simp; omega
theorem tX2_and {d : Nat} (hd : 8 ≤ d) {ν : Nat → Nat} {c : Nat} {u : Sg} {x1 x2 : Nat} {X : Nat → Prop} (hw : WF FC u) (hs : SC ν c u) (hyn : YN ν u) (x10 : 0 < x1) (hx1 : x1 < nC u) (x20 : 0 < x2) (hx2 : x2 < nC u) (o1 : okT (trC ν u x1)) (o2 : okT (trC ν u x2)) (z1 : szT (trC ν u x1) ≤ 450) (z2 : szT (trC ν u x2) ≤ 450) (h5 : rC u ≤ 28000) (hX : X (andT [trC ν u x1, trC ν u x2])) (hl : Lim ν u X) :
    wp (runC d 103 [(x1 : Int), (x2 : Int)] u) (RsT ν c DX2_and u (andT [trC ν u x1, trC ν u x2]) X) := by
  have hb := hl.n hs
  obtain ⟨d, rfl⟩ : ∃ d', d = d' + 1 := ⟨d - 1, by omega⟩
  rw [runC_eq (by omega)]
  show wp (bX2_and (runC d) x1 x2 u) _
  unfold bX2_and
  rw [wp_un, hs.r.1]
  refine wp_call (Psh.one (by omega) hw hs x10 hx1 rfl (by omega) (by omega)) (fun r1 u1 p1 => ?_)
  obtain ⟨a1, a2, a3, a4, a5, a6, a7⟩ := id p1
  refine wp_call (Psh.one (t := trC ν u x2) (by omega) a6 a1 x20 (by rw [a2.n]; exact hx2) (a2.tr x2) (by rw [a3]; simp; omega) (by rw [a2.n]; omega)) (fun r2 u2 p2 => ?_)
  have p := p1.app p2
  obtain ⟨b1, b2, b3, b4, b5, b6, b7⟩ := p
  have hfl : (([trC ν u x1] ++ [trC ν u x2]).flatMap flt).length ≤ 900 := by
    simp only [List.singleton_append, List.flatMap_cons, List.flatMap_nil, List.append_nil, List.length_append]
    have := flt_len o1
    have := flt_len o2
    omega
  have hR : RowIs ν u2 (rC u) ([trC ν u x1] ++ [trC ν u x2]) := ⟨b3, fun i t hi => by
    obtain ⟨y, y1, y2, y3, y4⟩ := b5 i t hi
    exact ⟨y, y1, y2, by rw [b2.n]; exact y3, by rw [b2.tr]; exact y4⟩⟩
  refine wp_call (and_fin (X := X) (by omega) b6 b1 hR (hyn.up hs (Ux.eqs (X := X) b2 b1) b7 (by decide +kernel) (by decide +kernel)) (fun f hf => ?_) (by rw [b3]; simp at hfl ⊢; omega) (by omega) hX (b2.lim hl)) (fun r3 u3 ⟨y, c1, c2, c3, c4, c5, c6, c7, c8, c9, c10, c11⟩ => ?_)
  · simp at hf
    rcases hf with e | e
    · rw [e]; exact and_pos o1
    · rw [e]; exact and_pos o2
  · rw [wp_some]
    refine ⟨y, c1, c2, c3, c4, ⟨c5.1, c5.2.1, c5.2.2, by rw [← b2.st ν]; exact c6, fun t ht => (c7 t ht).imp (b2.nd t).mp id, c8, fun i hi => by rw [c9 i hi, b4 i hi]⟩, c10, mkD b7 c11 (by decide +kernel) (by decide +kernel)⟩
/-- chaining: an answer over u1 is one over u -/
theorem RsT.chain {ν : Nat → Nat} {c D1 D2 D : Nat} {u u1 : Sg} {t : Nat} {X : Nat → Prop} (h1 : Up ν c u u1 X) (g1 : Gr FC D1 u u1) (e1 : D1 &&& D = D1) (e2 : D2 &&& D = D2) {r : Int} {u' : Sg} (h : RsT ν c D2 u1 t X r u') : RsT ν c D u t X r u' := by
  obtain ⟨x, a1, a2, a3, a4, a5, a6, a7⟩ := h
  exact ⟨x, a1, a2, a3, a4, (h1.trn a5).mono (fun t h => h.elim Or.inr Or.inr), a6, mkD g1 a7 e1 e2⟩
theorem Up.lim {ν : Nat → Nat} {c : Nat} {u u1 : Sg} {X : Nat → Prop} (h : Up ν c u u1 X) (hl : Lim ν u X) : Lim ν u1 X := h.ux.lim hl
theorem Up.r {ν : Nat → Nat} {c : Nat} {u u1 : Sg} {X : Nat → Prop} (h : Up ν c u u1 X) : rC u1 = rC u := h.2.2.2.2.2.1
def impT (f g : Nat) : Nat := notT (andT [f, notT g])
theorem tX2_implies {d : Nat} (hd : 12 ≤ d) {ν : Nat → Nat} {c : Nat} {u : Sg} {x1 x2 : Nat} {X : Nat → Prop} (hw : WF FC u) (hs : SC ν c u) (hyn : YN ν u) (x10 : 0 < x1) (hx1 : x1 < nC u) (x20 : 0 < x2) (hx2 : x2 < nC u) (o1 : okT (trC ν u x1)) (o2 : okT (trC ν u x2)) (f1 : isFo (trC ν u x1)) (f2 : isFo (trC ν u x2)) (z1 : szT (trC ν u x1) ≤ 450) (z2 : szT (notT (trC ν u x2)) ≤ 450) (h5 : rC u ≤ 28000) (hX1 : X (notT (trC ν u x2))) (hX2 : X (andT [trC ν u x1, notT (trC ν u x2)])) (hX : X (impT (trC ν u x1) (trC ν u x2))) (hl : Lim ν u X) :
    wp (runC d 105 [(x1 : Int), (x2 : Int)] u) (RsT ν c DX2_implies u (impT (trC ν u x1) (trC ν u x2)) X) := by
  obtain ⟨d, rfl⟩ : ∃ d', d = d' + 1 := ⟨d - 1, by omega⟩
  rw [runC_eq (by omega)]
  show wp (bX2_implies (runC d) x1 x2 u) _
  unfold bX2_implies
  refine wp_call (tX2_not (by omega) hw hs x20 hx2 (by omega) (not_ps o2) hX1 hl) (fun r1 u1 ⟨y1, e1, y10, hy1, ty1, up1, w1, g1⟩ => ?_)
  subst e1
  have n1 := up1.n hs
  have on2 := okT_not o2 f2
  have h1 : trC ν u1 x1 = trC ν u x1 := up1.tr hs hx1
  refine wp_call (tX2_and (by omega) w1 up1.sc (hyn.up hs up1.ux g1 (by decide +kernel) (by decide +kernel)) x10 (by omega) y10 hy1 (by rw [h1]; exact o1) (by rw [ty1]; exact on2.1) (by rw [h1]; exact z1) (by rw [ty1]; exact z2) (by rw [up1.r]; omega) (by rw [h1, ty1]; exact hX2) (up1.lim hl)) (fun r2 u2 ⟨y2, e2, y20, hy2, ty2, up2, w2, g2⟩ => ?_)
  subst e2
  rw [h1, ty1] at ty2
  have ho := okT_and (L := [trC ν u x1, notT (trC ν u x2)]) (fun f hf => by
    simp at hf
    rcases hf with e | e
    · rw [e]; exact ⟨o1, f1⟩
    · rw [e]; exact on2)
  have up12 : Up ν c u u2 X := (up1.trn up2).mono (fun t h => h.elim Or.inr Or.inr)
  refine wp_call (tX2_not (by omega) w2 up2.sc y20 hy2 (by rw [up12.r]; omega) (by rw [ty2]; exact not_ps ho.1) (by rw [ty2]; exact hX) (up12.lim hl)) (fun r3 u3 h3 => ?_)
  rw [wp_some]
  rw [ty2] at h3
  exact RsT.chain up12 (mkD (D := DX2_implies) g1 g2 (by decide +kernel) (by decide +kernel)) (by decide +kernel) (by decide +kernel) h3
/-- the X that an iff needs -/
def iffT (f g : Nat) : Nat := andT [impT f g, impT g f]
theorem tX2_iff {d : Nat} (hd : 16 ≤ d) {ν : Nat → Nat} {c : Nat} {u : Sg} {x1 x2 : Nat} {X : Nat → Prop} (hw : WF FC u) (hs : SC ν c u) (hyn : YN ν u) (x10 : 0 < x1) (hx1 : x1 < nC u) (x20 : 0 < x2) (hx2 : x2 < nC u) (o1 : okT (trC ν u x1)) (o2 : okT (trC ν u x2)) (f1 : isFo (trC ν u x1)) (f2 : isFo (trC ν u x2)) (z1 : szT (trC ν u x1) ≤ 450) (z2 : szT (notT (trC ν u x2)) ≤ 450) (z3 : szT (trC ν u x2) ≤ 450) (z4 : szT (notT (trC ν u x1)) ≤ 450) (z5 : szT (impT (trC ν u x1) (trC ν u x2)) ≤ 450) (z6 : szT (impT (trC ν u x2) (trC ν u x1)) ≤ 450) (h5 : rC u ≤ 28000)
    (hX : ∀ t, (t = notT (trC ν u x2) ∨ t = andT [trC ν u x1, notT (trC ν u x2)] ∨ t = impT (trC ν u x1) (trC ν u x2) ∨ t = notT (trC ν u x1) ∨ t = andT [trC ν u x2, notT (trC ν u x1)] ∨ t = impT (trC ν u x2) (trC ν u x1) ∨ t = iffT (trC ν u x1) (trC ν u x2)) → X t) (hl : Lim ν u X) :
    wp (runC d 106 [(x1 : Int), (x2 : Int)] u) (RsT ν c DX2_iff u (iffT (trC ν u x1) (trC ν u x2)) X) := by
  obtain ⟨d, rfl⟩ : ∃ d', d = d' + 1 := ⟨d - 1, by omega⟩
  rw [runC_eq (by omega)]
  show wp (bX2_iff (runC d) x1 x2 u) _
  unfold bX2_iff
  refine wp_call (tX2_implies (by omega) hw hs hyn x10 hx1 x20 hx2 o1 o2 f1 f2 z1 z2 h5 (hX _ (by simp)) (hX _ (by simp)) (hX _ (by simp)) hl) (fun r1 u1 ⟨y1, e1, y10, hy1, ty1, up1, w1, g1⟩ => ?_)
  subst e1
  have n1 := up1.n hs
  have h1 : trC ν u1 x1 = trC ν u x1 := up1.tr hs hx1
  have h2 : trC ν u1 x2 = trC ν u x2 := up1.tr hs hx2
  refine wp_call (tX2_implies (by omega) w1 up1.sc (hyn.up hs up1.ux g1 (by decide +kernel) (by decide +kernel)) x20 (by omega) x10 (by omega) (by rw [h2]; exact o2) (by rw [h1]; exact o1) (by rw [h2]; exact f2) (by rw [h1]; exact f1) (by rw [h2]; exact z3) (by rw [h1]; exact z4) (by rw [up1.r]; omega) (by rw [h1]; exact hX _ (by simp)) (by rw [h1, h2]; exact hX _ (by simp)) (by rw [h1, h2]; exact hX _ (by simp)) (up1.lim hl)) (fun r2 u2 ⟨y2, e2, y20, hy2, ty2, up2, w2, g2⟩ => ?_)
  subst e2
  rw [h1, h2] at ty2
  have up12 : Up ν c u u2 X := (up1.trn up2).mono (fun t h => h.elim Or.inr Or.inr)
  have n2 := up2.n up1.sc
  have t1 : trC ν u2 y1 = impT (trC ν u x1) (trC ν u x2) := by rw [up2.tr up1.sc hy1, ty1]
  have g12 := mkD (D := DX2_iff) g1 g2 (by decide +kernel) (by decide +kernel)
  have oi : ∀ f g, okT f → isFo f → okT g → isFo g → okT (impT f g) := fun f g a b c d => (okT_not (okT_and (L := [f, notT g]) (fun h hh => by
    simp at hh
    rcases hh with e | e
    · rw [e]; exact ⟨a, b⟩
    · rw [e]; exact okT_not c d)).1 (okT_and (L := [f, notT g]) (fun h hh => by
    simp at hh
    rcases hh with e | e
    · rw [e]; exact ⟨a, b⟩
    · rw [e]; exact okT_not c d)).2).1
  refine wp_call (tX2_and (by omega) w2 up2.sc (hyn.up hs up12.ux g12 (by decide +kernel) (by decide +kernel)) y10 (by omega) y20 hy2 (by rw [t1]; exact oi _ _ o1 f1 o2 f2) (by rw [ty2]; exact oi _ _ o2 f2 o1 f1) (by rw [t1]; exact z5) (by rw [ty2]; exact z6) (by rw [up12.r]; omega) (by rw [t1, ty2]; exact hX _ (by simp [iffT])) (up12.lim hl)) (fun r3 u3 h3 => ?_)
  rw [wp_some]
  rw [t1, ty2] at h3
  exact RsT.chain up12 g12 (by decide +kernel) (by decide +kernel) h3
def alT (y f : Nat) : Nat := if f = yesT then yesT else mk 18 0 [y, f]
theorem tX2_all {d : Nat} (hd : 9 ≤ d) {ν : Nat → Nat} {c : Nat} {u : Sg} {x1 x2 : Nat} {X : Nat → Prop} (hw : WF FC u) (hs : SC ν c u) (hyn : YN ν u) (hx1 : x1 < nC u) (x20 : 0 < x2) (hx2 : x2 < nC u) (h5 : rC u < 30000) (hX : X (alT (trC ν u x1) (trC ν u x2))) (hl : Lim ν u X) :
    wp (runC d 109 [(x1 : Int), (x2 : Int)] u) (RsT ν c DX2_all u (alT (trC ν u x1) (trC ν u x2)) X) := by
  obtain ⟨d, rfl⟩ : ∃ d', d = d' + 1 := ⟨d - 1, by omega⟩
  rw [runC_eq (by omega)]
  show wp (bX2_all (runC d) x1 x2 u) _
  unfold bX2_all
  obtain ⟨y, n, a1, a2, ⟨a3, a4, a5⟩, a6, a7, a8⟩ := hyn
  rw [wp_un, a1]
  refine wp_ite (fun h => ?_) (fun h => ?_)
  · have : x2 = y := by omega
    rw [wp_un, wp_some]
    refine ⟨y, rfl, a3, a4, ?_, Up.rf hs, hw, Gr.rf⟩
    rw [this, a5]; unfold alT; rw [if_pos rfl]
  · have hne : trC ν u x2 ≠ yesT := fun e => h (by rw [trC_inj hs hx2 a4 (by rw [e, a5])])
    have e : alT (trC ν u x1) (trC ν u x2) = mk 18 0 [trC ν u x1, trC ν u x2] := by unfold alT; rw [if_neg hne]
    rw [e] at hX ⊢
    refine wp_call (tX2_pair (k := 18) (w := 0) (by omega) hw hs (by omega) (by omega) (by omega) (by omega) hx1 hx2 h5 hX hl) (fun r u' ⟨z, b1, b2, b3, b4, b5, b6, b7⟩ => ?_)
    rw [wp_some]
    exact ⟨z, b1, b2, b3, b4, b5, b6, b7.sub (by decide +kernel)⟩
def modT (m a t : Nat) : Nat := if m = 0 then yesT else mk 14 m [a, t]
theorem tX2_mode {d : Nat} (hd : 9 ≤ d) {ν : Nat → Nat} {c : Nat} {u : Sg} {m x1 x2 : Nat} {X : Nat → Prop} (hw : WF FC u) (hs : SC ν c u) (hyn : YN ν u) (hm : m < 1000000) (hx1 : x1 < nC u) (hx2 : x2 < nC u) (h5 : rC u < 30000) (hX : X (modT m (trC ν u x1) (trC ν u x2))) (hl : Lim ν u X) :
    wp (runC d 100 [(m : Int), (x1 : Int), (x2 : Int)] u) (RsT ν c DX2_mode u (modT m (trC ν u x1) (trC ν u x2)) X) := by
  obtain ⟨d, rfl⟩ : ∃ d', d = d' + 1 := ⟨d - 1, by omega⟩
  rw [runC_eq (by omega)]
  show wp (bX2_mode (runC d) m x1 x2 u) _
  unfold bX2_mode
  obtain ⟨y, n, a1, a2, ⟨a3, a4, a5⟩, a6, a7, a8⟩ := hyn
  unfold modT at hX ⊢
  refine wp_ite (fun h => ?_) (fun h => ?_)
  · rw [wp_un, a1, wp_some]
    refine ⟨y, rfl, a3, a4, ?_, Up.rf hs, hw, Gr.rf⟩
    rw [a5, if_pos (by omega)]
  · rw [if_neg (by omega)] at hX ⊢
    refine wp_call (tX2_pair (k := 14) (w := m) (by omega) hw hs (by omega) (by omega) (by omega) hm hx1 hx2 h5 hX hl) (fun r u' ⟨z, b1, b2, b3, b4, b5, b6, b7⟩ => ?_)
    rw [wp_some]
    exact ⟨z, b1, b2, b3, b4, b5, b6, b7.sub (by decide +kernel)⟩
