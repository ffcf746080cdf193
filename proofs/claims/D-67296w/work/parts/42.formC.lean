/-! nodes read as trees; formulas -/
def yesT : Nat := mk 9 0 []
def noT : Nat := mk 16 0 [yesT]
def notT (t : Nat) : Nat := if kd t = 16 then (ps t).headD 0 else mk 16 0 [t]
/-- a node's i-th part -/
def pt (u : Sg) (x i : Nat) : Int := gN u 7 ((gN u 2 x).toNat + i)
theorem nodeC {ν : Nat → Nat} {c : Nat} {u : Sg} (hs : SC ν c u) {x : Nat} (x0 : 0 < x) (hx : x < nC u) : gN u 0 x = (kd (trC ν u x) : Int) ∧ (kd (trC ν u x) ≠ 1 → gN u 1 x = (wh (trC ν u x) : Int)) ∧ gN u 3 x = ((ps (trC ν u x)).length : Int) ∧ (0 ≤ gN u 2 x ∧ (gN u 2 x).toNat + (ps (trC ν u x)).length ≤ pC u) ∧ x < gL u 0 ∧ pC u ≤ gL u 7 := by
  obtain ⟨h1, h2, h3, h4, h5⟩ := hs.1
  have h1' := h1
  obtain ⟨⟨q1, q2, q3⟩, ⟨q4, q5⟩, -⟩ := h1'
  obtain ⟨⟨g0, g1, g2, g3⟩, ge⟩ := h2.1 x x0 hx
  rw [trC_eq hs.1 x0 hx, kd_mk, wh_mk, ps_mk, pmp_len]
  have ek : (labC ν (rawC u x)).1 = (gN u 0 x).toNat := rfl
  have el : (labC ν (rawC u x)).2.2.length = (gN u 3 x).toNat := by unfold labC; rw [List.length_map, raw_len]
  rw [ek, el]
  refine ⟨by omega, fun h => ?_, by omega, ⟨g2, ge⟩, by omega, q5⟩
  show gN u 1 x = ((if gN u 0 x = 1 then _ else (gN u 1 x).toNat : Nat) : Int)
  rw [if_neg (by omega)]; omega
theorem partC {ν : Nat → Nat} {c : Nat} {u : Sg} (hs : SC ν c u) {x i t : Nat} (x0 : 0 < x) (hx : x < nC u) (h : (ps (trC ν u x))[i]? = some t) : 0 ≤ pt u x i ∧ (kd (trC ν u x) ≠ 8 ∨ i = 0 → (pt u x i).toNat < x ∧ trC ν u (pt u x i).toNat = t) ∧ (kd (trC ν u x) = 8 → i ≠ 0 → (pt u x i).toNat = t) := by
  obtain ⟨h1, h2, h3, h4, h5⟩ := hs.1
  obtain ⟨⟨g0, g1, g2, g3⟩, ge⟩ := h2.1 x x0 hx
  have hi : i < (gN u 3 x).toNat := by
    have := (List.getElem?_eq_some_iff.mp h).1
    rw [trC_eq hs.1 x0 hx, ps_mk, pmp_len] at this
    unfold labC at this
    rw [List.length_map, raw_len] at this
    exact this
  have hnn : 0 ≤ pt u x i := h2.2 _ (by omega)
  have hraw : (rawC u x).2.2[i]? = some (pt u x i) := raw_at u hi
  have hl : (labC ν (rawC u x)).2.2[i]? = some (pt u x i).toNat := by
    unfold labC
    rw [List.getElem?_map, hraw]; rfl
  rw [trC_eq hs.1 x0 hx, ps_mk] at h
  rw [trC_eq hs.1 x0 hx, kd_mk]
  have ek : (labC ν (rawC u x)).1 = (gN u 0 x).toNat := rfl
  have hfp : (gN u 0 x ≠ 8 ∨ i = 0) → pt u x i ∈ fptR (rawC u x) := fun hq => by
    unfold fptR
    by_cases h8 : (rawC u x).1 = 8
    · rw [if_pos h8]
      have h8' : gN u 0 x = 8 := h8
      have : i = 0 := by rcases hq with q | q; exact absurd h8' q; exact q
      subst this
      cases hrl : (rawC u x).2.2 with
      | nil => rw [hrl] at hraw; simp at hraw
      | cons z zs => rw [hrl] at hraw; simp at hraw; simp [hraw]
    · rw [if_neg h8]
      exact List.mem_of_getElem? hraw
  unfold pmp at h
  by_cases h8 : (labC ν (rawC u x)).1 = 8
  · rw [if_pos h8] at h
    refine ⟨hnn, fun hq => ?_, fun _ hi0 => ?_⟩
    · have : i = 0 := by rcases hq with q | q; exact absurd h8 q; exact q
      subst this
      have hlt := (h5 x x0 hx).1 _ (hfp (Or.inr rfl))
      refine ⟨by omega, ?_⟩
      cases hll : (labC ν (rawC u x)).2.2 with
      | nil => rw [hll] at hl; simp at hl
      | cons z zs => rw [hll] at hl h; simp at hl h; rw [← hl]; exact h
    · cases hll : (labC ν (rawC u x)).2.2 with
      | nil => rw [hll] at hl; simp at hl
      | cons z zs =>
        rw [hll] at hl h
        obtain ⟨j, rfl⟩ : ∃ j, i = j + 1 := ⟨i - 1, by omega⟩
        simp at hl h
        rw [hl] at h
        exact Option.some.inj h
  · rw [if_neg h8, List.getElem?_map, hl] at h
    have h := Option.some.inj h
    refine ⟨hnn, fun _ => ⟨?_, h⟩, fun q => absurd q h8⟩
    have := (h5 x x0 hx).1 _ (hfp (Or.inl (by omega)))
    omega
theorem atC {ν : Nat → Nat} {c : Nat} {d : Nat} (hd : 3 ≤ d) {u : Sg} (hs : SC ν c u) {x i : Nat} (x0 : 0 < x) (hx : x < nC u) (hi : i < (ps (trC ν u x)).length) : runC d 98 [(x : Int), (i : Int)] u = some (pt u x i, u) := by
  have hn := nodeC hs x0 hx
  obtain ⟨h1, -⟩ := hs.1
  obtain ⟨⟨q1, q2, q3⟩, ⟨q4, q5⟩, ⟨q6, q7⟩, ⟨l1, l2, l3, l4, l5, l6⟩, l8, l11, l0, l7⟩ := h1
  exact rX2_at hd (by omega) hn.2.2.2.1.1 (by omega) (by omega)
/-- the answer is a node with the tree t; the store has grown within X -/
def RsT (ν : Nat → Nat) (c D : Nat) (u : Sg) (t : Nat) (X : Nat → Prop) : Int → Sg → Prop := fun r u' => ∃ x : Nat, r = (x : Int) ∧ 0 < x ∧ x < nC u' ∧ trC ν u' x = t ∧ Up ν c u u' X ∧ WF FC u' ∧ Gr FC D u u'
theorem row_push {u u' : Sg} {a : Int} {b : Nat} (h1 : rC u' = rC u + 1) (h2 : ∀ i, i < rC u → gN u' 11 i = gN u 11 i) (h3 : gN u' 11 (rC u) = a) (hb : b ≤ rC u) : rowC u' b = rowC u b ++ [a] := by
  unfold rowC
  rw [h1, show rC u + 1 - b = (rC u - b) + 1 by omega, List.range_succ, List.map_append]
  congr 1
  · refine List.map_congr_left (fun i hi => ?_)
    have := List.mem_range.mp hi
    exact h2 _ (by omega)
  · rw [List.map_singleton, show b + (rC u - b) = rC u by omega, h3]
theorem row_nil {u : Sg} : rowC u (rC u) = [] := by unfold rowC; rw [Nat.sub_self]; rfl
theorem mkD {D : Nat} {F : Fm} {u u1 u2 : Sg} {D1 D2 : Nat} (h1 : Gr F D1 u u1) (h2 : Gr F D2 u1 u2) (e1 : D1 &&& D = D1) (e2 : D2 &&& D = D2) : Gr F D u u2 := (h1.sub e1).tr (h2.sub e2)
theorem EqS.tr {ν : Nat → Nat} {u u' : Sg} (h : EqS u u') (x : Nat) : trC ν u' x = trC ν u x := by unfold trC; rw [h.st ν]
theorem EqS.nd {ν : Nat → Nat} {u u' : Sg} (h : EqS u u') (t : Nat) : ndC ν u' t ↔ ndC ν u t := by
  unfold ndC
  rw [h.n]
  exact ⟨fun ⟨x, a, b, e⟩ => ⟨x, a, b, by rw [← h.tr]; exact e⟩, fun ⟨x, a, b, e⟩ => ⟨x, a, b, by rw [h.tr]; exact e⟩⟩
theorem EqS.lim {ν : Nat → Nat} {u u' : Sg} (h : EqS u u') {X : Nat → Prop} (hl : Lim ν u X) : Lim ν u' X := fun l hn hm => hl l hn (fun t ht => (hm t ht).imp (h.nd t).mp id)
theorem tX2_make_2 {d : Nat} (hd : 7 ≤ d) {ν : Nat → Nat} {c : Nat} {u : Sg} {k w x : Nat} {z : Int} {X : Nat → Prop} (hw : WF FC u) (hs : SC ν c u) (hk : k ≤ 30) (hk1 : k ≠ 1) (hk8 : k ≠ 8) (hw2 : w < 1000000) (x0 : 0 < x) (hx : x < nC u) (h5 : rC u ≤ 30000) (hX : X (mk k w [trC ν u x])) (hl : Lim ν u X) :
    wp (runC d 96 [(k : Int), (w : Int), z, (x : Int)] u) (RsT ν c DX2_make_2 u (mk k w [trC ν u x]) X) := by
  have hb := hl.n hs
  obtain ⟨d, rfl⟩ : ∃ d', d = d' + 1 := ⟨d - 1, by omega⟩
  rw [runC_eq (by omega)]
  show wp (bX2_make_2 (runC d) k w z x u) _
  unfold bX2_make_2
  rw [wp_un, hs.r.1]
  refine wp_call (tX2_push (by omega) hw hs ⟨by omega, by omega⟩ h5) (fun r1 u1 ⟨s1, e1, r1', p1, p2, w1, g1⟩ => ?_)
  have er : rowC u1 (rC u) = [(x : Int)] := by rw [row_push r1' p1 p2 (Nat.le_refl _), row_nil]; rfl
  have et : rowT ν u1 k (rC u) = [trC ν u x] := by
    unfold rowT pmp
    rw [er, if_neg hk8]
    show [trC ν u1 ((x : Int).toNat)] = _
    rw [e1.tr]; rfl
  refine wp_call (tX2_make (X := X) (by omega) w1 s1 hk (by omega) (fun _ => hw2) (fun h => absurd h hk1) (by omega) (fun v hv => ?_) (fun p hp => ?_) (by omega) ?_ (e1.lim hl)) (fun r2 u2 ⟨y, e2, y0, hy, s2, t2, o2, n2, x2, nd2, rr2, row2, w2, g2⟩ => ?_)
  · rw [er] at hv; simp at hv; omega
  · have := fptR_sub hp
    rw [show ((k : Int), (w : Int), rowC u1 (rC u)).2.2 = rowC u1 (rC u) from rfl, er] at this
    simp at this
    rw [e1.n]; omega
  · rw [et, if_neg hk1]; exact hX
  · rw [wp_some]
    refine ⟨y, e2, y0, hy, by rw [t2, et, if_neg hk1], ⟨s2.1, s2.2.1, s2.2.2, ?_, fun t ht => (nd2 t ht).imp (e1.nd t).mp id, rr2, fun i hi => by rw [row2 i hi, p1 i hi]⟩, w2, mkD g1 g2 (by decide +kernel) (by decide +kernel)⟩
    rw [← e1.st ν]; exact x2
theorem tX2_pair {d : Nat} (hd : 7 ≤ d) {ν : Nat → Nat} {c : Nat} {u : Sg} {k w x1 x2 : Nat} {X : Nat → Prop} (hw : WF FC u) (hs : SC ν c u) (hk : k ≤ 30) (hk1 : k ≠ 1) (hk8 : k ≠ 8) (hw2 : w < 1000000) (hx1 : x1 < nC u) (hx2 : x2 < nC u) (h5 : rC u < 30000) (hX : X (mk k w [trC ν u x1, trC ν u x2])) (hl : Lim ν u X) :
    wp (runC d 101 [(k : Int), (w : Int), (x1 : Int), (x2 : Int)] u) (RsT ν c DX2_pair u (mk k w [trC ν u x1, trC ν u x2]) X) := by
  have hb := hl.n hs
  obtain ⟨d, rfl⟩ : ∃ d', d = d' + 1 := ⟨d - 1, by omega⟩
  rw [runC_eq (by omega)]
  show wp (bX2_pair (runC d) k w x1 x2 u) _
  unfold bX2_pair
  rw [wp_un, hs.r.1]
  refine wp_call (tX2_push (by omega) hw hs ⟨by omega, by omega⟩ (by omega)) (fun r1 u1 ⟨s1, e1, r1', p1, p2, w1, g1⟩ => ?_)
  refine wp_call (tX2_push (by omega) w1 s1 ⟨by omega, by omega⟩ (by omega)) (fun r2 u2 ⟨s2, e2, r2', p3, p4, w2, g2⟩ => ?_)
  have e12 := e1.trn e2
  have er : rowC u2 (rC u) = [(x1 : Int), (x2 : Int)] := by rw [row_push r2' p3 p4 (by omega), row_push r1' p1 p2 (Nat.le_refl _), row_nil]; rfl
  have et : rowT ν u2 k (rC u) = [trC ν u x1, trC ν u x2] := by
    unfold rowT pmp
    rw [er, if_neg hk8]
    show [trC ν u2 ((x1 : Int).toNat), trC ν u2 ((x2 : Int).toNat)] = _
    rw [e12.tr, e12.tr]; rfl
  refine wp_call (tX2_make (X := X) (by omega) w2 s2 hk (by omega) (fun _ => hw2) (fun h => absurd h hk1) (by omega) (fun v hv => ?_) (fun p hp => ?_) (by omega) ?_ (e12.lim hl)) (fun r3 u3 ⟨y, e3, y0, hy, s3, t3, o3, n3, x3, nd3, rr3, row3, w3, g3⟩ => ?_)
  · rw [er] at hv; simp at hv; omega
  · have := fptR_sub hp
    rw [show ((k : Int), (w : Int), rowC u2 (rC u)).2.2 = rowC u2 (rC u) from rfl, er] at this
    simp at this
    rw [e12.n]; omega
  · rw [et, if_neg hk1]; exact hX
  · rw [wp_some]
    refine ⟨y, e3, y0, hy, by rw [t3, et, if_neg hk1], ⟨s3.1, s3.2.1, s3.2.2, ?_, fun t ht => (nd3 t ht).imp (e12.nd t).mp id, rr3, fun i hi => by rw [row3 i hi, p3 i (by omega), p1 i hi]⟩, w3, mkD (mkD (D := DX2_pair) g1 g2 (by decide +kernel) (by decide +kernel)) g3 (by decide +kernel) (by decide +kernel)⟩
    rw [← e12.st ν]; exact x3
theorem tX2_not {d : Nat} (hd : 9 ≤ d) {ν : Nat → Nat} {c : Nat} {u : Sg} {x : Nat} {X : Nat → Prop} (hw : WF FC u) (hs : SC ν c u) (x0 : 0 < x) (hx : x < nC u) (h5 : rC u ≤ 30000) (hwf : kd (trC ν u x) = 16 → ∃ f, ps (trC ν u x) = [f] ∧ 0 < f) (hX : X (notT (trC ν u x))) (hl : Lim ν u X) :
    wp (runC d 102 [(x : Int)] u) (RsT ν c DX2_not u (notT (trC ν u x)) X) := by
  have hb := hl.n hs
  have hn := nodeC hs x0 hx
  obtain ⟨d, rfl⟩ : ∃ d', d = d' + 1 := ⟨d - 1, by omega⟩
  rw [runC_eq (by omega)]
  show wp (bX2_not (runC d) x u) _
  unfold bX2_not
  rw [ld_nat hn.2.2.2.2.1, hn.1]
  refine wp_ite (fun h16 => ?_) (fun h16 => ?_)
  · have h16' : kd (trC ν u x) = 16 := by omega
    obtain ⟨f, hf, f0⟩ := hwf h16'
    have hp := partC hs x0 hx (i := 0) (t := f) (by rw [hf]; rfl)
    have hp2 := hp.2.1 (Or.inr rfl)
    rw [show (0 : Int) = ((0 : Nat) : Int) from rfl]
    refine wp_eq (atC (by omega) hs x0 hx (by rw [hf]; simp)) ?_
    rw [wp_some]
    have ht : notT (trC ν u x) = f := by unfold notT; rw [if_pos h16', hf]; rfl
    refine ⟨(pt u x 0).toNat, by omega, ?_, by omega, by rw [ht]; exact hp2.2, Up.rf hs, hw, Gr.rf⟩
    rcases Nat.eq_zero_or_pos (pt u x 0).toNat with q | q
    · rw [q] at hp2
      have := hp2.2
      rw [show trC ν u 0 = 0 from rfl] at this
      omega
    · exact q
  · have ht : notT (trC ν u x) = mk 16 0 [trC ν u x] := by unfold notT; rw [if_neg (by omega)]
    rw [ht] at hX ⊢
    refine wp_call (tX2_make_2 (k := 16) (w := 0) (z := 1) (by omega) hw hs (by omega) (by omega) (by omega) (by omega) x0 hx h5 hX hl) (fun r u' ⟨y, e, y0, hy, t, up, w, g⟩ => ?_)
    rw [wp_some]
    exact ⟨y, e, y0, hy, t, up, w, g.sub (by decide +kernel)⟩
