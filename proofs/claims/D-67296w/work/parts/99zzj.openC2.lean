def hzO (f : Nat) : Prop := szQ f ≤ 900 ∨ (kd f = 17 ∧ ∀ p ∈ ps f, szQ p ≤ 900)
def OpSp (W : Wd) (X : Nat → Prop) (n : Nat) : Prop := ∀ (d : Nat) (u : Sg) (x f c : Nat), opR W X n f c → 1000 + n ≤ d → CW nu2 c W u → WF FC u → CtL u → 0 < x → x < nC u → trC nu2 u x = f → okT f → isFo f → hzO f → szT f ≤ 5000 → rC u + szT f ≤ 20000 → (opF n f c).2 ≤ 8000 → Lim nu2 u X → wp (runC d 38 [(x : Int)] u) (fun r u' => ∃ z : Nat, r = (z : Int) ∧ 0 < z ∧ z < nC u' ∧ trC nu2 u' z = (opF n f c).1 ∧ OpI W X (opF n f c).2 u u' ∧ rC u' = rC u)
theorem RowIs.op {W : Wd} {X : Nat → Prop} {c a : Nat} {u1 u2 : Sg} {D : List Nat} (h : RowIs nu2 u1 a D) (hO : OpI W X c u1 u2) (hr : rC u2 = rC u1) : RowIs nu2 u2 a D := ⟨by rw [hr]; exact h.1, fun i t hi => by
  obtain ⟨y, y1, y2, y3, y4⟩ := h.2 i t hi
  have hl := (List.getElem?_eq_some_iff.mp hi).1
  have hr1 := h.1
  exact ⟨y, by rw [hO.2.2.2.2 _ (by omega)]; exact y1, y2, Nat.lt_of_lt_of_le y3 hO.2.2.2.1.1, by rw [hO.2.2.2.1.2.1 y y3]; exact y4⟩⟩
/-- a node comes to the row -/
theorem op_push {d : Nat} (hd : 3 ≤ d) {W : Wd} {X : Nat → Prop} {c a z t : Nat} {u : Sg} {D : List Nat} (h1 : CW nu2 c W u) (h2 : WF FC u) (h3 : CtL u) (hR : RowIs nu2 u a D) (z0 : 0 < z) (hz : z < nC u) (ez : trC nu2 u z = t) (hr : rC u ≤ 30000) : wp (runC d 97 [(z : Int)] u) (fun _ u' => OpI W X c u u' ∧ RowIs nu2 u' a (D ++ [t]) ∧ rC u' = rC u + 1) := by
  have hnb : nC u ≤ 90000 := by have := h1.1.1.1.1.2.2; have := h1.1.1.1.2.2.2.2.2.2.1; omega
  refine wp_mono (tX2_push hd h2 h1.1 ⟨by omega, by omega⟩ hr) (fun r u' ⟨a1, a2, a3, a4, a5, a6, a7⟩ => ?_)
  have hO : OpI W X c u u' := ⟨h1.up (Ux.eqs (X := fun _ => False) a2 a1) a7 (by decide +kernel), a6, by unfold CtL; rw [a7.Ln 85 (by decide +kernel)]; exact h3, ⟨by rw [a2.n]; exact Nat.le_refl _, fun x _ => a2.tr x, fun t ht => Or.inl ((a2.nd t).mp ht)⟩, a4⟩
  refine ⟨hO, ⟨by rw [a3, hR.1, List.length_append]; rfl, fun i s hi => ?_⟩, a3⟩
  have hr1 := hR.1
  by_cases hil : i < D.length
  · rw [List.getElem?_append_left hil] at hi
    obtain ⟨y, y1, y2, y3, y4⟩ := hR.2 i s hi
    exact ⟨y, by rw [a4 _ (by omega)]; exact y1, y2, by rw [a2.n]; exact y3, by rw [a2.tr]; exact y4⟩
  · rw [List.getElem?_append_right (by omega)] at hi
    have h0 : i - D.length = 0 := by have := (List.getElem?_eq_some_iff.mp hi).1; simp at this; omega
    rw [h0] at hi
    simp at hi
    exact ⟨z, by rw [show a + i = rC u by omega]; exact a5, z0, by rw [a2.n]; exact hz, by rw [a2.tr, ez]; exact hi⟩
theorem open_L27 {d n : Nat} {W : Wd} {X : Nat → Prop} {u : Sg} {x f : Nat} {Q : Int → Sg → Prop} (ih : OpSp W X n) (hd : 1000 + n ≤ d) (hs0 : ∃ c0, SC nu2 c0 u) (x0 : 0 < x) (hx : x < nC u) (ex : trC nu2 u x = f) (h17 : kd f = 17) (ho : okT f) (hz : ∀ p ∈ ps f, szQ p ≤ 900) (hsz : szT f ≤ 5000) (hrow : rC u + szT f ≤ 20000) (hl : Lim nu2 u X) : ∀ (l : List Nat) (i fu : Nat) (u1 : Sg) (c1 : Nat) (D : List Nat), (ps f).drop i = l → l.length < fu → opRL (opR W X n) (opF n) l c1 → OpI W X c1 u u1 → RowIs nu2 u1 (rC u) D → D.length = i → (opL (opF n) l c1).2 ≤ 8000 → ∀ xx : Int → Sg → Option (Int × Sg), (∀ u2 : Sg, OpI W X (opL (opF n) l c1).2 u u2 → RowIs nu2 u2 (rC u) (D ++ (opL (opF n) l c1).1) → wp (xx ((rC u : Nat) : Int) u2) Q) → wp (bX1_open_L27 (runC d) fu (x : Int) ((rC u : Nat) : Int) (i : Int) u1 xx) Q := by
  have hall : ∀ p ∈ ps f, isFo p ∧ p ∈ fms f := by
    have : ∀ p ∈ ps f, isFo p := by
      rcases ho.n.2 with q | q | q | q | q | q | q | q | q | q | q | q | q | q <;> try omega
      exact fun p hp => (q.2.2.2 p hp).1
    exact fun p hp => ⟨this p hp, fms_mem hp (by omega) (isFo_pos (this p hp))⟩
  intro l
  induction l with
  | nil =>
    intro i fu u1 c1 D hdr hf hR hO hRow hD hc xx k
    obtain ⟨fu, rfl⟩ : ∃ f', fu = f' + 1 := ⟨fu - 1, by omega⟩
    have hs := hO.1.1
    have hn := nodeC hs x0 (Nat.lt_of_lt_of_le hx hO.2.2.2.1.1)
    rw [hO.2.2.2.1.2.1 x hx, ex] at hn
    have l3 : gL u1 3 = gL u1 0 := hs.1.1.2.2.2.1.2.2.1
    have hlen : (ps f).length ≤ i := by
      have := congrArg List.length hdr
      rw [List.length_drop] at this
      simp at this
      omega
    rw [bX1_open_L27, ld_nat (by omega), hn.2.2.1, if_neg (by omega)]
    refine k u1 hO ?_
    show RowIs nu2 u1 (rC u) (D ++ [])
    rw [List.append_nil]; exact hRow
  | cons p l ihl =>
    intro i fu u1 c1 D hdr hf hR hO hRow hD hc xx k
    obtain ⟨fu, rfl⟩ : ∃ f', fu = f' + 1 := ⟨fu - 1, by omega⟩
    have hs := hO.1.1
    have hx1 : x < nC u1 := Nat.lt_of_lt_of_le hx hO.2.2.2.1.1
    have ex1 : trC nu2 u1 x = f := by rw [hO.2.2.2.1.2.1 x hx]; exact ex
    have hn := nodeC hs x0 hx1
    rw [ex1] at hn
    have l3 : gL u1 3 = gL u1 0 := hs.1.1.2.2.2.1.2.2.1
    have hgi : (ps f)[i]? = some p := by
      have : ((ps f).drop i)[0]? = some p := by rw [hdr]; rfl
      rw [List.getElem?_drop] at this
      exact this
    have hil := (List.getElem?_eq_some_iff.mp hgi).1
    have hpm := List.mem_of_getElem? hgi
    obtain ⟨hpf, hfm⟩ := hall p hpm
    have hat := sz_at ho hgi (isFo_pos hpf) (Or.inl (by omega))
    obtain ⟨y, y1, y2, y3⟩ := partN (d := d) (i := i) (by omega) hs x0 hx1 (by rw [ex1]; exact hil) (Or.inl (by rw [ex1]; omega))
    rw [ex1, pa_at hgi] at y3
    have y0 : 0 < y := Nat.pos_of_ne_zero (fun q => isFo_pos hpf (by rw [← y3, q]; rfl))
    have hrc := hRow.1
    have hmon := opL_le (opF_le n) l (opF n p c1).2
    have hc2 : (opL (opF n) (p :: l) c1).2 = (opL (opF n) l (opF n p c1).2).2 := rfl
    rw [bX1_open_L27, ld_nat (by omega), hn.2.2.1, if_pos (by omega)]
    refine wp_eq y1 ?_
    refine wp_call (ih d u1 y p c1 hR.1 hd hO.1 hO.2.1 hO.2.2.1 y0 (by omega) y3 (ho.c hfm) hpf (Or.inl (hz p hpm)) (by omega) (by omega) (by omega) (hO.lim hl)) (fun r u2 ⟨z, z1, z2, z3, z4, z5, z6⟩ => ?_)
    rw [z1]
    refine wp_call (op_push (X := X) (by omega) z5.1 z5.2.1 z5.2.2.1 (hRow.op z5 z6) z2 z3 z4 (by omega)) (fun _ u3 ⟨w1, w2, w3⟩ => ?_)
    rw [wp_ar]
    refine ⟨⟨by omega, by omega⟩, ?_⟩
    rw [show (i : Int) + 1 = ((i + 1 : Nat) : Int) by omega]
    refine ihl (i + 1) fu u3 (opF n p c1).2 (D ++ [(opF n p c1).1]) ?_ (by simp at hf; omega) hR.2 ((hO.tr z5 (by omega)).tr w1 (by omega)) w2 (by rw [List.length_append]; show D.length + 1 = _; omega) (by omega) xx (fun u4 q1 q2 => k u4 q1 ?_)
    · have := congrArg List.tail hdr
      rw [List.tail_drop] at this
      exact this
    · rw [List.append_assoc] at q2; exact q2
theorem open_L125 {d n : Nat} {W : Wd} {X : Nat → Prop} {u : Sg} {x f : Nat} {Q : Int → Sg → Prop} (ih : OpSp W X n) (hd : 1000 + n ≤ d) (x0 : 0 < x) (hx : x < nC u) (ex : trC nu2 u x = f) (h17 : kd f = 17) (ho : okT f) (hz : szQ f ≤ 899) (hsz : szT f ≤ 4999) (hrow : rC u + szT f ≤ 19999) (hX : ∀ p ∈ ps f, X (notT p)) (hl : Lim nu2 u X) : ∀ (l : List Nat) (i fu : Nat) (u1 : Sg) (c1 : Nat) (D : List Nat), (ps f).drop i = l → l.length < fu → opRL (opR W X n) (opF n) (l.map notT) c1 → OpI W X c1 u u1 → RowIs nu2 u1 (rC u) D → D.length = i → (opL (opF n) (l.map notT) c1).2 ≤ 8000 → ∀ xx : Int → Sg → Option (Int × Sg), (∀ u2 : Sg, OpI W X (opL (opF n) (l.map notT) c1).2 u u2 → RowIs nu2 u2 (rC u) (D ++ (opL (opF n) (l.map notT) c1).1) → wp (xx ((rC u : Nat) : Int) u2) Q) → wp (bX1_open_L125 (runC d) fu (x : Int) ((rC u : Nat) : Int) (i : Int) u1 xx) Q := by
  have hall : ∀ p ∈ ps f, isFo p ∧ p ∈ fms f := by
    have : ∀ p ∈ ps f, isFo p := by
      rcases ho.n.2 with q | q | q | q | q | q | q | q | q | q | q | q | q | q <;> try omega
      exact fun p hp => (q.2.2.2 p hp).1
    exact fun p hp => ⟨this p hp, fms_mem hp (by omega) (isFo_pos (this p hp))⟩
  have hf0 : f ≠ 0 := fun q => by rw [q, kd0] at h17; omega
  intro l
  induction l with
  | nil =>
    intro i fu u1 c1 D hdr hf hR hO hRow hD hc xx k
    obtain ⟨fu, rfl⟩ : ∃ f', fu = f' + 1 := ⟨fu - 1, by omega⟩
    have hs := hO.1.1
    have hn := nodeC hs x0 (Nat.lt_of_lt_of_le hx hO.2.2.2.1.1)
    rw [hO.2.2.2.1.2.1 x hx, ex] at hn
    have l3 : gL u1 3 = gL u1 0 := hs.1.1.2.2.2.1.2.2.1
    have hlen : (ps f).length ≤ i := by
      have := congrArg List.length hdr
      rw [List.length_drop] at this
      simp at this
      omega
    rw [bX1_open_L125, ld_nat (by omega), hn.2.2.1, if_neg (by omega)]
    refine k u1 hO ?_
    show RowIs nu2 u1 (rC u) (D ++ [])
    rw [List.append_nil]; exact hRow
  | cons p l ihl =>
    intro i fu u1 c1 D hdr hf hR hO hRow hD hc xx k
    obtain ⟨fu, rfl⟩ : ∃ f', fu = f' + 1 := ⟨fu - 1, by omega⟩
    have hs := hO.1.1
    have hx1 : x < nC u1 := Nat.lt_of_lt_of_le hx hO.2.2.2.1.1
    have ex1 : trC nu2 u1 x = f := by rw [hO.2.2.2.1.2.1 x hx]; exact ex
    have hn := nodeC hs x0 hx1
    rw [ex1] at hn
    have l3 : gL u1 3 = gL u1 0 := hs.1.1.2.2.2.1.2.2.1
    have hgi : (ps f)[i]? = some p := by
      have : ((ps f).drop i)[0]? = some p := by rw [hdr]; rfl
      rw [List.getElem?_drop] at this
      exact this
    have hil := (List.getElem?_eq_some_iff.mp hgi).1
    have hpm := List.mem_of_getElem? hgi
    obtain ⟨hpf, hfm⟩ := hall p hpm
    have hat := sz_at ho hgi (isFo_pos hpf) (Or.inl (by omega))
    have hop := ho.c hfm
    have hq1 := g_c (szQ_ex hf0 (by omega)) hfm
    have hq2 := szQ_not hop hpf
    have hs2 := szT_not hop
    obtain ⟨y, y1, y2, y3⟩ := partN (d := d) (i := i) (by omega) hs x0 hx1 (by rw [ex1]; exact hil) (Or.inl (by rw [ex1]; omega))
    rw [ex1, pa_at hgi] at y3
    have y0 : 0 < y := Nat.pos_of_ne_zero (fun q => isFo_pos hpf (by rw [← y3, q]; rfl))
    have hrc := hRow.1
    have hR' : opR W X n (notT p) c1 ∧ opRL (opR W X n) (opF n) (l.map notT) (opF n (notT p) c1).2 := hR
    have hmon := opL_le (opF_le n) (l.map notT) (opF n (notT p) c1).2
    have hc2 : (opL (opF n) ((p :: l).map notT) c1).2 = (opL (opF n) (l.map notT) (opF n (notT p) c1).2).2 := rfl
    rw [bX1_open_L125, ld_nat (by omega), hn.2.2.1, if_pos (by omega)]
    refine wp_eq y1 ?_
    refine wp_call (tX2_not (X := X) (by omega) hO.2.1 hs y0 (by omega) (by omega) (by rw [y3]; exact not_wf hop) (by rw [y3]; exact hX p hpm) (hO.lim hl)) (fun rn un ⟨v, v1, v2, v3, v4, v5, v6, v7⟩ => ?_)
    rw [y3] at v4
    rw [v1]
    have hOn : OpI W X c1 u1 un := OpI.st hO.1 hO.2.2.1 v5 v6 v7 (by decide +kernel) (by decide +kernel)
    have hrn : rC un = rC u1 := v5.2.2.2.2.2.1
    have hO1 := hO.tr hOn (by omega)
    refine wp_call (ih d un v (notT p) c1 hR'.1 hd hO1.1 hO1.2.1 hO1.2.2.1 v2 v3 v4 (okT_not hop hpf).1 (okT_not hop hpf).2 (Or.inl (by omega)) (by omega) (by omega) (by omega) (hO1.lim hl)) (fun r u2 ⟨z, z1, z2, z3, z4, z5, z6⟩ => ?_)
    rw [z1]
    refine wp_call (op_push (X := X) (by omega) z5.1 z5.2.1 z5.2.2.1 ((hRow.op hOn hrn).op z5 z6) z2 z3 z4 (by omega)) (fun _ u3 ⟨w1, w2, w3⟩ => ?_)
    rw [wp_ar]
    refine ⟨⟨by omega, by omega⟩, ?_⟩
    rw [show (i : Int) + 1 = ((i + 1 : Nat) : Int) by omega]
    refine ihl (i + 1) fu u3 (opF n (notT p) c1).2 (D ++ [(opF n (notT p) c1).1]) ?_ (by simp at hf; omega) hR'.2 ((hO1.tr z5 (by omega)).tr w1 (by omega)) w2 (by rw [List.length_append]; show D.length + 1 = _; omega) (by omega) xx (fun u4 q1 q2 => k u4 q1 ?_)
    · have := congrArg List.tail hdr
      rw [List.tail_drop] at this
      exact this
    · rw [List.append_assoc] at q2; exact q2
