/-! the model's nodes read off as trees -/
def nw (k : Nat) : Nat := if k = 1 ∨ k = 2 ∨ k = 3 ∨ k = 4 ∨ k = 8 ∨ k = 12 ∨ k = 13 ∨ k = 14 then 1 else 0
def tkT (k : Nat) : Int := if k = 1 ∨ k = 3 then 2 else if k = 2 then 1 else if k ≤ 5 then (k : Int) else (k : Int) - 1
theorem drop1_len {l : List Int} (h : 1 ≤ l.length) : l.length = ((l.drop 1).map Int.toNat).length + 1 := by
  rw [List.length_map, List.length_drop]; omega
theorem labT_inv {ν : Nat → Nat} {r : Int × List Int} (h : okR r) : r.1 = tkT (labT ν r).1 ∧ (labT ν r).2.2 = (r.2.drop (nw (labT ν r).1)).map Int.toNat ∧ r.2.length = (labT ν r).2.2.length + nw (labT ν r).1 ∧ ((labT ν r).1 = 1 → (labT ν r).2.1 = ν (hd0 r.2) ∧ 2 ≤ hd0 r.2) ∧ (nw (labT ν r).1 = 1 → (labT ν r).1 ≠ 1 → (labT ν r).2.1 = hd0 r.2) ∧ (nw (labT ν r).1 = 0 → (labT ν r).2.1 = 0) := by
  obtain ⟨k, l⟩ := r
  obtain ⟨h1, h2, h3, h4, h5, h6⟩ := h
  simp only at h1 h2 h3 h4 h5 h6
  have w : ∀ (k : Int) (K : Nat), k ≠ 1 → k ≠ 2 → fsT k = 1 → nk k = K → nw K = 1 → K ≠ 1 → tkT K = k → 1 ≤ l.length → k = tkT (labT ν (k, l)).1 ∧ (labT ν (k, l)).2.2 = (l.drop (nw (labT ν (k, l)).1)).map Int.toNat ∧ l.length = (labT ν (k, l)).2.2.length + nw (labT ν (k, l)).1 ∧ ((labT ν (k, l)).1 = 1 → (labT ν (k, l)).2.1 = ν (hd0 l) ∧ 2 ≤ hd0 l) ∧ (nw (labT ν (k, l)).1 = 1 → (labT ν (k, l)).1 ≠ 1 → (labT ν (k, l)).2.1 = hd0 l) ∧ (nw (labT ν (k, l)).1 = 0 → (labT ν (k, l)).2.1 = 0) := by
    intro k K n1 n2 f1 e1 e2 e3 e4 hl
    have e : labT ν (k, l) = (K, hd0 l, (l.drop 1).map Int.toNat) := by
      unfold labT
      simp only
      rw [if_neg n1, if_neg n2, if_pos f1, e1]
    rw [e]
    dsimp only
    rw [e2]
    exact ⟨e4.symm, rfl, drop1_len hl, fun q => absurd q e3, fun _ _ => rfl, fun q => by cases q⟩
  have v : ∀ (k : Int) (K : Nat), k ≠ 1 → k ≠ 2 → fsT k = 0 → nk k = K → nw K = 0 → K ≠ 1 → tkT K = k → k = tkT (labT ν (k, l)).1 ∧ (labT ν (k, l)).2.2 = (l.drop (nw (labT ν (k, l)).1)).map Int.toNat ∧ l.length = (labT ν (k, l)).2.2.length + nw (labT ν (k, l)).1 ∧ ((labT ν (k, l)).1 = 1 → (labT ν (k, l)).2.1 = ν (hd0 l) ∧ 2 ≤ hd0 l) ∧ (nw (labT ν (k, l)).1 = 1 → (labT ν (k, l)).1 ≠ 1 → (labT ν (k, l)).2.1 = hd0 l) ∧ (nw (labT ν (k, l)).1 = 0 → (labT ν (k, l)).2.1 = 0) := by
    intro k K n1 n2 f1 e1 e2 e3 e4
    have e : labT ν (k, l) = (K, 0, l.map Int.toNat) := by
      unfold labT
      simp only
      rw [if_neg n1, if_neg n2, if_neg (by omega), e1]
    rw [e]
    dsimp only
    rw [e2]
    exact ⟨e4.symm, by rw [List.drop_zero], by rw [List.length_map]; rfl, fun q => absurd q e3, (fun q => by cases q), fun _ => rfl⟩
  rcases h1 with q | q | q | q | q | q | q | q | q | q | q | q | q | q
  · have e : labT ν (k, l) = (2, hd0 l, []) := by unfold labT; simp only; rw [if_pos q]
    rw [e]
    have hl := h2 (Or.inl q)
    have e2 : nw 2 = 1 := by decide
    dsimp only
    rw [e2]
    refine ⟨by rw [q]; decide, ?_, by rw [hl]; rfl, (fun x => by cases x), fun _ _ => rfl, fun x => by cases x⟩
    rw [List.drop_of_length_le (by omega)]; rfl
  · have hl := h2 (Or.inr q)
    have hd : l.drop 1 = [] := List.drop_of_length_le (by omega)
    by_cases hh : hd0 l < 2
    · have e : labT ν (k, l) = (3, hd0 l, []) := by unfold labT; simp only; rw [if_neg (by omega), if_pos q, if_pos hh]
      rw [e]
      have e2 : nw 3 = 1 := by decide
      dsimp only
      rw [e2]
      exact ⟨by rw [q]; decide, by rw [hd]; rfl, by rw [hl]; rfl, (fun x => by cases x), fun _ _ => rfl, fun x => by cases x⟩
    · have e : labT ν (k, l) = (1, ν (hd0 l), []) := by unfold labT; simp only; rw [if_neg (by omega), if_pos q, if_neg hh]
      rw [e]
      have e2 : nw 1 = 1 := by decide
      dsimp only
      rw [e2]
      exact ⟨by rw [q]; decide, by rw [hd]; rfl, by rw [hl]; rfl, fun _ => ⟨rfl, by omega⟩, fun _ x => absurd rfl x, fun x => by cases x⟩
  · exact w k 4 (by omega) (by omega) (by rw [q]; decide) (by rw [q]; decide) (by decide) (by decide) (by rw [q]; decide) (h3 (by omega))
  · exact v k 5 (by omega) (by omega) (by rw [q]; decide) (by rw [q]; decide) (by decide) (by decide) (by rw [q]; decide)
  · exact w k 8 (by omega) (by omega) (by rw [q]; decide) (by rw [q]; decide) (by decide) (by decide) (by rw [q]; decide) (by have := h4 q; omega)
  · exact v k 9 (by omega) (by omega) (by rw [q]; decide) (by rw [q]; decide) (by decide) (by decide) (by rw [q]; decide)
  · exact v k 10 (by omega) (by omega) (by rw [q]; decide) (by rw [q]; decide) (by decide) (by decide) (by rw [q]; decide)
  · exact v k 11 (by omega) (by omega) (by rw [q]; decide) (by rw [q]; decide) (by decide) (by decide) (by rw [q]; decide)
  · exact w k 12 (by omega) (by omega) (by rw [q]; decide) (by rw [q]; decide) (by decide) (by decide) (by rw [q]; decide) (h3 (by omega))
  · exact w k 13 (by omega) (by omega) (by rw [q]; decide) (by rw [q]; decide) (by decide) (by decide) (by rw [q]; decide) (h3 (by omega))
  · exact w k 14 (by omega) (by omega) (by rw [q]; decide) (by rw [q]; decide) (by decide) (by decide) (by rw [q]; decide) (h3 (by omega))
  · exact v k 16 (by omega) (by omega) (by rw [q]; decide) (by rw [q]; decide) (by decide) (by decide) (by rw [q]; decide)
  · exact v k 17 (by omega) (by omega) (by rw [q]; decide) (by rw [q]; decide) (by decide) (by decide) (by rw [q]; decide)
  · exact v k 18 (by omega) (by omega) (by rw [q]; decide) (by rw [q]; decide) (by decide) (by decide) (by rw [q]; decide)
/-- the i-th number of a node -/
def dt (u : Sg) (x i : Nat) : Int := gN u 9 ((gN u 2 x).toNat + i)
theorem nodeT {ν : Nat → Nat} {c : Nat} {u : Sg} (hs : ST ν c u) {x : Nat} (x0 : 0 < x) (hx : x ≤ nT u) :
    gN u 1 x = tkT (kd (trT ν u x)) ∧ gN u 3 x = ((ps (trT ν u x)).length + nw (kd (trT ν u x)) : Nat) ∧ (kd (trT ν u x) = 1 → wh (trT ν u x) = ν (dt u x 0).toNat ∧ 2 ≤ (dt u x 0).toNat ∧ (dt u x 0).toNat < c) ∧ (nw (kd (trT ν u x)) = 1 → kd (trT ν u x) ≠ 1 → dt u x 0 = (wh (trT ν u x) : Int)) ∧ (nw (kd (trT ν u x)) = 0 → wh (trT ν u x) = 0) ∧ (∀ i, i < (ps (trT ν u x)).length + nw (kd (trT ν u x)) → 0 ≤ dt u x i) := by
  have hI := hs.1
  obtain ⟨h1, h2, h3, h4, h5⟩ := hI
  obtain ⟨c0, ⟨c1, c2⟩, c3⟩ := h2.1 x x0 hx
  have e := trT_eq (ν := ν) hs.1 x0 hx
  have ek := congrArg kd e
  have ew := congrArg wh e
  have ep := congrArg ps e
  rw [kd_mk] at ek
  rw [wh_mk] at ew
  rw [ps_mk] at ep
  obtain ⟨i1, i2, i3, i4, i5, i6⟩ := labT_inv (ν := ν) c0
  have el : (ps (trT ν u x)).length = (labT ν (rawT u x)).2.2.length := by rw [ep, pmp_len]
  rw [← ek] at i1 i2 i3 i4 i5 i6
  rw [← ew] at i4 i5 i6
  rw [← el] at i3
  have hlen : (rawT u x).2.length = (gN u 3 x).toNat := rawT_len u x
  have hd : nw (kd (trT ν u x)) = 1 → hd0 (rawT u x).2 = (dt u x 0).toNat ∧ 0 ≤ dt u x 0 := fun q => by
    have hlt : 0 < (gN u 3 x).toNat := by omega
    unfold hd0 dt
    rw [rawT_at u hlt]
    exact ⟨rfl, h2.2 _ (by omega)⟩
  refine ⟨i1, by omega, fun q => ?_, fun q q1 => ?_, i6, fun i hi => h2.2 _ (by omega)⟩
  · have q1 : nw (kd (trT ν u x)) = 1 := by rw [q]; decide
    obtain ⟨a1, a2⟩ := i4 q
    have a3 := hs.2.2.1 x x0 hx (by rw [show gN u 1 x = tkT (kd (trT ν u x)) from i1, q]; decide)
    rw [(hd q1).1] at a1 a2 a3
    exact ⟨a1, a2, a3⟩
  · have a1 := i5 q q1
    have a2 := hd q
    rw [a2.1] at a1
    omega
theorem partT {ν : Nat → Nat} {c : Nat} {u : Sg} (hs : ST ν c u) {x i t : Nat} (x0 : 0 < x) (hx : x ≤ nT u) (h : (ps (trT ν u x))[i]? = some t) : 0 ≤ dt u x (i + nw (kd (trT ν u x))) ∧ (kd (trT ν u x) ≠ 8 ∨ i = 0 → (dt u x (i + nw (kd (trT ν u x)))).toNat < x ∧ trT ν u (dt u x (i + nw (kd (trT ν u x)))).toNat = t) ∧ (kd (trT ν u x) = 8 → i ≠ 0 → (dt u x (i + nw (kd (trT ν u x)))).toNat = t) := by
  have hn := nodeT hs x0 hx
  have hI := hs.1
  obtain ⟨h1, h2, h3, h4, h5⟩ := hI
  obtain ⟨c0, ⟨c1, c2⟩, c3⟩ := h2.1 x x0 hx
  have e := trT_eq (ν := ν) hs.1 x0 hx
  have ek := congrArg kd e
  have ep := congrArg ps e
  rw [kd_mk] at ek
  rw [ps_mk, ← ek] at ep
  obtain ⟨i1, i2, i3, i4, i5, i6⟩ := labT_inv (ν := ν) c0
  rw [← ek] at i2 i3
  have hil : i < (ps (trT ν u x)).length := (List.getElem?_eq_some_iff.mp h).1
  have hlen : (rawT u x).2.length = (gN u 3 x).toNat := rawT_len u x
  have hnn := hn.2.2.2.2.2 (i + nw (kd (trT ν u x))) (by omega)
  have hlt : i + nw (kd (trT ν u x)) < (gN u 3 x).toNat := by have := hn.2.1; omega
  have hat := rawT_at u hlt
  have hel : (labT ν (rawT u x)).2.2[i]? = some (dt u x (i + nw (kd (trT ν u x)))).toNat := by
    rw [i2, List.getElem?_map, List.getElem?_drop, Nat.add_comm, hat]; rfl
  rw [ep] at h
  unfold pmp at h
  by_cases h8 : kd (trT ν u x) = 8
  · rw [if_pos h8] at h
    refine ⟨hnn, fun q => ?_, fun _ q => ?_⟩
    · have hi0 : i = 0 := by omega
      subst hi0
      cases hl : (labT ν (rawT u x)).2.2 with
      | nil => rw [hl] at hel; simp at hel
      | cons a r =>
        rw [hl] at hel h
        simp at hel h
        rw [hel] at h
        rw [Nat.zero_add]
        refine ⟨?_, h⟩
        have hf : (dt u x ( nw (kd (trT ν u x)))).toNat ∈ fpt ((stT ν u).2 x) := by
          show _ ∈ fpt (labT ν (rawT u x))
          unfold fpt
          rw [← ek, if_pos h8, hl, ← hel]
          simp
        exact okp_T hs.1 x x0 hx _ hf
    · cases hl : (labT ν (rawT u x)).2.2 with
      | nil => rw [hl] at hel; simp at hel
      | cons a r =>
        rw [hl] at hel h
        obtain ⟨i, rfl⟩ : ∃ j, i = j + 1 := ⟨i - 1, by omega⟩
        simp at hel h
        rw [hel] at h
        exact Option.some.inj h
  · rw [if_neg h8, List.getElem?_map, hel] at h
    refine ⟨hnn, fun _ => ⟨?_, by simpa using h⟩, fun q => absurd q h8⟩
    have hf : (dt u x (i + nw (kd (trT ν u x)))).toNat ∈ fpt ((stT ν u).2 x) := by
      show _ ∈ fpt (labT ν (rawT u x))
      unfold fpt
      rw [← ek, if_neg h8]
      exact List.mem_of_getElem? hel
    exact okp_T hs.1 x x0 hx _ hf
theorem getT {ν : Nat → Nat} {c : Nat} {d : Nat} (hd : 3 ≤ d) {u : Sg} (hs : ST ν c u) {x i : Nat} (x0 : 0 < x) (hx : x ≤ nT u) (hi : i < (ps (trT ν u x)).length + nw (kd (trT ν u x))) : runT d 7 [(x : Int), (i : Int)] u = some (dt u x i, u) := by
  have hn := nodeT hs x0 hx
  obtain ⟨⟨⟨q1, q2⟩, ⟨q3, q4⟩, ⟨q5, q6⟩, ⟨l2, l3, l4, l5, l6, l7⟩, l11, l12, lo1, lo9⟩, h2, h3, h4, h5⟩ := hs.1
  obtain ⟨c0, ⟨c1, c2⟩, c3⟩ := h2.1 x x0 hx
  exact rX3_get hd (by omega) c1 (by have := hn.2.1; omega) (by omega)
