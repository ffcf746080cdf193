/-! the terms of the formulas come to stand first -/
theorem stands_L2 {d : Nat} {ν : Nat → Nat} {c : Nat} {u : Sg} {Kl : List Nat} {y : Nat} (hs : SC ν c u) (hn9 : nC u ≤ 90000) (hk : KnS ν u Kl) (hKl : Kl.length ≤ 2500) (hy : y < nC u) (hf : ∀ f ∈ Kl, okT f ∧ 4 + htT f ≤ d) {xx xy : Sg → Option (Int × Sg)} : ∀ (m i fu : Nat), i + m = Kl.length → m < fu → ((∃ (k f : Nat), i ≤ k ∧ Kl[k]? = some f ∧ subT (trC ν u y) f) → bX1_stands_L2 (runC d) fu (y : Int) (i : Int) u xx xy = xy u) ∧ (¬ (∃ (k f : Nat), i ≤ k ∧ Kl[k]? = some f ∧ subT (trC ν u y) f) → bX1_stands_L2 (runC d) fu (y : Int) (i : Int) u xx xy = xx u) := by
  intro m
  induction m with
  | zero =>
    intro i fu hi hfu
    obtain ⟨fu, rfl⟩ : ∃ f', fu = f' + 1 := ⟨fu - 1, by omega⟩
    rw [bX1_stands_L2, un_eq, hk.1.1, if_neg (by omega)]
    exact ⟨fun ⟨k, f, q1, q2, _⟩ => by have := (List.getElem?_eq_some_iff.mp q2).1; omega, fun _ => rfl⟩
  | succ m ih =>
    intro i fu hi hfu
    obtain ⟨fu, rfl⟩ : ∃ f', fu = f' + 1 := ⟨fu - 1, by omega⟩
    have hil : i < Kl.length := by omega
    have gi : Kl[i]? = some Kl[i] := List.getElem?_eq_getElem hil
    generalize ef : Kl[i] = f at gi
    obtain ⟨x, x1, x2, x3, x4, _⟩ := hk.2.2.1 i f gi
    obtain ⟨h1, h2⟩ := hf f (List.mem_of_getElem? gi)
    obtain ⟨v, v1, v2⟩ := rX2_has hs hn9 hy f h1 d x h2 x2 x3 x4
    obtain ⟨n1, n2⟩ := ih (i + 1) fu (by omega) (by omega)
    have hk2 := hk.1.2
    rw [bX1_stands_L2, un_eq, hk.1.1, if_pos (by omega), ld_nat (by omega), x1, cl_eq v1]
    rcases v2 with ⟨e, q⟩ | ⟨e, q⟩
    · rw [e, if_neg (by decide)]
      exact ⟨fun _ => rfl, fun z => absurd ⟨i, f, Nat.le_refl _, gi, q⟩ z⟩
    · rw [e, if_pos rfl, ar_pos ⟨by omega, by omega⟩, show (i : Int) + 1 = ((i + 1 : Nat) : Int) by omega]
      refine ⟨fun ⟨k, g, q1, q2, q3⟩ => n1 ⟨k, g, ?_, q2, q3⟩, fun z => n2 (fun ⟨k, g, q1, q2⟩ => z ⟨k, g, by omega, q2⟩)⟩
      by_cases hki : k = i
      · rw [hki, gi] at q2
        rw [← Option.some.inj q2] at q3
        exact absurd q3 q
      · omega
def stdS (Kl : List Nat) (t : Nat) : Prop := ∃ f ∈ Kl, subT t f
theorem rX1_stands {d : Nat} (hd : 2 ≤ d) {ν : Nat → Nat} {c : Nat} {u : Sg} {Kl : List Nat} {y : Nat} (hs : SC ν c u) (hn9 : nC u ≤ 90000) (hk : KnS ν u Kl) (hKl : Kl.length ≤ 2500) (hy : y < nC u) (hf : ∀ f ∈ Kl, okT f ∧ 4 + htT f ≤ d) : Yq (runC (d + 1) 53 [(y : Int)] u) u (stdS Kl (trC ν u y)) := by
  rw [runC_eq (by omega)]
  show Yq (bX1_stands (runC d) y u) u _
  unfold bX1_stands
  have key := @stands_L2 d ν c u Kl y hs hn9 hk hKl hy hf
  refine ⟨fun ⟨f, f1, f2⟩ => ?_, fun q => ?_⟩
  · obtain ⟨k, hk'⟩ := List.getElem?_of_mem f1
    exact (key Kl.length 0 KF (by omega) (Nat.lt_of_le_of_lt (by omega : _ ≤ 65536) KF_gt)).1 ⟨k, f, Nat.zero_le _, hk', f2⟩
  · exact (key Kl.length 0 KF (by omega) (Nat.lt_of_le_of_lt (by omega : _ ≤ 65536) KF_gt)).2 (fun ⟨k, f, _, q2, q3⟩ => q ⟨f, List.mem_of_getElem? q2, q3⟩)
/-- two places of a list changed -/
theorem swap_ex {H : List Nat} {n i : Nat} (hn : n < H.length) (hi : i < H.length) : ∃ H' : List Nat, H'.length = H.length ∧ ∀ j : Nat, H'[j]? = if j = i then H[n]? else if j = n then H[i]? else H[j]? := by
  refine ⟨(H.set n H[i]).set i H[n], by simp, fun j => ?_⟩
  rw [List.getElem?_set, List.getElem?_set]
  by_cases q : i = j
  · rw [if_pos q, if_pos q.symm, if_pos (by rw [List.length_set]; omega), List.getElem?_eq_getElem hn]
  · rw [if_neg q, if_neg (show ¬ j = i from fun z => q z.symm)]
    by_cases z : n = j
    · rw [if_pos z, if_pos z.symm, if_pos hn, List.getElem?_eq_getElem hi]
    · rw [if_neg z, if_neg (show ¬ j = n from fun w => z w.symm)]
theorem swap_mem {H H' : List Nat} {n i : Nat} (hn : n < H.length) (hi : i < H.length) (h : ∀ j : Nat, H'[j]? = if j = i then H[n]? else if j = n then H[i]? else H[j]?) (t : Nat) : t ∈ H' ↔ t ∈ H := by
  constructor
  · intro q
    obtain ⟨j, hj⟩ := List.getElem?_of_mem q
    rw [h j] at hj
    split at hj
    · exact List.mem_of_getElem? hj
    · split at hj <;> exact List.mem_of_getElem? hj
  · intro q
    obtain ⟨j, hj⟩ := List.getElem?_of_mem q
    by_cases a : j = i
    · by_cases b : n = i
      · exact List.mem_of_getElem? (i := i) (by rw [h i, if_pos rfl, b, ← a]; exact hj)
      · exact List.mem_of_getElem? (i := n) (by rw [h n, if_neg b, if_pos rfl, ← a]; exact hj)
    · by_cases b : j = n
      · exact List.mem_of_getElem? (i := i) (by rw [h i, if_pos rfl, ← b]; exact hj)
      · exact List.mem_of_getElem? (i := j) (by rw [h j, if_neg a, if_neg b]; exact hj)
theorem swap_nd {H H' : List Nat} {n i : Nat} (hl : H'.length = H.length) (hn : n < H.length) (hi : i < H.length) (h : ∀ j : Nat, H'[j]? = if j = i then H[n]? else if j = n then H[i]? else H[j]?) (hd : H.Nodup) : H'.Nodup := by
  refine List.pairwise_iff_getElem.mpr (fun a b ha hb hab e0 => ?_)
  have e : H'[a]? = H'[b]? := by rw [List.getElem?_eq_getElem ha, List.getElem?_eq_getElem hb, e0]
  rw [h a, h b] at e
  have inj : ∀ x y : Nat, x < H.length → H[x]? = H[y]? → x = y := fun x y hx q => (List.getElem?_inj hx hd).mp q
  by_cases a1 : a = i
  · rw [if_pos a1, if_neg (by omega)] at e
    by_cases b1 : b = n
    · rw [if_pos b1] at e
      have := inj n i hn e
      omega
    · rw [if_neg b1] at e
      have := inj n b hn e
      omega
  · rw [if_neg a1] at e
    by_cases a2 : a = n
    · rw [if_pos a2] at e
      by_cases b1 : b = i
      · rw [if_pos b1] at e
        have := inj i n hi e
        omega
      · rw [if_neg b1, if_neg (by omega)] at e
        have := inj i b hi e
        omega
    · rw [if_neg a2] at e
      by_cases b1 : b = i
      · rw [if_pos b1] at e
        have := inj a n (by omega) e
        omega
      · rw [if_neg b1] at e
        by_cases b2 : b = n
        · rw [if_pos b2] at e
          have := inj a i (by omega) e
          omega
        · rw [if_neg b2] at e
          have := inj a b (by omega) e
          omega
def idP (p : Nat → Nat) (n : Nat) : Prop := ∀ i, i < n → p i = i
theorem eqL_id {H : List Nat} {p : Nat → Nat} (h : idP p H.length) (hd : DecP p H.length) (s t : Nat) : eqL H p s t ↔ s = t ∧ s ∈ H := by
  have hr : ∀ i, i < H.length → rt p i = i := fun i hi => by rw [rt_eq hd hi, if_pos (h i hi)]
  constructor
  · rintro ⟨i, j, h1, h2, e⟩
    have a := (List.getElem?_eq_some_iff.mp h1).1
    have b := (List.getElem?_eq_some_iff.mp h2).1
    rw [hr i a, hr j b] at e
    rw [e, h2] at h1
    exact ⟨(Option.some.inj h1).symm, List.mem_of_getElem? (by rw [h2, Option.some.inj h1])⟩
  · rintro ⟨e, hm⟩
    obtain ⟨i, hi⟩ := List.getElem?_of_mem hm
    exact ⟨i, i, hi, by rw [← e]; exact hi, rfl⟩
