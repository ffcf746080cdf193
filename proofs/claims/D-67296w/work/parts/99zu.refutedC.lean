/-! a case in the class: its start -/
theorem CaP.mono {ν : Nat → Nat} {c : Nat} {W : Wd} {S S' : Fs} {Kl Kl' : List Nat} {u : Sg} {H : List Nat} {p : Nat → Nat} {M : List (Nat × Nat × Nat)} {J : List (Nat × Nat)} (h : CaP ν c W S Kl u H p M J) (hS : subF S S') (hK : ∀ f ∈ Kl, f ∈ Kl') : CaP ν c W S' Kl' u H p M J := by
  obtain ⟨h1, h2, h3, h4, h5, h6, h7, ⟨h8, h9⟩, h10, h11⟩ := h
  obtain ⟨s1, s2, s3, s4⟩ := hS
  refine ⟨h1, h2, h3, h4, h5, fun t ht => ⟨(h6 t ht).1, s1 t (h6 t ht).2⟩, fun s t q => s2 s t (h7 s t q), ⟨h8, fun q hq => ?_⟩, h10, fun q hq => ?_⟩
  · obtain ⟨a, b, c1⟩ := h9 q hq
    refine ⟨a, s3 _ _ _ b, ?_⟩
    unfold ALM at c1 ⊢
    rcases List.mem_append.mp c1 with z | z
    · exact List.mem_append_left _ z
    · obtain ⟨f, f1, f2⟩ := List.mem_flatMap.mp z
      obtain ⟨f3, f4⟩ := List.mem_filter.mp f1
      exact List.mem_append_right _ (List.mem_flatMap.mpr ⟨f, List.mem_filter.mpr ⟨hK f f3, f4⟩, f2⟩)
  · obtain ⟨a, b, c1⟩ := h11 q hq
    exact ⟨a, b, s4 _ _ c1⟩
def Dst : Nat := 2 ^ 35 + 2 ^ 36 + 2 ^ 43 + 2 ^ 45 + 2 ^ 51 + 2 ^ 52
/-- an empty case -/
theorem case_st {ν : Nat → Nat} {c : Nat} {W : Wd} {u s : Sg} (hC : CW ν c W u) (hA : ArrC u) (hrun : 0 ≤ gI u 36) (hw : WF FC s) (g : Gr FC Dst u s) (L : ∀ k, gL s k = gL u k) (N : ∀ k i, gN s k i = gN u k i) (i36 : gI s 36 = gI u 36 + 1) (i35 : gI s 35 = 0) (i43 : gI s 43 = 0) (i51 : gI s 51 = 0) (i52 : gI s 52 = 0) (S : Fs) (Kl : List Nat) : CaL ν c W S Kl s ([], fun i => i, [], []) ∧ KnS ν s [] ∧ OpC ν s [] ∧ EqS u s := by
  obtain ⟨⟨a1, a2⟩, ⟨b1, b2, b3, b4⟩, c1, ⟨d1, d2, d3, d4⟩, ⟨e1, e2, e3⟩, hK, hT, _⟩ := hA
  have hs := hC.1
  obtain ⟨e, hU⟩ := g.ux (X := fun _ => False) hs (by decide +kernel)
  have nil : ∀ (i t : Nat), ([] : List Nat)[i]? = some t → False := fun i t h => by simp at h
  refine ⟨⟨hC.up hU.ux g (by decide +kernel), hw, ⟨⟨⟨by rw [i43]; rfl, by simp, by rw [L]; exact a1, by rw [L]; exact a2⟩, ⟨by rw [L, L]; exact b1, by rw [L, L]; exact b2, by rw [L, L]; exact b3, by rw [L]; exact b4, by rw [L]; omega⟩, List.nodup_nil, fun i t h => (nil i t h).elim, fun x hx => ?_, (fun i hi => absurd hi (Nat.not_lt_zero i)), (fun i hi => absurd hi (Nat.not_lt_zero i))⟩, by rw [i36]; omega⟩, ⟨⟨by rw [i51]; rfl, by simp, by rw [L, L]; exact d1, by rw [L, L]; exact d2, by rw [L]; exact d3, by rw [L]; exact d4⟩, (fun k t m a h => by simp at h)⟩, ⟨⟨by rw [i52]; rfl, by simp, by rw [L, L]; exact e1, by rw [L]; exact e2, by rw [L]; exact e3⟩, (fun k t j h => by simp at h)⟩, (fun t ht => absurd ht List.not_mem_nil), (fun s' t' q => by obtain ⟨i, j, q1, _⟩ := q; exact (nil i s' q1).elim), ⟨List.nodup_nil, (fun q hq => absurd hq List.not_mem_nil)⟩, List.nodup_nil, (fun q hq => absurd hq List.not_mem_nil)⟩, ⟨⟨by rw [i35]; rfl, by simp⟩, List.nodup_nil, fun i t h => (nil i t h).elim, fun x hx => ?_⟩, ⟨fun x hx => ?_, (fun f hf => absurd hf List.not_mem_nil)⟩, e⟩
  · rw [N, i36]
    have := c1 42 (by omega) x (by rw [L] at hx; exact hx)
    exact ⟨by omega, fun q => by omega⟩
  · rw [N, i36]
    have := c1 37 (by omega) x (by rw [L] at hx; exact hx)
    exact ⟨by omega, fun q => by omega⟩
  · rw [N, i36]
    have := c1 38 (by omega) x (by rw [L] at hx; exact hx)
    exact ⟨by omega, fun q => by omega⟩
/-- the formulas of a case -/
def CrC (ν : Nat → Nat) (u : Sg) (L : List Nat) : Prop := L.length ≤ gL u 60 ∧ ∀ (i f : Nat), L[i]? = some f → ∃ x : Nat, gN u 60 i = (x : Int) ∧ 0 < x ∧ x < nC u ∧ trC ν u x = f
theorem refuted_L37 {d : Nat} (hd : 4 ≤ d) {ν : Nat → Nat} {c : Nat} {W : Wd} {S : Fs} {X : Nat → Prop} {Kl : List Nat} {l : Ls} {Cl Bl Ol L : List Nat} {c0 fi : Nat} {ν0 : Nat → Nat} {u0 : Sg} {Q : Int → Sg → Prop} (hl : Lim ν0 u0 X) (hlen : ∀ l' : List Nat, l'.Nodup → (∀ f ∈ l', f ∈ L) → l'.length ≤ 2500) (hL3 : L.length ≤ 60000) : ∀ (m i fu : Nat) (u : Sg) (Kn : List Nat), i + m = L.length → m < fu → RkI ν c W S X Kl l Kn Cl Bl Ol c0 fi ν0 u0 u → CrC ν u L → gI u 45 = 0 → (∀ f, f ∈ Kn ↔ ∃ j : Nat, j < i ∧ L[j]? = some f) → ∀ xx : Sg → Option (Int × Sg), (∀ (u2 : Sg) (Kn2 : List Nat), RkI ν c W S X Kl l Kn2 Cl Bl Ol c0 fi ν0 u0 u2 → gI u2 45 = 0 → (∀ f, f ∈ Kn2 ↔ f ∈ L) → wp (xx u2) Q) → wp (bX1_refuted_L37 (runC d) fu (L.length : Int) (i : Int) u xx) Q := by
  intro m
  induction m with
  | zero =>
    intro i fu u Kn hi hf hR hC hb hm xx k
    obtain ⟨fu, rfl⟩ : ∃ f', fu = f' + 1 := ⟨fu - 1, by omega⟩
    rw [bX1_refuted_L37, if_neg (by omega)]
    refine k u Kn hR hb (fun f => ?_)
    rw [hm f]
    constructor
    · exact fun ⟨j, _, hj⟩ => List.mem_of_getElem? hj
    · intro q
      obtain ⟨j, hj⟩ := List.getElem?_of_mem q
      exact ⟨j, by have := (List.getElem?_eq_some_iff.mp hj).1; omega, hj⟩
  | succ m ih =>
    intro i fu u Kn hi hf hR hC hb hm xx k
    obtain ⟨fu, rfl⟩ : ∃ f', fu = f' + 1 := ⟨fu - 1, by omega⟩
    have hil : i < L.length := by omega
    have gi : L[i]? = some L[i] := List.getElem?_eq_getElem hil
    generalize ef : L[i] = f at gi
    have hs := hR.1.1.1
    obtain ⟨x, x1, x2, x3, x4⟩ := hC.2 i f gi
    have hbd := (hR.2.2.2.2.2.1.lim hl).n hs
    have hc1 := hC.1
    have hKn := hlen Kn hR.2.1.2.1 (fun f hf => by obtain ⟨j, _, hj⟩ := (hm f).mp hf; exact List.mem_of_getElem? hj)
    rw [bX1_refuted_L37, if_pos (by omega), ld_nat (by omega), x1]
    refine wp_call (rk_know hd hR hKn x2 x3 (by omega)) (fun r u1 ⟨a1, a2, a3, a4⟩ => ?_)
    rw [wp_ar]
    refine ⟨⟨by omega, by omega⟩, ?_⟩
    rw [show (i : Int) + 1 = ((i + 1 : Nat) : Int) by omega]
    rw [x4] at a1
    obtain ⟨b1, b2, b3⟩ := a4 60 (by decide +kernel)
    refine ih (i + 1) fu u1 _ (by omega) (by omega) a1 ⟨by rw [b2]; exact hC.1, fun j g hj => ?_⟩ (by rw [a3]; exact hb) (fun g => ?_) xx k
    · obtain ⟨y, y1, y2, y3, y4⟩ := hC.2 j g hj
      exact ⟨y, by rw [b3]; exact y1, y2, by rw [a2.n]; exact y3, by rw [a2.tr]; exact y4⟩
    · have hadd : (∃ j : Nat, j < i + 1 ∧ L[j]? = some g) ↔ (∃ j : Nat, j < i ∧ L[j]? = some g) ∨ g = f := by
        constructor
        · rintro ⟨j, j1, j2⟩
          by_cases q : j = i
          · rw [q, gi] at j2; exact Or.inr (Option.some.inj j2).symm
          · exact Or.inl ⟨j, by omega, j2⟩
        · rintro (⟨j, j1, j2⟩ | q)
          · exact ⟨j, by omega, j2⟩
          · exact ⟨i, by omega, by rw [q]; exact gi⟩
      rw [hadd, ← hm g]
      by_cases q : f ∈ Kn
      · rw [if_pos q]
        exact ⟨Or.inl, fun z => z.elim id (fun e => by rw [e]; exact q)⟩
      · rw [if_neg q, List.mem_append, List.mem_singleton]
