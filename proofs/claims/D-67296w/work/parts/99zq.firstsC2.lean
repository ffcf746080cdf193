def Dfi : Nat := 2 ^ 39 + 2 ^ 40
theorem CaP.swap {ν : Nat → Nat} {c : Nat} {W : Wd} {S : Fs} {Kl : List Nat} {u : Sg} {H H' : List Nat} {p : Nat → Nat} {M : List (Nat × Nat × Nat)} {J : List (Nat × Nat)} {n i tn un : Nat} (hC : CaP ν c W S Kl u H p M J) (hid : idP p H.length) (hn : n < H.length) (hi : i < H.length) (t1 : gN u 40 i = (tn : Int)) (u1 : gN u 40 n = (un : Int)) (hl : H'.length = H.length) (hsw : ∀ j : Nat, H'[j]? = if j = i then H[n]? else if j = n then H[i]? else H[j]?) : CaP ν c W S Kl (sA (sA (sA (sA u 40 (n : Int) (tn : Int)) 40 (i : Int) (un : Int)) 39 (tn : Int) (n : Int)) 39 (un : Int) (i : Int)) H' p M J ∧ Gr FC Dfi u (sA (sA (sA (sA u 40 (n : Int) (tn : Int)) 40 (i : Int) (un : Int)) 39 (tn : Int) (n : Int)) 39 (un : Int) (i : Int)) := by
  have hmem := swap_mem hn hi hsw
  obtain ⟨h1, h2, ⟨h3, h3b⟩, h4, h5, h6, h7, ⟨h8, h9⟩, h10, h11⟩ := hC
  have hs := h1.1
  obtain ⟨⟨a1, a2, a3, a4⟩, ⟨b1, b2, b3, b4, b5⟩, c3, c4, c5, c6, c7⟩ := h3
  obtain ⟨x, x1, x2, x3, x4, x5, x6, x7⟩ := c4 i _ (List.getElem?_eq_getElem hi)
  obtain ⟨y, y1, y2, y3, y4, y5, y6, y7⟩ := c4 n _ (List.getElem?_eq_getElem hn)
  have ex : x = tn := by omega
  have ey : y = un := by omega
  subst ex
  subst ey
  have hne : n ≠ i → x ≠ y := fun q e => q (by rw [e] at x7; omega)
  have hsame : n = i → x = y := fun q => by rw [q] at y1; omega
  generalize es : sA (sA (sA (sA u 40 (n : Int) (x : Int)) 40 (i : Int) (y : Int)) 39 (x : Int) (n : Int)) 39 (y : Int) (i : Int) = s
  have w : WF FC s := by
    rw [← es]
    exact wfA (wfA (wfA (wfA h2 rfl ⟨by omega, by omega⟩) rfl ⟨by omega, by omega⟩) rfl ⟨by omega, by omega⟩) rfl ⟨by omega, by omega⟩
  have G : Gr FC Dfi u s := by
    rw [← es]
    exact (Gr_sA (by decide +kernel)).tr ((Gr_sA (by decide +kernel)).tr ((Gr_sA (by decide +kernel)).tr (Gr_sA (by decide +kernel))))
  refine ⟨?_, G⟩
  obtain ⟨e, hU⟩ := G.ux (X := fun _ => False) hs (by decide +kernel)
  have L : ∀ j, gL s j = gL u j := fun j => by rw [← es, gL_sA, gL_sA, gL_sA, gL_sA]
  have I : ∀ j, gI s j = gI u j := fun j => by rw [← es]; rfl
  have N42 : ∀ z, gN s 42 z = gN u 42 z := G.N 42 (by decide +kernel)
  have N40 : ∀ j, gN s 40 j = if j = i then (y : Int) else if j = n then (x : Int) else gN u 40 j := fun j => by
    rw [← es, gN_sAn, if_neg (by omega), gN_sAn, if_neg (by omega), gN_sAn]
    by_cases q : j = i
    · rw [if_pos ⟨rfl, q⟩, if_pos q]
    · rw [if_neg (fun z => q z.2), if_neg q, gN_sAn]
      by_cases r : j = n
      · rw [if_pos ⟨rfl, r⟩, if_pos r]
      · rw [if_neg (fun z => r z.2), if_neg r]
  have N39 : ∀ z, gN s 39 z = if z = y then (i : Int) else if z = x then (n : Int) else gN u 39 z := fun z => by
    rw [← es, gN_sAn]
    by_cases q : z = y
    · rw [if_pos ⟨rfl, q⟩, if_pos q]
    · rw [if_neg (fun w => q w.2), if_neg q, gN_sAn]
      by_cases r : z = x
      · rw [if_pos ⟨rfl, r⟩, if_pos r]
      · rw [if_neg (fun w => r w.2), if_neg r, gN_sAn, if_neg (by omega), gN_sAn, if_neg (by omega)]
  have hid' : idP p H'.length := by rw [hl]; exact hid
  have hd' : DecP p H'.length := by rw [hl]; exact c7
  refine ⟨h1.up hU.ux G (by decide +kernel), w, ⟨⟨⟨by rw [I, hl]; exact a1, by omega, by rw [L]; exact a3, by rw [L]; exact a4⟩, ⟨by rw [L, L]; exact b1, by rw [L, L]; exact b2, by rw [L, L]; exact b3, by rw [L]; exact b4, by rw [L]; exact b5⟩, swap_nd hl hn hi hsw c3, fun j t hj => ?_, fun z hz => ⟨by rw [N42, I]; exact (c5 z (by rw [L] at hz; exact hz)).1, fun he => ?_⟩, fun j hj => by rw [G.N 41 (by decide +kernel)]; exact c6 j (by omega), hd'⟩, by rw [I]; exact h3b⟩, h4.up hs hU.ux G (by decide +kernel) (by decide +kernel) (by decide +kernel) (by decide +kernel), h5.up hs hU.ux G (by decide +kernel) (by decide +kernel) (by decide +kernel), fun t ht => h6 t ((hmem t).mp ht), fun s' t' q => ?_, ⟨h8, fun q hq => ?_⟩, h10, fun q hq => ?_⟩
  · rw [hsw j] at hj
    by_cases q : j = i
    · rw [if_pos q, List.getElem?_eq_getElem hn] at hj
      refine ⟨y, by rw [N40, if_pos q], y2, by rw [e.n]; exact y3, by rw [e.tr, y4]; exact Option.some.inj hj, by rw [L]; exact y5, by rw [N42, I]; exact y6, by rw [N39, if_pos rfl, q]⟩
    · rw [if_neg q] at hj
      by_cases r : j = n
      · rw [if_pos r, List.getElem?_eq_getElem hi] at hj
        refine ⟨x, by rw [N40, if_neg q, if_pos r], x2, by rw [e.n]; exact x3, by rw [e.tr, x4]; exact Option.some.inj hj, by rw [L]; exact x5, by rw [N42, I]; exact x6, by rw [N39, if_neg (hne (by omega)), if_pos rfl, r]⟩
      · rw [if_neg r] at hj
        obtain ⟨z, z1, z2, z3, z4, z5, z6, z7⟩ := c4 j t hj
        have n1 : z ≠ y := fun w => r (by rw [w] at z7; omega)
        have n2 : z ≠ x := fun w => q (by rw [w] at z7; omega)
        exact ⟨z, by rw [N40, if_neg q, if_neg r]; exact z1, z2, by rw [e.n]; exact z3, by rw [e.tr]; exact z4, by rw [L]; exact z5, by rw [N42, I]; exact z6, by rw [N39, if_neg n1, if_neg n2]; exact z7⟩
  · rw [L] at hz
    rw [N42, I] at he
    obtain ⟨j, j1, j2⟩ := (c5 z hz).2 he
    by_cases q : j = i
    · by_cases r : n = i
      · exact ⟨i, by omega, by rw [N40, if_pos rfl, ← hsame r, ← x1, ← q]; exact j2⟩
      · exact ⟨n, by omega, by rw [N40, if_neg r, if_pos rfl, ← x1, ← q]; exact j2⟩
    · by_cases r : j = n
      · exact ⟨i, by omega, by rw [N40, if_pos rfl, ← y1, ← r]; exact j2⟩
      · exact ⟨j, by omega, by rw [N40, if_neg q, if_neg r]; exact j2⟩
  · rw [eqL_id hid' hd'] at q
    exact h7 s' t' ((eqL_id hid c7 s' t').mpr ⟨q.1, (hmem s').mp q.2⟩)
  · obtain ⟨q1, q2, q3⟩ := h9 q hq
    refine ⟨(hmem _).mpr q1, q2, ?_⟩
    unfold ALM at q3 ⊢
    rcases List.mem_append.mp q3 with z | z
    · obtain ⟨a, z1, z2⟩ := List.mem_flatMap.mp z
      exact List.mem_append_left _ (List.mem_flatMap.mpr ⟨a, (hmem a).mpr z1, z2⟩)
    · exact List.mem_append_right _ z
  · obtain ⟨q1, q2⟩ := h11 q hq
    exact ⟨(hmem _).mpr q1, q2⟩
theorem firstsOf_L4 {d : Nat} (hd : 4 ≤ d) {ν : Nat → Nat} {c : Nat} {W : Wd} {S : Fs} {Kl Kn : List Nat} {p : Nat → Nat} {M : List (Nat × Nat × Nat)} {J : List (Nat × Nat)} {u0 : Sg} {H0 : List Nat} {Q : Int → Sg → Prop} (hs0 : SC ν c u0) (hn9 : nC u0 ≤ 90000) (hk0 : KnS ν u0 Kn) (hKn : Kn.length ≤ 2500) (hf : ∀ f ∈ Kn, okT f ∧ 5 + htT f ≤ d) (hid : idP p H0.length) : ∀ (m i n fu : Nat) (u : Sg) (H : List Nat), i + m = H0.length → m < fu → n ≤ i → CaP ν c W S Kl u H p M J → Gr FC Dfi u0 u → H.length = H0.length → (∀ t, t ∈ H ↔ t ∈ H0) → (∀ (j t : Nat), j < n → H[j]? = some t → stdS Kn t) → (∀ (j t : Nat), n ≤ j → j < i → H[j]? = some t → ¬ stdS Kn t) → ∀ xx : Int → Sg → Option (Int × Sg), (∀ (u2 : Sg) (H2 : List Nat) (n2 : Nat), CaP ν c W S Kl u2 H2 p M J → Gr FC Dfi u0 u2 → H2.length = H0.length → (∀ t, t ∈ H2 ↔ t ∈ H0) → n2 ≤ H0.length → (∀ (j t : Nat), H2[j]? = some t → (j < n2 ↔ stdS Kn t)) → wp (xx (n2 : Int) u2) Q) → wp (bX1_firstsOf_L4 (runC d) fu (n : Int) (i : Int) u xx) Q := by
  intro m
  induction m with
  | zero =>
    intro i n fu u H hi hfu hni hC hg hl hm h1 h2 xx k
    obtain ⟨fu, rfl⟩ : ∃ f', fu = f' + 1 := ⟨fu - 1, by omega⟩
    have h43 : gI u 43 = (H.length : Int) := hC.2.2.1.1.1.1
    rw [bX1_firstsOf_L4, wp_un, h43, if_neg (by omega)]
    refine k u H n hC hg hl hm (by omega) (fun j t hj => ⟨fun q => h1 j t q hj, fun q => ?_⟩)
    refine Classical.byContradiction (fun z => h2 j t (by omega) ?_ hj q)
    have := (List.getElem?_eq_some_iff.mp hj).1
    omega
  | succ m ih =>
    intro i n fu u H hi hfu hni hC hg hl hm h1 h2 xx k
    obtain ⟨fu, rfl⟩ : ∃ f', fu = f' + 1 := ⟨fu - 1, by omega⟩
    have hH : HaC ν u H p := hC.2.2.1.1
    have h43 : gI u 43 = (H.length : Int) := hH.1.1
    have hs := hC.1.1
    obtain ⟨e, hU⟩ := hg.ux (X := fun _ => False) hs0 (by decide +kernel)
    have hk : KnS ν u Kn := hk0.fr hs0 hU.ux hg (by decide +kernel) (by decide +kernel) (by decide +kernel) (by decide +kernel)
    have hil : i < H.length := by omega
    have gi : H[i]? = some H[i] := List.getElem?_eq_getElem hil
    generalize et : H[i] = t at gi
    obtain ⟨tn, t1, t2, t3, t4, t5, t6, t7⟩ := hH.2.2.2.1 i t gi
    obtain ⟨d', rfl⟩ : ∃ d', d = d' + 1 := ⟨d - 1, by omega⟩
    have hst := rX1_stands (d := d') (by omega) hs (by rw [e.n]; exact hn9) hk hKn t3 (fun f q => ⟨(hf f q).1, by have := (hf f q).2; omega⟩)
    rw [t4] at hst
    have l40 := hH.1.2.2.1
    have hlen := hH.1.2.1
    rw [bX1_firstsOf_L4, wp_un, h43, if_pos (by omega), ld_nat (by omega), t1]
    by_cases hq : stdS Kn t
    · refine wp_eq (hst.1 hq) ?_
      obtain ⟨un, u1, u2, u3, u4, u5, u6, u7⟩ := hH.2.2.2.1 n _ (List.getElem?_eq_getElem (by omega : n < H.length))
      rw [if_neg (by decide), ld_nat (by omega), u1, stA_pos ⟨by omega, by omega⟩, stA_pos ⟨by omega, by rw [gL_sA]; omega⟩]
      have l39 := hH.2.1.1
      rw [stA_pos ⟨by omega, by rw [gL_sA, gL_sA]; omega⟩, stA_pos ⟨by omega, by rw [gL_sA, gL_sA, gL_sA]; omega⟩, wp_ar]
      refine ⟨⟨by omega, by omega⟩, ?_⟩
      rw [wp_ar]
      refine ⟨⟨by omega, by omega⟩, ?_⟩
      rw [show (i : Int) + 1 = ((i + 1 : Nat) : Int) by omega, show (n : Int) + 1 = ((n + 1 : Nat) : Int) by omega]
      obtain ⟨H', w1, w2⟩ := swap_ex (H := H) (n := n) (i := i) (by omega) hil
      obtain ⟨v1, v2⟩ := CaP.swap hC (by rw [hl]; exact hid) (by omega) hil t1 u1 w1 w2
      have hmem := swap_mem (by omega) hil w2
      refine ih (i + 1) (n + 1) fu _ H' (by omega) (by omega) (by omega) v1 (hg.tr v2) (by omega) (fun z => (hmem z).trans (hm z)) (fun j z q1 q2 => ?_) (fun j z q1 q2 q3 => ?_) xx k
      · rw [w2 j] at q2
        by_cases a : j = i
        · rw [if_pos a] at q2
          have : n = i := by omega
          rw [this, gi] at q2
          rw [← Option.some.inj q2]; exact hq
        · rw [if_neg a] at q2
          by_cases b : j = n
          · rw [if_pos b, gi] at q2
            rw [← Option.some.inj q2]; exact hq
          · rw [if_neg b] at q2
            exact h1 j z (by omega) q2
      · rw [w2 j] at q3
        by_cases a : j = i
        · rw [if_pos a] at q3
          exact h2 n z (Nat.le_refl _) (by omega) q3
        · rw [if_neg a, if_neg (by omega)] at q3
          exact h2 j z (by omega) (by omega) q3
    · refine wp_eq (hst.2 hq) ?_
      rw [if_pos rfl, wp_ar]
      refine ⟨⟨by omega, by omega⟩, ?_⟩
      rw [show (i : Int) + 1 = ((i + 1 : Nat) : Int) by omega]
      refine ih (i + 1) n fu u H (by omega) (by omega) (by omega) hC hg hl hm h1 (fun j z q1 q2 q3 => ?_) xx k
      by_cases a : j = i
      · rw [a, gi] at q3
        rw [← Option.some.inj q3]; exact hq
      · exact h2 j z q1 (by omega) q3
theorem tX1_firstsOf {d : Nat} (hd : 5 ≤ d) {ν : Nat → Nat} {c : Nat} {W : Wd} {S : Fs} {Kl Kn : List Nat} {p : Nat → Nat} {M : List (Nat × Nat × Nat)} {J : List (Nat × Nat)} {u : Sg} {H : List Nat} (hC : CaP ν c W S Kl u H p M J) (hn9 : nC u ≤ 90000) (hk : KnS ν u Kn) (hKn : Kn.length ≤ 2500) (hf : ∀ f ∈ Kn, okT f ∧ 6 + htT f ≤ d) (hid : idP p H.length) : wp (runC d 52 [] u) (fun r u' => ∃ (H' : List Nat) (n : Nat), r = (n : Int) ∧ CaP ν c W S Kl u' H' p M J ∧ Gr FC Dfi u u' ∧ H'.length = H.length ∧ (∀ t, t ∈ H' ↔ t ∈ H) ∧ n ≤ H.length ∧ ∀ (j t : Nat), H'[j]? = some t → (j < n ↔ stdS Kn t)) := by
  obtain ⟨d, rfl⟩ : ∃ d', d = d' + 1 := ⟨d - 1, by omega⟩
  rw [runC_eq (by omega)]
  show wp (bX1_firstsOf (runC d) u) _
  unfold bX1_firstsOf
  have hlen := hC.2.2.1.1.1.2.1
  refine firstsOf_L4 (H0 := H) (by omega) hC.1.1 hn9 hk hKn (fun f q => ⟨(hf f q).1, by have := (hf f q).2; omega⟩) hid H.length 0 0 KF u H (by omega) (Nat.lt_of_le_of_lt (by omega : _ ≤ 65536) KF_gt) (Nat.le_refl _) hC Gr.rf rfl (fun _ => Iff.rfl) (fun j t q => by omega) (fun j t q1 q2 => by omega) _ (fun u2 H2 n2 z1 z2 z3 z4 z5 z6 => ?_)
  rw [wp_some]
  exact ⟨H2, n2, rfl, z1, z2, z3, z4, z5, z6⟩
