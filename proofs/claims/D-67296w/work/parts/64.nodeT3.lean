theorem IT.hand {u : Sg} (h : IT u) {a : Nat} (ha : a ≤ gL u 12) : IT (sI u 13 (a : Int)) ∧ hT (sI u 13 (a : Int)) = a := by
  have er : hT (sI u 13 (a : Int)) = a := by unfold hT; rw [gI_sI, if_pos rfl]; omega
  obtain ⟨⟨⟨q1, q2⟩, ⟨q3, q4⟩, ⟨q5, q6⟩, l⟩, h2, h3, h4, h5⟩ := h
  exact ⟨⟨⟨⟨q1, q2⟩, ⟨q3, q4⟩, ⟨by rw [er, gI_sI, if_pos rfl], by rw [er]; show a ≤ gL u 12; omega⟩, l⟩, h2, h3, h4, h5⟩, er⟩
theorem rX3_node {d : Nat} (hd : 6 ≤ d) {u : Sg} {k : Int} {a : Nat} (hI : IT u) (ha : a ≤ hT u) (hk : okR (k, rowH u a)) (hnn : ∀ v ∈ rowH u a, 0 ≤ v) (hfm : ∀ p ∈ fptT (k, rowH u a), p ≤ (nT u : Int)) (hb : k = 1 → ∀ v ∈ rowH u a, v < 1000000) (hN : nT u + 1 < 131072) (hP : dT u + (hT u - a) < 524288) :
    wp (runT d 5 [k, (a : Int)] u) (fun r u' => ∃ x : Nat, r = (x : Int) ∧ MkT u (k, rowH u a) x u' ∧ hT u' = a ∧ gL u' 12 = gL u 12 ∧ ∀ i, gN u' 12 i = gN u 12 i) := by
  have hI' := hI
  obtain ⟨h1, h2, h3, h4, h5⟩ := hI'
  have h1' := h1
  obtain ⟨⟨q1, q2⟩, ⟨q3, q4⟩, ⟨q5, q6⟩, ⟨l2, l3, l4, l5, l6, l7⟩, l11, l12, lo1, lo9⟩ := h1'
  have hbr := hshT_rng (k, rowH u a)
  have hKF : 200000 < KF := by decide
  obtain ⟨d, rfl⟩ : ∃ d', d = d' + 1 := ⟨d - 1, by omega⟩
  rw [runT_eq (by omega)]
  show wp (bX3_node (runT d) k a u) _
  unfold bX3_node
  rw [wp_un, wp_ar, q5]
  refine ⟨⟨by omega, by omega⟩, ?_⟩
  rw [show (hT u : Int) - (a : Int) = ((hT u - a : Nat) : Int) by omega, node_L13 h1 l12.2 (hT u - a) KF a k (by omega) (by omega), wp_un, wp_un, wp_un, wp_ar, l11]
  refine ⟨⟨by omega, by omega⟩, ?_⟩
  rw [wp_un, show (((8192 : Nat) : Int) - 1) = 8191 by decide, show o_and (o_xor (hfold k (rowH u a)) (o_ushr (hfold k (rowH u a)) 13)) 8191 = hshT (k, rowH u a) from rfl, wp_ld]
  refine ⟨⟨hbr.1, by omega⟩, ?_⟩
  have htop := h3.1 (hshT (k, rowH u a)).toNat (by omega)
  rw [show (((hshT (k, rowH u a)).toNat : Nat) : Int) = hshT (k, rowH u a) by omega] at htop
  rw [show gA u 11 (hshT (k, rowH u a)) = gN u 11 (hshT (k, rowH u a)).toNat from rfl]
  generalize hbe : hshT (k, rowH u a) = b at *
  rcases node_L70 (d := d) hI ha hbe.symm (nT u + 1) KF _ (Nat.le_refl _) (by omega) htop _ _ with ⟨e, hnew⟩ | ⟨z, z0, zn, ze, e⟩
  · rw [e]
    rw [wp_un, q1, wrap_id ⟨by omega, by omega⟩, wp_un, wp_un]
    have hu1 : ∀ j, gI (sI u 8 ((nT u : Int) + 1)) j = if j = 8 then (nT u : Int) + 1 else gI u j := fun j => gI_sI _ _ _ _
    rw [wp_un, hu1, if_pos rfl, show ((nT u : Int) + 1) = ((nT u + 1 : Nat) : Int) by omega]
    have g8 : ∀ {L m : Nat} {s : Sg}, PT (sI u 8 ((nT u + 1 : Nat) : Int)) (gL u 1) L m s → gI s 8 = ((nT u + 1 : Nat) : Int) := fun h => by rw [h.2.2, gI_sI, if_pos rfl]
    refine mor_st (u := sI u 8 ((nT u + 1 : Nat) : Int)) (m := 0) (N := gL u 1) ⟨fun j => by rw [if_neg (by omega)], fun j x => ⟨fun _ => rfl, fun _ => rfl⟩, fun _ => rfl⟩ (by omega) rfl (by omega) (by omega) (by omega) (fun s1 g => ?_)
    rw [wp_un, g8 g]
    refine mor_st g (by omega) (by show gL u 2 = _; omega) (by omega) (by omega) (by omega) (fun s2 g => ?_)
    rw [wp_un, g8 g]
    refine mor_st g (by omega) (by show gL u 3 = _; omega) (by omega) (by omega) (by omega) (fun s3 g => ?_)
    rw [wp_un, g8 g]
    refine mor_st g (by omega) (by show gL u 4 = _; omega) (by omega) (by omega) (by omega) (fun s4 g => ?_)
    rw [wp_un, g8 g]
    refine mor_st g (by omega) (by show gL u 5 = _; omega) (by omega) (by omega) (by omega) (fun s5 g => ?_)
    rw [wp_un, g8 g]
    refine mor_st g (by omega) (by show gL u 6 = _; omega) (by omega) (by omega) (by omega) (fun s6 g => ?_)
    rw [wp_un, g8 g]
    refine mor_st g (by omega) (by show gL u 7 = _; omega) (by omega) (by omega) (by omega) (fun s7 g => ?_)
    have eL1 : ∀ j, 1 ≤ j → j ≤ 7 → gL s7 j = grT (gL u 1) (nT u + 1) := fun j j1 j7 => by rw [g.1, if_pos ⟨j1, by omega⟩]
    have eL9 : gL s7 9 = gL u 9 := by rw [g.1, if_neg (by omega)]; rfl
    have eI : ∀ j, j ≠ 8 → gI s7 j = gI u j := fun j hj => by rw [g.2.2, gI_sI, if_neg hj]
    have eG1 : nT u + 1 < grT (gL u 1) (nT u + 1) := by unfold grT; split <;> omega
    have eG2 : grT (gL u 1) (nT u + 1) = 8192 ∨ grT (gL u 1) (nT u + 1) = 16384 ∨ grT (gL u 1) (nT u + 1) = 32768 ∨ grT (gL u 1) (nT u + 1) = 65536 ∨ grT (gL u 1) (nT u + 1) = 131072 := by unfold grT; split <;> omega
    rw [wp_un, wp_un, eI 10 (by decide), q3, wrap_id ⟨by omega, by omega⟩, show (dT u : Int) + ((hT u - a : Nat) : Int) = ((dT u + (hT u - a) : Nat) : Int) by omega]
    -- the rest, when there is room
    have rest : ∀ s : Sg, (∀ j, j ≠ 9 → gL s j = gL s7 j) → dT u + (hT u - a) < gL s 9 → (gL s 9 = 32768 ∨ gL s 9 = 65536 ∨ gL s 9 = 131072 ∨ gL s 9 = 262144 ∨ gL s 9 = 524288) → (∀ j, gI s j = gI s7 j) → (∀ j x, (j = 9 → x < dT u → gN s j x = gN s7 j x) ∧ (j ≠ 9 → gN s j x = gN s7 j x)) →
        wp (un (gI s 8) fun v39 => stA s 1 v39 k fun s40 => un (gI s40 8) fun v41 => un (gI s40 10) fun v42 => stA s40 2 v41 v42 fun s43 => un (gI s43 8) fun v44 => stA s43 3 v44 ((hT u - a : Nat) : Int) fun s45 => bX3_node_L339 (runT d) KF (a : Int) ((hT u - a : Nat) : Int) b 0 s45 (fun v47 v48 v49 s46 => un (gI s46 10) fun v50 => un (wrap (v50 + v48)) fun v51 => un (sI s46 10 v51) fun s52 => un (sI s52 13 v47) fun s53 => un (gI s53 8) fun v54 => ld s53 11 v49 fun v55 => stA s53 6 v54 v55 fun s56 => un (gI s56 8) fun v57 => stA s56 7 v57 v49 fun s58 => un (gI s58 8) fun v59 => stA s58 11 v49 v59 fun s60 => un (gI s60 8) fun v61 => cl (runT d 6 [v61] s60) fun v62 s63 => un (gI s63 8) fun v64 => some (v64, s63)))
          (fun r u' => ∃ x : Nat, r = (x : Int) ∧ MkT u (k, rowH u a) x u' ∧ hT u' = a ∧ gL u' 12 = gL u 12 ∧ ∀ i, gN u' 12 i = gN u 12 i) := by
      intro s sL s9 s9o sI0 sN0
      have I8 : gI s 8 = ((nT u + 1 : Nat) : Int) := by rw [sI0, g8 g]
      have I10 : gI s 10 = (dT u : Int) := by rw [sI0, eI 10 (by decide), q3]
      have sl : ∀ j, 1 ≤ j → j ≤ 7 → gL s j = grT (gL u 1) (nT u + 1) := fun j j1 j7 => by rw [sL j (by omega), eL1 j j1 j7]
      have sl11 : gL s 11 = 8192 := by rw [sL 11 (by decide), g.1, if_neg (by omega)]; exact l11
      have sl12 : gL s 12 = gL u 12 := by rw [sL 12 (by decide), g.1, if_neg (by omega)]; rfl
      have so : ∀ j x, x ≤ nT u → j ≠ 9 → gN s j x = gN u j x := fun j x hx hj => by rw [(sN0 j x).2 hj]; exact (g.2.1 j x).1 (by omega)
      have so2 : ∀ j x, ¬ (1 ≤ j ∧ j ≤ 7) → j ≠ 9 → gN s j x = gN u j x := fun j x hj h9 => by rw [(sN0 j x).2 h9]; exact (g.2.1 j x).2 hj
      have so9 : ∀ x, x < dT u → gN s 9 x = gN u 9 x := fun x hx => by rw [(sN0 9 x).1 rfl hx]; exact (g.2.1 9 x).2 (by omega)
      rw [wp_un, I8, wp_stA, sl 1 (by omega) (by omega)]
      refine ⟨⟨by omega, by omega⟩, ?_⟩
      rw [wp_un, wp_un, gI_sA, gI_sA, I8, I10, wp_stA, gL_sA, sl 2 (by omega) (by omega)]
      refine ⟨⟨by omega, by omega⟩, ?_⟩
      rw [wp_un, gI_sA, gI_sA, I8, wp_stA, gL_sA, gL_sA, sl 3 (by omega) (by omega)]
      refine ⟨⟨by omega, by omega⟩, ?_⟩
      rw [show (0 : Int) = ((0 : Nat) : Int) from rfl, node_L339 (d := d) (a := a) (n := hT u - a) (P0 := dT u) (b := b) (rowH u a) 0 KF _ _ (by rw [rowH_len]; omega) (by rw [rowH_len]; omega) (fun j v hj => by
        have hj2 : j < hT u - a := by have := (List.getElem?_eq_some_iff.mp hj).1; rw [rowH_len] at this; exact this
        rw [rowH_at u hj2] at hj
        rw [gN_sAn, if_neg (fun q => by omega), gN_sAn, if_neg (fun q => by omega), gN_sAn, if_neg (fun q => by omega), so2 12 _ (by omega) (by decide)]
        exact Option.some.inj hj) (by rw [gI_sA, gI_sA, gI_sA]; exact I10) (by rw [gL_sA, gL_sA, gL_sA]; omega) (by rw [gL_sA, gL_sA, gL_sA]; omega) (by rw [gL_sA, gL_sA, gL_sA, sl12]; omega) (by rw [gL_sA, gL_sA, gL_sA, sl12]; omega)]
      rw [wp_un, gI_wr9, gI_sA, gI_sA, gI_sA, I10, wp_un, wrap_id ⟨by omega, by omega⟩, wp_un, wp_un, wp_un]
      have T8 : ∀ (X : Sg) (v w : Int), gI (sI (sI X 10 v) 13 w) 8 = gI X 8 := fun X v w => by rw [gI_sI, if_neg (by decide), gI_sI, if_neg (by decide)]
      rw [T8, gI_wr9, gI_sA, gI_sA, gI_sA, I8, wp_ld]
      have TL : ∀ (X : Sg) (v w : Int) (j : Nat), gL (sI (sI X 10 v) 13 w) j = gL X j := fun X v w j => rfl
      rw [TL, gL_wr9, gL_sA, gL_sA, gL_sA, sl11]
      refine ⟨⟨by omega, by omega⟩, ?_⟩
      have e11 : gA (sI (sI (wr9 (sA (sA (sA s 1 ((nT u + 1 : Nat) : Int) k) 2 ((nT u + 1 : Nat) : Int) (dT u : Int)) 3 ((nT u + 1 : Nat) : Int) ((hT u - a : Nat) : Int)) (dT u + 0) (rowH u a)) 10 ((dT u : Int) + ((hT u - a : Nat) : Int))) 13 (a : Int)) 11 b = gN u 11 b.toNat := by
        show gN (wr9 _ _ _) 11 b.toNat = _
        rw [gN_wr9_ne _ _ _ _ (by decide), gN_sAn, if_neg (fun q => by omega), gN_sAn, if_neg (fun q => by omega), gN_sAn, if_neg (fun q => by omega), so2 11 _ (by omega) (by decide)]
      rw [e11, wp_stA, TL, gL_wr9, gL_sA, gL_sA, gL_sA, sl 6 (by omega) (by omega)]
      refine ⟨⟨by omega, by omega⟩, ?_⟩
      rw [wp_un, gI_sA, T8, gI_wr9, gI_sA, gI_sA, gI_sA, I8, wp_stA, gL_sA, TL, gL_wr9, gL_sA, gL_sA, gL_sA, sl 7 (by omega) (by omega)]
      refine ⟨⟨by omega, by omega⟩, ?_⟩
      rw [wp_un, gI_sA, gI_sA, T8, gI_wr9, gI_sA, gI_sA, gI_sA, I8, wp_stA, gL_sA, gL_sA, TL, gL_wr9, gL_sA, gL_sA, gL_sA, sl11]
      refine ⟨⟨by omega, by omega⟩, ?_⟩
      generalize hE : (sA (sA (sA (sI (sI (wr9 (sA (sA (sA s 1 ((nT u + 1 : Nat) : Int) k) 2 ((nT u + 1 : Nat) : Int) (dT u : Int)) 3 ((nT u + 1 : Nat) : Int) ((hT u - a : Nat) : Int)) (dT u + 0) (rowH u a)) 10 ((dT u : Int) + ((hT u - a : Nat) : Int))) 13 (a : Int)) 6 ((nT u + 1 : Nat) : Int) (gN u 11 b.toNat)) 7 ((nT u + 1 : Nat) : Int) b) 11 b ((nT u + 1 : Nat) : Int)) = E
      have EI : ∀ j, gI E j = if j = 13 then (a : Int) else if j = 10 then (dT u : Int) + ((hT u - a : Nat) : Int) else gI s j := fun j => by
        rw [← hE, gI_sA, gI_sA, gI_sA, gI_sI, gI_sI, gI_wr9, gI_sA, gI_sA, gI_sA]
      have EL : ∀ j, gL E j = gL s j := fun j => by rw [← hE, gL_sA, gL_sA, gL_sA, TL, gL_wr9, gL_sA, gL_sA, gL_sA]
      have EN : ∀ j x, j ≠ 9 → gN E j x = if j = 11 ∧ x = b.toNat then ((nT u + 1 : Nat) : Int) else if j = 7 ∧ x = nT u + 1 then b else if j = 6 ∧ x = nT u + 1 then gN u 11 b.toNat else if j = 3 ∧ x = nT u + 1 then ((hT u - a : Nat) : Int) else if j = 2 ∧ x = nT u + 1 then (dT u : Int) else if j = 1 ∧ x = nT u + 1 then k else gN s j x := fun j x hj => by
        rw [← hE, gN_sA, gN_sAn, gN_sAn]
        rw [show gN (sI (sI (wr9 (sA (sA (sA s 1 ((nT u + 1 : Nat) : Int) k) 2 ((nT u + 1 : Nat) : Int) (dT u : Int)) 3 ((nT u + 1 : Nat) : Int) ((hT u - a : Nat) : Int)) (dT u + 0) (rowH u a)) 10 ((dT u : Int) + ((hT u - a : Nat) : Int))) 13 (a : Int)) j x = gN (wr9 (sA (sA (sA s 1 ((nT u + 1 : Nat) : Int) k) 2 ((nT u + 1 : Nat) : Int) (dT u : Int)) 3 ((nT u + 1 : Nat) : Int) ((hT u - a : Nat) : Int)) (dT u + 0) (rowH u a)) j x from rfl, gN_wr9_ne _ _ _ _ hj, gN_sAn, gN_sAn, gN_sAn]
      have ED : ∀ x, x < dT u → gN E 9 x = gN u 9 x := fun x hx => by
        rw [← hE, gN_sA, if_neg (by omega), gN_sAn, if_neg (by omega), gN_sAn, if_neg (by omega)]
        show gN (wr9 _ _ _) 9 x = _
        rw [gN_wr9_lt _ _ _ _ (by omega), gN_sAn, if_neg (by omega), gN_sAn, if_neg (by omega), gN_sAn, if_neg (by omega), so9 x hx]
      have ER : ∀ (i : Nat) (v : Int), (rowH u a)[i]? = some v → gN E 9 (dT u + i) = v := fun i v hv => by
        rw [← hE, gN_sA, if_neg (by omega), gN_sAn, if_neg (by omega), gN_sAn, if_neg (by omega)]
        show gN (wr9 _ _ _) 9 (dT u + i) = _
        exact gN_wr9_at (rowH u a) _ (dT u + 0) i v hv
      have E1 : gN E 1 (nT u + 1) = k := by rw [EN 1 _ (by decide)]; simp
      have E2 : gN E 2 (nT u + 1) = (dT u : Int) := by rw [EN 2 _ (by decide)]; simp
      have E3 : gN E 3 (nT u + 1) = ((hT u - a : Nat) : Int) := by rw [EN 3 _ (by decide)]; simp
      have Eo : ∀ m, 1 ≤ m → m ≤ 7 → ∀ j, j ≤ nT u → gN E m j = gN u m j := fun m m1 m7 j hj => by
        rw [EN m j (by omega), if_neg (by omega), if_neg (by omega), if_neg (by omega), if_neg (by omega), if_neg (by omega), if_neg (by omega), so m j hj (by omega)]
      have enew : rawT E (nT u + 1) = (k, rowH u a) := by
        unfold rawT
        rw [E1, E2, E3]
        congr 1
        refine List.ext_getElem? (fun i => ?_)
        rw [Int.toNat_natCast, Int.toNat_natCast, List.getElem?_map]
        by_cases hi : i < hT u - a
        · rw [List.getElem?_range hi, rowH_at u hi]
          show some (gN E 9 (dT u + i)) = _
          rw [ER i _ (rowH_at u hi)]
        · rw [List.getElem?_eq_none (by rw [List.length_range]; omega), List.getElem?_eq_none (by rw [rowH_len]; omega)]; rfl
      have hpl : ∀ p ∈ fptT (k, rowH u a), p ≠ 0 → 0 < p.toNat ∧ p.toNat ≤ nT u := fun p hp hz => by
        have := hfm p hp
        have := hnn p (fptT_sub hp)
        omega
      have hrl : (k, rowH u a).2.length = hT u - a := rowH_len u a
      rw [wp_un, EI, if_neg (by decide), if_neg (by decide), I8]
      have hms := rX3_measure (d := d) (by omega) (u := E) (x := nT u + 1) (by rw [EL, sl 1 (by omega) (by omega)]; omega) (by rw [EL, sl 2 (by omega) (by omega)]; omega) (by rw [EL, sl 3 (by omega) (by omega)]; omega) (by rw [EL, sl 4 (by omega) (by omega)]; omega) (by rw [EL, sl 5 (by omega) (by omega)]; omega) (by rw [E2]; omega) (by rw [E3]; omega) (by rw [E2, E3, EL]; omega) (by rw [EL]; omega)
        (fun q => by rw [E1] at q; have := hk.2.1 (Or.inl q); rw [E3]; omega) (fun q => by rw [E1] at q; have := hk.2.2.2.1 q; rw [E3]; omega) (by rw [E3]; omega)
        (fun p hp => by
          rw [enew] at hp
          refine ⟨hnn p (fptT_sub hp), fun hz => ?_⟩
          obtain ⟨c1, c2⟩ := hpl p hp hz
          have := (h5 p.toNat c1 c2).2.2.2
          rw [EL, EL, sl 4 (by omega) (by omega), sl 5 (by omega) (by omega), Eo 5 (by omega) (by omega) _ c2]
          exact ⟨by omega, by omega, this.1, this.2⟩)
        (by
          rw [E1, E3, Int.toNat_natCast]
          have a1 := hk.2.2.1
          have a2 := hk.2.2.2.1
          have a3 := hk.1
          rw [hrl] at a1 a2
          unfold fsT
          split <;> omega)
      refine wp_eq hms ?_
      rw [wp_un, wp_some, gI_sA, gI_sA, EI, if_neg (by decide), if_neg (by decide), I8]
      have hc : ∀ m, 1 ≤ m → m ≤ 7 → ∀ p ∈ fptT (k, rowH u a), p ≠ 0 → gN E m p.toNat = gN u m p.toNat := fun m m1 m7 p hp hz => Eo m m1 m7 _ (hpl p hp hz).2
      rw [enew, mzT_c (hc 4 (by omega) (by omega)), mlT_c (hc 5 (by omega) (by omega))]
      refine ⟨nT u + 1, rfl, ?_⟩
      have FN : ∀ j x, gN (sA (sA E 4 ((nT u + 1 : Nat) : Int) (mzT (gN u 4) (k, rowH u a))) 5 ((nT u + 1 : Nat) : Int) (mlT (gN u 5) (k, rowH u a))) j x = if j = 5 ∧ x = nT u + 1 then mlT (gN u 5) (k, rowH u a) else if j = 4 ∧ x = nT u + 1 then mzT (gN u 4) (k, rowH u a) else gN E j x := fun j x => by rw [gN_sAn, gN_sAn]
      have FL : ∀ j, gL (sA (sA E 4 ((nT u + 1 : Nat) : Int) (mzT (gN u 4) (k, rowH u a))) 5 ((nT u + 1 : Nat) : Int) (mlT (gN u 5) (k, rowH u a))) j = gL s j := fun j => by rw [gL_sA, gL_sA, EL]
      have FI : ∀ j, gI (sA (sA E 4 ((nT u + 1 : Nat) : Int) (mzT (gN u 4) (k, rowH u a))) 5 ((nT u + 1 : Nat) : Int) (mlT (gN u 5) (k, rowH u a))) j = gI E j := fun j => by rw [gI_sA, gI_sA]
      generalize hF : sA (sA E 4 ((nT u + 1 : Nat) : Int) (mzT (gN u 4) (k, rowH u a))) 5 ((nT u + 1 : Nat) : Int) (mlT (gN u 5) (k, rowH u a)) = F at *
      have hmk := newT_mk (u := u) (F := F) (k := k) (row := rowH u a) (a := a) hI hk hnn hfm hb (fun z z0 hz => hnew z z0 (by omega)) (by rw [FI, EI, if_neg (by decide), if_neg (by decide), I8]; omega) (by rw [FI, EI, if_neg (by decide), if_pos rfl, rowH_len]) (by rw [FI, EI, if_pos rfl]) (by rw [FL, sl 1 (by omega) (by omega)]; exact eG1) (by rw [FL, rowH_len]; exact s9) (by rw [FL, sl12]) (by omega)
        (by rw [FL, FL, FL, FL, FL, FL, FL, sl 1 (by omega) (by omega), sl 2 (by omega) (by omega), sl 3 (by omega) (by omega), sl 4 (by omega) (by omega), sl 5 (by omega) (by omega), sl 6 (by omega) (by omega), sl 7 (by omega) (by omega)]; exact ⟨rfl, rfl, rfl, rfl, rfl, rfl⟩) (by rw [FL, sl11]) (by rw [FL, sl 1 (by omega) (by omega)]; exact eG2) (by rw [FL]; exact s9o)
        (fun m m1 m7 j hj => by rw [FN, if_neg (by omega), if_neg (by omega), Eo m m1 m7 j hj]) (by rw [FN, if_neg (by omega), if_neg (by omega), E1]) (by rw [FN, if_neg (by omega), if_neg (by omega), E2]) (by rw [FN, if_neg (by omega), if_neg (by omega), E3, rowH_len]) (by rw [hbe, FN, if_neg (by omega), if_neg (by omega), EN 6 _ (by decide)]; simp) (by rw [hbe, FN, if_neg (by omega), if_neg (by omega), EN 7 _ (by decide)]; simp) (by rw [FN, if_neg (by omega), if_pos ⟨rfl, rfl⟩]) (by rw [FN, if_pos ⟨rfl, rfl⟩])
        (fun j hj => by rw [FN, if_neg (by omega), if_neg (by omega), ED j hj]) (fun i v hv => by rw [FN, if_neg (by omega), if_neg (by omega), ER i v hv])
        (fun b' hb' => by
          rw [hbe, FN, if_neg (by omega), if_neg (by omega), EN 11 _ (by decide)]
          by_cases hbb : b' = b.toNat
          · rw [if_pos ⟨rfl, hbb⟩, if_pos hbb]; omega
          · rw [if_neg (fun q => hbb q.2), if_neg (by omega), if_neg (by omega), if_neg (by omega), if_neg (by omega), if_neg (by omega), if_neg hbb, so2 11 b' (by omega) (by decide)])
      refine ⟨hmk.1, hmk.2, by rw [FL, sl12], fun i => ?_⟩
      rw [FN, if_neg (by omega), if_neg (by omega), EN 12 _ (by decide), if_neg (by omega), if_neg (by omega), if_neg (by omega), if_neg (by omega), if_neg (by omega), if_neg (by omega), so2 12 i (by omega) (by decide)]
    refine wp_mor (fun hr => ?_) (fun hr => ?_)
    · exact rest s7 (fun _ _ => rfl) (by omega) (by rw [eL9]; exact lo9) (fun _ => rfl) (fun j x => ⟨fun _ _ => rfl, fun _ => rfl⟩)
    · have hlen : hT u - a ≤ 30000 := by have := hk.2.2.2.2.2; rw [rowH_len] at this; exact this
      have e2 : morN (gL s7 9) ((dT u + (hT u - a) : Nat) : Int) = 2 * gL s7 9 := by
        unfold morN
        rw [eL9] at hr ⊢
        rw [if_pos (by omega)]
      rw [eL9] at hr
      refine ⟨⟨by omega, by rw [e2]; omega⟩, ?_⟩
      rw [e2]
      refine rest _ (fun j hj => by rw [gL_sN, if_neg hj]) (by rw [gL_sN, if_pos rfl]; omega) (by rw [gL_sN, if_pos rfl, eL9]; omega) (fun j => by rw [gI_sN]) (fun j x => ⟨fun hj hx => ?_, fun hj => by rw [gN_sN, if_neg hj]⟩)
      subst hj
      rw [gN_sN, if_pos rfl, if_pos (by omega)]
      rfl
  · rw [e]
    rw [wp_un, wp_some]
    obtain ⟨e1, e2⟩ := hI.hand (a := a) (by omega)
    refine ⟨z, rfl, ⟨e1, z0, by show z ≤ nT u; omega, ze, fun y y0 hy => ⟨rfl, rfl, rfl, rfl⟩, Or.inl ⟨rfl, rfl⟩⟩, e2, rfl, fun i => rfl⟩
