/-- the new node, when there is room for it -/
theorem make_fin {d : Nat} {u s : Sg} {k w : Int} {a : Nat} (hI : IC u) (hs : SameS u s) (hk : 0 ≤ k) (hw : 0 ≤ w) (hw2 : k = 2 → w < 1000000) (ha : a ≤ rC u) (hrow : ∀ v ∈ rowC u a, 0 ≤ v) (hfm : ∀ p ∈ fptR (k, w, rowC u a), p < (nC u : Int)) (hroom : nC u < gL s 0) (hproom : pC u + (rC u - a) ≤ gL s 7) (hnew : ∀ z, 0 < z → z < nC u → rawC u z ≠ (k, w, rowC u a))
    {L0 fm : Int} (hL0 : L0 = (if k = 2 then w + 1 else 0)) {s49 : Sg} (hs49 : s49 = (sA (sA (sA (sA (sA (sA (sI s 9 ((nC s : Int) + 1)) 0 (nC s : Int) k) 1 (nC s : Int) w) 2 (nC s : Int) (pC s : Int)) 3 (nC s : Int) ((rC s - a : Nat) : Int)) 6 (nC s : Int) (gA s 8 (hsh (k, w, rowC u a)))) 8 (hsh (k, w, rowC u a)) (nC s : Int))) (hfme : fm = ((if k = 8 then 1 else (rowC s a).length : Nat) : Int)) :
    wp (bX2_make_L418 (runC d) KF k (a : Int) ((rC u - a : Nat) : Int) (nC s : Int) 1 L0 fm 0 s49 (fun v25 v26 v27 v28 v29 s24 => un (if 1000000000 < v28 then 1000000000 else v28) fun v30 => ar v30 fun v31 => stA s24 4 v27 v31 fun s32 => stA s32 5 v27 v29 fun s33 => un (gI s33 10) fun v34 => ar (v34 + v26) fun v35 => un (sI s33 10 v35) fun s36 => un (sI s36 12 v25) fun s37 => some (v27, s37)))
      (fun r u' => ∃ x : Nat, r = (x : Int) ∧ MkC u (k, w, rowC u a) x u' ∧ rC u' = a ∧ gL u' 11 = gL s 11 ∧ ∀ i, i < a → gN u' 11 i = gN u 11 i) := by
  obtain ⟨h1, h2, h3, h4, h5⟩ := hI
  have hIs := hs.ic ⟨h1, h2, h3, h4, h5⟩
  have hs' := hs
  obtain ⟨a1, a2, a3, a4, a5, a6, a7, a8⟩ := hs
  have g1 := a1
  obtain ⟨⟨r1, r2, r3⟩, ⟨r4, r5⟩, ⟨r6, r7⟩, ⟨m1, m2, m3, m4, m5, m6⟩, m8, m11, m0, m7⟩ := g1
  have erow : rowC s a = rowC u a := by
    unfold rowC
    rw [a8]
    exact List.map_congr_left (fun i hi => a5 _ (by have := List.mem_range.mp hi; omega))
  obtain ⟨i1, i2, i3, i4, i5⟩ := hIs
  have hfmS : ∀ p ∈ fptR (k, w, rowC s a), p ≠ 0 → 0 < p.toNat ∧ p.toNat < nC s := fun p hp hp0 => by
    rw [erow] at hp
    have := hfm p hp
    have := hrow p (fptR_sub hp)
    omega
  have hsb : ∀ z, 0 < z → z < nC s → 0 ≤ gN s 4 z ∧ gN s 4 z ≤ 1000000000 ∧ 0 ≤ gN s 5 z ∧ gN s 5 z ≤ 1000000 := fun z z0 hz => by
    obtain ⟨c1, c2, c3, c4⟩ := i5 z z0 hz
    have : gN s 4 z ≤ 1000000000 := by rw [c2]; unfold mn9; split <;> omega
    omega
  have hL0r : 0 ≤ (if k = 2 then w + 1 else 0) ∧ (if k = 2 then w + 1 else 0) ≤ 1000000 := by
    split
    · have := hw2 (by assumption); omega
    · omega
  have hszr := szE_rng (s := gN s 4) (k := k) (w := w) (l := rowC s a) (fun p hp hp0 => by have := hsb p.toNat (hfmS p hp hp0).1 (hfmS p hp hp0).2; omega)
  have hlor := loF_rng (lo := gN s 5) (k := k) (fptR (k, w, rowC s a)) 0 (if k = 2 then w + 1 else 0) hL0r.1 hL0r.2 (fun p hp hp0 => by have := hsb p.toNat (hfmS p hp hp0).1 (hfmS p hp hp0).2; omega)
  have hmn := mn9_rng hszr.1
  have r49 : ∀ j z, j ≠ 0 → j ≠ 1 → j ≠ 2 → j ≠ 3 → j ≠ 6 → j ≠ 8 → gN s49 j z = gN s j z := fun j z b0 b1 b2 b3 b6 b8 => by
    rw [hs49]; simp [gN_sI, gN_sAn, gN_sA, b0, b1, b2, b3, b6, b8]
  have l49 : ∀ j, gL s49 j = gL s j := fun j => by rw [hs49]; simp only [gL_sI, gL_sA]
  have i49 : gI s49 10 = (pC s : Int) := by rw [hs49]; simp only [gI_sA]; rw [gI_sI, if_neg (by decide)]; exact r4
  have hkf : 65536 < KF := by decide
  rw [hfme, show (rC u - a : Nat) = rC s - a by rw [a8], show (0 : Int) = ((0 : Nat) : Int) from rfl, make_L418 (sz := gN s 4) (lo := gN s 5) (M := nC s) (P0 := pC s) (rowC s a) 0 KF 1 L0 s49 _ (by rw [row_len]; omega) (by rw [row_len]; omega)
    (fun j v hj => by
      rw [r49 11 _ (by decide) (by decide) (by decide) (by decide) (by decide) (by decide)]
      have hj2 : j < rC s - a := by have := (List.getElem?_eq_some_iff.mp hj).1; rw [row_len] at this; exact this
      rw [row_at s hj2] at hj
      exact Option.some.inj hj)
    (fun v hv => hrow v (by rw [← erow]; exact hv))
    (fun j v hj hjf => by
      have hm : v ∈ fptR (k, w, rowC s a) := by
        unfold fptR
        by_cases h8 : k = 8
        · simp only [h8, if_true] at hjf ⊢
          have : j = 0 := by omega
          subst this
          cases hrl : rowC s a with
          | nil => rw [hrl] at hj; simp at hj
          | cons z zs => rw [hrl] at hj; simp at hj; simp [hj]
        · simp only [h8, if_false]
          exact List.mem_of_getElem? hj
      have := hfm v (by rw [← erow]; exact hm)
      omega)
    (fun z => r49 4 z (by decide) (by decide) (by decide) (by decide) (by decide) (by decide)) (fun z => r49 5 z (by decide) (by decide) (by decide) (by decide) (by decide) (by decide)) hsb i49 (by rw [l49]; omega) (by rw [l49]; omega) (by rw [l49]; omega) (by rw [l49]; omega) (by rw [l49]; omega) (by rw [l49]; omega) (by omega) (by omega) (by rw [hL0]; omega) (by rw [hL0]; omega)]
  rw [szE_st (gN s 4) k w (rowC s a), hL0, loE_st (gN s 5) k w (rowC s a), wp_un, wp_ar, wp_stA, wp_stA, wp_un, wp_ar, wp_un, wp_un, wp_some]
  have hms : (if 1000000000 < szE (gN s 4) (k, w, rowC s a) then 1000000000 else szE (gN s 4) (k, w, rowC s a)) = mn9 (szE (gN s 4) (k, w, rowC s a)) := rfl
  rw [hms]
  have hI10 : gI (sA (sA (wr s49 (pC s + 0) (rowC s a)) 4 (nC s : Int) (mn9 (szE (gN s 4) (k, w, rowC s a)))) 5 (nC s : Int) (loE (gN s 5) (k, w, rowC s a))) 10 = (pC s : Int) := by rw [gI_sA, gI_sA, gI_wr, i49]
  refine ⟨⟨by omega, by omega⟩, ⟨by omega, by rw [gL_wr, l49]; omega⟩, ⟨by omega, by rw [gL_sA, gL_wr, l49]; omega⟩, ⟨by rw [hI10]; omega, by rw [hI10]; omega⟩, nC s, rfl, ?_⟩
  rw [hI10]
  have eN : sI (sI (sA (sA (wr s49 (pC s + 0) (rowC s a)) 4 (nC s : Int) (mn9 (szE (gN s 4) (k, w, rowC s a)))) 5 (nC s : Int) (loE (gN s 5) (k, w, rowC s a))) 10 ((pC s : Int) + ((rC s - a : Nat) : Int))) 12 (a : Int) = newS s k w (hsh (k, w, rowC u a)) (mn9 (szE (gN s 4) (k, w, rowC s a))) (loE (gN s 5) (k, w, rowC s a)) a := by
    rw [hs49]; rfl
  rw [eN]
  have hic : IC (newS s k w (hsh (k, w, rowC u a)) (mn9 (szE (gN s 4) (k, w, rowC s a))) (loE (gN s 5) (k, w, rowC s a)) a) :=
    newS_ic ⟨i1, i2, i3, i4, i5⟩ hk hw (by rw [erow]) (by omega) (by rw [erow]; exact hrow) (by rw [erow, a6]; exact hfm) (fun z z0 hz => by
      rw [erow, hs'.raw h2 z0 (by omega)]; exact hnew z z0 (by omega)) (by omega) (by omega) rfl rfl ⟨hmn.1, hlor.1, hlor.2⟩
  refine ⟨⟨hic, by omega, by rw [newS_n]; omega, by rw [newS_rawN, erow], fun y y0 hy => ⟨?_, ?_, ?_, ?_⟩, Or.inr ⟨by rw [newS_n, a6], by rw [newS_p, a7, a8]; simp only [row_len], a6, by rw [newS_2, a7]⟩⟩, newS_r, by rw [newS_L], fun i hi => ?_⟩
  · rw [newS_raw i2 y0 (by omega), hs'.raw h2 y0 hy]
  · rw [newS_old (by omega) (by omega), a2 4 (by omega) y hy]
  · rw [newS_old (by omega) (by omega), a2 5 (by omega) y hy]
  · rw [newS_old (by omega) (by omega), a2 2 (by omega) y hy]
  · rw [newS_11, a5 i (by omega)]
def gro (s : Sg) (m : Nat) : Sg := sN s m (90000 : Int).toNat (fun j => if j < gL s m then gF s m j else 0)
def PG (u : Sg) (m : Nat) (s : Sg) : Prop := (∀ k, gL s k = if k < m then 90000 else gL u k) ∧ (∀ k x, (k ≤ 6 → x < nC u → gN s k x = gN u k x) ∧ (6 < k → gN s k x = gN u k x)) ∧ ∀ k, gI s k = gI u k
theorem cpy_gro {u s : Sg} {m : Nat} {K : Sg → Option (Int × Sg)} {Q : Int → Sg → Prop} (h : PG u m s) (hm : m ≤ 6) (hL : gL u m = 60000) (hn : nC u ≤ 60000) (k : PG u (m + 1) (gro s m) → wp (K (gro s m)) Q) : wp (cpy s m 90000 K) Q := by
  have e9 : (90000 : Int).toNat = 90000 := by decide
  have hm' : gL s m = 60000 := by rw [h.1 m, if_neg (by omega), hL]
  rw [wp_cpy]
  refine ⟨⟨by rw [e9]; omega, by rw [e9]; omega, by decide⟩, k ⟨fun j => ?_, fun j x => ⟨fun hj hx => ?_, fun hj => ?_⟩, h.2.2⟩⟩
  · unfold gro
    rw [gL_sN, e9]
    by_cases hj : j = m
    · rw [if_pos hj, if_pos (by omega)]
    · rw [if_neg hj, h.1 j]
      by_cases hj2 : j < m
      · rw [if_pos hj2, if_pos (by omega)]
      · rw [if_neg hj2, if_neg (by omega)]
  · unfold gro
    rw [gN_sN]
    split
    · rename_i q; subst q
      rw [if_pos (by omega)]
      exact (h.2.1 j x).1 hj hx
    · exact (h.2.1 j x).1 hj hx
  · unfold gro
    rw [gN_sN, if_neg (by omega)]
    exact (h.2.1 j x).2 hj
theorem rX2_make {d : Nat} (hd : 5 ≤ d) {u : Sg} {k w : Int} {a : Nat} (hI : IC u) (hk : 0 ≤ k) (hw : 0 ≤ w) (hw2 : k = 2 → w < 1000000) (ha : a ≤ rC u) (hrow : ∀ v ∈ rowC u a, 0 ≤ v) (hfm : ∀ p ∈ fptR (k, w, rowC u a), p < (nC u : Int)) (hN : nC u < 90000) (hP : pC u + (rC u - a) ≤ 270000) :
    wp (runC d 94 [k, w, (a : Int)] u) (fun r u' => ∃ x : Nat, r = (x : Int) ∧ MkC u (k, w, rowC u a) x u' ∧ rC u' = a ∧ gL u' 11 = gL u 11 ∧ ∀ i, i < a → gN u' 11 i = gN u 11 i) := by
  suffices H : ∀ Q : Int → Sg → Prop, (∀ r u', (∃ x : Nat, r = (x : Int) ∧ MkC u (k, w, rowC u a) x u' ∧ rC u' = a ∧ gL u' 11 = gL u 11 ∧ ∀ i, i < a → gN u' 11 i = gN u 11 i) → Q r u') → wp (runC d 94 [k, w, (a : Int)] u) Q from H _ (fun _ _ h => h)
  intro Q hQ
  have hI' := hI
  obtain ⟨h1, h2, h3, h4, h5⟩ := hI'
  have h1' := h1
  obtain ⟨⟨q1, q2, q3⟩, ⟨q4, q5⟩, ⟨q6, q7⟩, ⟨l1, l2, l3, l4, l5, l6⟩, l8, l11, l0, l7⟩ := h1'
  have hbr := hsh_rng (k, w, rowC u a)
  obtain ⟨d, rfl⟩ : ∃ d', d = d' + 1 := ⟨d - 1, by omega⟩
  rw [runC_eq (by omega)]
  show wp (bX2_make (runC d) k w a u) _
  unfold bX2_make
  refine wp_eq (rX2_hash (by omega) q6 q7 l11.2 ha) ?_
  rw [wp_un, wp_ar]
  refine ⟨⟨by omega, by omega⟩, ?_⟩
  rw [wp_ld]
  refine ⟨⟨hbr.1, by omega⟩, ?_⟩
  have htop := h3.1 (hsh (k, w, rowC u a)).toNat (by omega)
  rw [show (((hsh (k, w, rowC u a)).toNat : Nat) : Int) = hsh (k, w, rowC u a) by omega] at htop
  rw [show gI u 12 - (a : Int) = ((rC u - a : Nat) : Int) by omega, show gA u 8 (hsh (k, w, rowC u a)) = gN u 8 (hsh (k, w, rowC u a)).toNat from rfl]
  refine wp_L26 hI ha rfl htop (fun hnew => ?_) (fun z z0 zn ze => ?_)
  · refine wp_jnG (fun j => ∀ s, SameS u s → nC u < gL s 0 → gL s 11 = gL u 11 → wp (j k w (a : Int) (hsh (k, w, rowC u a)) ((rC u - a : Nat) : Int) s) Q) ?_ ?_
    · intro s hs hroom hl11
      refine wp_L267 hs (by omega) (fun s' hs' e0 e11 hp' => ?_)
      have hs2 := hs'
      obtain ⟨⟨⟨r1, r2, r3⟩, ⟨r4, r5⟩, ⟨r6, r7⟩, ⟨m1, m2, m3, m4, m5, m6⟩, m8, m11, m0, m7⟩, a2, a3, a4, a5, a6, a7, a8⟩ := hs'
      refine wp_jnG (fun j => ∀ L0 : Int, L0 = (if k = 2 then w + 1 else 0) → ∀ s49 : Sg, s49 = (sA (sA (sA (sA (sA (sA (sI s' 9 ((nC s' : Int) + 1)) 0 (nC s' : Int) k) 1 (nC s' : Int) w) 2 (nC s' : Int) (pC s' : Int)) 3 (nC s' : Int) ((rC s' - a : Nat) : Int)) 6 (nC s' : Int) (gA s' 8 (hsh (k, w, rowC u a)))) 8 (hsh (k, w, rowC u a)) (nC s' : Int)) → wp (j k (a : Int) ((rC u - a : Nat) : Int) (nC s' : Int) 1 L0 s49) Q) ?_ ?_
      · intro L0 hL0 s49 hs49
        rw [wp_jn]
        refine wp_ite (fun h8k => ?_) (fun h8k => ?_)
        · refine wp_mono (make_fin hI hs2 hk hw hw2 ha hrow hfm (by omega) hp' hnew hL0 hs49 (by rw [if_pos h8k]; rfl)) (fun r u' ⟨x, e1, e2, e3, e4, e5⟩ => hQ r u' ⟨x, e1, e2, e3, by rw [e4, e11, hl11], e5⟩)
        · refine wp_mono (make_fin hI hs2 hk hw hw2 ha hrow hfm (by omega) hp' hnew hL0 hs49 (by rw [if_neg h8k, row_len, a8])) (fun r u' ⟨x, e1, e2, e3, e4, e5⟩ => hQ r u' ⟨x, e1, e2, e3, by rw [e4, e11, hl11], e5⟩)
      · intro j hj
        rw [wp_un, wp_un, wp_ar, r1]
        refine ⟨⟨by omega, by omega⟩, ?_⟩
        rw [wp_un, wp_stA, wp_stA, wp_un, wp_stA, wp_stA, wp_ld, wp_stA, wp_stA]
        have eI : gI (sA (sA (sI s' 9 ((nC s' : Int) + 1)) 0 (nC s' : Int) k) 1 (nC s' : Int) w) 10 = (pC s' : Int) := by rw [gI_sA, gI_sA, gI_sI, if_neg (by decide), r4]
        rw [eI]
        have e8 : gA (sA (sA (sA (sA (sI s' 9 ((nC s' : Int) + 1)) 0 (nC s' : Int) k) 1 (nC s' : Int) w) 2 (nC s' : Int) (pC s' : Int)) 3 (nC s' : Int) ((rC u - a : Nat) : Int)) 8 (hsh (k, w, rowC u a)) = gA s' 8 (hsh (k, w, rowC u a)) := by
          simp [gA_sA, gA_sI]
        rw [e8]
        simp only [gL_sA, gL_sI]
        refine ⟨⟨by omega, by omega⟩, ⟨by omega, by omega⟩, ⟨by omega, by omega⟩, ⟨by omega, by omega⟩, ⟨by omega, by omega⟩, ⟨by omega, by omega⟩, ⟨by omega, by omega⟩, ?_⟩
        refine wp_ite (fun h2k => ?_) (fun h2k => ?_)
        · rw [wp_ar]
          refine ⟨⟨by omega, by have := hw2 h2k; omega⟩, ?_⟩
          exact hj _ (by rw [if_pos h2k]) _ (by rw [a8])
        · exact hj _ (by rw [if_neg h2k]) _ (by rw [a8])
    · intro j hj
      rw [wp_un, wp_un]
      refine wp_ite (fun h => ?_) (fun h => ?_)
      · have hL : gL u 0 = 60000 := by omega
        have hn6 : nC u = 60000 := by omega
        rw [wp_un, wp_un, wp_gd, wp_ar, wp_ar]
        have e1 : Int.tdiv (gI u 9) 2 = 30000 := by rw [q1, hn6]; decide
        rw [e1, q1, hn6, show (((60000 : Nat) : Int) + 30000) = 90000 from by decide]
        refine ⟨by decide, ⟨by decide, by decide⟩, ⟨by decide, by decide⟩, ?_⟩
        have hnn : nC u ≤ 60000 := by omega
        refine cpy_gro (u := u) (m := 0) ⟨fun k => by rw [if_neg (by omega)], fun k x => ⟨fun _ _ => rfl, fun _ => rfl⟩, fun _ => rfl⟩ (by omega) hL hnn (fun g => ?_)
        refine cpy_gro g (by omega) (by omega) hnn (fun g => ?_)
        refine cpy_gro g (by omega) (by omega) hnn (fun g => ?_)
        refine cpy_gro g (by omega) (by omega) hnn (fun g => ?_)
        refine cpy_gro g (by omega) (by omega) hnn (fun g => ?_)
        refine cpy_gro g (by omega) (by omega) hnn (fun g => ?_)
        refine cpy_gro g (by omega) (by omega) hnn (fun g => ?_)
        obtain ⟨g1, g2, g3⟩ := g
        refine hj _ ⟨?_, fun k hk x hx => (g2 k x).1 hk hx, fun i _ => (g2 7 i).2 (by omega), fun i => (g2 8 i).2 (by omega), fun i _ => (g2 11 i).2 (by omega), ?_, ?_, ?_⟩ ?_ ?_
        · unfold IC1 nC pC rC
          rw [g3 9, g3 10, g3 12, g1 0, g1 1, g1 2, g1 3, g1 4, g1 5, g1 6, g1 7, g1 8, g1 11]
          simp only [show (0 : Nat) < 6 + 1 from by decide, show (1 : Nat) < 6 + 1 from by decide, show (2 : Nat) < 6 + 1 from by decide, show (3 : Nat) < 6 + 1 from by decide, show (4 : Nat) < 6 + 1 from by decide, show (5 : Nat) < 6 + 1 from by decide, show (6 : Nat) < 6 + 1 from by decide, show ¬ (7 : Nat) < 6 + 1 from by decide, show ¬ (8 : Nat) < 6 + 1 from by decide, show ¬ (11 : Nat) < 6 + 1 from by decide, if_true, if_false]
          refine ⟨⟨q1, q2, ?_⟩, ⟨q4, q5⟩, ⟨q6, q7⟩, ⟨trivial, trivial, trivial, trivial, trivial, trivial⟩, l8, l11, Or.inr trivial, l7⟩
          show nC u ≤ 90000
          omega
        · unfold nC; rw [g3 9]
        · unfold pC; rw [g3 10]
        · unfold rC; rw [g3 12]
        · rw [g1 0, if_pos (by omega)]; omega
        · rw [g1 11, if_neg (by omega)]
      · exact hj u (SameS.rf h1) (by omega) rfl
  · rw [wp_un, wp_some]
    refine hQ _ _ ⟨z, rfl, ?_, by unfold rC; rw [gI_sI, if_pos rfl]; omega, rfl, fun i _ => rfl⟩
    have hS : IC (sI u 12 (a : Int)) := by
      have er : rC (sI u 12 (a : Int)) = a := by unfold rC; rw [gI_sI, if_pos rfl]; omega
      refine ⟨⟨⟨q1, q2, q3⟩, ⟨q4, q5⟩, ⟨by rw [er, gI_sI, if_pos rfl], by rw [er]; show a ≤ gL u 11; omega⟩, ⟨l1, l2, l3, l4, l5, l6⟩, l8, l11, l0, l7⟩, h2, h3, h4, h5⟩
    exact ⟨hS, z0, zn, ze, fun y y0 hy => ⟨rfl, rfl, rfl, rfl⟩, Or.inl ⟨rfl, rfl⟩⟩
