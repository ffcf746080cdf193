theorem CrC.eq {ν : Nat → Nat} {u u' : Sg} {R : List Nat} (h : CrC ν u R) (hl : gL u 60 ≤ gL u' 60) (hN : ∀ i, i < R.length → gN u' 60 i = gN u 60 i) (hn : nC u' = nC u) (ht : ∀ x, x < nC u → trC ν u' x = trC ν u x) : CrC ν u' R := ⟨Nat.le_trans h.1 hl, fun i f hi => by
  obtain ⟨x, x1, x2, x3, x4⟩ := h.2 i f hi
  exact ⟨x, by rw [hN i (List.getElem?_eq_some_iff.mp hi).1]; exact x1, x2, by omega, by rw [ht x x3]; exact x4⟩⟩
/-- one more that is pending -/
theorem sp_pend {d : Nat} (hd : 3 ≤ d) {ν : Nat → Nat} {c : Nat} {W : Wd} {u0 u : Sg} {P : List Nat} {p y t : Nat} {k : Int} {R : List Nat} (hI : SpI ν c W u0 u) (hP : PdA u p) (hp6 : p ≤ 60000) (hL : PdL ν u P k) (y0 : 0 < y) (hy : y < nC u) (ey : trC ν u y = t) (hCr : CrC ν u R) : wp (runC d 39 [(y : Int), k] u) (fun r u' => SpI ν c W u0 u' ∧ PdA u' (p + 1) ∧ PdL ν u' (t :: P) r ∧ CrC ν u' R ∧ (∀ i, i < p → gN u' 61 i = gN u 61 i ∧ gN u' 62 i = gN u 62 i) ∧ (gL u' 60 = gL u 60 ∧ ∀ i, gN u' 60 i = gN u 60 i) ∧ EqS u u' ∧ gI u' 36 = gI u 36 ∧ gI u' 33 = gI u 33 ∧ gI u' 64 = gI u 64 ∧ PdL ν u' P k) := by
  obtain ⟨d, rfl⟩ : ∃ d', d = d' + 1 := ⟨d - 1, by omega⟩
  have hkr := hL.rng hP.1
  have hnb : nC u ≤ 90000 := by have := hI.1.1.1.1.1.2.2; have := hI.1.1.1.1.2.2.2.2.2.2.1; omega
  refine wp_mono (tX1_pend (d := d) (by omega) hI.2.1 hP hp6 ⟨by omega, by omega⟩ ⟨by omega, by omega⟩) (fun r u' ⟨r1, r2, r3, r4, r5, r6, r7⟩ => ?_)
  obtain ⟨s1, e⟩ := hI.fr r6 r7 (by decide +kernel) (by decide +kernel) (fun k hk => (by decide +kernel : ∀ k, k ≤ 85 → (k = 34 ∨ (36 ≤ k ∧ k ≤ 42) ∨ (46 ≤ k ∧ k ≤ 50) ∨ k = 53 ∨ k = 55 ∨ k = 85 ∨ k = 33 ∨ k = 64 ∨ k = 60) → Nat.testBit Dpe k = false) k (by omega) hk)
  have mo : ∀ (Q : List Nat) (j : Int), PdL ν u Q j → PdL ν u' Q j := fun Q j h => PdL.mono (by rw [hP.1, r2.1]; omega) (fun i hi => r5 i (by rw [hP.1] at hi; omega)) (by rw [e.n]; exact Nat.le_refl _) (fun x _ => e.tr x) Q j h
  refine ⟨s1, r2, ⟨p, y, r1, by rw [r2.1]; omega, r3, y0, by rw [e.n]; exact hy, by rw [e.tr]; exact ey, by rw [r4]; exact mo P k hL⟩, hCr.eq (by rw [r7.Ln 60 (by decide +kernel)]; exact Nat.le_refl _) (fun i _ => r7.N 60 (by decide +kernel) i) e.n (fun x _ => e.tr x), r5, ⟨r7.Ln 60 (by decide +kernel), fun i => r7.N 60 (by decide +kernel) i⟩, e, r7.I 36 (by decide +kernel), r7.I 33 (by decide +kernel), r7.I 64 (by decide +kernel), mo P k hL⟩
theorem split_L53 {d : Nat} (hd : 3 ≤ d) {ν : Nat → Nat} {c : Nat} {W : Wd} {u0 ub : Sg} {P R : List Nat} {pb y t : Nat} {rr : Int} {Q : Int → Sg → Prop} (y0 : 0 < y) (hy : y < nC u0) (ey : trC ν u0 y = t) (h8 : kd t ≠ 8) (hps : ∀ q ∈ ps t, q ≠ 0) (hlen : pb + (ps t).length ≤ 60000) (hlen3 : (ps t).length ≤ 300000) : ∀ (m i fu : Nat) (u : Sg) (k : Int), i + m = (ps t).length → m < fu → SpI ν c W u0 u → PdA u (pb + i) → PdL ν u (((ps t).take i).reverse ++ P) k → CrC ν u R → (∀ j, j < pb → gN u 61 j = gN ub 61 j ∧ gN u 62 j = gN ub 62 j) → (gL u 60 = gL ub 60 ∧ ∀ j, gN u 60 j = gN ub 60 j) → (gI u 36 = gI ub 36 ∧ gI u 33 = gI ub 33 ∧ gI u 64 = gI ub 64) → ∀ xx : Int → Int → Sg → Option (Int × Sg), (∀ (u2 : Sg) (k2 : Int), SpI ν c W u0 u2 → PdA u2 (pb + (ps t).length) → PdL ν u2 ((ps t).reverse ++ P) k2 → CrC ν u2 R → (∀ j, j < pb → gN u2 61 j = gN ub 61 j ∧ gN u2 62 j = gN ub 62 j) → (gL u2 60 = gL ub 60 ∧ ∀ j, gN u2 60 j = gN ub 60 j) → (gI u2 36 = gI ub 36 ∧ gI u2 33 = gI ub 33 ∧ gI u2 64 = gI ub 64) → wp (xx k2 rr u2) Q) → wp (bX1_split_L53 (runC d) fu k rr (y : Int) (i : Int) u xx) Q := by
  intro m
  induction m with
  | zero =>
    intro i fu u k hi hf hI hP hL hC h1 h2 h3 xx kk
    obtain ⟨fu, rfl⟩ : ∃ f', fu = f' + 1 := ⟨fu - 1, by omega⟩
    have hs := hI.1.1
    obtain ⟨n1, n2, n3, n4⟩ := hI.2.2.2.1
    have hn := nodeC hs y0 (by omega : y < nC u)
    rw [n3 y hy, ey] at hn
    have l3 : gL u 3 = gL u 0 := hs.1.1.2.2.2.1.2.2.1
    rw [bX1_split_L53, ld_nat (by omega), hn.2.2.1, if_neg (by omega)]
    have ei : i = (ps t).length := by omega
    rw [ei] at hP hL
    rw [List.take_length] at hL
    exact kk u k hI hP hL hC h1 h2 h3
  | succ m ih =>
    intro i fu u k hi hf hI hP hL hC h1 h2 h3 xx kk
    obtain ⟨fu, rfl⟩ : ∃ f', fu = f' + 1 := ⟨fu - 1, by omega⟩
    have hs := hI.1.1
    obtain ⟨n1, n2, n3, n4⟩ := hI.2.2.2.1
    have hyu : y < nC u := by omega
    have hn := nodeC hs y0 hyu
    rw [n3 y hy, ey] at hn
    have l3 : gL u 3 = gL u 0 := hs.1.1.2.2.2.1.2.2.1
    have hil : i < (ps t).length := by omega
    have hgi := pa_get hil
    obtain ⟨z, z1, z2, z3⟩ := partN (d := d) (i := i) hd hs y0 hyu (by rw [n3 y hy, ey]; exact hil) (Or.inl (by rw [n3 y hy, ey]; exact h8))
    rw [n3 y hy, ey] at z3
    have z0 : 0 < z := Nat.pos_of_ne_zero (fun q => hps _ (List.mem_of_getElem? hgi) (by rw [← z3, q]; rfl))
    rw [bX1_split_L53, ld_nat (by omega), hn.2.2.1, if_pos (by omega)]
    refine wp_eq z1 ?_
    refine wp_call (sp_pend hd hI hP (by omega) hL z0 (by omega) z3 hC) (fun r u1 ⟨a1, a2, a3, a4, a5, a6, a7, a8, a9, a10, _⟩ => ?_)
    rw [wp_ar]
    refine ⟨⟨by omega, by omega⟩, ?_⟩
    rw [show (i : Int) + 1 = ((i + 1 : Nat) : Int) by omega]
    refine ih (i + 1) fu u1 r (by omega) (by omega) a1 a2 ?_ a4 (fun j hj => ?_) ⟨by rw [a6.1]; exact h2.1, fun j => by rw [a6.2]; exact h2.2 j⟩ ⟨by rw [a8]; exact h3.1, by rw [a9]; exact h3.2.1, by rw [a10]; exact h3.2.2⟩ xx kk
    · rw [List.take_add_one, hgi]
      show PdL ν u1 (((ps t).take i ++ [pa t i]).reverse ++ P) r
      rw [List.reverse_append]
      exact a3
    · rw [(a5 j (by omega)).1, (a5 j (by omega)).2]; exact h1 j hj
/-- to be split, with a depth to spare -/
def SpSp (ν : Nat → Nat) (c : Nat) (W : Wd) (u0 : Sg) (B n : Nat) : Prop := ∀ (d : Nat) (u : Sg) (P R : List Nat) (k : Int) (p : Nat), wtP P < n → SpI ν c W u0 u → PdA u p → PdL ν u P k → CrC ν u R → p + pcF n P ≤ 60000 → R.length + lfF n P ≤ 20000 → 1661 + dpF n P ≤ d → gI u 36 + (ncF n P : Int) ≤ 1000000 → gI u 33 + (ncF n P : Int) ≤ 1000000 → (∀ S, csR R P S → ReqC W ν c u0 B S) → wp (runC d 40 [k, (R.length : Int)] u) (fun _ u' => PostS ν c W u0 n P R u p u')
theorem split_L104 {d n : Nat} {ν : Nat → Nat} {c : Nat} {W : Wd} {u0 ub : Sg} {B : Nat} {P R : List Nat} {pb y t : Nat} {kn : Int} (ih : SpSp ν c W u0 B n) (y0 : 0 < y) (hy : y < nC u0) (ey : trC ν u0 y = t) (h30 : kd t = 30) (hps : ∀ q ∈ ps t, q ≠ 0) (hw : wtP (t :: P) < n + 1) (hLb : PdL ν ub P kn) (hPb : PdA ub pb) (hCb : CrC ν ub R) (hIb : SpI ν c W u0 ub) (hpc : pb + pcF (n + 1) (t :: P) ≤ 60000) (hlf : R.length + lfF (n + 1) (t :: P) ≤ 20000) (hdp : 1660 + dpF (n + 1) (t :: P) ≤ d) (h36 : gI ub 36 + (ncF (n + 1) (t :: P) : Int) ≤ 1000000) (h33 : gI ub 33 + (ncF (n + 1) (t :: P) : Int) ≤ 1000000) (hq : ∀ S, csR R (t :: P) S → ReqC W ν c u0 B S) (hlen3 : (ps t).length ≤ 300000) : ∀ (m i fu : Nat) (u : Sg) (p : Nat), i + m = (ps t).length → m < fu → SpI ν c W u0 u → PdA u p → pb ≤ p → p ≤ pb + (((ps t).take i).map (fun b => 1 + pcF n (b :: P))).sum → (∀ j, j < pb → gN u 61 j = gN ub 61 j ∧ gN u 62 j = gN ub 62 j) → (gL ub 60 ≤ gL u 60 ∧ ∀ j, j < R.length → gN u 60 j = gN ub 60 j) → (gI u 36 ≤ gI ub 36 + ((((ps t).take i).map (fun b => ncF n (b :: P))).sum : Nat) ∧ gI u 33 ≤ gI ub 33 + ((((ps t).take i).map (fun b => ncF n (b :: P))).sum : Nat)) → Ans (RfC W) (gI ub 64) (fun S => ∃ b, b ∈ (ps t).take i ∧ csR R (b :: P) S) (gI u 64) → wp (bX1_split_L104 (runC d) fu kn (R.length : Int) (y : Int) (i : Int) u (fun s16 => some (0, s16))) (fun _ u' => PostS ν c W u0 (n + 1) (t :: P) R ub pb u') := by
  have epc : pcF (n + 1) (t :: P) = ((ps t).map (fun b => 1 + pcF n (b :: P))).sum := by rw [pcF, if_neg (by omega), if_pos h30]
  have enc : ncF (n + 1) (t :: P) = ((ps t).map (fun b => ncF n (b :: P))).sum := by rw [ncF, if_neg (by omega), if_pos h30]
  have edp : dpF (n + 1) (t :: P) = 1 + ((ps t).map (fun b => dpF n (b :: P))).foldl max 0 := by rw [dpF, if_neg (by omega), if_pos h30]
  have elf : lfF (n + 1) (t :: P) = ((ps t).map (fun b => lfF n (b :: P))).foldl max 0 := by rw [lfF, if_neg (by omega), if_pos h30]
  have tk : ∀ (f : Nat → Nat) (i : Nat), (((ps t).take i).map f).sum ≤ ((ps t).map f).sum := fun f i => by
    have : ((ps t).map f).sum = (((ps t).take i).map f).sum + (((ps t).drop i).map f).sum := by rw [← List.sum_append, ← List.map_append, List.take_append_drop]
    omega
  have fin : ∀ (u : Sg) (p i : Nat), SpI ν c W u0 u → PdA u p → pb ≤ p → p ≤ pb + (((ps t).take i).map (fun b => 1 + pcF n (b :: P))).sum → (∀ j, j < pb → gN u 61 j = gN ub 61 j ∧ gN u 62 j = gN ub 62 j) → (gL ub 60 ≤ gL u 60 ∧ ∀ j, j < R.length → gN u 60 j = gN ub 60 j) → (gI u 36 ≤ gI ub 36 + ((((ps t).take i).map (fun b => ncF n (b :: P))).sum : Nat) ∧ gI u 33 ≤ gI ub 33 + ((((ps t).take i).map (fun b => ncF n (b :: P))).sum : Nat)) → Ans (RfC W) (gI ub 64) (csR R (t :: P)) (gI u 64) → PostS ν c W u0 (n + 1) (t :: P) R ub pb u := fun u p i z1 z2 z3 z4 z5 z6 z7 z8 => by
    have a := tk (fun b => 1 + pcF n (b :: P)) i
    have b := tk (fun b => ncF n (b :: P)) i
    exact ⟨z1, ⟨p, z2, z3, by omega⟩, z5, z6, ⟨by omega, by omega⟩, z8⟩
  intro m
  induction m with
  | zero =>
    intro i fu u p hi hf hI hP hp1 hp2 h1 h2 h3 hA
    obtain ⟨fu, rfl⟩ : ∃ f', fu = f' + 1 := ⟨fu - 1, by omega⟩
    have hs := hI.1.1
    obtain ⟨n1, n2, n3, n4⟩ := hI.2.2.2.1
    have hn := nodeC hs y0 (by omega : y < nC u)
    rw [n3 y hy, ey] at hn
    have l3 : gL u 3 = gL u 0 := hs.1.1.2.2.2.1.2.2.1
    rw [bX1_split_L104, ld_nat (by omega), hn.2.2.1, if_neg (by omega), wp_some]
    refine fin u p i hI hP hp1 hp2 h1 h2 h3 (hA.iff ?_)
    funext S
    rw [List.take_of_length_le (by omega)]
    exact propext (csR_one h30 S).symm
  | succ m ihm =>
    intro i fu u p hi hf hI hP hp1 hp2 h1 h2 h3 hA
    obtain ⟨fu, rfl⟩ : ∃ f', fu = f' + 1 := ⟨fu - 1, by omega⟩
    have hs := hI.1.1
    obtain ⟨n1, n2, n3, n4⟩ := hI.2.2.2.1
    have hyu : y < nC u := by omega
    have hn := nodeC hs y0 hyu
    rw [n3 y hy, ey] at hn
    have l3 : gL u 3 = gL u 0 := hs.1.1.2.2.2.1.2.2.1
    have hil : i < (ps t).length := by omega
    have hgi := pa_get hil
    have hbm := List.mem_of_getElem? hgi
    rw [bX1_split_L104, ld_nat (by omega), hn.2.2.1, if_pos (by omega), wp_un]
    refine wp_ite (fun ha => ?_) (fun ha => ?_)
    · rw [wp_some]
      refine fin u p i hI hP hp1 hp2 h1 h2 h3 ?_
      rw [ha] at hA ⊢
      rcases hA with ⟨q1, q2⟩ | ⟨q1, _⟩ | ⟨q1, _⟩
      · exact Or.inl ⟨q1, q2.imp id (fun ⟨S, ⟨b, b1, b2⟩, b3⟩ => ⟨S, (csR_one h30 S).mpr ⟨b, List.mem_of_mem_take b1, b2⟩, b3⟩)⟩
      · omega
      · omega
    · obtain ⟨z, z1, z2, z3⟩ := partN (d := d) (i := i) (by omega) hs y0 hyu (by rw [n3 y hy, ey]; exact hil) (Or.inl (by rw [n3 y hy, ey]; omega))
      rw [n3 y hy, ey] at z3
      have z0 : 0 < z := Nat.pos_of_ne_zero (fun q => hps _ hbm (by rw [← z3, q]; rfl))
      have hnb := hIb.2.2.2.1
      have hLu : PdL ν u P kn := PdL.mono (by rw [hPb.1, hP.1]; omega) (fun j hj => h1 j (by rw [hPb.1] at hj; omega)) (by omega) (fun x hx => by rw [n3 x (by omega), hnb.2.2.1 x (by omega)]) P kn hLb
      have hCu : CrC ν u R := by
        refine ⟨Nat.le_trans hCb.1 h2.1, fun j f hj => ?_⟩
        obtain ⟨x, x1, x2, x3, x4⟩ := hCb.2 j f hj
        exact ⟨x, by rw [h2.2 j (List.getElem?_eq_some_iff.mp hj).1]; exact x1, x2, by omega, by rw [n3 x (by omega), ← hnb.2.2.1 x (by omega)]; exact x4⟩
      have tk1 : ∀ (f : Nat → Nat), (((ps t).take (i + 1)).map f).sum = (((ps t).take i).map f).sum + f (pa t i) := fun f => by
        rw [List.take_add_one, hgi, List.map_append, List.sum_append]
        simp
      have e1 := tk1 (fun b => 1 + pcF n (b :: P))
      have e2 := tk1 (fun b => ncF n (b :: P))
      have e3 := tk (fun b => 1 + pcF n (b :: P)) (i + 1)
      have e4 := tk (fun b => ncF n (b :: P)) (i + 1)
      have e5 := (foldl_max (l := (ps t).map (fun b => dpF n (b :: P))) 0).1 _ (List.mem_map.mpr ⟨pa t i, hbm, rfl⟩)
      have e6 := (foldl_max (l := (ps t).map (fun b => lfF n (b :: P))) 0).1 _ (List.mem_map.mpr ⟨pa t i, hbm, rfl⟩)
      have hwb := wtP_one (P := P) h30 hbm
      refine wp_eq z1 ?_
      refine wp_call (sp_pend (by omega) hI hP (by omega) hLu z0 (by omega) z3 hCu) (fun r u1 ⟨a1, a2, a3, a4, a5, a6, a7, a8, a9, a10, _⟩ => ?_)
      refine wp_call (ih d u1 (pa t i :: P) R r (p + 1) (by omega) a1 a2 a3 a4 (by omega) (by omega) (by omega) (by rw [a8]; omega) (by rw [a9]; omega) (fun S hS => hq S ((csR_one h30 S).mpr ⟨_, hbm, hS⟩))) (fun _ u2 ⟨b1, ⟨p2, b2, b3, b4⟩, b5, b6, b7, b8⟩ => ?_)
      rw [wp_ar]
      refine ⟨⟨by omega, by omega⟩, ?_⟩
      rw [show (i : Int) + 1 = ((i + 1 : Nat) : Int) by omega]
      have l60 : gL u1 60 = gL u 60 := a6.1
      refine ihm (i + 1) fu u2 p2 (by omega) (by omega) b1 b2 (by omega) (by omega) (fun j hj => ?_) ⟨?_, fun j hj => ?_⟩ ⟨by rw [a8] at b7; omega, by rw [a9] at b7; omega⟩ ?_
      · rw [(b5 j (by omega)).1, (b5 j (by omega)).2, (a5 j (by omega)).1, (a5 j (by omega)).2]; exact h1 j hj
      · have := h2.1; have := b6.1; omega
      · rw [b6.2 j hj, a6.2]; exact h2.2 j hj
      · rw [a10] at b8
        refine Ans.seq (Rf := RfC W) (fun S r r' q1 q2 => RefS.u 16 S (fun _ => False) r r' q1 q2) (fun S => ?_) hA b8
        rw [List.take_add_one, hgi]
        constructor
        · rintro ⟨b, q1, q2⟩
          rcases List.mem_append.mp q1 with q | q
          · exact Or.inl ⟨b, q, q2⟩
          · have : b = pa t i := by simpa using q
            rw [this] at q2
            exact Or.inr q2
        · rintro (⟨b, q1, q2⟩ | q)
          · exact ⟨b, List.mem_append_left _ q1, q2⟩
          · exact ⟨pa t i, List.mem_append_right _ (by simp), q⟩
