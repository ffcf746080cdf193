/-- what opening and splitting a check's formula ask for -/
def ChR (W : Wd) (X : Nat → Prop) (c n m d B : Nat) (u : Sg) (G : Nat) : Prop := opR W X n G c ∧ (opF n G c).2 ≤ 3000 ∧ 1000 + n ≤ d ∧ (WOK W (Nm nu2 (opF n G c).2) ∧ WGK W (Nm nu2 (opF n G c).2)) ∧ (wtP [(opF n G c).1] < m ∧ m ≤ 1000000 ∧ pcF m [(opF n G c).1] ≤ 50000 ∧ lfF m [(opF n G c).1] ≤ 20000 ∧ 1661 + dpF m [(opF n G c).1] ≤ d ∧ ncF m [(opF n G c).1] ≤ 1000) ∧ ∀ S, csR [] [(opF n G c).1] S → ReqO W (opF n G c).2 u B X S
def ChQ (W : Wd) (c n : Nat) (u : Sg) (G : Nat) (r : Int) (v : Sg) : Prop := ChE W c u v ∧ gI v 84 = ((min 1000 (cnF (htT G + 1) G 0) : Nat) : Int) ∧ (0 ≤ gI v 36 ∧ gI v 36 ≤ gI u 36 + 1000 ∧ gI u 33 < gI v 33 ∧ gI v 33 ≤ gI u 33 + 1001) ∧ ((cnF (htT G + 1) G 0 ≤ 40 ∧ Ans (RfC W) 1 (csR [] [(opF n G c).1]) r) ∨ (40 < cnF (htT G + 1) G 0 ∧ r = 2))
theorem bits8 {k : Nat} (hk : 13 ≤ k) : Nat.testBit 8191 k = false := Nat.testBit_lt_two_pow (Nat.lt_of_lt_of_le (by decide : 8191 < 2 ^ 13) (Nat.pow_le_pow_right (by decide) hk))
theorem chk_core {d : Nat} {W : Wd} {X : Nat → Prop} {c n m B : Nat} {u : Sg} {Pr : List Nat} {x gt : Nat} (hd : 40 ≤ d) (hB : B ≤ 300) (hWc : ∀ f, wcT W (2 * f + 1) = pa (pa f 0) 0) (h1 : CW nu2 c W u) (h2 : WF FC u) (h3 : ArrC u) (h36 : 0 ≤ gI u 36 ∧ gI u 36 ≤ 900000) (h33 : 0 ≤ gI u 33 ∧ gI u 33 ≤ 900000) (h61 : gL u 62 = gL u 61 ∧ 16 ≤ gL u 61 ∧ gL u 61 ≤ 131072) (h60 : 16 ≤ gL u 60 ∧ gL u 60 ≤ 65536) (hr : rC u ≤ 10000) (hPr : PrC nu2 u Pr) (x0 : 0 < x) (hx : x < nC u) (ex : trC nu2 u x = gt) (hog : okT gt) (hfg : isFo gt) (hPo : ∀ f ∈ Pr, okT f ∧ isFo f) (hXn : X (notT gt)) (hXG : X (andT (Pr ++ [notT gt]))) (hfl : ((Pr ++ [notT gt]).flatMap flt).length ≤ 5000) (hz : hzO (andT (Pr ++ [notT gt]))) (hsz : szT (andT (Pr ++ [notT gt])) ≤ 5000) (hht : 5 + htT (andT (Pr ++ [notT gt])) ≤ d) (hl : Lim nu2 u X) (h5 : ∀ t, ndC nu2 u t ∨ X t → P5 t) (hop : ∀ t, ndC nu2 u t ∨ X t → (kd t = 17 ∨ kd t = 30) → ∀ q ∈ ps t, q ≠ 0) (hR : cnF (htT (andT (Pr ++ [notT gt])) + 1) (andT (Pr ++ [notT gt])) 0 ≤ 40 → ChR W X c n m d B u (andT (Pr ++ [notT gt]))) : wp (un (gI u 9) fun v3 => un (gI u 10) fun v4 => un (gI u 86) fun v5 => un (gI u 12) fun v6 => bX1_check_L41 (runC d) KF (x : Int) v3 v4 v5 v6 0 u (fun v8 v9 v10 v11 v12 s7 => jn (fun (a3 a4 a5 : Int) (s14 : Sg) => cl (runC d 79 [a3, a4, a5] s14) fun v15 s16 => un (gI s16 64) fun v17 => some (v17, s16)) fun j13 => cl (runC d 102 [v8] s7) fun v18 s19 => cl (runC d 97 [v18] s19) fun v20 s21 => cl (runC d 104 [v12] s21) fun v22 s23 => un (sI s23 64 1) fun s24 => cl (runC d 37 [v22, 0] s24) fun v25 s26 => un (sI s26 84 v25) fun s27 => un (gI s27 84) fun v28 => if v28 ≤ 40 then (un (sI s27 63 0) fun s29 => cl (runC d 38 [v22] s29) fun v30 s31 => cl (runC d 39 [v30, (-1)] s31) fun v32 s33 => cl (runC d 40 [v32, 0] s33) fun v34 s35 => j13 v9 v10 v11 s35) else (un (sI s27 64 2) fun s36 => j13 v9 v10 v11 s36))) (ChQ W c n u (andT (Pr ++ [notT gt]))) := by
  have hs := h1.1
  have hT : CtL u := h3.2.2.2.2.2.2.1
  have hn := okT_not hog hfg
  have hGo : okT (andT (Pr ++ [notT gt])) ∧ isFo (andT (Pr ++ [notT gt])) := okT_and (fun f hf => by
    rcases List.mem_append.mp hf with q | q
    · exact hPo f q
    · rw [List.mem_singleton.mp q]; exact hn)
  have hpos : ∀ f ∈ Pr ++ [notT gt], kd f = 17 → ∀ t ∈ ps f, 0 < t := fun f hf k t ht => by
    have hof : okT f := by
      rcases List.mem_append.mp hf with q | q
      · exact (hPo f q).1
      · rw [List.mem_singleton.mp q]; exact hn.1
    rcases hof.n.2 with q | q | q | q | q | q | q | q | q | q | q | q | q | q <;> try omega
    exact Nat.pos_of_ne_zero (isFo_pos (q.2.2.2 t ht).1)
  have hP20 := hPr.2.2.1
  generalize eG : andT (Pr ++ [notT gt]) = G at *
  rw [wp_un, wp_un, wp_un, wp_un, show gI u 9 = (nC u : Int) from hs.1.1.1.1, show gI u 10 = (pC u : Int) from hs.1.1.2.1.1, show gI u 86 = (c : Int) from h1.2.2.1.1, show gI u 12 = (rC u : Int) from hs.r.1]
  refine check_L41 (W := W) (X := X) (c := c) (by omega) hPr (by omega) Pr.length 0 KF u (by omega) (Nat.lt_of_le_of_lt (by omega : _ ≤ 65536) KF_gt) (OpI.rf h1 h2 hT) Gr.rf ⟨by simp, fun i t hi => by simp at hi⟩ _ (fun u1 o1 g1 r1 => ?_)
  have hr1 := r1.1
  show wp (jn _ _) _
  refine wp_jnG (fun j => ∀ (s : Sg) (c' : Nat), CW nu2 c' W s → WF FC s → ArrC s → c ≤ c' → nC u ≤ nC s → (∀ x, x < nC u → trC nu2 s x = trC nu2 u x) → (∀ t, ndC nu2 s t → ndC nu2 u t ∨ X t) → rC s = rC u → (gI u 33 ≤ gI s 33 ∧ gI s 33 ≤ gI u 33 + 1000) → (0 ≤ gI s 36 ∧ gI s 36 ≤ gI u 36 + 1000) → (gL s 62 = gL s 61 ∧ 16 ≤ gL s 61 ∧ gL s 61 ≤ 131072) → (16 ≤ gL s 60 ∧ gL s 60 ≤ 65536) → Gr FC Dk0 u s → gI s 84 = ((min 1000 (cnF (htT G + 1) G 0) : Nat) : Int) → ((cnF (htT G + 1) G 0 ≤ 40 ∧ Ans (RfC W) 1 (csR [] [(opF n G c).1]) (gI s 64)) ∨ (40 < cnF (htT G + 1) G 0 ∧ gI s 64 = 2)) → wp (j (nC u : Int) (pC u : Int) (c : Int) s) (ChQ W c n u G)) (fun s c' a1 a2 a3 a4 a5 a6 a7 a8 a9 a10 a11 a12 ag a13 a14 => ?_) (fun j13 hj => ?_)
  · exact chk_end (by omega) h1 a1 a2 a3 a4 a5 a6 (fun t ht => h5 t (Or.inl ht)) (fun t ht => (a7 t ht).imp id (fun q => h5 t (Or.inr q))) a8 (by omega) ag (by omega) (by omega) a11 a12 (fun v b1 b2 b3 b4 => ⟨b1, by rw [b4]; exact a13, ⟨by rw [b3]; exact a10.1, by rw [b3]; exact a10.2, by rw [b2]; omega, by rw [b2]; omega⟩, a14⟩)
  -- NOT the goal, the AND of all
  have hx1 : x < nC u1 := Nat.lt_of_lt_of_le hx o1.2.2.2.1.1
  have ex1 : trC nu2 u1 x = gt := by rw [o1.2.2.2.1.2.1 x hx]; exact ex
  refine wp_call (tX2_not (X := X) (by omega) o1.2.1 o1.1.1 x0 hx1 (by omega) (by rw [ex1]; exact not_wf hog) (by rw [ex1]; exact hXn) (o1.lim hl)) (fun rn u2 ⟨v, v1, v2, v3, v4, v5, v6, v7⟩ => ?_)
  rw [ex1] at v4
  rw [v1]
  have o2 : OpI W X c u1 u2 := OpI.st o1.1 o1.2.2.1 v5 v6 v7 (by decide +kernel) (by decide +kernel)
  have hr2 : rC u2 = rC u1 := v5.2.2.2.2.2.1
  have hnb2 : nC u2 ≤ 90000 := by have := o2.1.1.1.1.1.2.2; have := o2.1.1.1.1.2.2.2.2.2.2.1; omega
  refine wp_call (gX2_push v6 ⟨by omega, by omega⟩ (op_push (X := X) (t := notT gt) (by omega) o2.1 o2.2.1 o2.2.2.1 (r1.op o2 hr2) v2 v3 v4 (by omega))) (fun _ u3 ⟨⟨w1, w2, w3⟩, g3, _, _⟩ => ?_)
  have o03 := (o1.tr o2 (by omega)).tr w1 (by omega)
  have hr3 := w2.1
  refine wp_call (and_fin (d := d) (X := X) (by omega) o03.2.1 o03.1.1 w2 o03.1.2.1 hpos (by omega) hfl (by rw [eG]; exact hXG) (o03.lim hl)) (fun rG u4 hG4 => ?_)
  have g4 : Gr FC DX2_and_2 u3 u4 := by obtain ⟨_, _, _, _, _, _, _, _, _, _, _, q⟩ := hG4; exact q
  obtain ⟨z, b1, b2, b3, b4, b5, b6, b7, b8, b9, b10⟩ := hG4.op o03.1 o03.2.2.1 (by omega) (by decide +kernel) (by decide +kernel)
  rw [eG] at b4
  rw [b1]
  have G04 : Gr FC 8191 u u4 := (g1.sub (by decide +kernel)).tr ((v7.sub (by decide +kernel)).tr ((g3.sub (by decide +kernel)).tr (g4.sub (by decide +kernel))))
  have o04 : OpI W X c u u4 := ⟨b6, b7, b8, ⟨Nat.le_trans o03.2.2.2.1.1 b9.1, fun y hy => by rw [b9.2.1 y (Nat.lt_of_lt_of_le hy o03.2.2.2.1.1), o03.2.2.2.1.2.1 y hy], fun t ht => (b9.2.2 t ht).elim (o03.2.2.2.1.2.2 t) Or.inr⟩, fun i hi => by rw [b10 i hi, o03.2.2.2.2 i hi]⟩
  have a4 : ArrC u4 := h3.fr G04 (fun k hk => bits8 (by omega))
  -- the answer and how many cases
  rw [wp_un]
  have g5 : Gr FC (2 ^ 64) u4 (sI u4 64 1) := Gr_sI (by decide +kernel)
  have w5 : WF FC (sI u4 64 1) := wfI b7 rfl ⟨by omega, by omega⟩
  obtain ⟨e5, hU5⟩ := g5.ux (X := X) b6.1 (by decide +kernel)
  have c5 : CW nu2 c W (sI u4 64 1) := b6.up hU5.ux g5 (by decide +kernel)
  have i645 : gI (sI u4 64 1) 64 = 1 := rfl
  generalize sI u4 64 1 = u5 at *
  have hnb5 : nC u5 ≤ 90000 := by have := c5.1.1.1.1.2.2; have := c5.1.1.1.2.2.2.2.2.2.1; omega
  have ec := rX1_casesOf c5.1 hnb5 (htT G + 1) G 0 d z (by omega) hGo.1 hGo.2 (by omega) hht b2 (by rw [e5.n]; exact b3) (by rw [e5.tr]; exact b4)
  refine wp_eq ec ?_
  have hcap : min 1000 (cnF (htT G + 1) G 0) ≤ 1000 := by omega
  rw [wp_un]
  have c6 : CW nu2 c W (sI u5 84 ((min 1000 (cnF (htT G + 1) G 0) : Nat) : Int)) := CW_s84 c5
  have w6 : WF FC (sI u5 84 ((min 1000 (cnF (htT G + 1) G 0) : Nat) : Int)) := wfI w5 rfl ⟨by omega, by omega⟩
  have g6 : Gr FC (2 ^ 84) u5 (sI u5 84 ((min 1000 (cnF (htT G + 1) G 0) : Nat) : Int)) := Gr_sI (by decide +kernel)
  have i84 : gI (sI u5 84 ((min 1000 (cnF (htT G + 1) G 0) : Nat) : Int)) 84 = ((min 1000 (cnF (htT G + 1) G 0) : Nat) : Int) := rfl
  obtain ⟨e6, hU6⟩ := g6.ux (X := X) c5.1 (by decide +kernel)
  generalize sI u5 84 ((min 1000 (cnF (htT G + 1) G 0) : Nat) : Int) = u6 at *
  have e46 := e5.trn e6
  have g46 : Gr FC (2 ^ 64 + 2 ^ 84) u4 u6 := (g5.sub (by decide +kernel)).tr (g6.sub (by decide +kernel))
  have a6 : ArrC u6 := a4.fr g46 (fun k hk => (by decide +kernel : ∀ k, k ≤ 85 → (k = 34 ∨ (36 ≤ k ∧ k ≤ 42) ∨ (46 ≤ k ∧ k ≤ 50) ∨ k = 53 ∨ k = 55 ∨ k = 85) → Nat.testBit (2 ^ 64 + 2 ^ 84) k = false) k (by omega) hk)
  have hr6 : rC u6 = rC u := by rw [show rC u6 = rC u5 from hU6.2.2.2.2.2.1, show rC u5 = rC u4 from hU5.2.2.2.2.2.1]; exact b5
  have i6 : ∀ k, 13 ≤ k → k ≠ 64 → k ≠ 84 → gI u6 k = gI u k ∧ gL u6 k = gL u k := fun k hk h64 h84 => by
    have hb : Nat.testBit (2 ^ 64 + 2 ^ 84) k = false := by
      by_cases hk9 : k ≤ 90
      · exact (by decide +kernel : ∀ k, k ≤ 90 → k ≠ 64 → k ≠ 84 → Nat.testBit (2 ^ 64 + 2 ^ 84) k = false) k hk9 h64 h84
      · exact Nat.testBit_lt_two_pow (Nat.lt_of_lt_of_le (by decide +kernel : 2 ^ 64 + 2 ^ 84 < 2 ^ 90) (Nat.pow_le_pow_right (by decide) (by omega)))
    exact ⟨by rw [g46.I k hb, G04.I k (bits8 hk)], by rw [g46.Ln k hb, G04.Ln k (bits8 hk)]⟩
  have n6 : nC u ≤ nC u6 := by rw [e46.n]; exact o04.2.2.2.1.1
  have t6 : ∀ x, x < nC u → trC nu2 u6 x = trC nu2 u x := fun x hx => by rw [e46.tr]; exact o04.2.2.2.1.2.1 x hx
  have d6 : ∀ t, ndC nu2 u6 t → ndC nu2 u t ∨ X t := fun t ht => o04.2.2.2.1.2.2 t ((e46.nd t).mp ht)
  have z6 : z < nC u6 := by rw [e46.n]; exact b3
  have ez6 : trC nu2 u6 z = G := by rw [e46.tr]; exact b4
  rw [wp_un, i84]
  refine wp_ite (fun h40 => ?_) (fun h40 => ?_)
  · have hle : cnF (htT G + 1) G 0 ≤ 40 := by omega
    obtain ⟨q1, q2, q3, ⟨q4, q4'⟩, ⟨q5, q6, q7, q8, q9, q10⟩, q11⟩ := hR hle
    rw [wp_un]
    have g7 : Gr FC (2 ^ 63) u6 (sI u6 63 0) := Gr_sI (by decide +kernel)
    have w7 : WF FC (sI u6 63 0) := wfI w6 rfl ⟨by omega, by omega⟩
    obtain ⟨e7, hU7⟩ := g7.ux (X := X) c6.1 (by decide +kernel)
    have c7 : CW nu2 c W (sI u6 63 0) := c6.up hU7.ux g7 (by decide +kernel)
    have a7 : ArrC (sI u6 63 0) := a6.fr g7 (fun k hk => (by decide +kernel : ∀ k, k ≤ 85 → (k = 34 ∨ (36 ≤ k ∧ k ≤ 42) ∨ (46 ≤ k ∧ k ≤ 50) ∨ k = 53 ∨ k = 55 ∨ k = 85) → Nat.testBit (2 ^ 63) k = false) k (by omega) hk)
    have i63 : gI (sI u6 63 0) 63 = 0 := rfl
    have hr7 : rC (sI u6 63 0) = rC u := hr6
    have i64 : gI (sI u6 63 0) 64 = 1 := by show gI u6 64 = 1; rw [g6.I 64 (by decide +kernel)]; exact i645
    generalize sI u6 63 0 = u7 at *
    have hl7 : Lim nu2 u7 X := fun l hn' hm => hl l hn' (fun t ht => (hm t ht).elim (fun q => d6 t ((e7.nd t).mp q)) Or.inr)
    have hnb7 : nC u7 ≤ 90000 := by have := c7.1.1.1.1.2.2; have := c7.1.1.1.2.2.2.2.2.2.1; omega
    have z7 : z < nC u7 := by rw [e7.n]; exact z6
    refine wp_call (gX1_open w7 ⟨by omega, by omega⟩ (tX1_open n d u7 z G c q1 q3 c7 w7 a7.2.2.2.2.2.2.1 b2 z7 (by rw [e7.tr]; exact ez6) hGo.1 hGo.2 hz hsz (by omega) (by omega) hl7)) (fun rh u8 ⟨⟨hN, o1', o2', o3', o4', o5', o6'⟩, g8, _, _⟩ => ?_)
    rw [o1']
    have a8 : ArrC u8 := a7.fr2 g8 o5'.2.2.1 (fun k hk => (by decide +kernel : ∀ k, k ≤ 55 → (k = 34 ∨ (36 ≤ k ∧ k ≤ 42) ∨ (46 ≤ k ∧ k ≤ 50) ∨ k = 53 ∨ k = 55) → Nat.testBit DX1_open k = false) k (by omega) hk)
    have i8 : ∀ k, Nat.testBit DX1_open k = false → k ≠ 63 → 13 ≤ k → k ≠ 64 → k ≠ 84 → gI u8 k = gI u k ∧ gL u8 k = gL u k := fun k h h63 h13 h64 h84 => by
      have hb : Nat.testBit (2 ^ 63) k = false := by
        by_cases hk9 : k ≤ 90
        · exact (by decide +kernel : ∀ k, k ≤ 90 → k ≠ 63 → Nat.testBit (2 ^ 63) k = false) k hk9 h63
        · exact Nat.testBit_lt_two_pow (Nat.lt_of_lt_of_le (by decide +kernel : 2 ^ 63 < 2 ^ 90) (Nat.pow_le_pow_right (by decide) (by omega)))
      exact ⟨by rw [g8.I k h, g7.I k hb, (i6 k h13 h64 h84).1], by rw [g8.Ln k h, g7.Ln k hb, (i6 k h13 h64 h84).2]⟩
    have e36 := (i8 36 (by decide +kernel) (by omega) (by omega) (by omega) (by omega)).1
    have e33 := (i8 33 (by decide +kernel) (by omega) (by omega) (by omega) (by omega)).1
    have e60 := (i8 60 (by decide +kernel) (by omega) (by omega) (by omega) (by omega)).2
    have e61 := (i8 61 (by decide +kernel) (by omega) (by omega) (by omega) (by omega)).2
    have e62 := (i8 62 (by decide +kernel) (by omega) (by omega) (by omega) (by omega)).2
    have j64 : gI u8 64 = 1 := by rw [g8.I 64 (by decide +kernel)]; exact i64
    have j63 : gI u8 63 = 0 := by rw [g8.I 63 (by decide +kernel)]; exact i63
    have j84 : gI u8 84 = ((min 1000 (cnF (htT G + 1) G 0) : Nat) : Int) := by rw [g8.I 84 (by decide +kernel), g7.I 84 (by decide +kernel)]; exact i84
    have n8 : nC u ≤ nC u8 := by have := o5'.2.2.2.1.1; rw [e7.n] at this; omega
    have t8 : ∀ x, x < nC u → trC nu2 u8 x = trC nu2 u x := fun x hx => by rw [o5'.2.2.2.1.2.1 x (by rw [e7.n]; omega), e7.tr]; exact t6 x hx
    have d8 : ∀ t, ndC nu2 u8 t → ndC nu2 u t ∨ X t := fun t ht => (o5'.2.2.2.1.2.2 t ht).elim (fun q => d6 t ((e7.nd t).mp q)) Or.inr
    have hr8 : rC u8 = rC u := by omega
    have sp8 : SpI nu2 (opF n G c).2 W u8 u8 := ⟨o5'.1, o5'.2.1, a8, ⟨rfl, rfl, fun _ _ => rfl, rfl⟩, ⟨by omega, by omega, Int.le_refl _⟩, Or.inr (Or.inl j64), by rw [e60]; exact h60⟩
    have pd8 : PdA u8 0 := ⟨j63, Nat.zero_le _, by rw [e61, e62]; exact h61.1, by rw [e61]; exact h61.2.1, by rw [e61]; exact h61.2.2⟩
    have hnb8 : nC u8 ≤ 90000 := by have := o5'.1.1.1.1.1.2.2; have := o5'.1.1.1.1.2.2.2.2.2.2.1; omega
    refine wp_call (gX1_pend o5'.2.1 ⟨by omega, by omega⟩ ⟨by decide, by decide⟩ (sp_pend (R := []) (by omega) sp8 pd8 (by omega) (show PdL nu2 u8 [] (-1) from rfl) o2' o3' o4' ⟨Nat.zero_le _, fun i f hi => by simp at hi⟩)) (fun rk u9 ⟨⟨s1, s2, s3, s4, s5, s6, s7, s8, s9, s10, _⟩, g9, _, _⟩ => ?_)
    have req : ∀ S, csR [] [(opF n G c).1] S → ReqC W nu2 (opF n G c).2 u8 B S := fun S hS => by
      obtain ⟨k1, k2, k3, X2, y1, y2, y3⟩ := q11 S hS
      exact ⟨k1, k2, k3, X2, y2, RfX.op (fun t ht => (d8 t ht).imp id (y1 t)) _ _ _ y3⟩
    have spl := tX1_split (u0 := u8) (B := B) hB (by omega) hWc q2 (fun i _ => by unfold nu2; omega) q4 q4' (fun t ht => h5 t (d8 t ht)) (fun t ht => hop t (d8 t ht)) m q6 d u9 [(opF n G c).1] [] rk 1 q5 s1 s2 s3 s4 (by omega) (by show 0 + _ ≤ _; omega) q9 (by rw [s8, e36]; omega) (by rw [s9, e33]; omega) req
    have hkr := s3.rng s2.1
    refine wp_call (gX1_split s1.2.1 ⟨by omega, by omega⟩ ⟨by decide, by decide⟩ spl) (fun _ u10 ⟨⟨y1, ⟨p', y2, y3, y4⟩, y5, y6, y7, y8⟩, g10, _, _⟩ => ?_)
    obtain ⟨x1, x2, x3, ⟨x4, x5, x6, x7⟩, ⟨x8, x9⟩, x10, x11⟩ := y1
    rw [s10, j64] at y8
    refine hj u10 (opF n G c).2 x1 x2 x3 (opF_le n G c) (by omega) (fun x hx => by rw [x6 x (by omega)]; exact t8 x hx) (fun t ⟨y, h0, h1', h2'⟩ => d8 t ⟨y, h0, by omega, by rw [← x6 y (by omega)]; exact h2'⟩) (by omega) ⟨by rw [e33] at x9; omega, by rw [s9, e33] at y7; omega⟩ ⟨x8, by rw [s8, e36] at y7; omega⟩ ⟨y2.2.2.1, y2.2.2.2.1, y2.2.2.2.2⟩ x11 ?_ ?_ (Or.inl ⟨hle, y8⟩)
    · exact (G04.sub (by decide +kernel)).tr ((g46.sub (by decide +kernel)).tr ((g7.sub (by decide +kernel)).tr ((g8.sub (by decide +kernel)).tr ((g9.sub (by decide +kernel)).tr (g10.sub (by decide +kernel))))))
    rw [g10.I 84 (by decide +kernel), g9.I 84 (by decide +kernel)]
    exact j84
  · rw [wp_un]
    have g7 : Gr FC (2 ^ 64) u6 (sI u6 64 2) := Gr_sI (by decide +kernel)
    have w7 : WF FC (sI u6 64 2) := wfI w6 rfl ⟨by omega, by omega⟩
    obtain ⟨e7, hU7⟩ := g7.ux (X := X) c6.1 (by decide +kernel)
    refine hj _ c (c6.up hU7.ux g7 (by decide +kernel)) w7 (a6.fr g7 (fun k hk => (by decide +kernel : ∀ k, k ≤ 85 → (k = 34 ∨ (36 ≤ k ∧ k ≤ 42) ∨ (46 ≤ k ∧ k ≤ 50) ∨ k = 53 ∨ k = 55 ∨ k = 85) → Nat.testBit (2 ^ 64) k = false) k (by omega) hk)) (Nat.le_refl _) (by rw [e7.n]; exact n6) (fun x hx => by rw [e7.tr]; exact t6 x hx) (fun t ht => d6 t ((e7.nd t).mp ht)) hr6 ?_ ?_ ?_ ?_ ((G04.sub (by decide +kernel)).tr ((g46.sub (by decide +kernel)).tr (g7.sub (by decide +kernel)))) i84 (Or.inr ⟨by omega, rfl⟩)
    · show gI u 33 ≤ gI u6 33 ∧ gI u6 33 ≤ _
      rw [(i6 33 (by omega) (by omega) (by omega)).1]; omega
    · show 0 ≤ gI u6 36 ∧ gI u6 36 ≤ _
      rw [(i6 36 (by omega) (by omega) (by omega)).1]; omega
    · show gL u6 62 = gL u6 61 ∧ 16 ≤ gL u6 61 ∧ gL u6 61 ≤ 131072
      rw [(i6 61 (by omega) (by omega) (by omega)).2, (i6 62 (by omega) (by omega) (by omega)).2]; exact h61
    · show 16 ≤ gL u6 60 ∧ gL u6 60 ≤ 65536
      rw [(i6 60 (by omega) (by omega) (by omega)).2]; exact h60
