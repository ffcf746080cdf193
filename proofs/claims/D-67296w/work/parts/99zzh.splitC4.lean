theorem KF_m : 1000000 ≤ KF := by decide
/-- a formula more in a case -/
theorem sp_row {ν : Nat → Nat} {c : Nat} {W : Wd} {u0 u : Sg} {R : List Nat} {y t : Nat} {K : Sg → Option (Int × Sg)} {Q : Int → Sg → Prop} (hI : SpI ν c W u0 u) (hC : CrC ν u R) (hR : R.length ≤ 20000) (y0 : 0 < y) (hy : y < nC u) (ey : trC ν u y = t) (k : ∀ s, SpI ν c W u0 s → CrC ν s (R ++ [t]) → EqS u s → Gr FC (2 ^ 60) u s → gL u 60 ≤ gL s 60 → (∀ i, i < R.length → gN s 60 i = gN u 60 i) → wp (K s) Q) : wp (un (gL u 60 : Int) fun v14 => if (R.length : Int) = v14 then (ar (2 * (R.length : Int)) fun v15 => cpy u 60 v15 fun s16 => stA s16 60 (R.length : Int) (y : Int) fun s12 => K s12) else (stA u 60 (R.length : Int) (y : Int) fun s12 => K s12)) Q := by
  have hnb : nC u ≤ 90000 := by have := hI.1.1.1.1.1.2.2; have := hI.1.1.1.1.2.2.2.2.2.2.1; omega
  have h60 := hI.2.2.2.2.2.2
  have hC1 := hC.1
  have put : ∀ s : Sg, WF FC s → Gr FC (2 ^ 60) u s → R.length < gL s 60 → gL u 60 ≤ gL s 60 → gL s 60 ≤ 65536 → (∀ i, i < R.length → gN s 60 i = gN u 60 i) → wp (stA s 60 (R.length : Int) (y : Int) fun s12 => K s12) Q := fun s w g i1 i2 i3 i4 => by
    rw [stA_pos ⟨by omega, by omega⟩]
    have w2 : WF FC (sA s 60 (R.length : Int) (y : Int)) := wfA w rfl ⟨by omega, by omega⟩
    have g2 : Gr FC (2 ^ 60) u (sA s 60 (R.length : Int) (y : Int)) := g.tr (Gr_sA (by decide +kernel))
    obtain ⟨h1, h2, h3, ⟨h4, h5, h6, h7⟩, ⟨h8, h9⟩, h10, h11⟩ := hI
    obtain ⟨e, hU⟩ := g2.ux (X := fun _ => False) h1.1 (by decide +kernel)
    refine k _ ⟨h1.up hU.ux g2 (by decide +kernel), w2, h3.fr g2 (fun k hk => (by decide +kernel : ∀ k, k ≤ 85 → (k = 34 ∨ (36 ≤ k ∧ k ≤ 42) ∨ (46 ≤ k ∧ k ≤ 50) ∨ k = 53 ∨ k = 55 ∨ k = 85) → Nat.testBit (2 ^ 60) k = false) k (by omega) hk), ⟨by rw [e.n]; exact h4, by rw [e.p]; exact h5, fun x hx => by rw [e.tr]; exact h6 x hx, by rw [← h7]; exact hU.2.2.2.2.2.1⟩, ⟨by rw [g2.I 36 (by decide +kernel)]; exact h8, by rw [g2.I 33 (by decide +kernel)]; exact h9⟩, by rw [g2.I 64 (by decide +kernel)]; exact h10, by rw [gL_sA]; omega⟩ ⟨by rw [gL_sA, List.length_append]; exact i1, fun i f hi => ?_⟩ e g2 (by rw [gL_sA]; exact i2) (fun i hi => by rw [gN_sAn, if_neg (by omega)]; exact i4 i hi)
    by_cases hil : i < R.length
    · rw [List.getElem?_append_left hil] at hi
      obtain ⟨x, x1, x2, x3, x4⟩ := hC.2 i f hi
      exact ⟨x, by rw [gN_sAn, if_neg (by omega), i4 i hil]; exact x1, x2, by rw [e.n]; exact x3, by rw [e.tr]; exact x4⟩
    · rw [List.getElem?_append_right (by omega)] at hi
      have h0 : i - R.length = 0 := by have := (List.getElem?_eq_some_iff.mp hi).1; simp at this; omega
      rw [h0] at hi
      simp at hi
      have ei : i = R.length := by omega
      exact ⟨y, by rw [ei, gN_sAn, if_pos ⟨rfl, rfl⟩], y0, by rw [e.n]; exact hy, by rw [e.tr, ey]; exact hi⟩
  rw [wp_un]
  refine wp_ite (fun he => ?_) (fun he => ?_)
  · rw [wp_ar]
    refine ⟨⟨by omega, by omega⟩, ?_⟩
    refine wp_cpyC (D := 2 ^ 60) hI.2.1 rfl (by decide) (by decide +kernel) (by omega) (by omega) (by omega) (fun s w g a1 a2 a3 a4 => ?_)
    exact put s w g (by omega) (by omega) (by omega) (fun i hi => a4 i (by omega))
  · exact put u hI.2.1 Gr.rf (by omega) (Nat.le_refl _) h60.2 (fun _ _ => rfl)
/-- the parts of what is taken apart are forms -/
def opOK (u0 : Sg) (ν : Nat → Nat) : Prop := ∀ t, ndC ν u0 t → (kd t = 17 ∨ kd t = 30) → ∀ q ∈ ps t, q ≠ 0
theorem tX1_split {W : Wd} {ν : Nat → Nat} {c B : Nat} {u0 : Sg} (hB : B ≤ 300) (hr : rC u0 ≤ 20000) (hWc : ∀ f, wcT W (2 * f + 1) = pa (pa f 0) 0) (hc : c ≤ 3000) (hNe : ∀ i, i < c → ν i % 2 = 0) (hW : WOK W (Nm ν c)) (hG : WGK W (Nm ν c)) (h50 : ∀ t, ndC ν u0 t → P5 t) (hop : opOK u0 ν) : ∀ n, n ≤ 1000000 → SpSp ν c W u0 B n := by
  have key : ∀ (n : Nat), (∀ m, m < n → SpSp ν c W u0 B m) → ∀ (d fu : Nat) (u : Sg) (P R : List Nat) (k : Int) (p : Nat), wtP P < n → n ≤ fu → SpI ν c W u0 u → PdA u p → PdL ν u P k → CrC ν u R → p + pcF n P ≤ 60000 → R.length + lfF n P ≤ 20000 → 1660 + dpF n P ≤ d → gI u 36 + (ncF n P : Int) ≤ 1000000 → gI u 33 + (ncF n P : Int) ≤ 1000000 → (∀ S, csR R P S → ReqC W ν c u0 B S) → wp (bX1_split_L5 (runC d) fu k (R.length : Int) u (fun v2 s1 => un (gI s1 64) fun v3 => if v3 = 0 then (some (0, s1)) else (un (gI s1 9) fun v4 => un (gI s1 10) fun v5 => un (gI s1 86) fun v6 => cl (runC d 41 [0, v2] s1) fun v7 s8 => cl (runC d 79 [v4, v5, v6] s8) fun v9 s10 => if v7 = 1 then (some (0, s10)) else (un (sI s10 64 v7) fun s11 => some (0, s11)))) (fun v13 v14 v15 s12 => bX1_split_L104 (runC d) KF v13 v14 v15 0 s12 (fun s16 => some (0, s16))) (fun s17 => some (0, s17))) (fun _ u' => PostS ν c W u0 n P R u p u') := by
    intro n
    induction n with
    | zero => intro _ d fu u P R k p h; omega
    | succ n ihn =>
      intro ihs d fu u P R k p hwt hfu hI hP hL hC hpc hlf hdp h36 h33 hq
      obtain ⟨fu, rfl⟩ : ∃ f', fu = f' + 1 := ⟨fu - 1, by omega⟩
      have ihs' : ∀ m, m < n → SpSp ν c W u0 B m := fun m hm => ihs m (by omega)
      cases P with
      | nil =>
        rw [bX1_split_L5, if_pos (by rw [show k = -1 from hL]; decide)]
        have e1 : ncF (n + 1) [] = 1 := rfl
        have e2 : lfF (n + 1) [] = 0 := rfl
        have e3 : dpF (n + 1) [] = 0 := rfl
        refine split_end (n := n) (by omega) hB hr hWc hc hNe hW hG h50 hI hP hC (by omega) (by omega) (by omega) (hq _ ⟨fun _ => False, rfl, (un_emp _).symm⟩)
      | cons t P =>
        obtain ⟨i, y, a1, a2, a3, a4, a5, a6, a7⟩ := hL
        have hL : PdL ν u (t :: P) k := ⟨i, y, a1, a2, a3, a4, a5, a6, a7⟩
        have hs := hI.1.1
        obtain ⟨n1, n2, n3, n4⟩ := hI.2.2.2.1
        have hn := nodeC hs a4 a5
        rw [a6] at hn
        have hP' := hP
        obtain ⟨p1, p2, p3, p4, p5⟩ := hP'
        rw [bX1_split_L5, if_neg (by omega), wp_un]
        refine wp_ite (fun ha => ?_) (fun ha => ?_)
        · rw [wp_un, ha, if_pos rfl, wp_some]
          exact ⟨hI, ⟨p, hP, Nat.le_refl _, by omega⟩, fun i hi => ⟨rfl, rfl⟩, ⟨Nat.le_refl _, fun i hi => rfl⟩, ⟨by omega, by omega⟩, Ans.z ha⟩
        · have hy0 : y < nC u0 := by omega
          have ey0 : trC ν u0 y = t := by rw [← n3 y hy0]; exact a6
          have lenb : (ps t).length ≤ 300000 := by have := hn.2.2.2.1.2; have := hn.2.2.2.2.2; have := hs.1.1.2.2.2.2.2.2.2; omega
          rw [a1, ld_nat (by omega), a3, ld_nat (by omega), ld_nat (by omega), hn.1]
          refine wp_ite (fun h17 => ?_) (fun h17 => ?_)
          · have h17 : kd t = 17 := by omega
            have epc : pcF (n + 1) (t :: P) = (ps t).length + pcF n ((ps t).reverse ++ P) := by rw [pcF, if_pos h17]
            have enc : ncF (n + 1) (t :: P) = ncF n ((ps t).reverse ++ P) := by rw [ncF, if_pos h17]
            have edp : dpF (n + 1) (t :: P) = dpF n ((ps t).reverse ++ P) := by rw [dpF, if_pos h17]
            have elf : lfF (n + 1) (t :: P) = lfF n ((ps t).reverse ++ P) := by rw [lfF, if_pos h17]
            have ewt := wtP_and (P := P) h17
            refine split_L53 (ub := u) (pb := p) (by omega) a4 hy0 ey0 (by omega) (hop t ⟨y, a4, hy0, ey0⟩ (Or.inl h17)) (by omega) lenb (ps t).length 0 KF u _ (by omega) (Nat.lt_of_le_of_lt (by omega : _ ≤ 300000) KF_300) hI hP (by rw [List.take_zero]; exact a7) hC (fun j hj => ⟨rfl, rfl⟩) ⟨rfl, fun j => rfl⟩ ⟨rfl, rfl, rfl⟩ _ (fun u2 k2 b1 b2 b3 b4 b5 b6 b7 => ?_)
            refine wp_mono (ihn ihs' d fu u2 ((ps t).reverse ++ P) R k2 (p + (ps t).length) (by omega) (by omega) b1 b2 b3 b4 (by omega) (by omega) (by omega) (by rw [b7.1]; omega) (by rw [b7.2.1]; omega) (fun S hS => hq S (by rw [← csR_and h17]; exact hS))) (fun _ u' ⟨c1, ⟨p', c2, c3, c4⟩, c5, c6, c7, c8⟩ => ⟨c1, ⟨p', c2, by omega, by omega⟩, fun j hj => ?_, ⟨by have := b6.1; have := c6.1; omega, fun j hj => by rw [c6.2 j hj]; exact b6.2 j⟩, ⟨by have := b7.1; omega, by have := b7.2.1; omega⟩, by rw [b7.2.2, csR_and h17] at c8; exact c8⟩)
            rw [(c5 j (by omega)).1, (c5 j (by omega)).2]
            exact b5 j hj
          · refine wp_ite (fun h30 => ?_) (fun h30 => ?_)
            · have h30 : kd t = 30 := by omega
              exact split_L104 (n := n) (ub := u) (pb := p) (ihs n (by omega)) a4 hy0 ey0 h30 (hop t ⟨y, a4, hy0, ey0⟩ (Or.inr h30)) hwt a7 hP hC hI hpc hlf hdp h36 h33 hq lenb (ps t).length 0 KF u p (by omega) (Nat.lt_of_le_of_lt (by omega : _ ≤ 300000) KF_300) hI hP (Nat.le_refl _) (by simp) (fun j hj => ⟨rfl, rfl⟩) ⟨Nat.le_refl _, fun j hj => rfl⟩ ⟨by simp, by simp⟩ (Ans.non hI.2.2.2.2.2.1 (fun S ⟨b, q, _⟩ => by simp at q))
            · have k17 : kd t ≠ 17 := by omega
              have k30 : kd t ≠ 30 := by omega
              obtain ⟨ye, no, y1, y2, ⟨y3, y4, y5⟩, y6, y7, y8⟩ := hI.1.2.1
              have epc : pcF (n + 1) (t :: P) = pcF n P := by rw [pcF, if_neg k17, if_neg k30]
              have enc : ncF (n + 1) (t :: P) = ncF n P := by rw [ncF, if_neg k17, if_neg k30]
              have edp : dpF (n + 1) (t :: P) = dpF n P := by rw [dpF, if_neg k17, if_neg k30]
              have elf : lfF (n + 1) (t :: P) = 1 + lfF n P := by rw [lfF, if_neg k17, if_neg k30]
              have ewt : wtP P < n := by
                have : wtP (t :: P) = wtO t + wtP P := by unfold wtP; rw [List.map_cons, List.sum_cons]
                have := wtO_pos t
                omega
              rw [wp_un, y2]
              refine wp_ite (fun hno => ?_) (fun hno => ?_)
              · have et : t = noT := by rw [← a6, show y = no by omega]; exact y8
                rw [wp_some]
                exact ⟨hI, ⟨p, hP, Nat.le_refl _, by omega⟩, fun i hi => ⟨rfl, rfl⟩, ⟨Nat.le_refl _, fun i hi => rfl⟩, ⟨by omega, by omega⟩, Ans.non hI.2.2.2.2.2.1 (fun S => csR_no k17 k30 et)⟩
              · have ent : t ≠ noT := fun q => hno (by rw [trC_inj hs a5 y7 (by rw [a6, y8]; exact q)])
                rw [wp_un, y1]
                refine wp_ite (fun hye => ?_) (fun hye => ?_)
                · have et : t = yesT := by rw [← a6, show y = ye by omega]; exact y5
                  refine wp_mono (ihn ihs' d fu u P R _ p ewt (by omega) hI hP a7 hC (by omega) (by omega) (by omega) (by omega) (by omega) (fun S hS => hq S (by rw [csR_yes k17 k30 ent et]; exact hS))) (fun _ u' ⟨c1, ⟨p', c2, c3, c4⟩, c5, c6, c7, c8⟩ => ⟨c1, ⟨p', c2, c3, by omega⟩, c5, c6, ⟨by omega, by omega⟩, by rw [csR_yes k17 k30 ent et]; exact c8⟩)
                · have eyt : t ≠ yesT := fun q => hye (by rw [trC_inj hs a5 y4 (by rw [a6, y5]; exact q)])
                  rw [wp_jn]
                  refine sp_row hI hC (by omega) a4 a5 a6 (K := fun s12 => ar ((R.length : Int) + 1) fun v13 => bX1_split_L5 (runC d) fu (gN u 62 i) v13 s12 _ _ _) (fun s b1 b2 b3 b4 b5 b6 => ?_)
                  rw [wp_ar]
                  refine ⟨⟨by omega, by omega⟩, ?_⟩
                  have el : (R.length : Int) + 1 = ((R ++ [t]).length : Int) := by rw [List.length_append]; rfl
                  rw [el]
                  have bP : PdA s p := ⟨by rw [b4.I 63 (by decide +kernel)]; exact p1, by rw [b4.Ln 61 (by decide +kernel)]; exact p2, by rw [b4.Ln 61 (by decide +kernel), b4.Ln 62 (by decide +kernel)]; exact p3, by rw [b4.Ln 61 (by decide +kernel)]; exact p4, by rw [b4.Ln 61 (by decide +kernel)]; exact p5⟩
                  have bL : PdL ν s P (gN u 62 i) := PdL.mono (by rw [b4.I 63 (by decide +kernel)]; exact Int.le_refl _) (fun j _ => ⟨b4.N 61 (by decide +kernel) j, b4.N 62 (by decide +kernel) j⟩) (by rw [b3.n]; exact Nat.le_refl _) (fun x _ => b3.tr x) P _ a7
                  have i36 := b4.I 36 (by decide +kernel)
                  have i33 := b4.I 33 (by decide +kernel)
                  have i64 := b4.I 64 (by decide +kernel)
                  refine wp_mono (ihn ihs' d fu s P (R ++ [t]) _ p ewt (by omega) b1 bP bL b2 (by omega) (by rw [List.length_append]; show R.length + 1 + _ ≤ _; omega) (by omega) (by rw [i36]; omega) (by rw [i33]; omega) (fun S hS => hq S (by rw [csR_leaf k17 k30 ent eyt]; exact hS))) (fun _ u' ⟨c1, ⟨p', c2, c3, c4⟩, c5, c6, c7, c8⟩ => ⟨c1, ⟨p', c2, c3, by omega⟩, fun j hj => ?_, ⟨by have := c6.1; omega, fun j hj => ?_⟩, ⟨by rw [i36] at c7; omega, by rw [i33] at c7; omega⟩, by rw [csR_leaf k17 k30 ent eyt, ← i64]; exact c8⟩)
                  · rw [(c5 j hj).1, (c5 j hj).2, b4.N 61 (by decide +kernel), b4.N 62 (by decide +kernel)]
                    exact ⟨rfl, rfl⟩
                  · rw [c6.2 j (by rw [List.length_append]; show j < R.length + 1; omega)]
                    exact b6 j hj
  intro n
  induction n using Nat.strongRecOn with
  | ind n ih =>
    intro hn d u P R k p h1 h2 h3 h4 h5 h6 h7 h8 h9 h10 h11
    obtain ⟨d, rfl⟩ : ∃ d', d = d' + 1 := ⟨d - 1, by omega⟩
    rw [runC_eq (by omega)]
    show wp (bX1_split (runC d) k (R.length : Int) u) _
    unfold bX1_split
    exact key n (fun m hm => ih m hm (by omega)) d KF u P R k p h1 (Nat.le_trans hn KF_m) h2 h3 h4 h5 h6 h7 (by omega) h9 h10 h11
