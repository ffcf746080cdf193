theorem concat_of : ∀ (l : List Nat), l = [] ∨ ∃ l' b, l = l' ++ [b]
  | [] => Or.inl rfl
  | a :: l => by
    rcases concat_of l with e | ⟨l', b, e⟩
    · exact Or.inr ⟨[], a, by rw [e]; rfl⟩
    · exact Or.inr ⟨a :: l', b, by rw [e]; rfl⟩
/-- terms are on the stack from a place on -/
def StL (u : Sg) (w : Nat) (ys : List Nat) : Prop := StkT u (w + ys.length) ∧ ∀ (i y : Nat), ys[i]? = some y → gN u 41 (w + i) = (y : Int)
theorem allOf_L70 {d : Nat} (hd : 5 ≤ d) {ν : Nat → Nat} {c : Nat} {W : Wd} {u0 u : Sg} {X : Nat → Prop} {a1 a2 a4 : Int} {x w t : Nat} {Q : Int → Sg → Prop} (x0 : 0 < x) (hx : x ≤ nT u) (hb : nT u < 131072) (et : trT ν u x = t) (ht : cltm W (NT ν c) t) (h4 : kd t = 4) (hn2 : (ps t).length ≤ 2) (hw2 : w ≤ 90000) (hA0 : AlP ν c W u0 X u) : ∀ (m i f : Nat) (u1 : Sg) (ys : List Nat), i + m = (ps t).length → m < f → EqH u u1 → AlP ν c W u0 X u1 → StL u1 w ys → (∀ j, j < w → gN u1 41 j = gN u 41 j) → (∀ s, RemT u1 s ↔ RemT u s) → ys.length ≤ i → (∀ y ∈ ys, 0 < y ∧ y ≤ nT u ∧ trT ν u y ∈ fms t ∧ ¬ RemT u y) → (ys.map (fun y => szT (trT ν u y))).sum ≤ (((ps t).take i).map szT).sum → (∀ k y, k < i → 0 < y → y ≤ nT u → trT ν u y = pa t k → RemT u y ∨ y ∈ ys) → ∀ xx : Int → Int → Int → Int → Sg → Option (Int × Sg), (∀ u2 ys2, EqH u u2 → AlP ν c W u0 X u2 → StL u2 w ys2 → (∀ j, j < w → gN u2 41 j = gN u 41 j) → (∀ s, RemT u2 s ↔ RemT u s) → ys2.length ≤ 2 → (∀ y ∈ ys2, 0 < y ∧ y ≤ nT u ∧ trT ν u y ∈ fms t ∧ ¬ RemT u y) → (ys2.map (fun y => szT (trT ν u y))).sum ≤ ((ps t).map szT).sum → (∀ k y, k < (ps t).length → 0 < y → y ≤ nT u → trT ν u y = pa t k → RemT u y ∨ y ∈ ys2) → wp (xx a1 a2 (x : Int) a4 u2) Q) → wp (bX3_allOf_L70 (runT d) f a1 a2 (x : Int) a4 ((i + 1 : Nat) : Int) u1 xx) Q := by
  have nw1 : nw (kd t) = 1 := by rw [h4]; decide
  intro m
  induction m with
  | zero =>
    intro i f u1 ys hi hf e1 hA hS hold hrem hyl hys hsum hall xx k
    obtain ⟨f, rfl⟩ : ∃ f', f = f' + 1 := ⟨f - 1, by omega⟩
    have hs1 := hA.1.1
    have etx : trT ν u1 x = t := by rw [e1.1.tr]; exact et
    have hx1 : x ≤ nT u1 := by rw [e1.1.n]; exact hx
    have hn := nodeT hs1 x0 hx1
    rw [etx, nw1] at hn
    have hl3 : x < gL u1 3 := by rw [hs1.1.1.2.2.2.1.2.1]; exact hs1.k hx1
    have ei : i = (ps t).length := by omega
    rw [ei, List.take_of_length_le (Nat.le_refl _)] at hsum
    rw [ei] at hall
    rw [bX3_allOf_L70, ld_nat hl3, hn.2.1, if_neg (by omega)]
    exact k u1 ys e1 hA hS hold hrem (by omega) hys hsum hall
  | succ m ih =>
    intro i f u1 ys hi hf e1 hA hS hold hrem hyl hys hsum hall xx k
    obtain ⟨f, rfl⟩ : ∃ f', f = f' + 1 := ⟨f - 1, by omega⟩
    have hs1 := hA.1.1
    have etx : trT ν u1 x = t := by rw [e1.1.tr]; exact et
    have hx1 : x ≤ nT u1 := by rw [e1.1.n]; exact hx
    have hn := nodeT hs1 x0 hx1
    rw [etx, nw1] at hn
    have hl3 : x < gL u1 3 := by rw [hs1.1.1.2.2.2.1.2.1]; exact hs1.k hx1
    have hil : i < (ps t).length := by omega
    obtain ⟨fp1, fp2⟩ := fun_part ht h4 hil
    obtain ⟨y, y1, y2, y3⟩ := partNT (d := d) (i := i) (by omega) hs1 x0 hx1 (by rw [etx]; exact hil) (Or.inl (by rw [etx]; omega))
    rw [etx, nw1] at y1
    rw [etx] at y3
    have eyu : trT ν u y = pa t i := by rw [← e1.1.tr]; exact y3
    have hyu : y ≤ nT u := by have := e1.1.n; omega
    have y0 : 0 < y := by
      rcases Nat.eq_zero_or_pos y with q | q
      · rw [q] at eyu
        exact absurd eyu.symm (isTm_pos fp1.2.1)
      · exact q
    have htk : ((ps t).take (i + 1)).map szT = ((ps t).take i).map szT ++ [szT (pa t i)] := by
      rw [List.take_add_one, pa_get hil, List.map_append]; rfl
    have hinj : ∀ z, 0 < z → z ≤ nT u → trT ν u z = pa t i → z = y := fun z z0 hz ez => trT_inj hA0.1.1 hz hyu (by rw [ez, eyu])
    rw [bX3_allOf_L70, ld_nat hl3, hn.2.1, if_pos (by omega)]
    refine wp_eq y1 ?_
    have next : ∀ u2 ys2, EqH u u2 → AlP ν c W u0 X u2 → StL u2 w ys2 → (∀ j, j < w → gN u2 41 j = gN u 41 j) → (∀ s, RemT u2 s ↔ RemT u s) → ys2.length ≤ i + 1 → (∀ y ∈ ys2, 0 < y ∧ y ≤ nT u ∧ trT ν u y ∈ fms t ∧ ¬ RemT u y) → (ys2.map (fun y => szT (trT ν u y))).sum ≤ (((ps t).take (i + 1)).map szT).sum → (∀ k y, k < i + 1 → 0 < y → y ≤ nT u → trT ν u y = pa t k → RemT u y ∨ y ∈ ys2) → wp (ar (((i + 1 : Nat) : Int) + 1) fun v6 => bX3_allOf_L70 (runT d) f a1 a2 (x : Int) a4 v6 u2 xx) Q := fun u2 ys2 q1 q2 q3 q4 q5 q6 q7 q8 q9 => by
      rw [wp_ar]
      refine ⟨⟨by omega, by omega⟩, ?_⟩
      rw [show ((i + 1 : Nat) : Int) + 1 = ((i + 1 + 1 : Nat) : Int) by omega]
      exact ih (i + 1) f u2 ys2 (by omega) (by omega) q1 q2 q3 q4 q5 q6 q7 q8 q9 xx k
    by_cases hr : RemT u1 y
    · refine wp_eq (rX3_wantsR (d := d) (by omega) y0 hr) ?_
      refine next u1 ys e1 hA hS hold hrem (by omega) hys (by rw [htk, List.sum_append]; omega) (fun k' z hk z0 hz ez => ?_)
      by_cases hki : k' = i
      · rw [hki] at ez
        rw [hinj z z0 hz ez]
        exact Or.inl ((hrem y).mp hr)
      · exact hall k' z (by omega) z0 hz ez
    · have hl := hS.1
      refine wp_call (rX3_wants (d := d) (by omega) hA y0 (by omega) hr hS.1 (by omega)) (fun _ u2 ⟨b1, b2, b3, b4, b5, b6⟩ => ?_)
      refine next u2 (ys ++ [y]) (e1.trn b1) b2 ⟨?_, fun j z hj => ?_⟩ (fun j hj => by rw [b5 j (by omega)]; exact hold j hj) (fun s => (b6 s).trans (hrem s)) (by simp; omega) (fun z hz => ?_) ?_ (fun k' z hk z0 hz ez => ?_)
      · rw [List.length_append]; exact b3
      · by_cases hjl : j < ys.length
        · rw [List.getElem?_append_left hjl] at hj
          rw [b5 _ (by omega)]; exact hS.2 j z hj
        · rw [List.getElem?_append_right (by omega)] at hj
          have h0 : j - ys.length = 0 := by
            have := (List.getElem?_eq_some_iff.mp hj).1
            simp at this; omega
          rw [h0] at hj
          simp at hj
          rw [show w + j = w + ys.length by omega, b4, hj]
      · rcases List.mem_append.mp hz with q | q
        · exact hys z q
        · rw [List.mem_singleton.mp q]
          exact ⟨y0, hyu, by rw [eyu]; exact fp2, fun q => hr ((hrem y).mpr q)⟩
      · rw [htk, List.map_append, List.sum_append, List.sum_append]
        have : (List.map (fun y => szT (trT ν u y)) [y]).sum = szT (pa t i) := by simp [eyu]
        have h1 : [szT (pa t i)].sum = szT (pa t i) := by simp
        rw [this, h1]
        omega
      · by_cases hki : k' = i
        · rw [hki] at ez
          rw [hinj z z0 hz ez]
          exact Or.inr (by simp)
        · exact (hall k' z (by omega) z0 hz ez).imp id (fun q => List.mem_append_left _ q)
theorem allOf_proc {d : Nat} (hd : 290 ≤ d) {ν : Nat → Nat} {c : Nat} {W : Wd} {u0 : Sg} {X : Nat → Prop} {a1 : Int} {base : Nat} {Q : Int → Sg → Prop} {xx : Int → Sg → Option (Int × Sg)} (hc : TW ν c W u0) (hW : WOK W (NT ν c)) (hG : WGK W (NT ν c)) (hr : hT u0 ≤ 26000) (hl : LimT ν u0 X) : ∀ (t : Nat), cltm W (NT ν c) t → adXX W X t → ∀ (f : Nat) (u : Sg) (x w : Nat), 3 * szT t ≤ f → w + 3 * szT t ≤ 80000 → AlP ν c W u0 X u → StkT u (w + 1) → base ≤ w → gN u 41 w = (x : Int) → 0 < x → x ≤ nT u → trT ν u x = t → (∀ (f' : Nat) (u' : Sg), f ≤ f' + 3 * szT t → AlP ν c W u0 X u' → UpT ν c u u' X → StkT u' w → (∀ i, i < w → gN u' 41 i = gN u 41 i) → RemT u' x → (∀ s, RemT u s → RemT u' s) → wp (bX3_allOf_L10 (runT d) f' a1 (base : Int) u' xx) Q) → wp (bX3_allOf_L10 (runT d) f a1 (base : Int) u xx) Q := by
  intro t
  induction t using Nat.strongRecOn with
  | ind t ih =>
    intro ht hX f u x w hf hw3 hA hS hbw hgx x0 hx et k
    have hs := hA.1.1
    have ht0 : t ≠ 0 := isTm_pos ht.2.1
    have hz := sz_pos ht0
    have hc1 := hc.up hA.1.ux hA.2.2.1 (by decide +kernel)
    have hl1 := hA.1.lim hl
    have hb1 := hl1.n hs
    have hr1 : hT u = hT u0 := hA.1.2.2.2.1
    -- found, remembered, popped
    have fin : ∀ (f' : Nat) (u2 : Sg), f ≤ f' + 3 * szT t → AlP ν c W u0 X u2 → UpT ν c u u2 X → StkT u2 (w + 1) → (∀ i, i < w → gN u2 41 i = gN u 41 i) → (∀ s, RemT u s → RemT u2 s) → (kd t = 4 → ∀ y, 0 < y → y ≤ nT u2 → trT ν u2 y ∈ fms t → RemT u2 y) → wp (cl (runT d 94 [(x : Int)] u2) fun v11 s12 => un (gI s12 8) fun v13 => mor s12 38 v13 fun s14 => un (gI s14 8) fun v15 => mor s14 39 v15 fun s16 => stA s16 38 (x : Int) v11 fun s17 => un (gI s17 40) fun v18 => stA s17 39 (x : Int) v18 fun s19 => un (gI s19 42) fun v20 => ar (v20 - 1) fun v21 => un (sI s19 42 v21) fun s22 => bX3_allOf_L10 (runT d) f' a1 (base : Int) s22 xx) Q := fun f' u2 hf' hA2 hU2 hS2 hold2 hrem2 hargs => by
      have hs2 := hA2.1.1
      have hx2 := Nat.le_trans hx hU2.n
      have etx2 : trT ν u2 x = t := by rw [hU2.tr hs hx]; exact et
      have hc2 := hc.up hA2.1.ux hA2.2.2.1 (by decide +kernel)
      have hr2 : hT u2 = hT u0 := hA2.1.2.2.2.1
      refine wp_call (tX3_found (d := d) (by omega) hA2.2.1 hc2 hW hG hA2.2.2.2.1 x0 hx2 etx2 ht hargs (by omega) hX (hA2.1.lim hl)) (fun r u3 ⟨v1, v2, v3, v4⟩ => ?_)
      have hU3 := hA2.1.join v2
      have hs3 := hU3.1
      have hb3 := (hU3.lim hl).n hs3
      have g3 : Gr FT DX3_allOf u0 u3 := hA2.2.2.1.tr (v4.sub (by decide +kernel))
      have hm3 := hA2.2.2.2.1.up hs2 v2.ux v4 (by decide +kernel) (by decide +kernel) (by decide +kernel)
      have i8 : gI u3 8 = (nT u3 : Int) := hs3.1.1.1.1
      have m40 : gI u3 40 = gI u2 40 := v4.I 40 (by decide +kernel)
      have m42 : gI u3 42 = gI u2 42 := v4.I 42 (by decide +kernel)
      have l38 : gL u3 38 = gL u2 38 := v4.Ln 38 (by decide +kernel)
      have l39 : gL u3 39 = gL u2 39 := v4.Ln 39 (by decide +kernel)
      have l41 : gL u3 41 = gL u2 41 := v4.Ln 41 (by decide +kernel)
      have n41 : ∀ i, gN u3 41 i = gN u2 41 i := fun i => v4.N 41 (by decide +kernel) i
      have hmm := hA2.2.2.2.2
      rw [wp_un, i8]
      refine wp_morT (D := DX3_allOf) v3 (by omega) rfl (by decide) (by decide +kernel) (by rw [l38]; exact hmm.1.2.1) (by omega) (fun u4 ⟨e4, w4, g4, i4, o4, p1, p2, p3, p4, p5⟩ => ?_)
      rw [wp_un, i4, i8]
      refine wp_morT (D := DX3_allOf) w4 (by omega) rfl (by decide) (by decide +kernel) (by rw [(o4 39 (by omega)).1, l39]; exact hmm.1.2.2) (by omega) (fun u5 ⟨e5, w5, g5, i5, o5, r1, r2, r3, r4, r5⟩ => ?_)
      have hx3 := Nat.le_trans hx2 v2.n
      have l38' : gL u5 38 = gL u4 38 := (o5 38 (by omega)).1
      have l39' : gL u4 39 = gL u3 39 := (o4 39 (by omega)).1
      rw [stA_pos ⟨by omega, by omega⟩, wp_un, gI_sA, stA_pos ⟨by omega, by rw [gL_sA]; omega⟩, wp_un, gI_sA, gI_sA, i5, i4, m42, hS2.1, wp_ar]
      refine ⟨⟨by omega, by omega⟩, ?_⟩
      rw [wp_un, show ((w + 1 : Nat) : Int) - 1 = (w : Int) by omega]
      have i40 : gI u5 40 = gI u2 40 := by rw [i5, i4, m40]
      rw [i40]
      -- the last state
      have e6 : EqH u3 (sI (sA (sA u5 38 (x : Int) r) 39 (x : Int) (gI u2 40)) 42 (w : Int)) := e4.trn (e5.trn ((EqH.sA (by omega)).trn ((EqH.sA (by omega)).trn (EqH.sI (by omega)))))
      have hr40 : inR (gI u2 40) := hA2.2.1.1 40
      have w6 : WF FT (sI (sA (sA u5 38 (x : Int) r) 39 (x : Int) (gI u2 40)) 42 (w : Int)) := by
        refine WF.sI ?_ ⟨by omega, by omega⟩ (fun h => by have h : (0 : Nat) = 4 := h; cases h)
        refine WF.sA ?_ (fun _ => hr40) (fun h => by have h : (1 : Nat) = 2 := h; cases h) (fun h => by have h : (1 : Nat) = 3 := h; cases h)
        exact w5.sA (fun _ => v1.1) (fun h => by have h : (1 : Nat) = 2 := h; cases h) (fun h => by have h : (1 : Nat) = 3 := h; cases h)
      have G6 : Gr FT DX3_allOf u3 (sI (sA (sA u5 38 (x : Int) r) 39 (x : Int) (gI u2 40)) 42 (w : Int)) := (g4.tr g5).tr ((Gr_sA (by decide +kernel)).tr ((Gr_sA (by decide +kernel)).tr (Gr_sI (by decide +kernel))))
      have L38 : gL (sI (sA (sA u5 38 (x : Int) r) 39 (x : Int) (gI u2 40)) 42 (w : Int)) 38 = gL u4 38 := by rw [gL_sI, gL_sA, gL_sA]; exact l38'
      have L39 : gL (sI (sA (sA u5 38 (x : Int) r) 39 (x : Int) (gI u2 40)) 42 (w : Int)) 39 = gL u5 39 := by rw [gL_sI, gL_sA, gL_sA]
      have L41 : gL (sI (sA (sA u5 38 (x : Int) r) 39 (x : Int) (gI u2 40)) 42 (w : Int)) 41 = gL u2 41 := by rw [gL_sI, gL_sA, gL_sA, (o5 41 (by omega)).1, (o4 41 (by omega)).1, l41]
      have I40 : gI (sI (sA (sA u5 38 (x : Int) r) 39 (x : Int) (gI u2 40)) 42 (w : Int)) 40 = gI u2 40 := by rw [gI_sI, if_neg (by omega), gI_sA, gI_sA, i40]
      have N38 : ∀ s, gN (sI (sA (sA u5 38 (x : Int) r) 39 (x : Int) (gI u2 40)) 42 (w : Int)) 38 s = if s = x then r else gN u4 38 s := fun s => by
        rw [gN_sI, gN_sAn, if_neg (by omega), gN_sAn]
        by_cases q : s = x
        · rw [if_pos ⟨rfl, q⟩, if_pos q]
        · rw [if_neg (fun z => q z.2), if_neg q]; exact (o5 38 (by omega)).2 s
      have N39 : ∀ s, gN (sI (sA (sA u5 38 (x : Int) r) 39 (x : Int) (gI u2 40)) 42 (w : Int)) 39 s = if s = x then gI u2 40 else gN u5 39 s := fun s => by
        rw [gN_sI, gN_sAn]
        by_cases q : s = x
        · rw [if_pos ⟨rfl, q⟩, if_pos q]
        · rw [if_neg (fun z => q z.2), if_neg q, gN_sAn, if_neg (by omega)]
      have N41 : ∀ i, gN (sI (sA (sA u5 38 (x : Int) r) 39 (x : Int) (gI u2 40)) 42 (w : Int)) 41 i = gN u2 41 i := fun i => by
        rw [gN_sI, gN_sAn, if_neg (by omega), gN_sAn, if_neg (by omega), (o5 41 (by omega)).2, (o4 41 (by omega)).2, n41]
      have n39 : ∀ s, s < gL u2 39 → gN u5 39 s = gN u2 39 s := fun s hs' => by
        rw [r4 s (by omega), (o4 39 (by omega)).2]
        exact v4.N 39 (by decide +kernel) s
      have remx : RemT (sI (sA (sA u5 38 (x : Int) r) 39 (x : Int) (gI u2 40)) 42 (w : Int)) x := ⟨by rw [L39]; omega, by rw [N39, if_pos rfl, I40]⟩
      have remm : ∀ s, RemT u2 s → RemT (sI (sA (sA u5 38 (x : Int) r) 39 (x : Int) (gI u2 40)) 42 (w : Int)) s := fun s hs' => by
        refine ⟨by rw [L39]; have := hs'.1; omega, ?_⟩
        rw [N39, I40]
        split
        · rfl
        · rw [n39 s hs'.1]; exact hs'.2
      have hU6 : UpT ν c u3 (sI (sA (sA u5 38 (x : Int) r) 39 (x : Int) (gI u2 40)) 42 (w : Int)) X := e6.up hs3
      refine k f' _ hf' ⟨hU3.join hU6, w6, g3.tr G6, fun s hs' => ?_, ?_⟩ ((hU2.join v2).join hU6) ⟨by rw [gI_sI, if_pos rfl], by rw [L41]; have := hS2.2.1; omega, by rw [L41]; exact hS2.2.2⟩ (fun i hi => by rw [N41]; exact hold2 i hi) remx (fun s hs' => remm s (hrem2 s hs'))
      · by_cases q : s = x
        · rw [q, e6.1.n, L38, N38, if_pos rfl, e6.1.tr, show trT ν u3 x = t by rw [v2.tr hs2 hx2]; exact etx2]
          exact ⟨x0, hx3, by omega, v1, ht⟩
        · have hs2' : RemT u2 s := by
            obtain ⟨z1, z2⟩ := hs'
            rw [L39] at z1
            rw [N39, if_neg q, I40] at z2
            have hlt : s < gL u2 39 := by
              rcases Nat.lt_or_ge s (gL u2 39) with q' | q'
              · exact q'
              · have := r5 s (by omega) z1
                have := hmm.1.1
                omega
            exact ⟨hlt, by rw [← n39 s hlt]; exact z2⟩
          have hs3' : RemT u3 s := hs2'.up v4 (by decide +kernel) (by decide +kernel)
          obtain ⟨b1, b2, b3, b4⟩ := hm3 s hs3'
          rw [e6.1.n, e6.1.tr, L38, N38, if_neg q, p4 s (by omega)]
          exact ⟨b1, b2, by omega, b4⟩
      · refine ⟨?_, fun s hs' => ?_⟩
        · unfold MmT
          rw [I40, L38, L39]
          have := hmm.1.2.1
          have := hmm.1.2.2
          exact ⟨hmm.1.1, by omega, by omega⟩
        · rw [L39] at hs'
          rw [N39, I40]
          have h1 := hmm.1.1
          split
          · exact ⟨by omega, Int.le_refl _⟩
          · rcases Nat.lt_or_ge s (gL u2 39) with q' | q'
            · rw [n39 s q']; exact hmm.2 s q'
            · have := r5 s (by omega) hs'
              exact ⟨by omega, by omega⟩
    -- the step when all arguments are remembered, or there are none
    have pop : ∀ (f' : Nat) (u2 : Sg), f ≤ f' + 3 * szT t → AlP ν c W u0 X u2 → UpT ν c u u2 X → StkT u2 (w + 1) → (∀ i, i < w → gN u2 41 i = gN u 41 i) → (∀ s, RemT u s → RemT u2 s) → RemT u2 x → wp (un (gI u2 42) fun v29 => ar (v29 - 1) fun v30 => un (sI u2 42 v30) fun s31 => bX3_allOf_L10 (runT d) f' a1 (base : Int) s31 xx) Q := fun f' u2 hf' hA2 hU2 hS2 hold2 hrem2 hrx => by
      rw [wp_un, hS2.1, wp_ar]
      refine ⟨⟨by omega, by omega⟩, ?_⟩
      rw [wp_un, show ((w + 1 : Nat) : Int) - 1 = (w : Int) by omega]
      have e2 : EqH u2 (sI u2 42 (w : Int)) := EqH.sI (by omega)
      have hremI : ∀ s, RemT (sI u2 42 (w : Int)) s ↔ RemT u2 s := fun s => by unfold RemT; rw [gL_sI, gN_sI, gI_sI, if_neg (by omega)]
      have hUI : UpT ν c u2 (sI u2 42 (w : Int)) X := e2.up hA2.1.1
      refine k f' _ hf' ⟨hA2.1.join hUI, hA2.2.1.sI ⟨by omega, by omega⟩ (fun h => by have h : (0 : Nat) = 4 := h; cases h), hA2.2.2.1.tr (Gr_sI (by decide +kernel)), fun s hs' => ?_, ?_⟩ (hU2.join hUI) ⟨by rw [gI_sI, if_pos rfl], by rw [gL_sI]; have := hS2.2.1; omega, hS2.2.2⟩ (fun i hi => hold2 i hi) ((hremI x).mpr hrx) (fun s hs' => (hremI s).mpr (hrem2 s hs'))
      · obtain ⟨b1, b2, b3, b4⟩ := hA2.2.2.2.1 s ((hremI s).mp hs')
        exact ⟨b1, by rw [e2.1.n]; exact b2, b3, by rw [e2.1.tr]; exact b4⟩
      · refine ⟨?_, fun s hs' => ?_⟩
        · unfold MmT
          rw [gI_sI, if_neg (by omega)]
          exact hA2.2.2.2.2.1
        · rw [gI_sI, if_neg (by omega)]
          exact hA2.2.2.2.2.2 s hs'
    -- one step with x on top
    have step : ∀ (f' : Nat) (u2 : Sg), f ≤ f' + 3 * szT t → AlP ν c W u0 X u2 → UpT ν c u u2 X → StkT u2 (w + 1) → gN u2 41 w = (x : Int) → (∀ i, i < w → gN u2 41 i = gN u 41 i) → (∀ s, RemT u s → RemT u2 s) → (∀ u3 ys, kd t = 4 → AlP ν c W u0 X u3 → EqH u2 u3 → StL u3 (w + 1) ys → (∀ j, j < w + 1 → gN u3 41 j = gN u2 41 j) → (∀ s, RemT u3 s ↔ RemT u2 s) → ys ≠ [] → (∀ y ∈ ys, 0 < y ∧ y ≤ nT u2 ∧ trT ν u2 y ∈ fms t ∧ ¬ RemT u2 y) → (ys.map (fun y => szT (trT ν u2 y))).sum ≤ ((ps t).map szT).sum → (∀ k y, k < (ps t).length → 0 < y → y ≤ nT u2 → trT ν u2 y = pa t k → RemT u2 y ∨ y ∈ ys) → wp (bX3_allOf_L10 (runT d) f' a1 (base : Int) u3 xx) Q) → wp (bX3_allOf_L10 (runT d) (f' + 1) a1 (base : Int) u2 xx) Q := fun f' u2 hf' hA2 hU2 hS2 hgx2 hold2 hrem2 kys => by
      have hs2 := hA2.1.1
      have hx2 := Nat.le_trans hx hU2.n
      have etx2 : trT ν u2 x = t := by rw [hU2.tr hs hx]; exact et
      have hn := nodeT hs2 x0 hx2
      rw [etx2] at hn
      have hb2 := (hA2.1.lim hl).n hs2
      have h41 := hS2.2.1
      obtain ⟨d1, hd1⟩ : ∃ d', d = d' + 1 := ⟨d - 1, by omega⟩
      rw [bX3_allOf_L10, wp_un, hS2.1, if_neg (by omega), wp_un, wp_ar]
      refine ⟨⟨by omega, by omega⟩, ?_⟩
      rw [show ((w + 1 : Nat) : Int) - 1 = (w : Int) by omega, ld_nat (by omega), hgx2, wp_un]
      by_cases hrx : RemT u2 x
      · have e := (rX3_isRem (d := d1) (by omega) x).1 hrx
        rw [← hd1] at e
        refine wp_eq e ?_
        rw [if_neg (by decide)]
        exact pop f' u2 hf' hA2 hU2 hS2 hold2 hrem2 hrx
      · have e := (rX3_isRem (d := d1) (by omega) x).2 hrx
        rw [← hd1] at e
        refine wp_eq e ?_
        rw [if_pos rfl, wp_jn, ld_nat (hs2.k hx2), hn.1]
        refine wp_ite (fun h4 => ?_) (fun h4 => ?_)
        · have k4 : kd t = 4 := by
            rcases ht.k with q | q | q
            · rw [q] at h4; exact absurd h4 (by decide)
            · exact q
            · rw [q] at h4; exact absurd h4 (by decide)
          obtain ⟨f1, f2⟩ := ht.1.lc.2.1 k4
          obtain ⟨ff1, ff2, ff3⟩ := hW.2.2.1 _ f1
          have hKF := KF_big
          refine allOf_L70 (by omega) x0 hx2 (by omega) etx2 ht k4 (by omega) (by omega : w + 1 ≤ 90000) hA2 (ps t).length 0 KF u2 [] (by omega) (by omega) EqH.rf hA2 ⟨hS2, fun i y h => by simp at h⟩ (fun _ _ => rfl) (fun _ => Iff.rfl) (Nat.le_refl _) (fun y h => by cases h) (by simp) (fun k' y hk => by omega) _ (fun u3 ys q1 q2 q3 q4 q5 q6 q7 q8 q9 => ?_)
          rw [wp_un, q3.1.1]
          by_cases hy : ys = []
          · subst hy
            rw [if_pos (by simp)]
            refine fin f' u3 hf' q2 (hU2.join (q1.up hs2)) (by simpa using q3.1) (fun i hi => by rw [q4 i (by omega)]; exact hold2 i hi) (fun s hs' => (q5 s).mpr (hrem2 s hs')) (fun _ y y0 hy' hym => ?_)
            rw [q1.1.n] at hy'
            rw [q1.1.tr] at hym
            obtain ⟨i, h8, hi, hc0⟩ := fms_at.mp hym
            have hil : i < (ps t).length := (List.getElem?_eq_some_iff.mp hi).1
            rcases q9 i y hil y0 hy' (pa_at hi).symm with z | z
            · exact (q5 y).mpr z
            · cases z
          · have hlen : 0 < ys.length := by
              rcases Nat.eq_zero_or_pos ys.length with q | q
              · exact absurd (List.length_eq_zero_iff.mp q) hy
              · exact q
            rw [if_neg (by omega)]
            exact kys u3 ys k4 q2 q1 q3 q4 q5 hy q7 q8 q9
        · show wp (un (gI u2 42) _) Q
          rw [wp_un, hS2.1, if_pos (Int.le_refl _)]
          exact fin f' u2 hf' hA2 hU2 hS2 hold2 hrem2 (fun k4 => absurd (by rw [k4]; decide) h4)
    obtain ⟨f, rfl⟩ : ∃ f', f = f' + 1 := ⟨f - 1, by omega⟩
    refine step f u (by omega) hA (UpT.rf hs) hS hgx (fun _ _ => rfl) (fun _ q => q) (fun u3 ys k4 hA3 e3 hS3 hold3 hrem3 hy hys hsum hall => ?_)
    have hszt : szT t = 1 + ((ps t).map szT).sum := by rw [szT_ex ht0]; unfold exp1; rw [if_neg (by omega)]
    have hs3 := hA3.1.1
    -- the stack above x is worked off
    have seg : ∀ (n : Nat) (zs : List Nat) (f' : Nat) (u4 : Sg), zs.length = n → (∀ y ∈ zs, y ∈ ys) → 3 * (zs.map (fun y => szT (trT ν u y))).sum + 1 ≤ f' → AlP ν c W u0 X u4 → UpT ν c u u4 X → StL u4 (w + 1) zs → (zs.map (fun y => szT (trT ν u y))).sum ≤ ((ps t).map szT).sum → (∀ j, j < w + 1 → gN u4 41 j = gN u 41 j) → (∀ s, RemT u s → RemT u4 s) → (∀ (f'' : Nat) (u5 : Sg), f' ≤ f'' + 3 * (zs.map (fun y => szT (trT ν u y))).sum → AlP ν c W u0 X u5 → UpT ν c u u5 X → StkT u5 (w + 1) → (∀ j, j < w + 1 → gN u5 41 j = gN u 41 j) → (∀ s, RemT u4 s → RemT u5 s) → (∀ y ∈ zs, RemT u5 y) → wp (bX3_allOf_L10 (runT d) f'' a1 (base : Int) u5 xx) Q) → wp (bX3_allOf_L10 (runT d) f' a1 (base : Int) u4 xx) Q := by
      intro n
      induction n with
      | zero =>
        intro zs f' u4 hn hsub hf' hA4 hU4 hS4 hsz hold4 hrem4 kk
        have e : zs = [] := List.length_eq_zero_iff.mp hn
        subst e
        exact kk f' u4 (by simp) hA4 hU4 (by simpa using hS4.1) hold4 (fun _ q => q) (fun y h => by cases h)
      | succ n ihn =>
        intro zs f' u4 hn hsub hf' hA4 hU4 hS4 hsz hold4 hrem4 kk
        rcases concat_of zs with e | ⟨z1, y, e⟩
        · rw [e] at hn; simp at hn
        · subst e
          have hlen : z1.length = n := by simp at hn; omega
          have hym := hys y (hsub y (by simp))
          have hsumy : ((z1 ++ [y]).map (fun y => szT (trT ν u y))).sum = (z1.map (fun y => szT (trT ν u y))).sum + szT (trT ν u y) := by simp
          rw [hsumy] at hf' hsz
          have hgy : gN u4 41 (w + 1 + z1.length) = (y : Int) := hS4.2 z1.length y (by simp)
          have hSk : StkT u4 (w + 1 + z1.length + 1) := by
            have := hS4.1
            rw [List.length_append] at this
            exact this
          have hcl : cltm W (NT ν c) (trT ν u y) := by
            obtain ⟨i, h8, hi, hc0⟩ := fms_at.mp hym.2.2.1
            have hil : i < (ps t).length := (List.getElem?_eq_some_iff.mp hi).1
            have := (fun_part ht k4 hil).1
            rw [pa_at hi] at this; exact this
          refine ih (trT ν u y) (fms_lt hym.2.2.1) hcl (fun s hs' ht' => hX s (sub_tr t hs' (sub_c hym.2.2.1 (sub_rf _))) ht') f' u4 y (w + 1 + z1.length) (by omega) (by
            have hz1 : z1.length ≤ (z1.map (fun y => szT (trT ν u y))).sum := len_sum (fun c hc' => sz_pos (isTm_pos (by
              have hcm := hys c (hsub c (List.mem_append_left _ hc'))
              obtain ⟨i, h8, hi, hc0⟩ := fms_at.mp hcm.2.2.1
              have hil : i < (ps t).length := (List.getElem?_eq_some_iff.mp hi).1
              have := (fun_part ht k4 hil).1.2.1
              rw [pa_at hi] at this; exact this)))
            omega) hA4 hSk (by omega) hgy hym.1 (Nat.le_trans hym.2.1 hU4.n) (hU4.tr hs hym.2.1) (fun f'' u5 q1 q2 q3 q4 q5 q6 q7 => ?_)
          refine ihn z1 f'' u5 hlen (fun z hz' => hsub z (List.mem_append_left _ hz')) (by omega) q2 (hU4.join q3) ⟨q4, fun i z hi => ?_⟩ (by omega) (fun j hj => by rw [q5 j (by omega)]; exact hold4 j hj) (fun s hs' => q7 s (hrem4 s hs')) (fun f3 u6 b1 b2 b3 b4 b5 b6 b7 => kk f3 u6 (by rw [hsumy]; omega) b2 b3 b4 b5 (fun s hs' => b6 s (q7 s hs')) (fun z hz' => ?_))
          · have hil : i < z1.length := (List.getElem?_eq_some_iff.mp hi).1
            rw [q5 _ (by omega)]
            exact hS4.2 i z (by rw [List.getElem?_append_left hil]; exact hi)
          · rcases List.mem_append.mp hz' with z | z
            · exact b7 _ z
            · rw [List.mem_singleton.mp z]; exact b6 y q6
    have hU3 : UpT ν c u u3 X := e3.up hs
    refine seg ys.length ys f u3 rfl (fun _ q => q) (by omega) hA3 hU3 hS3 hsum (fun j hj => hold3 j hj) (fun s hs' => (hrem3 s).mpr hs') (fun f'' u5 q1 q2 q3 q4 q5 q6 q7 => ?_)
    obtain ⟨f2, rfl⟩ : ∃ f', f'' = f' + 1 := ⟨f'' - 1, by omega⟩
    refine step f2 u5 (by omega) q2 q3 q4 (by rw [q5 w (by omega)]; exact hgx) (fun i hi => q5 i (by omega)) (fun s hs' => q6 s ((hrem3 s).mpr hs')) (fun u6 ys6 _ r2 r3 r4 r5 r6 r7 r8 r9 r10 => ?_)
    -- none is wanted any more
    exfalso
    rcases concat_of ys6 with e | ⟨z1, y, e⟩
    · exact r7 e
    · have hym := r8 y (by rw [e]; simp)
      obtain ⟨i, h8, hi, hc0⟩ := fms_at.mp hym.2.2.1
      have hil : i < (ps t).length := (List.getElem?_eq_some_iff.mp hi).1
      obtain ⟨b, _, b2, b3⟩ := partNT (d := d) (i := i) (by omega) hs x0 hx (by rw [et]; exact hil) (Or.inl (by rw [et]; omega))
      rw [et] at b3
      have hb0 : 0 < b := by
        rcases Nat.eq_zero_or_pos b with q | q
        · rw [q] at b3
          exact absurd b3.symm (isTm_pos (fun_part ht k4 hil).1.2.1)
        · exact q
      have hyb : y = b := trT_inj q2.1.1 hym.2.1 (by have := q3.n; omega) (by rw [q3.tr hs (x := b) (by omega), b3]; exact (pa_at hi).symm)
      rw [hyb] at hym
      rcases hall i b hil hb0 (by omega) b3 with z | z
      · exact hym.2.2.2 (q6 b ((hrem3 b).mpr z))
      · exact hym.2.2.2 (q7 b z)
