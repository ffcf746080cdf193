/-! a term has its type, in the model -/
def mkCaT : Nat := 73494242593936900096
theorem CaT.upD {ν : Nat → Nat} {c D : Nat} {W : Wd} {S : Fs} {Kl : List Nat} {u u' : Sg} {l : Ls} {X : Nat → Prop} (h : CaT ν c W S Kl u l) (hx : UxT ν c u u' X) (hw : WF FT u') (hg : Gr FT D u u') (hD : D &&& mkCaT = 0) : CaT ν c W S Kl u' l := h.up hx hw hg (fun k hk => by
  have h1 := congrArg (fun z => Nat.testBit z k) hD
  simp only [Nat.testBit_and, Nat.zero_testBit] at h1
  have h2 : Nat.testBit mkCaT k = true := (by decide +kernel : ∀ k, k ≤ 65 → ((17 ≤ k ∧ k ≤ 37) ∨ (52 ≤ k ∧ k ≤ 57) ∨ (59 ≤ k ∧ k ≤ 65)) → Nat.testBit mkCaT k = true) k (by omega) hk
  rw [h2, Bool.and_true] at h1
  exact h1)
theorem TwR.st {ν : Nat → Nat} {c D : Nat} {W : Wd} {S : Fs} {X : XFm} {Kl : List Nat} {u0 u1 u2 : Sg} {l0 l1 : Ls} {C : Prop} (h : TwR ν c W S X Kl u0 l0 C u1 l1) (hU : UpT ν c u1 u2 (xt X l1.1)) (hw : WF FT u2) (hg : Gr FT D u1 u2) (hD : D &&& mkCaT = 0) (hD2 : D &&& DX3_hasType = D) (h66 : D.testBit 66 = false) : TwR ν c W S X Kl u0 l0 C u2 l1 := by
  obtain ⟨h1, h2, h3, h4, h5⟩ := h
  exact ⟨h1, h2.upD hU.ux hw hg hD, h3.join hU, h4.tr (hg.sub hD2), by rw [hg.I 66 h66]; exact h5⟩
theorem ht_loc {a b m : Nat} (ha : htT a ≤ m) (hb : htT b ≤ m) : ∀ (t : Nat), okT t → ∀ e, htT (sbT (locg a b) e t) ≤ htT t + m := by
  intro t
  induction t using Nat.strongRecOn with
  | ind t ih =>
    intro ho e
    by_cases h3 : kd t ≤ 3
    · rw [sbT_eq, if_pos h3]
      unfold locg
      split
      · split <;> omega
      · omega
    · rcases ht_max (t := sbT (locg a b) e t) with q | ⟨c', c1, c2⟩
      · have : 1 ≤ htT t := by rw [htT_eq]; omega
        omega
      · obtain ⟨c, d1, i, _, _, e1⟩ := fms_sb h3 c1
        have a := ih c (fms_lt d1) (ho.c d1) (if kd t = 18 ∧ 0 < i then e + 1 else e)
        have b := ht_c d1
        rw [← e1] at a
        omega
theorem ht_0 : htT 0 ≤ 1 := by
  rcases ht_max (t := 0) with q | ⟨c, c1, _⟩
  · omega
  · have := (fms_ps c1).1
    rw [ps0] at this
    cases this
/-- the height of a part -/
theorem ht_pa {t i : Nat} (hk : kd t ≠ 8 ∨ i = 0) : htT (pa t i) ≤ htT t := by
  by_cases h0 : pa t i = 0
  · rw [h0]
    have := ht_0
    have : 1 ≤ htT t := by rw [htT_eq]; omega
    omega
  · have hi : i < (ps t).length := by
      refine Nat.lt_of_not_le (fun q => h0 ?_)
      unfold pa
      rw [List.getElem?_eq_none q]; rfl
    have := ht_c (fms_at.mpr ⟨i, hk, pa_get hi, h0⟩)
    omega
theorem ht_ty {W : Wd} {N : Nat → Prop} (hW : WOK W N) (hc : ∀ n, N n → htT (wcT W n) ≤ 700) {t : Nat} (ht : cltm W N t) (h2 : htT t ≤ 200) : htT (tyT W t) ≤ 700 := by
  unfold tyT
  rcases ht.k with k | k | k
  · rw [if_pos k]
    exact hc _ (ht.1.lc.1 k)
  · rw [if_neg (by omega), if_pos k]
    obtain ⟨g1, g2, g3⟩ := hW.2.2.1 _ (ht.1.lc.2.1 k).1
    have a := ht_loc (a := pa t 0) (b := pa t 1) (m := 200) (Nat.le_trans (ht_pa (Or.inl (by omega))) h2) (Nat.le_trans (ht_pa (Or.inl (by omega))) h2) (wfR W (wh t)) g1.1.1 0
    have b := ht_sz (wfR W (wh t)) (fun q => by rw [q, kd0] at g2; omega)
    have := g1.2.2.2
    omega
  · rw [if_neg (by omega), if_neg (by omega)]
    have := ht_pa (t := t) (i := 0) (Or.inr rfl)
    omega
theorem ht_par {W : Wd} {N : Nat → Prop} (hW : WOK W N) {y : Nat} (hy : clty W N y) (h0 : wh y ≠ 0) (h2 : htT (pa y 0) ≤ 200) : htT (paT W y) ≤ 700 := by
  unfold paT
  rw [if_neg h0]
  obtain ⟨g1, g2, g3, g4⟩ := hW.2.1 (wh y) (by omega) (hy.1.lc.2.2.1 hy.2.1).1
  have a := ht_loc (a := pa y 0) (b := 0) (m := 200) h2 (Nat.le_trans ht_0 (by omega)) (wmP W (wh y)) g1.1.1 0
  have b := ht_sz (wmP W (wh y)) (fun q => by rw [q, kd0] at g2; omega)
  have := g1.2.2.2
  omega
theorem cl_sub {W : Wd} {N : Nat → Prop} : ∀ (n t : Nat), htT t < n → (cltm W N t ∨ clty W N t) → ∀ s, subT s t → loT s = 0 := by
  intro n
  induction n with
  | zero => intro t h; omega
  | succ n ih =>
    intro t hn ht s hs
    rw [subT_eq] at hs
    rcases hs with e | ⟨c, c1, c2⟩
    · rw [e]
      exact ht.elim (fun q => q.2.2.1) (fun q => q.2.2.1)
    · have hc := ht_c c1
      obtain ⟨i, i1, i2, i3⟩ := fms_at.mp c1
      have hi := (List.getElem?_eq_some_iff.mp i2).1
      have e := pa_at i2
      rcases ht with q | q
      · rcases q.k with k | k | k
        · exfalso
          have : ps t = [] := by
            rcases q.1.1.n.2 with q | q | q | q | q | q | q | q | q | q | q | q | q | q <;> first | omega | exact q.2
          rw [this] at hi; cases hi
        · have := (fun_part q k hi).1
          rw [e] at this
          exact ih c (by omega) (Or.inl this) s c2
        · obtain ⟨t1, t2, t3⟩ := the_part q k
          have i0 : i = 0 := by rw [t3] at hi; simp at hi; omega
          rw [i0] at e
          rw [e] at t1
          exact ih c (by omega) (Or.inr t1) s c2
      · have i0 : i = 0 := i1.resolve_left (fun z => z q.2.1)
        rw [i0] at e
        have := ((type_part q).2 (by rw [e]; exact i3)).1
        rw [e] at this
        exact ih c (by omega) (Or.inl this) s c2
theorem CaT.ht {ν : Nat → Nat} {c : Nat} {W : Wd} {S : Fs} {Kl : List Nat} {u : Sg} {l : Ls} (h : CaT ν c W S Kl u l) (hl : l.1.length ≤ 100) {t : Nat} (ht : t ∈ l.1) : htT t ≤ 200 := by
  have hc := (h.2.2.2.2.2.1 t ht).1
  obtain ⟨L, l1, l2, l3⟩ := tm_chain t hc.1.1 hc.2.1
  have := nd_lenL L l.1 l1 (fun s hs => h.2.2.2.2.2.2.2.2.2 hl t ht s (l2 s hs).1 (l2 s hs).2 (cl_sub (htT t + 1) t (by omega) (Or.inl hc) s (l2 s hs).1))
  omega
theorem hasTypeT_L64 {d : Nat} (hd : 6 ≤ d) {ν : Nat → Nat} {c : Nat} {W : Wd} {S : Fs} {X : XFm} {Kl : List Nat} {u0 : Sg} {l0 : Ls} {i0 t y ty : Nat} {Q : Int → Sg → Prop} (hW : WOK W (NT ν c)) (hK : KlOK W (NT ν c) Kl) (hs0 : ST ν c u0) (y0 : 0 < y) (hy : y ≤ nT u0) (ey : trT ν u0 y = ty) (h8 : kd ty = 8) (hlen : (ps ty).length ≤ 60000) (hadj : ∀ j ∈ adjT ty, j < 30 ∧ fA S t j) : ∀ (m i f : Nat) (u1 : Sg) (l1 : Ls), i + m = (ps ty).length → m < f → 1 ≤ i → TwR ν c W S X Kl u0 l0 True u1 l1 → l1.1 = l0.1 → l1.1[i0]? = some t → ∀ xx : Int → Int → Sg → Option (Int × Sg), (∀ (u2 : Sg) (l2 : Ls), TwR ν c W S X Kl u0 l0 True u2 l2 → exL l1 l2 → l2.1 = l0.1 → (∀ j ∈ (ps ty).drop i, fA (FsQ l2) t j) → wp (xx (i0 : Int) (y : Int) u2) Q) → wp (bX3_hasType_L64 (runT d) f (i0 : Int) (y : Int) ((i + 1 : Nat) : Int) u1 xx) Q := by
  intro m
  induction m with
  | zero =>
    intro i f u1 l1 hi hf h1 hw hH hi0 xx k
    obtain ⟨f, rfl⟩ : ∃ f', f = f' + 1 := ⟨f - 1, by omega⟩
    have hs := hw.2.1.1.1
    have hy1 : y ≤ nT u1 := Nat.le_trans hy hw.2.2.1.n
    have ey1 : trT ν u1 y = ty := by rw [hw.2.2.1.tr hs0 hy]; exact ey
    have hn := nodeT hs y0 hy1
    rw [ey1] at hn
    have nw1 : nw (kd ty) = 1 := by rw [h8]; decide
    have hl3 : y < gL u1 3 := by rw [hs.1.1.2.2.2.1.2.1]; exact hs.k hy1
    rw [bX3_hasType_L64, ld_nat hl3, hn.2.1, if_neg (by omega)]
    refine k u1 l1 hw (exL.rf _) hH (fun j hj => ?_)
    rw [List.drop_of_length_le (by omega)] at hj
    cases hj
  | succ m ih =>
    intro i f u1 l1 hi hf h1 hw hH hi0 xx k
    obtain ⟨f, rfl⟩ : ∃ f', f = f' + 1 := ⟨f - 1, by omega⟩
    have hs := hw.2.1.1.1
    have hy1 : y ≤ nT u1 := Nat.le_trans hy hw.2.2.1.n
    have ey1 : trT ν u1 y = ty := by rw [hw.2.2.1.tr hs0 hy]; exact ey
    have hn := nodeT hs y0 hy1
    rw [ey1] at hn
    have nw1 : nw (kd ty) = 1 := by rw [h8]; decide
    have hl3 : y < gL u1 3 := by rw [hs.1.1.2.2.2.1.2.1]; exact hs.k hy1
    have hil : i < (ps ty).length := by omega
    have hat := adjNT (d := d) (i := i) (by omega) hs y0 hy1 (by rw [ey1]; exact h8) (by rw [ey1]; exact hil) h1
    rw [ey1] at hat
    have hj := hadj _ (drop_adj hil h1)
    rw [bX3_hasType_L64, ld_nat hl3, hn.2.1, if_pos (by omega)]
    refine wp_eq hat ?_
    refine wp_call (tX3_adj (X := X) (by omega) hW hK hw.2.1 hi0 hj.1 hj.2) (fun _ u2 ⟨l2, t1, t2, t3, t4, t5⟩ => ?_)
    rw [wp_ar]
    refine ⟨⟨by omega, by omega⟩, ?_⟩
    rw [show ((i + 1 : Nat) : Int) + 1 = ((i + 1 + 1 : Nat) : Int) by omega]
    refine ih (i + 1) f u2 l2 (by omega) (by omega) (by omega) (hw.seq t1 (fun _ _ _ => trivial)) (t2.trans hH) (by rw [t2]; exact hi0) xx (fun u3 l3 q1 q2 q3 q4 => k u3 l3 q1 (t1.1.tr q2) q3 (fun j hj' => ?_))
    rw [drop_pa hil] at hj'
    rcases List.mem_cons.mp hj' with z | z
    · rw [z]; exact (q2.fs).2.2.2 _ _ t5
    · exact q4 j z
