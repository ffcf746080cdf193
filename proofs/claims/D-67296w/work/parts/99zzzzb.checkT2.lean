section MQ
variable {Mq : MqT}
/-- what is so after a check of the model -/
def ChTE (Mq : MqT) (W : Wd) (c : Nat) (u v : Sg) : Prop := TW nt2 (c + 2) W v ∧ WF FT v ∧ ArrT Mq v ∧ (nT v = nT u ∧ dT v = dT u ∧ (∀ x, x ≤ nT u → trT nt2 v x = trT nt2 u x) ∧ hT v = hT u) ∧ (∀ k, 43 ≤ k → k ≤ 47 → 16 ≤ gL v k) ∧ Gr FT Dck u v
def tqP (n : Nat) (Ps : List Nat) (c : Nat) : List (List Nat) := prodL (tqL (tqF n) Ps c).1
def ChTQ (Mq : MqT) (W : Wd) (c n : Nat) (u : Sg) (Ps : List Nat) (r : Int) (v : Sg) : Prop := ChTE Mq W c u v ∧ gI v 82 = ((min 1000 (tqP n Ps c).length : Nat) : Int) ∧ (0 ≤ gI v 54 ∧ gI v 54 ≤ gI u 54 + 40 ∧ 0 ≤ gI v 76 ∧ gI v 76 ≤ gI u 76 + 680) ∧ (((tqP n Ps c).length ≤ 40 ∧ Ans (RfC W) 1 (famL (tqP n Ps c)) r) ∨ (40 < (tqP n Ps c).length ∧ r = 2))
theorem tqL_app {F : Nat → Nat → List (List Nat) × Nat} : ∀ (l : List Nat) (p c : Nat), tqL F (l ++ [p]) c = ((tqL F l c).1 ++ [(F p (tqL F l c).2).1], (F p (tqL F l c).2).2)
  | [], _, _ => rfl
  | g :: l, p, c => by
    show ((F g c).1 :: (tqL F (l ++ [p]) (F g c).2).1, (tqL F (l ++ [p]) (F g c).2).2) = _
    rw [tqL_app l p]
    rfl
theorem tqRL_app {G : Nat → Nat → Prop} {F : Nat → Nat → List (List Nat) × Nat} : ∀ (l : List Nat) (p c : Nat), tqRL G F (l ++ [p]) c → tqRL G F l c ∧ G p (tqL F l c).2
  | [], _, _, h => ⟨trivial, h.1⟩
  | g :: l, p, c, h => by
    obtain ⟨a, b⟩ := tqRL_app l p _ h.2
    exact ⟨⟨h.1, a⟩, b⟩
theorem tX3_checked {d : Nat} {W : Wd} {X : Nat → Prop} {c n B : Nat} {u : Sg} {Pr : List Nat} {x gt : Nat} (hd : 1740 + n ≤ d) (hB : B ≤ 300) (hWc : ∀ f, wcT W (2 * f + 1) = pa (pa f 0) 0) (h1 : TW nt2 (c + 2) W u) (h2 : WF FT u) (h3 : ArrT Mq u) (h54 : 0 ≤ gI u 54 ∧ gI u 54 ≤ 999000) (h76 : gI u 76 ≤ 1899990000) (h16 : ∀ k, 43 ≤ k → k ≤ 47 → 16 ≤ gL u k) (hr : hT u ≤ 10000) (hPr : PrT nt2 u Pr) (x0 : 0 < x) (hx : x ≤ nT u) (ex : trT nt2 u x = gt) (hog : okT gt) (hfg : isFo gt) (hlg : loT gt = 0) (hzg : szQ gt ≤ 600) (hPo : ∀ f ∈ Pr, okT f ∧ isFo f ∧ loT f = 0 ∧ szQ f ≤ 600) (hXn : X (notT gt)) (hl : LimT nt2 u X) (hR : tqRL (tqR W X n) (tqF n) (Pr ++ [notT gt]) c) (hc : (tqL (tqF n) (Pr ++ [notT gt]) c).2 ≤ 2990) (hx5 : ∀ y ∈ tqP n (Pr ++ [notT gt]) c, y.length ≤ 5000) (hReq : (tqP n (Pr ++ [notT gt]) c).length ≤ 40 → (WOK W (NT nt2 ((tqL (tqF n) (Pr ++ [notT gt]) c).2 + 2)) ∧ WGK W (NT nt2 ((tqL (tqF n) (Pr ++ [notT gt]) c).2 + 2)) ∧ ∀ m, NT nt2 ((tqL (tqF n) (Pr ++ [notT gt]) c).2 + 2) m → htT (wcT W m) ≤ 700) ∧ ∀ y ∈ tqP n (Pr ++ [notT gt]) c, ReqT W (tqL (tqF n) (Pr ++ [notT gt]) c).2 u B X (fun f => f ∈ y)) : wp (runT d 53 [(x : Int)] u) (ChTQ Mq W c n u (Pr ++ [notT gt])) := by
  obtain ⟨d, rfl⟩ : ∃ d', d = d' + 2 := ⟨d - 2, by omega⟩
  rw [runT_eq (by omega)]
  show wp (bX3_checked (runT (d + 1)) x u) _
  unfold bX3_checked
  have hs := h1.1
  have e8 : gI u 8 = (nT u : Int) := hs.1.1.1.1
  have e10 : gI u 10 = (dT u : Int) := hs.1.1.2.1.1
  have e19 : gI u 19 = ((c + 2 : Nat) : Int) := h1.2.2.1.1
  rw [wp_un, e8, wp_un, e10, wp_un, e19, wp_un]
  have g0 : Gr FT (2 ^ 48) u (sI u 48 0) := Gr_sI (by decide +kernel)
  have w0 : WF FT (sI u 48 0) := wfIT h2 rfl ⟨by omega, by omega⟩
  have ee0 : EqH u (sI u 48 0) := EqH.sI (by omega)
  have i48 : gI (sI u 48 0) 48 = 0 := rfl
  generalize sI u 48 0 = u0 at *
  have hct : CtT u := ⟨h3.1 17 (by omega), h3.1 18 (by omega)⟩
  have hA0 : TrA Mq W c u0 := ⟨h1.up (ee0.up (X := X) hs).ux g0 (by decide +kernel), w0, h3.2.2.2.2.fr g0 (by decide +kernel) (by decide +kernel), by unfold CtT; rw [g0.Ln 17 (by decide +kernel), g0.Ln 18 (by decide +kernel)]; exact hct⟩
  have hQ0 : QS u0 0 := ⟨by rw [i48]; rfl, by omega, fun k a b => by
    have := h16 k a b
    rw [g0.Ln k ((by decide +kernel : ∀ k, k ≤ 47 → 43 ≤ k → Nat.testBit (2 ^ 48) k = false) k b a)]
    omega⟩
  have n0 : nT u0 = nT u := ee0.1.n
  have hP0 : PrT nt2 u0 Pr := by
    obtain ⟨p1, p2, p3, p4⟩ := hPr
    refine ⟨by rw [g0.I 81 (by decide +kernel)]; exact p1, by rw [g0.Ln 80 (by decide +kernel)]; exact p2, p3, fun i f hi => ?_⟩
    obtain ⟨y, y1, y2, y3, y4⟩ := p4 i f hi
    exact ⟨y, by rw [g0.N 80 (by decide +kernel)]; exact y1, y2, by omega, by rw [ee0.1.tr]; exact y4⟩
  have hr0 : hT u0 ≤ 10000 := by rw [ee0.hh]; exact hr
  have hl0 : LimT nt2 u0 X := ee0.lim hl
  have hon := okT_not hog hfg
  have hzn := szQ_not hog hfg
  have hsum : (Pr.map szQ).sum ≤ 600 * Pr.length := by
    have : ∀ l : List Nat, (∀ f ∈ l, szQ f ≤ 600) → (l.map szQ).sum ≤ 600 * l.length := by
      intro l
      induction l with
      | nil => intro _; simp
      | cons a l ih =>
        intro h
        have h1 := h a List.mem_cons_self
        have h2 := ih (fun f hf => h f (List.mem_cons_of_mem _ hf))
        simp
        omega
    exact this Pr (fun f hf => (hPo f hf).2.2.2)
  have hP20 := hPr.2.2.1
  obtain ⟨hR1, hR2⟩ := tqRL_app Pr (notT gt) c hR
  have eT := tqL_app (F := tqF n) Pr (notT gt) c
  have hcl := tqF_le n (notT gt) (tqL (tqF n) Pr c).2
  have hc' : (tqF n (notT gt) (tqL (tqF n) Pr c).2).2 ≤ 2990 := by rw [eT] at hc; exact hc
  refine wp_call (rX3_q (d := d) (k := 1) (by omega) w0 hQ0 (by omega) (by omega)) (fun r u1 ⟨z1, z2, z3, z4, z5⟩ => ?_)
  rw [z1]
  refine check_L34 (W := W) (X := X) (n := n) (u0 := u0) (QB := 1 + 2 * (Pr.map szQ).sum) (by omega) hP0 (fun f hf => ⟨(hPo f hf).1, (hPo f hf).2.1, (hPo f hf).2.2.1, by have := (hPo f hf).2.2.2; omega⟩) (by omega) (by omega) hl0 Pr 0 KF u1 c [] 0 1 rfl (Nat.lt_of_le_of_lt (by omega : _ ≤ 65536) KF_gt) hR1 (TrL.ini hA0 z2 z3 z4 z5) (Nat.le_refl _) (by omega) (fun u2 hi2 a6 b1 b2 => ?_)
  rw [List.nil_append] at b1
  -- the end: forget
  refine wp_jnG (fun j => ∀ (s : Sg) (v : Int), TW nt2 ((tqL (tqF n) (Pr ++ [notT gt]) c).2 + 2) W s → WF FT s → ArrT Mq s → nT u ≤ nT s → (∀ x, x ≤ nT u → trT nt2 s x = trT nt2 u x) → hT s = hT u → (∀ k, 43 ≤ k → k ≤ 47 → 16 ≤ gL s k) → Gr FT Dck u s → gI s 82 = ((min 1000 (tqP n (Pr ++ [notT gt]) c).length : Nat) : Int) → (gI s 54 = gI u 54 ∧ gI s 76 = gI u 76) → CapQ v (tqP n (Pr ++ [notT gt]) c).length → (∃ hi q, RepN nt2 (n + 2) s 1 hi (tqP n (Pr ++ [notT gt]) c) ∧ hi ≤ q ∧ QS s q) → (∀ t, ndT nt2 s t → ndT nt2 u t ∨ X t) → ∀ t0 : Int, (t0 = 1 ∧ v ≤ 40) ∨ (t0 = 2 ∧ 40 < v) → wp (j (nT u : Int) (dT u : Int) ((c + 2 : Nat) : Int) ((1 : Nat) : Int) v t0 s) (ChTQ Mq W c n u (Pr ++ [notT gt]))) (fun s v a1 a2 a3 a4 a5 a6' a7 a8 a9 a10 a11 a12 a13 t0 a14 => ?_) (fun j14 hj => ?_)
  · have fin : ∀ (s2 : Sg) (b : Int), TW nt2 ((tqL (tqF n) (Pr ++ [notT gt]) c).2 + 2) W s2 → WF FT s2 → ArrT Mq s2 → nT u ≤ nT s2 → (∀ x, x ≤ nT u → trT nt2 s2 x = trT nt2 u x) → hT s2 = hT u → (∀ k, 43 ≤ k → k ≤ 47 → 16 ≤ gL s2 k) → Gr FT Dck u s2 → gI s2 82 = ((min 1000 (tqP n (Pr ++ [notT gt]) c).length : Nat) : Int) → (0 ≤ gI s2 54 ∧ gI s2 54 ≤ gI u 54 + 40 ∧ gI s2 76 ≤ gI u 76 + 680) → (((tqP n (Pr ++ [notT gt]) c).length ≤ 40 ∧ Ans (RfC W) 1 (famL (tqP n (Pr ++ [notT gt]) c)) b) ∨ (40 < (tqP n (Pr ++ [notT gt]) c).length ∧ b = 2)) → wp (cl (runT (d + 1) 110 [(nT u : Int), (dT u : Int)] s2) fun v18 s19 => un (sI s19 19 ((c + 2 : Nat) : Int)) fun s20 => some (b, s20)) (ChTQ Mq W c n u (Pr ++ [notT gt])) := fun s2 b y1 y2 y3 y4 y5 y6 y7 y8 y9 y10 y11 => by
      have hNx : NuX nt2 (c + 2) nt2 ((tqL (tqF n) (Pr ++ [notT gt]) c).2 + 2) := ⟨by have := tqL_le (tqF_le n) (Pr ++ [notT gt]) c; omega, fun _ _ => rfl⟩
      refine tX3_back (by omega) h1 y1 y2 y4 y5 hNx y3.2.2.2.2 (fun v2 hB2 => ?_)
      have ar2 := hB2.arr y3
      obtain ⟨b1, b2, ⟨b3, b4, b5, b6⟩, b7, b8, b9, b10⟩ := hB2
      rw [wp_some]
      exact ⟨⟨b1, b2, ar2, ⟨b3, b4, b5, by omega⟩, fun k p q => by rw [(b8 k (by omega) (by omega) (by omega)).1]; exact y7 k p q, y8.tr (b10.sub (by decide +kernel))⟩, by rw [b9 82 (by omega) (by omega) (by omega) (by omega) (by omega)]; exact y9, ⟨by rw [b9 54 (by omega) (by omega) (by omega) (by omega) (by omega)]; omega, by rw [b9 54 (by omega) (by omega) (by omega) (by omega) (by omega)]; omega, ar2.2.2.2.1.1, by rw [b9 76 (by omega) (by omega) (by omega) (by omega) (by omega)]; omega⟩, y11⟩
    show wp (jn _ _) _
    rw [wp_jn]
    rcases a14 with ⟨q1, q2⟩ | ⟨q1, q2⟩
    · rw [if_pos q1]
      obtain ⟨hi, q, r1, r2, r3⟩ := a12
      have hL40 : (tqP n (Pr ++ [notT gt]) c).length ≤ 40 := by
        by_cases z : (tqP n (Pr ++ [notT gt]) c).length ≤ 1000
        · have := a11.1 z; omega
        · have := a11.2 (by omega); omega
      have ev : v = ((tqP n (Pr ++ [notT gt]) c).length : Int) := a11.1 (by omega)
      obtain ⟨⟨hW, hG, hct2⟩, hq⟩ := hReq hL40
      have s8 : gI s 8 = (nT s : Int) := a1.1.1.1.1.1
      have s10 : gI s 10 = (dT s : Int) := a1.1.1.1.2.1.1
      have s19 : gI s 19 = (((tqL (tqF n) (Pr ++ [notT gt]) c).2 + 2 : Nat) : Int) := a1.2.2.1.1
      rw [wp_un, s8, wp_un, s10, wp_un, s19, ev, q1]
      refine check_L160 (d := d + 1) (u0 := u) (u := s) (q := q) (n := n + 2) (by omega) hB (by omega) hWc (by omega) a1 (by omega) ⟨a3.2.2.2.1.1, by omega⟩ hW hG hct2 r1 r2 hL40 a13 hx5 hq (fun a9' i v2 hI hi' hAns => ?_) (tqP n (Pr ++ [notT gt]) c).length 0 KF 1 s (by omega) (Nat.lt_of_le_of_lt (by omega : _ ≤ 65536) KF_gt) ⟨a1, a2, a3, ⟨rfl, rfl, fun _ _ => rfl, rfl⟩, ⟨r3, fun _ _ _ _ => rfl⟩, ⟨by simp, by simp⟩, Gr.rf⟩ (Ans.non (Or.inr (Or.inl rfl)) (fun S ⟨y, hy, _⟩ => by simp at hy))
      obtain ⟨t1, t2, t3, ⟨t4, t5, t6, t7⟩, ⟨t8, t9⟩, ⟨t10, t11⟩, t12⟩ := hI
      exact fin v2 a9' t1 t2 t3 (by omega) (fun x hx => by rw [t6 x (by omega), a5 x hx]) (by omega) (fun k p q => (t8.2.2 k p q).2) (a8.tr (t12.sub (by decide +kernel))) (by rw [t12.I 82 (by decide +kernel)]; exact a9) ⟨by omega, by omega, by omega⟩ (Or.inl ⟨hL40, hAns⟩)
    · rw [if_neg (by omega)]
      have hL40 : 40 < (tqP n (Pr ++ [notT gt]) c).length := by
        by_cases z : (tqP n (Pr ++ [notT gt]) c).length ≤ 1000
        · have := a11.1 z; omega
        · omega
      rw [q1]
      exact fin s 2 a1 a2 a3 a4 a5 a6' a7 a8 a9 ⟨by omega, by omega, by omega⟩ (Or.inr ⟨hL40, rfl⟩)
  · -- NOT the goal, its tree
    have hI2 := b1.1
    have hx2 : x ≤ nT u2 := Nat.le_trans (by omega) hI2.2.1.1
    have ex2 : trT nt2 u2 x = gt := by rw [hI2.2.1.2.1 x (by omega), ee0.1.tr]; exact ex
    have hh2 := hI2.2.1.2.2.2.1
    refine wp_call (tX3_not (d := d + 1) (X := X) (by omega) hI2.1.2.1 hI2.1.1.1 x0 hx2 (by omega) (by rw [ex2]; exact not_wf hog) (by rw [ex2]; exact hXn) (hI2.2.1.lim hl0)) (fun r0 u3 ⟨z, k1, k2, k3, k4, k5, k6, k7⟩ => ?_)
    rw [k1]
    rw [ex2] at k4
    have hL3 := b1.st k5 k6 k7
    have hI3 := hL3.1
    have hh3 := hI3.2.1.2.2.2.1
    refine wp_call (tX3_tree n (d + 1) u3 z (notT gt) (tqL (tqF n) Pr c).2 hi2 hR2 (by omega) hI3.1 hL3.2.1 k2 k3 k4 hon.1 hon.2 (lo_notT hog hlg) (by omega) (by omega) (by omega) (by omega) (hI3.2.1.lim hl0)) (fun r4 u4 hP4 => ?_)
    obtain ⟨hi', m1, m2⟩ := hL3.hang (d := d) (by omega) hP4
    refine wp_call m2 (fun r5 u5 hL5 => ?_)
    have eL : (tqL (tqF n) Pr c).1 ++ [(tqF n (notT gt) (tqL (tqF n) Pr c).2).1] = (tqL (tqF n) (Pr ++ [notT gt]) c).1 := by rw [eT]
    have eC : (tqF n (notT gt) (tqL (tqF n) Pr c).2).2 = (tqL (tqF n) (Pr ++ [notT gt]) c).2 := by rw [eT]
    rw [eL, eC] at hL5
    obtain ⟨l1, l2, l3, l4, l5, l6, l7⟩ := hL5
    refine wp_call (rX3_counted (d := d) (by omega) l1.1.2.1 l2 (Nat.le_refl _) l4.1 l4.2 l5 (Or.inl rfl) l3.kid) (fun r6 u6 ⟨y1, y2, y3, y4, y5⟩ => ?_)
    rw [if_pos rfl] at y3
    have hI6 : TrI Mq W X (tqL (tqF n) (Pr ++ [notT gt]) c).2 u0 u6 := l1.tr (TrI.qf l1.1 y5)
    have hcap := y3.cap.2
    have hcr := hcap.rng
    have l47 := (y2.2.2 47 (by omega) (by omega)).1
    rw [ld_nat (by have := l4.2; omega)]
    generalize hv : gN u6 47 1 = v at hcap hcr
    rw [wp_un, wp_ar]
    have hmin : (if v < 1000 then v else 1000) = ((min 1000 (tqP n (Pr ++ [notT gt]) c).length : Nat) : Int) := by
      by_cases q : (tqP n (Pr ++ [notT gt]) c).length ≤ 1000
      · have e : v = _ := hcap.1 q
        have e : v = ((tqP n (Pr ++ [notT gt]) c).length : Int) := e
        split <;> omega
      · have e : 1000 < v ∧ v ≤ 1099511627776 := hcap.2 (by unfold tqP at q; omega)
        rw [if_neg (by omega)]
        omega
    rw [hmin]
    refine ⟨⟨by omega, by omega⟩, ?_⟩
    rw [wp_un, wp_un]
    have g7 : Gr FT (2 ^ 82) u6 (sI u6 82 ((min 1000 (tqP n (Pr ++ [notT gt]) c).length : Nat) : Int)) := Gr_sI (by decide +kernel)
    have w7 : WF FT (sI u6 82 ((min 1000 (tqP n (Pr ++ [notT gt]) c).length : Nat) : Int)) := wfIT hI6.1.2.1 rfl ⟨by omega, by omega⟩
    have e7 : EqH u6 (sI u6 82 ((min 1000 (tqP n (Pr ++ [notT gt]) c).length : Nat) : Int)) := EqH.sI (by omega)
    have i82 : gI (sI u6 82 ((min 1000 (tqP n (Pr ++ [notT gt]) c).length : Nat) : Int)) 82 = ((min 1000 (tqP n (Pr ++ [notT gt]) c).length : Nat) : Int) := rfl
    generalize sI u6 82 ((min 1000 (tqP n (Pr ++ [notT gt]) c).length : Nat) : Int) = u7 at *
    have hs6 := hI6.1.1.1
    have un7 : UNT nt2 u0 nt2 u7 X := hI6.2.1.tr ((e7.up hs6).un hs6 (g7.I 54 (by decide +kernel)))
    have G07 : Gr FT Dck u u7 := (g0.sub (by decide +kernel)).tr ((hI6.2.2.1.sub (by decide +kernel)).tr (g7.sub (by decide +kernel)))
    have ar6 : ArrT Mq u6 := by
      have ar0 : ArrT Mq u0 := ArrT.tr h3 (g0.sub (by decide +kernel)) hA0.2.2.1 hA0.2.2.2
      exact ar0.tr hI6.2.2.1 hI6.1.2.2.1 hI6.1.2.2.2
    have ar7 : ArrT Mq u7 := by
      obtain ⟨c1, c2, c3, ⟨c4, c5, c6⟩, c7⟩ := ar6
      have b : ∀ k, k ≤ 77 → Nat.testBit (2 ^ 82) k = false := fun k hk => (by decide +kernel : ∀ k, k ≤ 77 → Nat.testBit (2 ^ 82) k = false) k hk
      refine ⟨fun k hk => by rw [g7.Ln k (b k (by omega))]; exact c1 k hk, fun k hk => by rw [g7.Ln k (b k (by omega))]; exact c2 k hk, fun k hk i hi => ?_, ⟨by rw [g7.I 76 (b 76 (by omega))]; exact c4, by rw [g7.I 76 (b 76 (by omega))]; exact c5, fun i hi => ?_⟩, c7.fr g7 (b 39 (by omega)) (b 40 (by omega))⟩
      · rw [g7.Ln k (b k (by omega))] at hi
        rw [g7.N k (b k (by omega)), g7.I 54 (b 54 (by omega))]
        exact c3 k hk i hi
      · rw [g7.Ln 74 (b 74 (by omega))] at hi
        rw [g7.N 74 (b 74 (by omega)), g7.I 76 (b 76 (by omega))]
        exact c6 i hi
    have q7 := q_fr y2 g7 (fun j a b => (by decide +kernel : ∀ j, j ≤ 48 → Nat.testBit (2 ^ 82) j = false) j b)
    have rep7 : RepN nt2 (n + 2) u7 1 hi' (tqP n (Pr ++ [notT gt]) c) := RepN.fr (n + 2) y3 (fun j hj i _ _ => q7.2 j (by omega) (by omega) i) (fun i _ _ => q7.2 45 (by omega) (by omega) i) (fun v t ht => ht.ee e7)
    have T7 : TW nt2 ((tqL (tqF n) (Pr ++ [notT gt]) c).2 + 2) W u7 := hI6.1.1.up (e7.up (X := X) hs6).ux g7 (by decide +kernel)
    have last : ∀ t0 : Int, (t0 = 1 ∧ v ≤ 40) ∨ (t0 = 2 ∧ 40 < v) → wp (j14 (nT u : Int) (dT u : Int) ((c + 2 : Nat) : Int) ((1 : Nat) : Int) v t0 u7) (ChTQ Mq W c n u (Pr ++ [notT gt])) := fun t0 ht0 => hj u7 v T7 w7 ar7 (by have := un7.1; omega) (fun x hx => by rw [un7.2.1 x (by omega), ee0.1.tr]) (by rw [un7.2.2.2.1, ee0.hh]) (fun k p q => (q7.1.2.2 k p q).2) G07 i82 ⟨by rw [un7.2.2.2.2.2, g0.I 54 (by decide +kernel)], by rw [g7.I 76 (by decide +kernel), hI6.2.2.1.I 76 (by decide +kernel), g0.I 76 (by decide +kernel)]⟩ hcap ⟨hi', hi', rep7, Nat.le_refl _, q7.1⟩ (fun t ht => (un7.2.2.1 t ht).imp ee0.1.nd.mp id) t0 ht0
    refine wp_ite (fun h => last 1 (Or.inl ⟨rfl, o_cmp_le.mp h⟩)) (fun h => last 2 (Or.inr ⟨rfl, by have : ¬ v ≤ 40 := fun z => h (o_cmp_le.mpr z); omega⟩))
end MQ
