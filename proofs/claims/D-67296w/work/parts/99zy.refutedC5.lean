def RfQ (W : Wd) (A : Nat → Prop) (n : Nat) (Kn Ol : List Nat) (ν0 : Nat → Nat) (c0 : Nat) (u0 : Sg) (r : Int) (u' : Sg) : Prop := RefS W A n (fun f => f ∈ Kn) (fun f => f ∈ Ol) r ∧ EndS W P5 ν0 c0 u0 u'
def RfR (d fu n : Nat) (W : Wd) (A : Nat → Prop) (X : XFm) (B c0 fi : Nat) (ν0 : Nat → Nat) (u0 : Sg) : Prop := ∀ n', n = n' + 1 → ∀ (m dn : Nat) (ν : Nat → Nat) (c : Nat) (u : Sg) (Kn Cl Bl Ol : List Nat) (l : Ls), dn + m = Kn.length → m + (n' + 1) * 3000 < fu → LpS W A X c0 fi ν0 u0 ν c Kn Cl Bl Ol l dn u → KOK W (Nm ν0 c0) B (fun f => f ∈ Kn) (fun f => f ∈ Ol) → RfX W A X ν0 u0 n' (fun f => f ∈ Kn) (fun f => f ∈ Ol) → wp (bX1_refuted_L120 (runC d) fu (dn : Int) ((17 - n' : Nat) : Int) u (fun s18 => some (2, s18)) (fun s19 => some (1, s19)) (fun s20 => some (0, s20)) (fun s21 => some (2, s21))) (RfQ W A n' Kn Ol ν0 c0 u0)
theorem RefS.eq (W : Wd) (A : Nat → Prop) (n : Nat) (K O : Nat → Prop) (r : Int) : RefS W A n K O r = RefB W A (fun K O r => (n = 0 ∧ r = 2) ∨ ∃ n', n = n' + 1 ∧ RefS W A n' K O r) K O r := by
  cases n with
  | zero =>
    have : (fun (K O : Nat → Prop) (r : Int) => ((0 : Nat) = 0 ∧ r = 2) ∨ ∃ n', (0 : Nat) = n' + 1 ∧ RefS W A n' K O r) = fun _ _ r => r = 2 := by
      funext K O r
      exact propext ⟨fun q => q.elim And.right (fun ⟨n', e, _⟩ => by omega), fun q => Or.inl ⟨rfl, q⟩⟩
    rw [this]
    rfl
  | succ n =>
    have : (fun (K O : Nat → Prop) (r : Int) => (n + 1 = 0 ∧ r = 2) ∨ ∃ n', n + 1 = n' + 1 ∧ RefS W A n' K O r) = RefS W A n := by
      funext K O r
      exact propext ⟨fun q => q.elim (fun z => by omega) (fun ⟨n', e, h⟩ => by rw [show n = n' by omega]; exact h), fun q => Or.inr ⟨n, rfl, q⟩⟩
    rw [this]
    rfl
theorem RfX.eq (W : Wd) (A : Nat → Prop) (X : XFm) (ν0 : Nat → Nat) (u0 : Sg) (n : Nat) (K O : Nat → Prop) (h : RfX W A X ν0 u0 n K O) : XSt W A X K O ∧ LimA ν0 u0 (facS W K O) X ∧ (¬ manyS (facS W K O) → ¬ conS (facS W K O) K → (∃ g, comS W A K O g ∧ ¬ K g) → ¬ overS (nxK W A K O) → ∀ n', n = n' + 1 → RfX W A X ν0 u0 n' (nxK W A K O) (nxO K O)) := by
  cases n with
  | zero => exact ⟨h.1, h.2.1.a, fun _ _ _ _ n' e => by omega⟩
  | succ n => exact ⟨h.1, h.2.1.a, fun a b c d n' e => by rw [show n' = n by omega]; exact h.2.2 a b c d⟩
theorem RfX.lb {W : Wd} {A : Nat → Prop} {X : XFm} {ν0 : Nat → Nat} {u0 : Sg} {n : Nat} {K O : Nat → Prop} (h : RfX W A X ν0 u0 n K O) : LimB ν0 u0 (facS W K O) X K (comS W A K O) := by
  cases n with
  | zero => exact h.2.1
  | succ n => exact h.2.1
/-- a closed case: contradictory, or a round -/
theorem refuted_end {d fu n : Nat} {W : Wd} {A : Nat → Prop} {X : XFm} {B c0 fi : Nat} {ν0 : Nat → Nat} {u0 : Sg} {ν : Nat → Nat} {c : Nat} {Kn Cl Ol : List Nat} {l : Ls} {u : Sg} (hd : 1640 ≤ d) (h5 : ∀ H z, xf X H z → P5 z) (hB : B ≤ 300) (hr0 : rC u0 ≤ 20000) (hWc : ∀ f, wcT W (2 * f + 1) = pa (pa f 0) 0) (hc0 : c0 ≤ 3000) (hA0 : ∀ t, A t → cltm W (Nm ν0 c0) t) (hn : n ≤ 16) (hfu : (n + 1) * 3000 < fu + 100) (hrec : RfR d fu n W A X B c0 fi ν0 u0) (hR : RkI ν c W (facS W (fun f => f ∈ Kn) (fun f => f ∈ Ol)) (xf X l.1) Kn l Kn Cl [] Ol c0 fi ν0 u0 u) (hD : ClD W A fi Kn Ol u l) (hW : WOK W (Nm ν c)) (hG : WGK W (Nm ν c)) (hN : NuX ν0 c0 ν c) (ec : c = c0 + Ol.length) (hOn : Ol.Nodup) (hOm : ∀ f ∈ Ol, Nm ν c (2 * f + 1)) (hOK : ∀ f ∈ Ol, f ∈ Kn) (hKl : Kn.length ≤ 2500) (hK : KOK W (Nm ν0 c0) B (fun f => f ∈ Kn) (fun f => f ∈ Ol)) (hX : RfX W A X ν0 u0 n (fun f => f ∈ Kn) (fun f => f ∈ Ol)) : wp (cl (runC d 65 [] u) fun v9 s10 => if v9 = 0 then (un (sI s10 54 0) fun s11 => cl (runC d 71 [] s11) fun v12 s13 => if v12 = 0 then (some (0, s13)) else (un (gI s13 45) fun v14 => if v14 = 0 then (if ((17 - n : Nat) : Int) ≤ 16 then (ar (((17 - n : Nat) : Int) + 1) fun v15 => bX1_refuted_L120 (runC d) fu (Kn.length : Int) v15 s13 (fun s18 => some (2, s18)) (fun s19 => some (1, s19)) (fun s20 => some (0, s20)) (fun s21 => some (2, s21))) else (some (2, s13))) else (some (2, s13)))) else (some (1, s10))) (RfQ W A n Kn Ol ν0 c0 u0) := by
  obtain ⟨xs, lim, xn⟩ := RfX.eq _ _ _ _ _ _ _ _ hX
  obtain ⟨eF, hg, hhk, hnew, hfi⟩ := hD
  have hD : ClD W A fi Kn Ol u l := ⟨eF, hg, hhk, hnew, hfi⟩
  have hC := hR.1
  have hs := hC.1.1
  have hH3 : HaC ν u l.1 l.2.1 := hC.2.2.1.1
  have hHc : ∀ t ∈ l.1, cltm W (Nm ν c) t := fun t ht => (hC.2.2.2.2.2.1 t ht).1
  have eT := tT_of hHc hR.2.2.2.2.1.2 hD
  obtain ⟨hKO, hKf⟩ := hK.kl hN hOm hKl
  have hnm : ¬ manyS (facS W (fun f => f ∈ Kn) (fun f => f ∈ Ol)) := fun ⟨L, q1, q2, q3⟩ => by
    have := nd_lenL L l.1 q1 (fun t ht => by have := q3 t ht; rw [← eF] at this; exact this)
    have := hH3.1.2.1
    omega
  obtain ⟨xA, xB⟩ := xs.2.2.2 hnm
  have hht : ∀ f ∈ Kn, htT f ≤ 500 := fun f hf => by
    have := form_ht (m := 200) f (hKO.2 f hf).1.1 (fun s q1 q2 q3 => hand_ht hHc hg.2.2 hH3.1.2.1 (hhk f hf s q1 q2 q3))
    have h1 := htQ_sz f (isFo_pos (hKf f hf).1)
    have h2 := (hKf f hf).2
    omega
  have hrr : rC u = rC u0 := hR.2.2.2.2.2.1.2.2.2.1
  have hlu : Lim ν u (xf X l.1) := (lim.h hR.2.2.2.2.2.1).l hC
  refine wp_call (tX1_contra (X := xf X l.1) hG hKO (fun f hf => by have := hht f hf; omega) (fun f hf => (hKf f hf).1) ⟨hC, hR.2.1⟩ (by omega) (fun f hf s q1 q2 p hp => Or.inl (xA f hf s q1 q2 p hp)) hlu (by omega)) (fun r u1 ⟨w1, w2, w3, w4⟩ => ?_)
  rw [eF] at w1
  have hR1 := hR.gh (CaP.up hC w2.ux w3 w4 (by decide +kernel)) w2 (fun _ q => q) (w4.gh (by decide +kernel))
  have b1 : gI u1 45 = 0 := by rw [w4.I 45 (by decide +kernel)]; exact hg.1
  rcases w1 with ⟨e1, e2⟩ | ⟨e1, e2⟩
  · rw [e1, if_neg (by decide), wp_some]
    refine ⟨?_, ?_⟩
    · rw [RefS.eq]; exact Or.inr ⟨hnm, Or.inl ⟨e2, rfl⟩⟩
    · obtain ⟨ν1, c1, z1, z2, z3, z4, z5⟩ := hR1.arr hN
      exact ⟨ν1, c1, z1, z2, z3, z4.tru (h5 _), z5⟩
  · rw [e1, if_pos rfl, wp_un]
    have hR2 := hR1.s2
    have b2 : gI (sI u1 54 0) 45 = 0 := b1
    generalize sI u1 54 0 = u2 at *
    obtain ⟨xB1, xB2⟩ := xB e2
    have hrr2 : rC u2 = rC u0 := hR2.2.2.2.2.2.1.2.2.2.1
    have hOl : Ol.length ≤ 2500 := by have := nd_lenL Ol Kn hOn hOK; omega
    have hXR : XRd (xf X l.1) Kn Ol := ⟨fun f hf s q1 q2 p hp => Or.inl (xA f hf s q1 q2 p hp), fun f hf k k2 q => ⟨Or.inl (xB1 f hf k k2 q).1, Or.inl (xB1 f hf k k2 q).2⟩⟩
    have hUN := hR2.2.2.2.2.2.1
    have ecm : ∀ g, cmeS (FsO l) (fun f => f ∈ Kn) (tT l fi) (fun f => f ∈ Ol) g ↔ comS W A (fun f => f ∈ Kn) (fun f => f ∈ Ol) g := fun g => by
      rw [eF, eT]; exact Iff.rfl
    have hH2 : HaC ν u2 l.1 l.2.1 := hR2.1.2.2.1.1
    have hlu2 : LimR ν u2 (xf X l.1) Kn (cmeS (FsO l) (fun f => f ∈ Kn) (tT l fi) (fun f => f ∈ Ol)) := fun C y1 y2 y3 => by
      have := hX.lb l.1 hH2.2.2.1 (Nat.le_trans hH2.1.2.1 (by decide)) (fun t ht => (hR2.1.2.2.2.2.2.1 t ht).2) C y1 (fun g hg => ⟨(ecm g).mp (y2 g hg).1, (y2 g hg).2⟩) (y3.imp (fun q L z1 z2 => by have := nd_lenL L Kn z1 z2; omega) id) (Or.inr ⟨hnm, e2⟩)
      exact fun l' hn hm => this l' hn (fun t ht => (hm t ht).elim (fun z => (hUN.2.2.1 t z).imp id Or.inl) Or.inr)
    refine wp_call (tX1_round (fi := fi) (c0 := c0) (O0 := Ol) hlu2 (by omega) hXR hWc (fun f hf => ⟨(hKf f hf).1, by have := (hKf f hf).2; omega, by have := hht f hf; omega, by have h1 := htQ_sz f (isFo_pos (hKf f hf).1); have h2 := (hKf f hf).2; omega⟩) (by omega) hc0 hOl ⟨hR2.1, hR2.2.1, hR2.2.2.1, hR2.2.2.2.1, hR2.2.2.2.2.1, UN.rf, hR2.2.2.2.2.2.2⟩ b2 hW hG hKO ec hOn hOm) (fun r3 u3 h3 => ?_)
    rcases h3 with ⟨q1, q2, q3⟩ | ⟨q1, q2, ⟨C, f, q3, q4, q5, q6⟩, q7⟩ | ⟨q1, q2, ν', c', C, Bl', Ol', q3, q4, ⟨q5, q5'⟩, ⟨q6, q6', q6n⟩, ⟨q7, q8, q9⟩, q10, q11⟩
    · rw [q1, if_pos rfl, wp_some]
      refine ⟨?_, q3.bs (h5 _) (h5 _) hUN hN⟩
      rw [RefS.eq]
      exact Or.inr ⟨hnm, Or.inr ⟨e2, Or.inl ⟨fun g hg' => q2 g ((ecm g).mpr hg'), rfl⟩⟩⟩
    · rw [q1, if_neg (by decide), wp_un, q2, if_neg (by decide), wp_some]
      refine ⟨?_, q7.bs (fun z hz => ?_) (h5 _) hUN hN⟩
      rotate_left
      · rcases hz with y | ⟨g, y1, y2⟩
        · exact h5 _ _ y
        · obtain ⟨k1, k2, k3, k4⟩ := hK.step (fun t ht => (hA0 t ht).mono (fun m hm => Or.inl hm)) g (Or.inr ((ecm g).mp y1))
          exact p5_sub g k1.1 (fun _ => by omega) z y2
      rw [RefS.eq]
      refine Or.inr ⟨hnm, Or.inr ⟨e2, Or.inr ⟨⟨f, (ecm f).mp (q5 f List.mem_cons_self), fun z => q6 (List.mem_append_left _ z)⟩, Or.inl ⟨?_, rfl⟩⟩⟩⟩
      have hnd : (f :: (Kn ++ C)).Nodup := List.nodup_cons.mpr ⟨q6, q3⟩
      refine ⟨(f :: (Kn ++ C)).take 401, hnd.sublist (List.take_sublist _ _), ?_, fun t ht => ?_⟩
      · rw [List.length_take, List.length_cons, List.length_append]; omega
      · have hm := List.mem_of_mem_take ht
        rcases List.mem_cons.mp hm with z | z
        · rw [z]; exact Or.inr ((ecm f).mp (q5 f List.mem_cons_self))
        · rcases List.mem_append.mp z with y | y
          · exact Or.inl y
          · exact Or.inr ((ecm t).mp (q5 t (List.mem_cons_of_mem _ y)))
    · have eK : (fun f => f ∈ Kn ++ C) = nxK W A (fun f => f ∈ Kn) (fun f => f ∈ Ol) := by
        funext g
        refine propext ⟨fun z => ?_, fun z => ?_⟩
        · rcases List.mem_append.mp z with y | y
          · exact Or.inl y
          · exact Or.inr ((ecm g).mp ((q9 g).mp y).1)
        · by_cases y : g ∈ Kn
          · exact List.mem_append_left _ y
          · exact List.mem_append_right _ ((q9 g).mpr ⟨(ecm g).mpr (z.resolve_left y), y⟩)
      have eO : (fun f => f ∈ Ol') = nxO (fun f => f ∈ Kn) (fun f => f ∈ Ol) := by
        funext g
        exact propext (q10 g)
      have hnew1 : ∃ g, comS W A (fun f => f ∈ Kn) (fun f => f ∈ Ol) g ∧ ¬ g ∈ Kn := by
        obtain ⟨g, hg'⟩ := List.exists_mem_of_ne_nil C q7
        exact ⟨g, (ecm g).mp ((q9 g).mp hg').1, ((q9 g).mp hg').2⟩
      have hno : ¬ overS (nxK W A (fun f => f ∈ Kn) (fun f => f ∈ Ol)) := fun ⟨L, z1, z2, z3⟩ => by
        have := nd_lenL L (Kn ++ C) z1 (fun t ht => by have := z3 t ht; rw [← eK] at this; exact this)
        rw [List.length_append] at this
        omega
      have hres : ∀ r, ((n = 0 ∧ r = 2) ∨ ∃ n', n = n' + 1 ∧ RefS W A n' (fun f => f ∈ Kn ++ C) (fun f => f ∈ Ol') r) → RefS W A n (fun f => f ∈ Kn) (fun f => f ∈ Ol) r := fun r z => by
        rw [RefS.eq]
        rw [eK, eO] at z
        exact Or.inr ⟨hnm, Or.inr ⟨e2, Or.inr ⟨hnew1, Or.inr ⟨hno, z⟩⟩⟩⟩
      rw [q1, if_neg (by decide), wp_un, q2, if_pos rfl]
      refine wp_ite (fun h16 => ?_) (fun h16 => ?_)
      · obtain ⟨n', rfl⟩ : ∃ n', n = n' + 1 := ⟨n - 1, by omega⟩
        rw [wp_ar]
        refine ⟨⟨by omega, by omega⟩, ?_⟩
        rw [show ((17 - (n' + 1) : Nat) : Int) + 1 = ((17 - n' : Nat) : Int) by omega]
        have hsubF : subF (facS W (fun f => f ∈ Kn) (fun f => f ∈ Ol)) (facS W (fun f => f ∈ Kn ++ C) (fun f => f ∈ Ol')) := Der_mono (fun f hf => List.mem_append_left _ hf) (fun b ⟨f, f1, f2⟩ => ⟨f, (q10 f).mpr (Or.inl f1), f2⟩)
        have hK' : KOK W (Nm ν0 c0) B (fun f => f ∈ Kn ++ C) (fun f => f ∈ Ol') := by
          rw [eK, eO]
          exact hK.step (fun t ht => (hA0 t ht).mono (fun m hm => Or.inl hm))
        have hX' : RfX W A X ν0 u0 n' (fun f => f ∈ Kn ++ C) (fun f => f ∈ Ol') := by
          rw [eK, eO]
          exact xn hnm e2 hnew1 hno n' rfl
        have hOK' : ∀ f ∈ Ol', f ∈ Kn ++ C := fun f hf => List.mem_append_left _ (((q10 f).mp hf).elim (hOK f) (fun z => z.1))
        have hlen' : (Kn ++ C).length ≤ 2500 := by rw [List.length_append]; omega
        obtain ⟨r1, r2, r3, r4, r5, r6, r7⟩ := q3
        have r6 : UN ν u2 ν' u3 (xf X l.1) := r6.mon (fun z hz => Or.inr (hz.elim id (fun ⟨g, y1, y2⟩ => Or.inl (xB2 hno g ((ecm g).mp ((q9 g).mp y1).1) ((q9 g).mp y1).2 z y2))))
        have hBn : ∀ b ∈ Bl', newc (fun f => f ∈ Ol') b := fun b hb => by
          obtain ⟨f, f1, f2, f3⟩ := (q11 b).mp hb
          exact ⟨f, f1, f3⟩
        have hBlen : Bl'.length ≤ 16384 := by
          rcases r4.2 with z | z
          · rw [z]; simp
          · have := z.2.1; omega
        have := hrec n' rfl C.length Kn.length ν' c' u3 (Kn ++ C) C Bl' Ol' l (by rw [List.length_append]) (by omega) ⟨RkO.of ⟨CaP.mono r1 hsubF (fun f hf => List.mem_append_left _ hf), r2, r3, r4, r5, hUN.tr r6, r7⟩, Or.inl ⟨q2, hg.2⟩, ⟨q5, q5', hN.tr q4⟩, ⟨q6, q6', q6n, hOK'⟩, ⟨hlen', hBlen, fun f hf => ?_⟩, hBn, fun _ => ⟨fun j f hj hf => ?_, fun b ⟨f, f1, f2⟩ => ?_, hfi⟩⟩ hK' hX'
        · exact wp_mono this (fun r u' ⟨z1, z2⟩ => ⟨hres r (Or.inr ⟨n', rfl, z1⟩), z2⟩)
        · rcases List.mem_append.mp hf with z | z
          · have := hht f z; omega
          · obtain ⟨⟨f', f1, f2⟩, _⟩ := (q9 f).mp z
            refine com_ht (m := 500) (n := 200) (hKO.2 f' f1).1 (hKf f' f1).1 (hht f' f1) (fun t ht => ?_) (by omega) f2
            have htm : t ∈ l.1 := ht.elim (fun ⟨j, _, hj⟩ => List.mem_of_getElem? hj) (fun z => z.1)
            exact hand_ht hHc hg.2.2 hH3.1.2.1 htm
        · rw [List.getElem?_append_left hj] at hf
          exact hhk f (List.mem_of_getElem? hf)
        · by_cases z : f ∈ Ol
          · exact Or.inl (hnew b ⟨f, z, f2⟩)
          · exact Or.inr ((q11 b).mpr ⟨f, f1, z, f2⟩)
      · have hn0 : n = 0 := by omega
        rw [wp_some]
        refine ⟨hres 2 (Or.inl ⟨hn0, rfl⟩), ?_⟩
        obtain ⟨r1, r2, r3, r4, r5, r6, r7⟩ := q3
        have r6 : UN ν u2 ν' u3 (xf X l.1) := r6.mon (fun z hz => Or.inr (hz.elim id (fun ⟨g, y1, y2⟩ => Or.inl (xB2 hno g ((ecm g).mp ((q9 g).mp y1).1) ((q9 g).mp y1).2 z y2))))
        exact (RkI.arr ⟨r1, r2, r3, r4, r5, r6, r7⟩ q4).bs (h5 _) (h5 _) hUN hN
