theorem ExC.pre {l l' : Ls} {fi : Nat} {A : Nat → Prop} (h : ∃ H2, l'.1 = l.1 ++ H2) (hfi : fi ≤ l.1.length) (hA : ∀ t, (∃ i, i < fi ∧ l.1[i]? = some t) ↔ A t) : ∀ t, (∃ i, i < fi ∧ l'.1[i]? = some t) ↔ A t := fun t => by
  obtain ⟨H2, e⟩ := h
  rw [← hA t]
  refine ⟨fun ⟨i, i1, i2⟩ => ⟨i, i1, ?_⟩, fun ⟨i, i1, i2⟩ => ⟨i, i1, ?_⟩⟩
  · rw [e, List.getElem?_append_left (by omega)] at i2; exact i2
  · rw [e, List.getElem?_append_left (by omega)]; exact i2
/-- all terms are at hand, or it is beyond: constants, closing, the rest -/
theorem refuted_mid {d fu n : Nat} {W : Wd} {A : Nat → Prop} {X : XFm} {B c0 fi : Nat} {ν0 : Nat → Nat} {u0 : Sg} {ν : Nat → Nat} {c : Nat} {Kn Cl Bl Ol : List Nat} {l : Ls} {u : Sg} {dn : Int} (hd : 1640 ≤ d) (h5 : ∀ H z, xf X H z → P5 z) (hB : B ≤ 300) (hr0 : rC u0 ≤ 20000) (hWc : ∀ f, wcT W (2 * f + 1) = pa (pa f 0) 0) (hc0 : c0 ≤ 3000) (hA0 : ∀ t, A t → cltm W (Nm ν0 c0) t) (hn : n ≤ 16) (hfu : (n + 1) * 3000 < fu + 100) (hrec : RfR d fu n W A X B c0 fi ν0 u0) (hL : LpS W A X c0 fi ν0 u0 ν c Kn Cl Bl Ol l Kn.length u) (hdn : gI u 45 = 0 → dn = (Kn.length : Int)) (hK : KOK W (Nm ν0 c0) B (fun f => f ∈ Kn) (fun f => f ∈ Ol)) (hX : RfX W A X ν0 u0 n (fun f => f ∈ Kn) (fun f => f ∈ Ol)) : wp (bX1_refuted_L154 (runC d) KF dn ((17 - n : Nat) : Int) 0 u (fun v4 v5 s3 => jn (fun (a3 a4 : Int) (s7 : Sg) => un (gI s7 45) fun v8 => if v8 = 0 then (cl (runC d 65 [] s7) fun v9 s10 => if v9 = 0 then (un (sI s10 54 0) fun s11 => cl (runC d 71 [] s11) fun v12 s13 => if v12 = 0 then (some (0, s13)) else (un (gI s13 45) fun v14 => if v14 = 0 then (if a4 ≤ 16 then (ar (a4 + 1) fun v15 => bX1_refuted_L120 (runC d) fu a3 v15 s13 (fun s18 => some (2, s18)) (fun s19 => some (1, s19)) (fun s20 => some (0, s20)) (fun s21 => some (2, s21))) else (some (2, s13))) else (some (2, s13)))) else (some (1, s10))) else (some (2, s7))) fun j6 => un (sI s3 56 0) fun s16 => un (gI s16 45) fun v17 => if v17 = 0 then (cl (runC d 54 [] s16) fun v18 s19 => j6 v4 v5 s19) else (j6 v4 v5 s16))) (RfQ W A n Kn Ol ν0 c0 u0) := by
  obtain ⟨hRO, hst, ⟨hW, hG, hN⟩, ⟨ec, hOn, hOm, hOK⟩, ⟨hKl, hBl, hht⟩, hBn, hgd⟩ := hL
  obtain ⟨Gq, _, _, hR⟩ := id hRO
  obtain ⟨xs, lim, xn⟩ := RfX.eq _ _ _ _ _ _ _ _ hX
  obtain ⟨hKO, hKf⟩ := hK.kl hN hOm hKl
  have h20 := hR.1.1.2.2.2.1.2.1.2
  have hClo : Clo W (fun f => f ∈ Kn) (newc (fun f => f ∈ Ol)) (facS W (fun f => f ∈ Kn) (fun f => f ∈ Ol)) := Der_clo _ _ _
  have hAt := tX1_atHand (X := X) hW hG (hKO.wh h20) hKl xs.1 hClo
  have hBne : Bl ≠ [0] := fun e => by
    obtain ⟨f, _, f2⟩ := hBn 0 (by rw [e]; simp)
    have := mk_pos 1 (2 * f + 1) []
    omega
  refine refuted_L154 (l0 := l) hAt (by omega) lim hr0 hBl hBne (fun b hb => ?_) Bl.length 0 KF u l (by omega) (Nat.lt_of_le_of_lt (by omega : _ ≤ 65536) KF_gt) hRO hst ⟨[], by simp⟩ (fun _ j b hj => by omega) _ (fun u2 l2 r1 r2 r3 r4 => ?_)
  · obtain ⟨f, f1, f2⟩ := hBn b hb
    rw [f2]
    exact ⟨const_ok (hOm f f1), hClo.1.2.1 _ ⟨f, f1, rfl⟩⟩
  have hsub : ∀ t ∈ l.1, t ∈ l2.1 := fun t ht => by obtain ⟨H2, e⟩ := r3; rw [e]; exact List.mem_append_left _ ht
  refine wp_jnG (fun j => ∀ (u4 : Sg) (l4 : Ls) (G : List Nat), RkI ν c W (facS W (fun f => f ∈ Kn) (fun f => f ∈ Ol)) (xf X G) Kn l4 Kn Cl [] Ol c0 fi ν0 u0 u4 → (gI u4 45 = 0 ∧ dn = (Kn.length : Int) ∧ ClD W A fi Kn Ol u4 l4 ∧ G = l4.1) ∨ (gI u4 45 = 1 ∧ Bey (facS W (fun f => f ∈ Kn) (fun f => f ∈ Ol)) l4.1) → wp (j dn ((17 - n : Nat) : Int) u4) (RfQ W A n Kn Ol ν0 c0 u0)) (fun u4 l4 G q1 q2 => ?_) (fun j6 hj6 => ?_)
  · show wp (un _ _) _
    rw [wp_un]
    rcases q2 with ⟨q2, q3, q4, q5⟩ | ⟨q2, q3⟩
    · rw [q5] at q1
      rw [q2, if_pos rfl, q3]
      exact refuted_end hd h5 hB hr0 hWc hc0 hA0 hn hfu hrec q1 q4 hW hG hN ec hOn hOm hOK hKl hK hX
    · rw [q2, if_neg (by decide), wp_some]
      refine ⟨?_, ?_⟩
      · rw [RefS.eq]
        exact Or.inl ⟨bey_many q1.1.2.2.1.1.2.2.1 (fun t ht => (q1.1.2.2.2.2.2.1 t ht).2) q3, rfl⟩
      · obtain ⟨ν1, c1, z1, z2, z3, z4, z5⟩ := q1.arr hN
        exact ⟨ν1, c1, z1, z2, z3, z4.tru (h5 _), z5⟩
  · obtain ⟨G2, gv2, ge2, r1⟩ := r1
    have hR3 := r1.s1 hBne
    have e45 : gI (sI u2 56 0) 45 = gI u2 45 := rfl
    rw [wp_un]
    generalize sI u2 56 0 = u3 at *
    rw [wp_un]
    refine wp_ite (fun hb => ?_) (fun hb => ?_)
    · have hb2 : gI u2 45 = 0 := by rw [← e45]; exact hb
      obtain ⟨hb0, hBin⟩ := r4 hb2
      obtain ⟨g1, g2, g3, g4⟩ := hgd hb0
      have hg2 : GdL W u3 l2 := by
        have := r2.resolve_right (fun q => by rw [q.1] at hb2; cases hb2)
        exact ⟨hb, this.2⟩
      have hrr : rC u3 = rC u0 := hR3.2.2.2.2.2.1.2.2.2.1
      have hhk : HKn Kn l2.1 := fun f hf s z1 z2 z3 => by
        obtain ⟨j, hj⟩ := List.getElem?_of_mem hf
        exact hsub s (g1 j f (List.getElem?_eq_some_iff.mp hj).1 hj s z1 z2 z3)
      rw [ge2 hb2] at hR3
      refine wp_call (tX1_close (X := X) (by omega) hW hG hKO (fun f hf => hf) hAt hClo (fun f hf h14 => xs.2.2.1 f hf h14) xs.2.1 hR3.1 (Or.inl hg2) (lim.h hR3.2.2.2.2.2.1) (by omega) hR3.2.1.kn (fun _ => hhk)) (fun r u4 hcl => ?_)
      obtain ⟨l4, c1, c2, ⟨G, cG, cE, _, c3⟩, c4, c5⟩ := hcl
      have hR4 := hR3.gh c2 c3 (xf_mono (fun t ht => cG.1 t (c1.H ht))) c4
      refine hj6 u4 l4 G hR4 (c5.imp (fun ⟨z1, z2⟩ => ⟨z1.1, hdn hb0, ⟨?_, z1, ?_, ?_, ?_, ?_⟩, cE (Or.inl z1.1)⟩) id)
      · exact ClE.eq c2 z1 (fun f hf s y1 y2 y3 => c1.H (hhk f hf s y1 y2 y3)) (fun b hb' => c1.H ((g2 b hb').elim (hsub b) (hBin b))) z2
      · exact fun f hf s y1 y2 y3 => c1.H (hhk f hf s y1 y2 y3)
      · exact fun b hb' => c1.H ((g2 b hb').elim (hsub b) (hBin b))
      · obtain ⟨H2, e2⟩ := r3
        obtain ⟨⟨H4, e4⟩, _⟩ := c1
        exact ExC.pre (l := l) ⟨H2 ++ H4, by rw [e4, e2, List.append_assoc]⟩ g4 g3
      · obtain ⟨H2, e2⟩ := r3
        obtain ⟨⟨H4, e4⟩, _⟩ := c1
        rw [e4, e2, List.length_append, List.length_append]
        omega
    · have hb2 : gI u2 45 ≠ 0 := fun q => hb (by rw [e45]; exact q)
      have hbey := r2.resolve_left (fun q => hb2 q.1)
      exact hj6 u3 l2 G2 hR3 (Or.inr ⟨by rw [e45]; exact hbey.1, hbey.2⟩)
theorem refuted_L120 {d : Nat} {W : Wd} {A : Nat → Prop} {X : XFm} {B c0 fi : Nat} {ν0 : Nat → Nat} {u0 : Sg} (hd : 1640 ≤ d) (h5 : ∀ H z, xf X H z → P5 z) (hB : B ≤ 300) (hr0 : rC u0 ≤ 20000) (hWc : ∀ f, wcT W (2 * f + 1) = pa (pa f 0) 0) (hc0 : c0 ≤ 3000) (hA0 : ∀ t, A t → cltm W (Nm ν0 c0) t) : ∀ (n : Nat), n ≤ 16 → ∀ (m dn fu : Nat) (ν : Nat → Nat) (c : Nat) (u : Sg) (Kn Cl Bl Ol : List Nat) (l : Ls), dn + m = Kn.length → m + (n + 1) * 3000 < fu → LpS W A X c0 fi ν0 u0 ν c Kn Cl Bl Ol l dn u → KOK W (Nm ν0 c0) B (fun f => f ∈ Kn) (fun f => f ∈ Ol) → RfX W A X ν0 u0 n (fun f => f ∈ Kn) (fun f => f ∈ Ol) → wp (bX1_refuted_L120 (runC d) fu (dn : Int) ((17 - n : Nat) : Int) u (fun s18 => some (2, s18)) (fun s19 => some (1, s19)) (fun s20 => some (0, s20)) (fun s21 => some (2, s21))) (RfQ W A n Kn Ol ν0 c0 u0) := by
  have step : ∀ n : Nat, n ≤ 16 → (∀ fu, (n + 1) * 3000 < fu + 100 → RfR d fu n W A X B c0 fi ν0 u0) → ∀ (m dn fu : Nat) (ν : Nat → Nat) (c : Nat) (u : Sg) (Kn Cl Bl Ol : List Nat) (l : Ls), dn + m = Kn.length → m + (n + 1) * 3000 < fu → LpS W A X c0 fi ν0 u0 ν c Kn Cl Bl Ol l dn u → KOK W (Nm ν0 c0) B (fun f => f ∈ Kn) (fun f => f ∈ Ol) → RfX W A X ν0 u0 n (fun f => f ∈ Kn) (fun f => f ∈ Ol) → wp (bX1_refuted_L120 (runC d) fu (dn : Int) ((17 - n : Nat) : Int) u (fun s18 => some (2, s18)) (fun s19 => some (1, s19)) (fun s20 => some (0, s20)) (fun s21 => some (2, s21))) (RfQ W A n Kn Ol ν0 c0 u0) := by
    intro n hn hrec m
    induction m with
    | zero =>
      intro dn fu ν c u Kn Cl Bl Ol l hm hfu hL hK hX
      obtain ⟨fu, rfl⟩ : ∃ f', fu = f' + 1 := ⟨fu - 1, by omega⟩
      rw [bX1_refuted_L120, wp_jn, wp_un, hL.1.choose_spec.2.2.2.1.1.1, if_neg (by omega)]
      have e : dn = Kn.length := by omega
      rw [e] at hL ⊢
      exact refuted_mid hd h5 hB hr0 hWc hc0 hA0 hn (by omega) (hrec fu (by omega)) hL (fun _ => rfl) hK hX
    | succ m ih =>
      intro dn fu ν c u Kn Cl Bl Ol l hm hfu hL hK hX
      obtain ⟨fu, rfl⟩ : ∃ f', fu = f' + 1 := ⟨fu - 1, by omega⟩
      rw [bX1_refuted_L120, wp_jn, wp_un, hL.1.choose_spec.2.2.2.1.1.1, if_pos (by omega), wp_un]
      have hL' := hL
      obtain ⟨hRO, hst, ⟨hW, hG, hN⟩, ⟨ec, hOn, hOm, hOK⟩, ⟨hKl, hBl, hht⟩, hBn, hgd⟩ := hL
      obtain ⟨Gq, _, _, hR⟩ := id hRO
      refine wp_ite (fun hb => ?_) (fun hb => ?_)
      · obtain ⟨xs, lim, xn⟩ := RfX.eq _ _ _ _ _ _ _ _ hX
        obtain ⟨hKO, hKf⟩ := hK.kl hN hOm hKl
        have h20 := hR.1.1.2.2.2.1.2.1.2
        have hClo : Clo W (fun f => f ∈ Kn) (newc (fun f => f ∈ Ol)) (facS W (fun f => f ∈ Kn) (fun f => f ∈ Ol)) := Der_clo _ _ _
        have hAt := tX1_atHand (X := X) hW hG (hKO.wh h20) hKl xs.1 hClo
        have hg : GdL W u l := hst.resolve_right (fun q => by rw [q.1] at hb; cases hb)
        have hil : dn < Kn.length := by omega
        have gi : Kn[dn]? = some Kn[dn] := List.getElem?_eq_getElem hil
        generalize ef : Kn[dn] = f at gi
        have hfK := List.mem_of_getElem? gi
        obtain ⟨x, x1, x2, x3, x4, _⟩ := hR.2.1.2.2.1 dn f gi
        have l34 := hR.2.1.1.2
        have hf7 := hht f hfK
        rw [ld_nat (by omega), x1]
        refine wp_call (rk_terms hAt (by omega) (hRO.z hb) lim hr0 hg x2 x3 x4 (hKO.2 f hfK).1 (hKO.2 f hfK).2.2 (fun s q1 q2 q3 => hClo.1.1 f hfK s q1 q2 q3)) (fun r u1 ⟨l1, a1, a2, a3, a4, a5, a6⟩ => ?_)
        rw [wp_ar]
        refine ⟨⟨by omega, by omega⟩, ?_⟩
        rw [show (dn : Int) + 1 = ((dn + 1 : Nat) : Int) by omega]
        obtain ⟨g1, g2, g3, g4⟩ := hgd hb
        refine ih (dn + 1) fu ν c u1 Kn Cl Bl Ol l1 (by omega) (by omega) ⟨a1, a5, ⟨hW, hG, hN⟩, ⟨ec, hOn, hOm, hOK⟩, ⟨hKl, hBl, hht⟩, hBn, fun q => ⟨fun j g hj hg' => ?_, fun b hb' => (g2 b hb').imp (fun z => a2.H z) id, ExC.pre a2.1 g4 g3, ?_⟩⟩ hK hX
        · by_cases hji : j = dn
          · rw [hji, gi] at hg'
            rw [← Option.some.inj hg']
            exact a6 q
          · exact fun s q1 q2 q3 => a2.H (g1 j g (by omega) hg' s q1 q2 q3)
        · obtain ⟨⟨H2, e2⟩, _⟩ := a2
          rw [e2, List.length_append]
          omega
      · refine refuted_mid hd h5 hB hr0 hWc hc0 hA0 hn (by omega) (hrec fu (by omega)) ⟨hRO, hst, ⟨hW, hG, hN⟩, ⟨ec, hOn, hOm, hOK⟩, ⟨hKl, hBl, hht⟩, hBn, fun q => absurd q hb⟩ (fun q => absurd q hb) hK hX
  intro n
  induction n with
  | zero => exact fun hn => step 0 hn (fun fu _ n' e => by omega)
  | succ n ihn => exact fun hn => step (n + 1) hn (fun fu hfu n' e m dn ν c u Kn Cl Bl Ol l h1 h2 h3 h4 h5 => by
      have e' : n = n' := by omega
      subst e'
      exact ihn (by omega) m dn fu ν c u Kn Cl Bl Ol l h1 h2 h3 h4 h5)
