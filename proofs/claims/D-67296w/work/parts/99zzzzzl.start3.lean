/-! the model behind its constructor -/
/-- any node may be one that is remembered -/
def anM : MqT := (fun _ => True, fun _ _ _ => True)
theorem fresh0 {d : Nat} (hd : 4 ≤ d) {c y : Nat} {u : Sg} (hw : WF FT u) (hm : MaT anM u) (hct : CtT u) (c1 : gI u 19 = (c : Int)) (hc : c ≤ 20000) (hy : y < 1000000) : wp (runT d 9 [0, (y : Int)] u) (fun r u' => gI u' 19 = ((c + 1 : Nat) : Int) ∧ EqH u u' ∧ WF FT u' ∧ Gr FT DX3_fresh u u' ∧ MaT anM u' ∧ CtT u' ∧ c + 1 ≤ gL u' 18 ∧ ∀ i, i < gL u' 39 → gN u' 39 i < gI u' 40) := by
  obtain ⟨d, rfl⟩ : ∃ d', d = d' + 2 := ⟨d - 2, by omega⟩
  rw [runT_eq (by omega)]
  show wp (bX3_fresh (runT (d + 1)) 0 y u) _
  unfold bX3_fresh
  refine wp_call (tX3_anew (d := d) (by omega) hw hm) (fun r s ⟨w, g, m1, m2, m3⟩ => ?_)
  have g0 : Gr FT DX3_fresh u s := Gr.sub (by decide +kernel) g
  have e0 : EqH u s := g.eqH (by decide +kernel)
  obtain ⟨i19, _, _⟩ := anew_eq g (k := 19) (by omega) (by omega)
  obtain ⟨_, l17, _⟩ := anew_eq g (k := 17) (by omega) (by omega)
  obtain ⟨_, l18, n18⟩ := anew_eq g (k := 18) (by omega) (by omega)
  rw [wp_un, i19, c1]
  refine wp_morT (D := DX3_fresh) w (by omega) rfl (by decide) (by decide +kernel) (by rw [l17]; exact hct.1) (by omega) (fun s4 ⟨e4, w4, g4, i4, o4, p1, p2, p3, p4, p5⟩ => ?_)
  rw [wp_un, i4, i19, c1]
  refine wp_morT (D := DX3_fresh) w4 (by omega) rfl (by decide) (by decide +kernel) (by rw [(o4 18 (by omega)).1, l18]; exact hct.2) (by omega) (fun s6 ⟨e6, w6, g6, i6, o6, q1, q2, q3, q4, q5⟩ => ?_)
  have l176 : gL s6 17 = gL s4 17 := (o6 17 (by omega)).1
  rw [wp_un, i6, i4, i19, c1, wp_stA]
  refine ⟨⟨by omega, by omega⟩, ?_⟩
  rw [wp_un, gI_sA, i6, i4, i19, c1, wp_stA]
  refine ⟨⟨by omega, by rw [gL_sA]; omega⟩, ?_⟩
  rw [wp_un, gI_sA, gI_sA, i6, i4, i19, c1, wp_ar]
  refine ⟨⟨by omega, by omega⟩, ?_⟩
  rw [wp_un, wp_some, show (c : Int) + 1 = ((c + 1 : Nat) : Int) by omega]
  generalize ez : sI (sA (sA s6 17 (c : Int) 0) 18 (c : Int) (y : Int)) 19 ((c + 1 : Nat) : Int) = z
  have wz : WF FT z := by rw [← ez]; exact wfIT (wfAT (wfAT w6 rfl ⟨by omega, by omega⟩) rfl ⟨by omega, by omega⟩) rfl ⟨by omega, by omega⟩
  have gz : Gr FT DX3_fresh u z := by rw [← ez]; exact ((g0.tr g4).tr g6).tr (((Gr_sA (by decide +kernel)).tr (Gr_sA (by decide +kernel))).tr (Gr_sI (by decide +kernel)))
  have qz : EqH u z := by rw [← ez]; exact (((e0.trn e4).trn e6).trn (EqH.sA (by omega))).trn ((EqH.sA (by omega)).trn (EqH.sI (by omega)))
  have Iz : ∀ j, j ≠ 19 → gI z j = gI s j := fun j hj => by rw [← ez, gI_sI, if_neg hj, gI_sA, gI_sA, i6, i4]
  have Az : ∀ j, j ≠ 17 → j ≠ 18 → gL z j = gL s j ∧ ∀ i, gN z j i = gN s j i := fun j h1 h2 => by
    refine ⟨by rw [← ez, gL_sI, gL_sA, gL_sA, (o6 j h2).1, (o4 j h1).1], fun i => ?_⟩
    rw [← ez, gN_sI, gN_sAn, if_neg (fun q => h2 q.1), gN_sAn, if_neg (fun q => h1 q.1), (o6 j h2).2, (o4 j h1).2]
  have L17 : gL z 17 = gL s4 17 := by rw [← ez, gL_sI, gL_sA, gL_sA, l176]
  have L18 : gL z 18 = gL s6 18 := by rw [← ez, gL_sI, gL_sA, gL_sA]
  have hct2 : CtT z := by
    have h1 := hct.1
    have h2 := hct.2
    have h3 := (o4 18 (by omega)).1
    refine ⟨?_, ?_⟩
    · rw [L17]; omega
    · rw [L18]; omega
  refine ⟨by rw [← ez, gI_sI, if_pos rfl], qz, wz, gz, ⟨⟨by rw [Iz 40 (by omega)]; exact m1.1.1, trivial⟩, fun i hi => ?_⟩, hct2, by rw [L18]; omega, fun i hi => ?_⟩
  · rw [(Az 39 (by omega) (by omega)).1] at hi
    rw [(Az 39 (by omega) (by omega)).2, Iz 40 (by omega)]
    exact m1.2 i hi
  · rw [(Az 39 (by omega) (by omega)).1] at hi
    rw [(Az 39 (by omega) (by omega)).2, Iz 40 (by omega)]
    exact m2 i hi
theorem zr3 : Zr FT cs3 := ((((((((((((((((((((((((((((((((((((((((((((((((((((((Zr_z.sN (id := 1) (by decide)).sN (id := 2) (by decide)).sN (id := 3) (by decide)).sN (id := 4) (by decide)).sN (id := 5) (by decide)).sN (id := 6) (by decide)).sN (id := 7) (by decide)).sN (id := 9) (by decide)).sN (id := 11) (by decide)).sN (id := 12) (by decide)).sN (id := 14) (by decide)).sN (id := 15) (by decide)).sN (id := 17) (by decide)).sN (id := 18) (by decide)).sN (id := 20) (by decide)).sN (id := 21) (by decide)).sN (id := 23) (by decide)).sN (id := 25) (by decide)).sN (id := 26) (by decide)).sI (id := 27) (by decide) (by decide)).sN (id := 29) (by decide)).sN (id := 30) (by decide)).sN (id := 31) (by decide)).sN (id := 32) (by decide)).sN (id := 33) (by decide)).sN (id := 34) (by decide)).sN (id := 35) (by decide)).sN (id := 36) (by decide)).sN (id := 38) (by decide)).sN (id := 39) (by decide)).sI (id := 40) (by decide) (by decide)).sN (id := 41) (by decide)).sN (id := 43) (by decide)).sN (id := 44) (by decide)).sN (id := 45) (by decide)).sN (id := 46) (by decide)).sN (id := 47) (by decide)).sN (id := 49) (by decide)).sN (id := 51) (by decide)).sN (id := 52) (by decide)).sN (id := 53) (by decide)).sN (id := 55) (by decide)).sN (id := 56) (by decide)).sN (id := 59) (by decide)).sN (id := 60) (by decide)).sN (id := 61) (by decide)).sN (id := 63) (by decide)).sN (id := 64) (by decide)).sN (id := 69) (by decide)).sN (id := 73) (by decide)).sN (id := 74) (by decide)).sN (id := 77) (by decide)).sN (id := 78) (by decide)).sN (id := 80) (by decide))
theorem gI_cs3 (k : Nat) (h1 : k ≠ 27) (h2 : k ≠ 40) : gI cs3 k = 0 := by
  unfold cs3
  rw [gNk, gNk, gNk, gNk, gNk, gNk, gNk, gNk, gNk, gNk, gNk, gNk, gNk, gNk, gNk, gNk, gNk, gNk, gNk, gNk, gNk, gNk, gNk, gIk h2, gNk, gNk, gNk, gNk, gNk, gNk, gNk, gNk, gNk, gNk, gIk h1, gNk, gNk, gNk, gNk, gNk, gNk, gNk, gNk, gNk, gNk, gNk, gNk, gNk, gNk, gNk, gNk, gNk, gNk, gNk]
  rfl
theorem st_cs3 : ST nt2 2 cs3 := by
  have hn : nT cs3 = 0 := by unfold nT; rw [gI_cs3 8 (by decide) (by decide)]; rfl
  have hd : dT cs3 = 0 := by unfold dT; rw [gI_cs3 10 (by decide) (by decide)]; rfl
  have hh : hT cs3 = 0 := by unfold hT; rw [gI_cs3 13 (by decide) (by decide)]; rfl
  have hz : ∀ k j, gN cs3 k j = 0 := fun k j => by
    show gF cs3 k j = 0
    rw [(zr3.2.2 k).2]
  refine ⟨⟨⟨?_, ?_, ?_, ⟨rfl, rfl, rfl, rfl, rfl, rfl⟩, rfl, ⟨by decide, by decide⟩, Or.inl rfl, Or.inl rfl⟩, ?_, ?_, ?_, ?_⟩, ?_, ?_⟩
  · exact ⟨by rw [gI_cs3 8 (by decide) (by decide), hn]; rfl, by rw [hn]; show 0 < 8192; decide⟩
  · exact ⟨by rw [gI_cs3 10 (by decide) (by decide), hd]; rfl, by rw [hd]; show 0 < 32768; decide⟩
  · exact ⟨by rw [gI_cs3 13 (by decide) (by decide), hh]; rfl, by rw [hh]; exact Nat.zero_le _⟩
  · exact ⟨fun x h1 h2 => by omega, fun i hi => by omega⟩
  · exact ⟨fun b _ => Or.inl ⟨hz 11 b, fun z h1 h2 => by omega⟩, fun x h1 h2 => by omega⟩
  · exact fun x y h1 h2 => by omega
  · exact fun x h1 h2 => by omega
  · exact ⟨by rw [hd, hn]; rfl, fun x h1 h2 => by omega⟩
  · exact ⟨fun x h1 h2 => by omega, fun i j h1 h2 => by omega⟩
def setT : Nat := mk 8 0 [0]
theorem limT_set {u : Sg} (h : ∀ t, ndT nt2 u t → t = setT) : LimT nt2 u (fun t => t = setT) := fun l hn hm => by
  have hs : ∀ t ∈ l, t ∈ [setT] := fun t ht => List.mem_singleton.mpr ((hm t ht).elim (h t) id)
  have hl := nd_lenL l [setT] hn hs
  have h2 : [setT].length = 1 := rfl
  refine ⟨by omega, ?_⟩
  have hb : ∀ t ∈ l, (ps t).length + 1 ≤ 2 := fun t ht => by
    rw [List.mem_singleton.mp (hs t ht)]; unfold setT; rw [ps_mk]; exact Nat.le_refl 2
  have hsum : ∀ l : List Nat, (∀ t ∈ l, (ps t).length + 1 ≤ 2) → (l.map (fun t => (ps t).length + 1)).sum ≤ 2 * l.length := by
    intro l
    induction l with
    | nil => intro _; exact Nat.le_refl _
    | cons a l ih =>
      intro hb
      have h1 := hb a List.mem_cons_self
      have h3 := ih (fun t ht => hb t (List.mem_cons_of_mem _ ht))
      simp only [List.map_cons, List.sum_cons, List.length_cons]
      omega
  have := hsum l hb
  omega
/-- one step of the constructor: the type of sets, a constant of it -/
theorem step3 {d : Nat} (hd : 20 ≤ d) {c : Nat} {u : Sg} {K : Sg → Option (Int × Sg)} {Q : Int → Sg → Prop} (hw : WF FT u) (hs : ST nt2 2 u) (hh : hT u = 0) (hnd : ∀ t, ndT nt2 u t → t = setT) (hm : MaT anM u) (hct : CtT u) (c1 : gI u 19 = (c : Int)) (hc : c ≤ 20000)
    (k : ∀ v, gI v 19 = ((c + 1 : Nat) : Int) → WF FT v → ST nt2 2 v → hT v = 0 → (∀ t, ndT nt2 v t → t = setT) → MaT anM v → CtT v → c + 1 ≤ gL v 18 → Gr FT DrX3 u v → (∀ i, i < gL v 39 → gN v 39 i < gI v 40) → wp (K v) Q) : wp (cl (runT d 1 [0, 0] u) fun v1 s1 => cl (runT d 9 [0, v1] s1) fun _ s2 => K s2) Q := by
  refine wp_call (tX3_plain (d := d) (m := 0) (x := 0) (X := fun t => t = setT) (by omega) hw hs (by omega) (Nat.zero_le _) (by decide) (by show mk 8 0 [tr _ 0] = setT; rw [tr_zero]; rfl) (limT_set hnd)) (fun v1 s1 h1 => ?_)
  obtain ⟨x, rfl, x0, hx, ex, hu, hw1, hg1⟩ := h1
  have hnd1 : ∀ t, ndT nt2 s1 t → t = setT := fun t ht => (hu.2.2.1 t ht).elim (hnd t) id
  have hb := (limT_set hnd1).n hu.1
  have e39 : ∀ j, j = 17 ∨ j = 18 ∨ j = 19 ∨ j = 39 ∨ j = 40 → DX3_plain.testBit j = false := by
    intro j hj
    rcases hj with h | h | h | h | h <;> (rw [h]; decide +kernel)
  have hm1 : MaT anM s1 := ⟨⟨by rw [hg1.I 40 (e39 40 (by omega))]; exact hm.1.1, trivial⟩, fun i hi => by
    rw [hg1.Ln 39 (e39 39 (by omega))] at hi
    rw [hg1.N 39 (e39 39 (by omega)), hg1.I 40 (e39 40 (by omega))]
    exact hm.2 i hi⟩
  have hct1 : CtT s1 := ⟨by rw [hg1.Ln 17 (e39 17 (by omega))]; exact hct.1, by rw [hg1.Ln 18 (e39 18 (by omega))]; exact hct.2⟩
  refine wp_call (fresh0 (d := d) (c := c) (by omega) hw1 hm1 hct1 (by rw [hg1.I 19 (e39 19 (by omega))]; exact c1) hc (by omega)) (fun v2 s2 h2 => ?_)
  obtain ⟨f1, f2, f3, f4, f5, f6, f7, f8⟩ := h2
  have hst : ST nt2 2 s2 := f2.st hu.1
  refine k s2 f1 f3 hst ?_ (fun t ht => hnd1 t (f2.1.nd.mp ht)) f5 f6 f7 ((hg1.sub (by decide +kernel)).tr (f4.sub (by decide +kernel))) f8
  unfold hT
  rw [f2.2.1]
  show hT s1 = 0
  rw [hu.2.2.2.1, hh]
theorem start3 {d : Nat} (hd : 20 ≤ d) : ∃ (r : Int) (σ3 : Sg), rest3 (runT d) cs3 = some (r, σ3) ∧ ST nt2 2 σ3 ∧ WF FT σ3 ∧ Gr FT DrX3 cs3 σ3 ∧ hT σ3 = 0 ∧ gI σ3 19 = 2 ∧ MaT anM σ3 ∧ CtT σ3 ∧ (∀ t, ndT nt2 σ3 t → t = setT) ∧ ∀ i, i < gL σ3 39 → gN σ3 39 i < gI σ3 40 := by
  have hn : nT cs3 = 0 := by unfold nT; rw [gI_cs3 8 (by decide) (by decide)]; rfl
  have hh : hT cs3 = 0 := by unfold hT; rw [gI_cs3 13 (by decide) (by decide)]; rfl
  have hnd : ∀ t, ndT nt2 cs3 t → t = setT := fun t ⟨x, h1, h2, _⟩ => by omega
  have hm : MaT anM cs3 := ⟨⟨by show 1 ≤ (1 : Int) ∧ (1 : Int) < _; decide, trivial⟩, fun i hi => by
    have : gN cs3 39 i = 0 := by show gF cs3 39 i = 0; rw [(zr3.2.2 39).2]
    rw [this]
    show (0 : Int) ≤ 0 ∧ (0 : Int) ≤ 1 ∧ _
    exact ⟨by decide, by decide, fun _ => trivial⟩⟩
  suffices h : wp (rest3 (runT d) cs3) (fun _ σ3 => ST nt2 2 σ3 ∧ WF FT σ3 ∧ Gr FT DrX3 cs3 σ3 ∧ hT σ3 = 0 ∧ gI σ3 19 = 2 ∧ MaT anM σ3 ∧ CtT σ3 ∧ (∀ t, ndT nt2 σ3 t → t = setT) ∧ ∀ i, i < gL σ3 39 → gN σ3 39 i < gI σ3 40) by
    obtain ⟨r, σ3, h1, h2⟩ := h
    exact ⟨r, σ3, h1, h2⟩
  unfold rest3
  refine step3 (c := 0) (K := fun s2 => cl (runT d 1 [0, 0] s2) fun v3 s3 => cl (runT d 9 [0, v3] s3) fun _ s4 => some (0, s4)) hd zr3.wf st_cs3 hh hnd hm ⟨Nat.le_of_ble_eq_true rfl, Nat.le_of_ble_eq_true rfl⟩ (gI_cs3 19 (by decide) (by decide)) (by decide) (fun v a1 a2 a3 a4 a5 a6 a7 a8 a9 a10 => ?_)
  refine step3 (c := 1) (K := fun s4 => some (0, s4)) hd a2 a3 a4 a5 a6 a7 a1 (by decide) (fun w b1 b2 b3 b4 b5 b6 b7 b8 b9 b10 => ?_)
  exact ⟨_, _, rfl, b3, b2, a9.tr b9, b4, b1, b6, b7, b5, b10⟩
