/-! what is known, asked in the model -/
theorem KnT.len {ν : Nat → Nat} {u : Sg} {Kl : List Nat} (h : KnT ν u Kl) : Kl.length ≤ gL u 49 := h.1.2.1
theorem alike_L37 {d : Nat} (hd : 4 ≤ d) {ν : Nat → Nat} {c : Nat} {u : Sg} {H : List Nat} {p : Nat → Nat} (h : HaT ν u H p) (hs : ST ν c u) {x y tx ty : Nat} (x0 : 0 < x) (hx : x ≤ nT u) (ex : trT ν u x = tx) (y0 : 0 < y) (hy : y ≤ nT u) (ey : trT ν u y = ty) (hk : kd tx = kd ty) (h9 : 9 ≤ kd tx ∧ kd tx ≤ 14) (hlen : (ps tx).length = (ps ty).length) (hl60 : (ps tx).length ≤ 60000) : ∀ (m i f : Nat), i + m = (ps tx).length → m < f → Yq (bX3_isAlike_L37 (runT d) f (x : Int) (y : Int) (tkT (kd tx)) ((i + nw (kd tx) : Nat) : Int) u (fun s5 => some (1, s5)) (fun s6 => some (0, s6)) (fun s7 => some (0, s7))) u (∀ k, i ≤ k → k < (ps tx).length → eqX H p (pa tx k) (pa ty k)) := by
  have hn := nodeT hs x0 hx
  rw [ex] at hn
  have hnw1 : nw (kd tx) ≤ 1 := by unfold nw; split <;> omega
  have hl3 : x < gL u 3 := by rw [hs.1.1.2.2.2.1.2.1]; exact hs.k hx
  have hfs : fsT (tkT (kd tx)) = nw (kd tx) := (by decide : ∀ k, k ≤ 14 → 9 ≤ k → fsT (tkT k) = nw k) (kd tx) h9.2 h9.1
  intro m
  induction m with
  | zero =>
    intro i f hi hf
    obtain ⟨f, rfl⟩ : ∃ f', f = f' + 1 := ⟨f - 1, by omega⟩
    rw [bX3_isAlike_L37, ld_nat hl3, hn.2.1, if_neg (by omega)]
    exact ⟨fun _ => rfl, fun q => absurd (fun k a b => by omega) q⟩
  | succ m ih =>
    intro i f hi hf
    obtain ⟨f, rfl⟩ : ∃ f', f = f' + 1 := ⟨f - 1, by omega⟩
    obtain ⟨a, a1, a2, a3⟩ := partNT (d := d) (i := i) (by omega) hs x0 hx (by rw [ex]; omega) (Or.inl (by rw [ex]; omega))
    obtain ⟨b, b1, b2, b3⟩ := partNT (d := d) (i := i) (by omega) hs y0 hy (by rw [ey]; omega) (Or.inl (by rw [ey]; omega))
    rw [ex] at a1 a3
    rw [ey] at b1 b3
    rw [← hk] at b1
    obtain ⟨c1, c2⟩ := rX3_equal (d := d) hd h hs (by omega : a ≤ nT u) (by omega : b ≤ nT u)
    rw [a3, b3] at c1 c2
    have nx := ih (i + 1) f (by omega) (by omega)
    rw [bX3_isAlike_L37, ld_nat hl3, hn.2.1, if_pos (by omega), cl_eq (rX3_first (by omega)), hfs, if_neg (by omega), cl_eq a1, cl_eq b1]
    by_cases he : eqX H p (pa tx i) (pa ty i)
    · rw [cl_eq (c1 he), if_neg (by decide), ar_pos ⟨by omega, by omega⟩, show ((i + nw (kd tx) : Nat) : Int) + 1 = ((i + 1 + nw (kd tx) : Nat) : Int) by omega]
      refine nx.iff ⟨fun q k q1 q2 => ?_, fun q k q1 q2 => q k (by omega) q2⟩
      by_cases hk : k = i
      · rw [hk]; exact he
      · exact q k (by omega) q2
    · rw [cl_eq (c2 he), if_pos rfl]
      exact ⟨fun q => absurd (q i (Nat.le_refl _) (by omega)) he, fun _ => rfl⟩
theorem tkT_eq8 {k k' : Nat} (h : k = 1 ∨ k = 2 ∨ k = 3 ∨ k = 4 ∨ k = 5 ∨ (8 ≤ k ∧ k ≤ 18 ∧ k ≠ 15)) (h' : 8 ≤ k') : tkT k = tkT k' ↔ k = k' := by
  rw [tkT_hi h']
  constructor
  · intro q
    rcases h with w | w | w | w | w | w
    · rw [w] at q; have : tkT 1 = 2 := by decide
      omega
    · rw [w] at q; have : tkT 2 = 1 := by decide
      omega
    · rw [w] at q; have : tkT 3 = 2 := by decide
      omega
    · rw [w] at q; have : tkT 4 = 4 := by decide
      omega
    · rw [w] at q; have : tkT 5 = 5 := by decide
      omega
    · rw [tkT_hi w.1] at q; omega
  · intro q
    rw [q, tkT_hi h']
theorem rX3_isAlike {d : Nat} (hd : 5 ≤ d) {ν : Nat → Nat} {c : Nat} {u : Sg} {l : Ls} (h : HaT ν u l.1 l.2.1) (hs : ST ν c u) {x y tx ty : Nat} (x0 : 0 < x) (hx : x ≤ nT u) (ex : trT ν u x = tx) (hox : okT tx) (y0 : 0 < y) (hy : y ≤ nT u) (ey : trT ν u y = ty) (h9 : 9 ≤ kd ty ∧ kd ty ≤ 14) (hl60 : (ps ty).length ≤ 60000) : Yq (runT d 103 [(x : Int), (y : Int)] u) u (sameA (FsQ l) ty tx) := by
  obtain ⟨d, rfl⟩ : ∃ d', d = d' + 1 := ⟨d - 1, by omega⟩
  rw [runT_eq (by omega)]
  show Yq (bX3_isAlike (runT d) x y u) u _
  unfold bX3_isAlike
  have hn := nodeT hs x0 hx
  have hm := nodeT hs y0 hy
  rw [ex] at hn
  rw [ey] at hm
  have l3 : gL u 3 = gL u 1 := hs.1.1.2.2.2.1.2.1
  have hxk := hs.k hx
  have hyk := hs.k hy
  have hnw1 : nw (kd ty) ≤ 1 := by unfold nw; split <;> omega
  have hkk := tkT_eq8 (k' := kd ty) (okT_kin hox) (by omega)
  rw [ld_nat hxk, ld_nat hyk, hn.1, hm.1]
  by_cases h1 : kd tx = kd ty
  · rw [if_pos (hkk.mpr h1), ld_nat (by omega), ld_nat (by omega), hn.2.1, hm.2.1]
    by_cases h3 : (ps tx).length = (ps ty).length
    · rw [if_pos (by rw [h1, h3])]
      have lp : ∀ f, (ps tx).length < f → Yq (bX3_isAlike_L37 (runT d) f (x : Int) (y : Int) (tkT (kd tx)) ((0 + nw (kd tx) : Nat) : Int) u (fun s5 => some (1, s5)) (fun s6 => some (0, s6)) (fun s7 => some (0, s7))) u (∀ k, 0 ≤ k → k < (ps tx).length → eqX l.1 l.2.1 (pa tx k) (pa ty k)) := fun f hf => alike_L37 (d := d) (by omega) h hs x0 hx ex y0 hy ey h1 (by omega) h3 (by omega) (ps tx).length 0 f (by omega) hf
      have hKF := KF_300
      by_cases hw1 : nw (kd tx) = 0
      · have hwx := hn.2.2.2.2.1 hw1
        have hwy := hm.2.2.2.2.1 (by rw [← h1]; exact hw1)
        have := lp KF (by omega)
        rw [hw1] at this
        refine this.iff ⟨fun q => ⟨h1.symm, by rw [hwx, hwy], h3.symm, fun i hi => (q i (Nat.zero_le _) (by omega)).sy⟩, fun q k _ hk => eqX.sy (q.2.2.2 k (by omega))⟩
      · have hw1 : nw (kd tx) = 1 := by rw [h1] at hw1 ⊢; omega
        have hwx := hn.2.2.2.1 hw1 (by omega)
        have hwy := hm.2.2.2.1 (by rw [← h1]; exact hw1) (by omega)
        obtain ⟨F, hF⟩ : ∃ F, KF = F + 1 := ⟨KF - 1, by omega⟩
        have hl3x : x < gL u 3 := by omega
        have hfs : fsT (tkT (kd tx)) = nw (kd tx) := (by decide : ∀ k, k ≤ 14 → 9 ≤ k → fsT (tkT k) = nw k) (kd tx) (by omega) (by omega)
        have g1 : runT d 7 [(x : Int), 0] u = some (dt u x 0, u) := getT (d := d) (i := 0) (by omega) hs x0 hx (by rw [ex]; omega)
        have g2 : runT d 7 [(y : Int), 0] u = some (dt u y 0, u) := getT (d := d) (i := 0) (by omega) hs y0 hy (by rw [ey, ← h1]; omega)
        rw [hF, bX3_isAlike_L37, ld_nat hl3x, hn.2.1, if_pos (by omega), cl_eq (rX3_first (by omega)), hfs, if_pos (by omega), cl_eq g1, cl_eq g2, hwx, hwy]
        by_cases h2 : wh tx = wh ty
        · rw [if_pos (by omega), ar_pos ⟨by decide, by decide⟩]
          have := lp F (by omega)
          rw [hw1] at this
          refine Yq.iff this ⟨fun q => ⟨h1.symm, h2.symm, h3.symm, fun i hi => (q i (Nat.zero_le _) (by omega)).sy⟩, fun q k _ hk => eqX.sy (q.2.2.2 k (by omega))⟩
        · rw [if_neg (by omega)]
          exact ⟨fun q => absurd q.2.1.symm h2, fun _ => rfl⟩
    · rw [if_neg (by rw [h1]; omega)]
      exact ⟨fun q => absurd q.2.2.1.symm h3, fun _ => rfl⟩
  · rw [if_neg (fun q => h1 (hkk.mp q))]
    exact ⟨fun q => absurd q.1.symm h1, fun _ => rfl⟩
theorem rX3_isAtom {d : Nat} (hd : 2 ≤ d) {ν : Nat → Nat} {c : Nat} {u : Sg} (hs : ST ν c u) {x : Nat} (hx : x ≤ nT u) : Yq (runT (d + 1) 102 [(x : Int)] u) u (10 ≤ gN u 1 x ∧ gN u 1 x ≤ 14) := by
  rw [runT_eq (by omega)]
  show Yq (bX3_isAtom (runT d) x u) u _
  unfold bX3_isAtom
  rw [jn_eq, ld_nat (hs.k hx)]
  by_cases h1 : gN u 1 x < 10
  · rw [if_pos h1]
    exact ⟨fun q => by omega, fun _ => rfl⟩
  · rw [if_neg h1, ld_nat (hs.k hx)]
    by_cases h2 : gN u 1 x ≤ 14
    · rw [if_pos h2]
      exact ⟨fun _ => rfl, fun q => absurd ⟨by omega, h2⟩ q⟩
    · rw [if_neg h2]
      exact ⟨fun q => by omega, fun _ => rfl⟩
/-- the form under a NOT that is known -/
theorem notT_at {d : Nat} (hd : 3 ≤ d) {ν : Nat → Nat} {c : Nat} {W : Wd} {N : Nat → Prop} {u : Sg} (hs : ST ν c u) {y k : Nat} (y0 : 0 < y) (hy : y ≤ nT u) (ey : trT ν u y = k) (hfr : frW W N k) (h16 : kd k = 16) : ∃ z : Nat, runT d 7 [(y : Int), 0] u = some ((z : Int), u) ∧ 0 < z ∧ z ≤ nT u ∧ trT ν u z = pa k 0 ∧ frW W N (pa k 0) ∧ pa k 0 ∈ fms k ∧ kd (pa k 0) ≠ 16 := by
  obtain ⟨r1, r2, r3⟩ := (eq_len hfr).2.2 h16
  have nw0 : nw (kd k) = 0 := by rw [h16]; decide
  obtain ⟨z, z1, z2, z3⟩ := partNT (d := d) (i := 0) hd hs y0 hy (by rw [ey, r1]; simp) (Or.inr rfl)
  rw [ey] at z1 z3
  rw [nw0] at z1
  refine ⟨z, z1, Nat.pos_of_ne_zero (fun q => (fms_ps r2).2 ?_), by omega, z3, hfr.part r2, r2, r3⟩
  rw [← z3, q]; rfl
theorem rX3_isKnownAtom {d : Nat} (hd : 6 ≤ d) {ν : Nat → Nat} {c : Nat} {W : Wd} {u : Sg} {l : Ls} {Kl : List Nat} (h : HaT ν u l.1 l.2.1) (hkn : KnT ν u Kl) (hK : KlOK W (NT ν c) Kl) (hs : ST ν c u) {x tx ng : Nat} (x0 : 0 < x) (hx : x ≤ nT u) (ex : trT ν u x = tx) (h9 : 11 ≤ kd tx ∧ kd tx ≤ 14) (hl60 : (ps tx).length ≤ 60000) (hng : ng ≤ 1) : Yq (runT d 101 [(x : Int), (ng : Int)] u) u (saidS (FsQ l) (fun f => f ∈ Kl) tx ng) := by
  obtain ⟨d, rfl⟩ : ∃ d', d = d' + 2 := ⟨d - 2, by omega⟩
  rw [runT_eq (by omega)]
  show Yq (bX3_isKnownAtom (runT (d + 1)) x ng u) u _
  unfold bX3_isKnownAtom
  rw [gd_pos (by omega)]
  have hK500 := hK.1
  have n1 := hkn.1.1
  have n2 := hkn.1.2.1
  generalize eP : (fun k => (ng = 0 ∧ kd k ≠ 16 ∧ sameA (FsQ l) tx k) ∨ (ng = 1 ∧ kd k = 16 ∧ sameA (FsQ l) tx (pa k 0))) = P
  have hP : ∀ k, P k ↔ ((ng = 0 ∧ kd k ≠ 16 ∧ sameA (FsQ l) tx k) ∨ (ng = 1 ∧ kd k = 16 ∧ sameA (FsQ l) tx (pa k 0))) := fun k => by rw [← eP]
  have loop : ∀ (n i f : Nat), i + n = Kl.length → n < f → Yq (bX3_isKnownAtom_L2 (runT (d + 1)) f (x : Int) (ng : Int) (i : Int) u (fun s1 => some (0, s1)) (fun s2 => some (1, s2))) u (∃ j k, i ≤ j ∧ Kl[j]? = some k ∧ P k) := by
    intro n
    induction n with
    | zero =>
      intro i f hi hf
      obtain ⟨f, rfl⟩ : ∃ f', f = f' + 1 := ⟨f - 1, by omega⟩
      rw [bX3_isKnownAtom_L2, un_eq, n1, if_neg (by omega)]
      exact ⟨fun ⟨j, k, q1, q2, _⟩ => by have := (List.getElem?_eq_some_iff.mp q2).1; omega, fun _ => rfl⟩
    | succ n ih =>
      intro i f hi hf
      obtain ⟨f, rfl⟩ : ∃ f', f = f' + 1 := ⟨f - 1, by omega⟩
      have hil : i < Kl.length := by omega
      have gi : Kl[i]? = some Kl[i] := List.getElem?_eq_getElem hil
      generalize ef : Kl[i] = k at gi
      have hfK : k ∈ Kl := List.mem_of_getElem? gi
      obtain ⟨hfr, hfc⟩ := hK.2 k hfK
      obtain ⟨y, y1, y0, y2, y3, y4, y5⟩ := hkn.2.2.2.1 i k gi
      have hn := nodeT hs y0 y2
      rw [y3] at hn
      have hk16 : tkT (kd k) = 15 ↔ kd k = 16 := (tkT_in (okT_kin hfr.1)).2.2.2.2.2.1
      have nx := ih (i + 1) f (by omega) (by omega)
      have skip : ¬ P k → Yq (ar ((i : Int) + 1) fun v8 => bX3_isKnownAtom_L2 (runT (d + 1)) f (x : Int) (ng : Int) v8 u (fun s1 => some (0, s1)) (fun s2 => some (1, s2))) u (∃ j k, i ≤ j ∧ Kl[j]? = some k ∧ P k) := fun hno => by
        rw [ar_pos ⟨by omega, by omega⟩, show (i : Int) + 1 = ((i + 1 : Nat) : Int) by omega]
        refine nx.iff ⟨fun ⟨j, k', q1, q2, q3⟩ => ⟨j, k', by omega, q2, q3⟩, fun ⟨j, k', q1, q2, q3⟩ => ⟨j, k', ?_, q2, q3⟩⟩
        by_cases hji : j = i
        · rw [hji, gi] at q2
          rw [← Option.some.inj q2] at q3
          exact absurd q3 hno
        · omega
      have found : P k → Yq (some ((1 : Int), u)) u (∃ j k, i ≤ j ∧ Kl[j]? = some k ∧ P k) := fun hyes => ⟨fun _ => rfl, fun q => absurd ⟨i, k, Nat.le_refl _, gi, hyes⟩ q⟩
      -- one that is compared
      have cmp : ∀ (z tz : Nat), 0 < z → z ≤ nT u → trT ν u z = tz → okT tz → (P k ↔ sameA (FsQ l) tx tz) → Yq (cl (runT (d + 1) 102 [(z : Int)] u) fun v6 s7 => if v6 = 0 then (ar ((i : Int) + 1) fun v8 => bX3_isKnownAtom_L2 (runT (d + 1)) f (x : Int) (ng : Int) v8 s7 (fun s1 => some (0, s1)) (fun s2 => some (1, s2))) else (cl (runT (d + 1) 103 [(z : Int), (x : Int)] s7) fun v9 s10 => if v9 = 0 then (ar ((i : Int) + 1) fun v11 => bX3_isKnownAtom_L2 (runT (d + 1)) f (x : Int) (ng : Int) v11 s10 (fun s1 => some (0, s1)) (fun s2 => some (1, s2))) else (some (1, s10)))) u (∃ j k, i ≤ j ∧ Kl[j]? = some k ∧ P k) := fun z tz z0 hz ez hoz hPk => by
        obtain ⟨a1, a2⟩ := rX3_isAtom (d := d) (by omega) hs hz
        obtain ⟨b1, b2⟩ := rX3_isAlike (d := d + 1) (l := l) (by omega) h hs z0 hz ez hoz x0 hx ex (by omega) hl60
        have hnz := nodeT hs z0 hz
        rw [ez] at hnz
        by_cases hA : 10 ≤ gN u 1 z ∧ gN u 1 z ≤ 14
        · rw [cl_eq (a1 hA), if_neg (by decide)]
          by_cases hB : sameA (FsQ l) tx tz
          · rw [cl_eq (b1 hB), if_neg (by decide)]
            exact found (hPk.mpr hB)
          · rw [cl_eq (b2 hB), if_pos rfl]
            exact skip (fun q => hB (hPk.mp q))
        · rw [cl_eq (a2 hA), if_pos rfl]
          refine skip (fun q => hA ?_)
          have := (hPk.mp q).1
          rw [hnz.1, ← this, tkT_hi (by omega)]
          omega
      rw [bX3_isKnownAtom_L2, un_eq, n1, if_pos (by omega), jn_eq, ld_nat (by omega), y1, ld_nat (hs.k y2), hn.1]
      by_cases h16 : kd k = 16
      · rw [if_pos (hk16.mpr h16)]
        show Yq (if (ng : Int) = (1 : Int) then _ else _) u _
        by_cases h1 : ng = 1
        · rw [if_pos (by omega), jn_eq, if_neg (by omega)]
          obtain ⟨z, z1, z0, hz, z3, z4, z5, z6⟩ := notT_at (d := d + 1) (by omega) hs y0 y2 y3 hfr h16
          rw [cl_eq z1]
          refine cmp z (pa k 0) z0 hz z3 z4.1 ?_
          rw [hP]
          exact ⟨fun q => q.elim (fun w => by omega) (fun w => w.2.2), fun q => Or.inr ⟨h1, h16, q⟩⟩
        · rw [if_neg (by omega)]
          exact skip (fun q => ((hP k).mp q).elim (fun w => absurd h16 w.2.1) (fun w => absurd w.1 h1))
      · rw [if_neg (fun q => h16 (hk16.mp q))]
        show Yq (if (ng : Int) = (0 : Int) then _ else _) u _
        by_cases h0 : ng = 0
        · rw [if_pos (by omega), jn_eq, if_pos (by omega)]
          refine cmp y k y0 y2 y3 hfr.1 ?_
          rw [hP]
          exact ⟨fun q => q.elim (fun w => w.2.2) (fun w => by omega), fun q => Or.inl ⟨h0, h16, q⟩⟩
        · rw [if_neg (by omega)]
          exact skip (fun q => ((hP k).mp q).elim (fun w => absurd w.1 h0) (fun w => absurd w.2.1 h16))
  refine (loop Kl.length 0 KF (by omega) (Nat.lt_of_le_of_lt (by omega : _ ≤ 65536) KF_gt)).iff ⟨fun ⟨j, k, _, q1, q2⟩ => ⟨k, List.mem_of_getElem? q1, (hP k).mp q2⟩, fun ⟨k, q1, q2⟩ => ?_⟩
  obtain ⟨j, hj⟩ := List.getElem?_of_mem q1
  exact ⟨j, k, Nat.zero_le _, hj, (hP k).mpr q2⟩
theorem holdsT_L224 {d : Nat} (hd : 6 ≤ d) {ν : Nat → Nat} {c : Nat} {W : Wd} {u : Sg} {l : Ls} {Kl : List Nat} (h : HaT ν u l.1 l.2.1) (hkn : KnT ν u Kl) (hK : KlOK W (NT ν c) Kl) (hs : ST ν c u) {a b : Nat} (ha : a ≤ nT u) (hb : b ≤ nT u) : Yq (bX3_holds_L224 (runT d) KF (a : Int) (b : Int) 0 u (fun s6 => some (0, s6)) (fun s7 => some (1, s7))) u (eqN (FsQ l) (fun f => f ∈ Kl) (trT ν u a) (trT ν u b)) := by
  have hK500 := hK.1
  have n1 := hkn.1.1
  have n2 := hkn.1.2.1
  generalize eP : (fun k => kd k = 16 ∧ kd (pa k 0) = 10 ∧ ((eqX l.1 l.2.1 (pa (pa k 0) 0) (trT ν u a) ∧ eqX l.1 l.2.1 (pa (pa k 0) 1) (trT ν u b)) ∨ (eqX l.1 l.2.1 (pa (pa k 0) 0) (trT ν u b) ∧ eqX l.1 l.2.1 (pa (pa k 0) 1) (trT ν u a)))) = P
  have hP : ∀ k, P k ↔ (kd k = 16 ∧ kd (pa k 0) = 10 ∧ ((eqX l.1 l.2.1 (pa (pa k 0) 0) (trT ν u a) ∧ eqX l.1 l.2.1 (pa (pa k 0) 1) (trT ν u b)) ∨ (eqX l.1 l.2.1 (pa (pa k 0) 0) (trT ν u b) ∧ eqX l.1 l.2.1 (pa (pa k 0) 1) (trT ν u a)))) := fun k => by rw [← eP]
  have loop : ∀ (n i f : Nat), i + n = Kl.length → n < f → Yq (bX3_holds_L224 (runT d) f (a : Int) (b : Int) (i : Int) u (fun s6 => some (0, s6)) (fun s7 => some (1, s7))) u (∃ j k, i ≤ j ∧ Kl[j]? = some k ∧ P k) := by
    intro n
    induction n with
    | zero =>
      intro i f hi hf
      obtain ⟨f, rfl⟩ : ∃ f', f = f' + 1 := ⟨f - 1, by omega⟩
      rw [bX3_holds_L224, un_eq, n1, if_neg (by omega)]
      exact ⟨fun ⟨j, k, q1, q2, _⟩ => by have := (List.getElem?_eq_some_iff.mp q2).1; omega, fun _ => rfl⟩
    | succ n ih =>
      intro i f hi hf
      obtain ⟨f, rfl⟩ : ∃ f', f = f' + 1 := ⟨f - 1, by omega⟩
      have hil : i < Kl.length := by omega
      have gi : Kl[i]? = some Kl[i] := List.getElem?_eq_getElem hil
      generalize ef : Kl[i] = k at gi
      have hkK := List.mem_of_getElem? gi
      obtain ⟨hfr, hfc⟩ := hK.2 k hkK
      obtain ⟨y, y1, y0, y2, y3, y4, y5⟩ := hkn.2.2.2.1 i k gi
      have hn := nodeT hs y0 y2
      rw [y3] at hn
      have hk16 : tkT (kd k) = 15 ↔ kd k = 16 := (tkT_in (okT_kin hfr.1)).2.2.2.2.2.1
      have nx := ih (i + 1) f (by omega) (by omega)
      have skip : ¬ P k → Yq (ar ((i : Int) + 1) fun v8 => bX3_holds_L224 (runT d) f (a : Int) (b : Int) v8 u (fun s6 => some (0, s6)) (fun s7 => some (1, s7))) u (∃ j k, i ≤ j ∧ Kl[j]? = some k ∧ P k) := fun hno => by
        rw [ar_pos ⟨by omega, by omega⟩, show (i : Int) + 1 = ((i + 1 : Nat) : Int) by omega]
        refine nx.iff ⟨fun ⟨j, k', q1, q2, q3⟩ => ⟨j, k', by omega, q2, q3⟩, fun ⟨j, k', q1, q2, q3⟩ => ⟨j, k', ?_, q2, q3⟩⟩
        by_cases hji : j = i
        · rw [hji, gi] at q2
          rw [← Option.some.inj q2] at q3
          exact absurd q3 hno
        · omega
      have found : P k → Yq (some ((1 : Int), u)) u (∃ j k, i ≤ j ∧ Kl[j]? = some k ∧ P k) := fun hyes => ⟨fun _ => rfl, fun q => absurd ⟨i, k, Nat.le_refl _, gi, hyes⟩ q⟩
      rw [bX3_holds_L224, un_eq, n1, if_pos (by omega), ld_nat (by omega), y1, ld_nat (hs.k y2), hn.1]
      by_cases h16 : kd k = 16
      · obtain ⟨z, z1, z0, z2, z3, z4, z5, z6⟩ := notT_at (d := d) (by omega) hs y0 y2 y3 hfr h16
        have hnz := nodeT hs z0 z2
        rw [z3] at hnz
        have hk10 : tkT (kd (pa k 0)) = 9 ↔ kd (pa k 0) = 10 := by
          have := tkT_eq8 (k := kd (pa k 0)) (k' := 10) (okT_kin z4.1) (by omega)
          rw [show tkT 10 = 9 by decide] at this
          exact this
        rw [if_pos (hk16.mpr h16), cl_eq z1, gd_pos (keeps_rf u _), ld_nat (hs.k z2), hnz.1]
        by_cases h10 : kd (pa k 0) = 10
        · have hlen := (eq_len z4).1 h10
          have nw0 : nw (kd (pa k 0)) = 0 := by rw [h10]; decide
          obtain ⟨p0, a1, a2, a3⟩ := partNT (d := d) (i := 0) (by omega) hs z0 z2 (by rw [z3]; omega) (Or.inr rfl)
          obtain ⟨p1, b1, b2, b3⟩ := partNT (d := d) (i := 1) (by omega) hs z0 z2 (by rw [z3]; omega) (Or.inl (by rw [z3]; omega))
          rw [z3] at a1 a3 b1 b3
          rw [nw0] at a1 b1
          have a1 : runT d 7 [(z : Int), 0] u = some ((p0 : Int), u) := a1
          have b1 : runT d 7 [(z : Int), 1] u = some ((p1 : Int), u) := b1
          obtain ⟨e1, e2⟩ := rX3_equal (d := d) (by omega) h hs (by omega : p0 ≤ nT u) ha
          obtain ⟨e3, e4⟩ := rX3_equal (d := d) (by omega) h hs (by omega : p1 ≤ nT u) hb
          obtain ⟨e5, e6⟩ := rX3_equal (d := d) (by omega) h hs (by omega : p0 ≤ nT u) hb
          obtain ⟨e7, e8⟩ := rX3_equal (d := d) (by omega) h hs (by omega : p1 ≤ nT u) ha
          rw [a3] at e1 e2 e5 e6
          rw [b3] at e3 e4 e7 e8
          have j7 : ¬ (eqX l.1 l.2.1 (pa (pa k 0) 0) (trT ν u a) ∧ eqX l.1 l.2.1 (pa (pa k 0) 1) (trT ν u b)) → Yq (cl (runT d 7 [(z : Int), 0] u) fun v9 s10 => cl (runT d 76 [v9, (b : Int)] s10) fun v11 s12 => if v11 = 0 then (ar ((i : Int) + 1) fun v13 => bX3_holds_L224 (runT d) f (a : Int) (b : Int) v13 s12 (fun s6 => some (0, s6)) (fun s7 => some (1, s7))) else (cl (runT d 7 [(z : Int), 1] s12) fun v14 s15 => cl (runT d 76 [v14, (a : Int)] s15) fun v16 s17 => if v16 = 0 then (ar ((i : Int) + 1) fun v18 => bX3_holds_L224 (runT d) f (a : Int) (b : Int) v18 s17 (fun s6 => some (0, s6)) (fun s7 => some (1, s7))) else (some (1, s17)))) u (∃ j k, i ≤ j ∧ Kl[j]? = some k ∧ P k) := fun hno => by
            rw [cl_eq a1]
            by_cases q1 : eqX l.1 l.2.1 (pa (pa k 0) 0) (trT ν u b)
            · rw [cl_eq (e5 q1), if_neg (by decide), cl_eq b1]
              by_cases q2 : eqX l.1 l.2.1 (pa (pa k 0) 1) (trT ν u a)
              · rw [cl_eq (e7 q2), if_neg (by decide)]
                exact found ((hP k).mpr ⟨h16, h10, Or.inr ⟨q1, q2⟩⟩)
              · rw [cl_eq (e8 q2), if_pos rfl]
                refine skip (fun w => ?_)
                rcases ((hP k).mp w).2.2 with w | w
                · exact hno w
                · exact q2 w.2
            · rw [cl_eq (e6 q1), if_pos rfl]
              refine skip (fun w => ?_)
              rcases ((hP k).mp w).2.2 with w | w
              · exact hno w
              · exact q1 w.1
          rw [if_pos (hk10.mpr h10), jn_eq, cl_eq z1, cl_eq a1]
          by_cases q1 : eqX l.1 l.2.1 (pa (pa k 0) 0) (trT ν u a)
          · rw [cl_eq (e1 q1), if_neg (by decide), cl_eq b1]
            by_cases q2 : eqX l.1 l.2.1 (pa (pa k 0) 1) (trT ν u b)
            · rw [cl_eq (e3 q2), if_neg (by decide)]
              exact found ((hP k).mpr ⟨h16, h10, Or.inl ⟨q1, q2⟩⟩)
            · rw [cl_eq (e4 q2), if_pos rfl]
              exact j7 (fun w => q2 w.2)
          · rw [cl_eq (e2 q1), if_pos rfl]
            exact j7 (fun w => q1 w.1)
        · rw [if_neg (fun q => h10 (hk10.mp q))]
          exact skip (fun w => h10 ((hP k).mp w).2.1)
      · rw [if_neg (fun q => h16 (hk16.mp q))]
        exact skip (fun w => h16 ((hP k).mp w).1)
  refine (loop Kl.length 0 KF (by omega) (Nat.lt_of_le_of_lt (by omega : _ ≤ 65536) KF_gt)).iff ⟨fun ⟨j, k, _, q1, q2⟩ => ⟨k, List.mem_of_getElem? q1, (hP k).mp q2⟩, fun ⟨k, q1, q2⟩ => ?_⟩
  obtain ⟨j, hj⟩ := List.getElem?_of_mem q1
  exact ⟨j, k, Nat.zero_le _, hj, (hP k).mpr q2⟩
