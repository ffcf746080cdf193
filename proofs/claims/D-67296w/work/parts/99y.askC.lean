/-! what a case is asked -/
def sameA (F : Fs) (a b : Nat) : Prop := kd a = kd b ∧ wh a = wh b ∧ (ps a).length = (ps b).length ∧ ∀ i, i < (ps a).length → eqA F (pa a i) (pa b i)
def saidS (F : Fs) (K : Nat → Prop) (a : Nat) (ng : Nat) : Prop := ∃ k, K k ∧ ((ng = 0 ∧ kd k ≠ 16 ∧ sameA F a k) ∨ (ng = 1 ∧ kd k = 16 ∧ sameA F a (pa k 0)))
/-- what is known, with its marks -/
def KnS (ν : Nat → Nat) (u : Sg) (Kl : List Nat) : Prop := (gI u 35 = (Kl.length : Int) ∧ Kl.length ≤ gL u 34) ∧ Kl.Nodup ∧ (∀ (i f : Nat), Kl[i]? = some f → ∃ x : Nat, gN u 34 i = (x : Int) ∧ 0 < x ∧ x < nC u ∧ trC ν u x = f ∧ x < gL u 37 ∧ gN u 37 x = gI u 36) ∧ ∀ x : Nat, x < gL u 37 → gN u 37 x ≤ gI u 36 ∧ (gN u 37 x = gI u 36 → ∃ i, i < Kl.length ∧ gN u 34 i = (x : Int))
theorem KnS.kn {ν : Nat → Nat} {u : Sg} {Kl : List Nat} (h : KnS ν u Kl) : KnC ν u Kl := by
  obtain ⟨⟨a, b⟩, _, e, _⟩ := h
  refine ⟨a, b, fun i f hi => ?_⟩
  obtain ⟨x, x1, x2, x3, x4, _⟩ := e i f hi
  exact ⟨x, x1, x3, x4⟩
theorem KnS.up {ν : Nat → Nat} {c : Nat} {u u' : Sg} {X : Nat → Prop} {Kl : List Nat} (h : KnS ν u Kl) (hs : SC ν c u) (hx : Ux ν c u u' X) (hg : GrH u u') (hrun : 1 ≤ gI u 36) : KnS ν u' Kl := by
  obtain ⟨⟨a, b⟩, e, h1, h2⟩ := h
  obtain ⟨k1, k2, k3⟩ := hg.2 37 (Or.inl rfl)
  have I36 := hg.1.I 36 (by decide +kernel)
  have N34 := hg.1.N 34 (by decide +kernel)
  have hn := hx.n hs
  refine ⟨⟨by rw [hg.1.I 35 (by decide +kernel)]; exact a, by rw [hg.1.Ln 34 (by decide +kernel)]; exact b⟩, e, fun i f hi => ?_, fun x hx' => ⟨?_, fun he => ?_⟩⟩
  · obtain ⟨x, x1, x2, x3, x4, x5, x6⟩ := h1 i f hi
    exact ⟨x, by rw [N34]; exact x1, x2, by omega, by rw [hx.tr hs x3]; exact x4, by omega, by rw [k2 x x5, I36]; exact x6⟩
  · rw [I36]
    by_cases hl : x < gL u 37
    · rw [k2 x hl]; exact (h2 x hl).1
    · rw [k3 x (by omega) hx']; omega
  · rw [I36] at he
    by_cases hl : x < gL u 37
    · rw [k2 x hl] at he
      obtain ⟨i, i1, i2⟩ := (h2 x hl).2 he
      exact ⟨i, i1, by rw [N34]; exact i2⟩
    · rw [k3 x (by omega) hx'] at he
      omega
theorem rX1_isKnownHere {d : Nat} (hd : 2 ≤ d) {ν : Nat → Nat} {c : Nat} {u : Sg} {Kl : List Nat} (h : KnS ν u Kl) (hs : SC ν c u) {x : Nat} (hx : x < nC u) : Yq (runC (d + 1) 66 [(x : Int)] u) u (trC ν u x ∈ Kl) := by
  obtain ⟨h0, hn, h1, h2⟩ := h
  rw [runC_eq (by omega)]
  show Yq (bX1_isKnownHere (runC d) x u) u _
  unfold bX1_isKnownHere
  rw [jn_eq, un_eq]
  refine ⟨fun q => ?_, fun q => ?_⟩
  · obtain ⟨i, hi⟩ := List.getElem?_of_mem q
    obtain ⟨y, y1, y2, y3, y4, y5, y6⟩ := h1 i _ hi
    have e := trC_inj hs y3 hx y4
    subst e
    rw [if_pos (by omega), ld_nat y5, un_eq, if_pos y6]
  · by_cases hl : x < gL u 37
    · rw [if_pos (by omega), ld_nat hl, un_eq, if_neg (fun z => q ?_)]
      obtain ⟨i, hi, e⟩ := (h2 x hl).2 z
      obtain ⟨y, y1, y2, y3, y4, _⟩ := h1 i _ (List.getElem?_eq_getElem hi)
      have : y = x := by omega
      subst this
      rw [y4]; exact List.getElem_mem hi
    · rw [if_neg (by omega)]
theorem rX1_sameAtom {d : Nat} (hd : 6 ≤ d) {ν : Nat → Nat} {c : Nat} {u : Sg} {H : List Nat} {p : Nat → Nat} {M : List (Nat × Nat × Nat)} {J : List (Nat × Nat)} (h : HaC ν u H p) (hs : SC ν c u) {x y : Nat} (x0 : 0 < x) (y0 : 0 < y) (hx : x < nC u) (hy : y < nC u) (hk : kd (trC ν u x) ≠ 1 ∧ kd (trC ν u x) ≠ 8) (hlen : (ps (trC ν u x)).length ≤ 60000) : Yq (runC d 70 [(x : Int), (y : Int)] u) u (sameA (FsL H p M J) (trC ν u x) (trC ν u y)) := by
  obtain ⟨d, rfl⟩ : ∃ d', d = d' + 1 := ⟨d - 1, by omega⟩
  rw [runC_eq (by omega)]
  show Yq (bX1_sameAtom (runC d) x y u) u _
  unfold bX1_sameAtom
  have hn := nodeC hs x0 hx
  have hm := nodeC hs y0 hy
  have l1 : gL u 1 = gL u 0 := hs.1.1.2.2.2.1.1
  have l3 : gL u 3 = gL u 0 := hs.1.1.2.2.2.1.2.2.1
  rw [ld_nat (by omega), ld_nat (by omega), hn.1, hm.1]
  by_cases h1 : kd (trC ν u x) = kd (trC ν u y)
  · rw [if_pos (by omega), ld_nat (by omega), ld_nat (by omega), hn.2.1 (by omega), hm.2.1 (by omega)]
    by_cases h2 : wh (trC ν u x) = wh (trC ν u y)
    · rw [if_pos (by omega), ld_nat (by omega), ld_nat (by omega), hn.2.2.1, hm.2.2.1]
      by_cases h3 : (ps (trC ν u x)).length = (ps (trC ν u y)).length
      · rw [if_pos (by omega)]
        have loop : ∀ (n i f : Nat), i + n = (ps (trC ν u x)).length → n < f → Yq (bX1_sameAtom_L67 (runC d) f (x : Int) (y : Int) (i : Int) u (fun s35 => some (1, s35)) (fun s36 => some (0, s36))) u (∀ k, i ≤ k → k < (ps (trC ν u x)).length → eqX H p (pa (trC ν u x) k) (pa (trC ν u y) k)) := by
          intro n
          induction n with
          | zero =>
            intro i f hi hf
            obtain ⟨f, rfl⟩ : ∃ f', f = f' + 1 := ⟨f - 1, by omega⟩
            rw [bX1_sameAtom_L67, ld_nat (by omega), hn.2.2.1, if_neg (by omega)]
            exact ⟨fun _ => rfl, fun q => absurd (fun k h1 h2 => by omega) q⟩
          | succ n ih =>
            intro i f hi hf
            obtain ⟨f, rfl⟩ : ∃ f', f = f' + 1 := ⟨f - 1, by omega⟩
            obtain ⟨a, a1, a2, a3⟩ := partN (d := d) (i := i) (by omega) hs x0 hx (by omega) (Or.inl (by omega))
            obtain ⟨b, b1, b2, b3⟩ := partN (d := d) (i := i) (by omega) hs y0 hy (by omega) (Or.inl (by omega))
            rw [bX1_sameAtom_L67, ld_nat (by omega), hn.2.2.1, if_pos (by omega), cl_eq a1, cl_eq b1]
            obtain ⟨e1, e2⟩ := rX1_equal (d := d) (by omega) h hs (by omega : a < nC u) (by omega : b < nC u)
            rw [a3, b3] at e1 e2
            by_cases he : eqX H p (pa (trC ν u x) i) (pa (trC ν u y) i)
            · rw [cl_eq (e1 he), if_neg (by decide), ar_pos ⟨by omega, by omega⟩, show (i : Int) + 1 = ((i + 1 : Nat) : Int) by omega]
              refine (ih (i + 1) f (by omega) (by omega)).iff ⟨fun q k k1 k2 => ?_, fun q k k1 k2 => q k (by omega) k2⟩
              by_cases hki : k = i
              · rw [hki]; exact he
              · exact q k (by omega) k2
            · rw [cl_eq (e2 he), if_pos rfl]
              exact ⟨fun q => absurd (q i (Nat.le_refl _) (by omega)) he, fun _ => rfl⟩
        refine (loop (ps (trC ν u x)).length 0 KF (by omega) (Nat.lt_of_le_of_lt (by omega : _ ≤ 65536) KF_gt)).iff ⟨fun q => ⟨h1, h2, h3, fun i hi => q i (Nat.zero_le _) hi⟩, fun q k _ hk' => q.2.2.2 k hk'⟩
      · rw [if_neg (by omega)]
        exact ⟨fun q => absurd q.2.2.1 h3, fun _ => rfl⟩
    · rw [if_neg (by omega)]
      exact ⟨fun q => absurd q.2.1 h2, fun _ => rfl⟩
  · rw [if_neg (by omega)]
    exact ⟨fun q => absurd q.1 h1, fun _ => rfl⟩
theorem rX1_isSaid {d : Nat} (hd : 8 ≤ d) {ν : Nat → Nat} {c : Nat} {W : Wd} {u : Sg} {H : List Nat} {p : Nat → Nat} {M : List (Nat × Nat × Nat)} {J : List (Nat × Nat)} {Kl : List Nat} (h : HaC ν u H p) (hkn : KnC ν u Kl) (hK : KlOK W (Nm ν c) Kl) (hs : SC ν c u) {x ng : Nat} (x0 : 0 < x) (hx : x < nC u) (hk : kd (trC ν u x) ≠ 1 ∧ kd (trC ν u x) ≠ 8) (hlen : (ps (trC ν u x)).length ≤ 60000) (hng : ng ≤ 1) : Yq (runC d 69 [(x : Int), (ng : Int)] u) u (saidS (FsL H p M J) (fun f => f ∈ Kl) (trC ν u x) ng) := by
  obtain ⟨d, rfl⟩ : ∃ d', d = d' + 1 := ⟨d - 1, by omega⟩
  rw [runC_eq (by omega)]
  show Yq (bX1_isSaid (runC d) x ng u) u _
  unfold bX1_isSaid
  rw [gd_pos (by omega)]
  obtain ⟨n1, n2, n3⟩ := hkn
  have hK500 := hK.1
  have loop : ∀ (n i f : Nat), i + n = Kl.length → n < f → Yq (bX1_isSaid_L2 (runC d) f (x : Int) (ng : Int) (i : Int) u (fun s1 => some (0, s1)) (fun s2 => some (1, s2))) u (∃ j k, i ≤ j ∧ Kl[j]? = some k ∧ ((ng = 0 ∧ kd k ≠ 16 ∧ sameA (FsL H p M J) (trC ν u x) k) ∨ (ng = 1 ∧ kd k = 16 ∧ sameA (FsL H p M J) (trC ν u x) (pa k 0)))) := by
    intro n
    induction n with
    | zero =>
      intro i f hi hf
      obtain ⟨f, rfl⟩ : ∃ f', f = f' + 1 := ⟨f - 1, by omega⟩
      rw [bX1_isSaid_L2, un_eq, n1, if_neg (by omega)]
      exact ⟨fun ⟨j, k, q1, q2, _⟩ => by have := (List.getElem?_eq_some_iff.mp q2).1; omega, fun _ => rfl⟩
    | succ n ih =>
      intro i f hi hf
      obtain ⟨f, rfl⟩ : ∃ f', f = f' + 1 := ⟨f - 1, by omega⟩
      have hil : i < Kl.length := by omega
      have gi : Kl[i]? = some Kl[i] := List.getElem?_eq_getElem hil
      generalize ef : Kl[i] = k at gi
      have hfK : k ∈ Kl := List.mem_of_getElem? gi
      obtain ⟨hfr, hfc⟩ := hK.2 k hfK
      have hf0 : k ≠ 0 := fun q => by
        have := okN_kd hfr.1.n
        rw [q] at this
        unfold isTm isFo at this
        rw [kd0] at this
        omega
      obtain ⟨y, y1, y0, y2, y3⟩ := (n3 i k gi).pos hf0
      have hn := nodeC hs y0 y2
      rw [y3] at hn
      have nx := ih (i + 1) f (by omega) (by omega)
      have skip : ¬ ((ng = 0 ∧ kd k ≠ 16 ∧ sameA (FsL H p M J) (trC ν u x) k) ∨ (ng = 1 ∧ kd k = 16 ∧ sameA (FsL H p M J) (trC ν u x) (pa k 0))) → Yq (ar ((i : Int) + 1) fun v8 => bX1_isSaid_L2 (runC d) f (x : Int) (ng : Int) v8 u (fun s1 => some (0, s1)) (fun s2 => some (1, s2))) u (∃ j k, i ≤ j ∧ Kl[j]? = some k ∧ ((ng = 0 ∧ kd k ≠ 16 ∧ sameA (FsL H p M J) (trC ν u x) k) ∨ (ng = 1 ∧ kd k = 16 ∧ sameA (FsL H p M J) (trC ν u x) (pa k 0)))) := fun hno => by
        rw [ar_pos ⟨by omega, by omega⟩, show (i : Int) + 1 = ((i + 1 : Nat) : Int) by omega]
        refine nx.iff ⟨fun ⟨j, k', q1, q2, q3⟩ => ⟨j, k', by omega, q2, q3⟩, fun ⟨j, k', q1, q2, q3⟩ => ⟨j, k', ?_, q2, q3⟩⟩
        by_cases hji : j = i
        · rw [hji, gi] at q2
          rw [← Option.some.inj q2] at q3
          exact absurd q3 hno
        · omega
      rw [bX1_isSaid_L2, un_eq, n1, if_pos (by omega), jn_eq, ld_nat (by omega), y1, ld_nat (by omega), hn.1]
      by_cases h16 : kd k = 16
      · rw [if_pos (by omega)]
        show Yq (if (1 : Int) = (ng : Int) then _ else _) u _
        by_cases h1 : ng = 1
        · rw [if_pos (by omega), jn_eq, if_neg (by omega)]
          obtain ⟨r1, r2, r3⟩ := (eq_len hfr).2.2 h16
          obtain ⟨z, z1, z2, z3⟩ := partN (d := d) (i := 0) (by omega) hs y0 y2 (by rw [y3, r1]; simp) (Or.inr rfl)
          rw [y3] at z3
          have z1 : runC d 98 [(y : Int), 0] u = some ((z : Int), u) := z1
          have z0 : 0 < z := Nat.pos_of_ne_zero (fun q => by
            have e0 : pa k 0 = 0 := by rw [← z3, q]; rfl
            exact (fms_ps r2).2 e0)
          rw [cl_eq z1]
          obtain ⟨e1, e2⟩ := rX1_sameAtom (d := d) (M := M) (J := J) (by omega) h hs x0 z0 hx (by omega : z < nC u) hk hlen
          rw [z3] at e1 e2
          by_cases he : sameA (FsL H p M J) (trC ν u x) (pa k 0)
          · show Yq (cl (runC d 70 [(x : Int), (z : Int)] u) _) u _
            rw [cl_eq (e1 he), if_neg (by decide)]
            exact ⟨fun _ => rfl, fun q => absurd ⟨i, k, Nat.le_refl _, gi, Or.inr ⟨h1, h16, he⟩⟩ q⟩
          · show Yq (cl (runC d 70 [(x : Int), (z : Int)] u) _) u _
            rw [cl_eq (e2 he), if_pos rfl]
            refine skip (fun q => ?_)
            rcases q with q | q
            · exact q.2.1 h16
            · exact he q.2.2
        · rw [if_neg (by omega)]
          refine skip (fun q => ?_)
          rcases q with q | q
          · exact q.2.1 h16
          · exact h1 q.1
      · rw [if_neg (by omega)]
        show Yq (if (0 : Int) = (ng : Int) then _ else _) u _
        by_cases h1 : ng = 0
        · rw [if_pos (by omega), jn_eq, if_pos (by omega)]
          obtain ⟨e1, e2⟩ := rX1_sameAtom (d := d) (M := M) (J := J) (by omega) h hs x0 y0 hx y2 hk hlen
          rw [y3] at e1 e2
          by_cases he : sameA (FsL H p M J) (trC ν u x) k
          · show Yq (cl (runC d 70 [(x : Int), (y : Int)] u) _) u _
            rw [cl_eq (e1 he), if_neg (by decide)]
            exact ⟨fun _ => rfl, fun q => absurd ⟨i, k, Nat.le_refl _, gi, Or.inl ⟨h1, h16, he⟩⟩ q⟩
          · show Yq (cl (runC d 70 [(x : Int), (y : Int)] u) _) u _
            rw [cl_eq (e2 he), if_pos rfl]
            refine skip (fun q => ?_)
            rcases q with q | q
            · exact he q.2.2
            · exact h16 q.2.1
        · rw [if_neg (by omega)]
          refine skip (fun q => ?_)
          rcases q with q | q
          · exact h1 q.1
          · exact h16 q.2.1
  refine (loop Kl.length 0 KF (by omega) (Nat.lt_of_le_of_lt (by omega : _ ≤ 65536) KF_gt)).iff ⟨fun ⟨j, k, _, q1, q2⟩ => ⟨k, List.mem_of_getElem? q1, q2⟩, fun ⟨k, q1, q2⟩ => ?_⟩
  obtain ⟨j, hj⟩ := List.getElem?_of_mem q1
  exact ⟨j, k, Nat.zero_le _, hj, q2⟩
