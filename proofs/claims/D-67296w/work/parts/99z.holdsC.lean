/-! whether a form holds in a closed case -/
def eqN (F : Fs) (K : Nat → Prop) (a b : Nat) : Prop := ∃ k, K k ∧ kd k = 16 ∧ kd (pa k 0) = 10 ∧ ((eqA F (pa (pa k 0) 0) a ∧ eqA F (pa (pa k 0) 1) b) ∨ (eqA F (pa (pa k 0) 0) b ∧ eqA F (pa (pa k 0) 1) a))
def flsB (F : Fs) (K h : Nat → Prop) (f : Nat) : Prop := if kd (pa f 0) = 9 then False else if kd (pa f 0) = 10 then eqN F K (pa (pa f 0) 0) (pa (pa f 0) 1) else if kd (pa f 0) = 13 then fA F (pa (pa f 0) 0) (2 * wh (pa f 0) + 1) else if kd (pa f 0) = 17 then ∃ p ∈ ps (pa f 0), h (notT p) else if kd (pa f 0) = 18 then K f else saidS F K (pa f 0) 1
def hldN (F : Fs) (K : Nat → Prop) : Nat → Nat → Prop
  | 0, _ => False
  | n + 1, f => if kd f = 9 then True else if kd f = 10 then eqA F (pa f 0) (pa f 1) else if kd f = 13 then fA F (pa f 0) (2 * wh f) else if kd f = 14 then fM F (pa f 1) (wh f) (pa f 0) else if kd f = 16 then flsB F K (hldN F K n) f else if kd f = 17 then ∀ p ∈ ps f, hldN F K n p else if kd f = 18 then K f else saidS F K f 0
def hld (F : Fs) (K : Nat → Prop) (f : Nat) : Prop := hldN F K (htT f + 1) f
theorem keeps_rf (u : Sg) : ∀ l : List Nat, keeps l u u = true := fun l => by
  unfold keeps
  simp
/-- a known formula, as a node -/
theorem KnC.at {ν : Nat → Nat} {c : Nat} {W : Wd} {u : Sg} {Kl : List Nat} (hkn : KnC ν u Kl) (hK : KlOK W (Nm ν c) Kl) {i k : Nat} (gi : Kl[i]? = some k) : ∃ y : Nat, gN u 34 i = (y : Int) ∧ 0 < y ∧ y < nC u ∧ trC ν u y = k := by
  obtain ⟨hfr, hfc⟩ := hK.2 k (List.mem_of_getElem? gi)
  refine (hkn.2.2 i k gi).pos (fun q => ?_)
  have := okN_kd hfr.1.n
  rw [q] at this
  unfold isTm isFo at this
  rw [kd0] at this
  omega
/-- what is under the NOT of a known formula -/
theorem KlOK.not {ν : Nat → Nat} {c : Nat} {W : Wd} {u : Sg} {Kl : List Nat} {d : Nat} (hd : 3 ≤ d) (hK : KlOK W (Nm ν c) Kl) (hs : SC ν c u) {k y : Nat} (hk : k ∈ Kl) (h16 : kd k = 16) (y0 : 0 < y) (y2 : y < nC u) (y3 : trC ν u y = k) : ∃ z : Nat, runC d 98 [(y : Int), 0] u = some ((z : Int), u) ∧ 0 < z ∧ z < nC u ∧ trC ν u z = pa k 0 ∧ frW W (Nm ν c) (pa k 0) ∧ closT (pa k 0) := by
  obtain ⟨hfr, hfc⟩ := hK.2 k hk
  obtain ⟨r1, r2, r3⟩ := (eq_len hfr).2.2 h16
  obtain ⟨z, z1, z2, z3⟩ := partN (d := d) (i := 0) (by omega) hs y0 y2 (by rw [y3, r1]; simp) (Or.inr rfl)
  rw [y3] at z3
  refine ⟨z, z1, Nat.pos_of_ne_zero (fun q => ?_), by omega, z3, hfr.part r2, hfc.part hfr.1.n (by omega) r2⟩
  have e0 : pa k 0 = 0 := by rw [← z3, q]; rfl
  exact (fms_ps r2).2 e0
theorem fails_L90 {d : Nat} (hd : 8 ≤ d) {ν : Nat → Nat} {c : Nat} {W : Wd} {u : Sg} {H : List Nat} {p : Nat → Nat} {M : List (Nat × Nat × Nat)} {J : List (Nat × Nat)} {Kl : List Nat} (h : HaC ν u H p) (hkn : KnC ν u Kl) (hK : KlOK W (Nm ν c) Kl) (hs : SC ν c u) {a b : Nat} (ha : a < nC u) (hb : b < nC u) : Yq (bX1_fails_L90 (runC d) KF (a : Int) (b : Int) 0 u (fun s6 => some (0, s6)) (fun s7 => some (1, s7))) u (eqN (FsL H p M J) (fun f => f ∈ Kl) (trC ν u a) (trC ν u b)) := by
  have hK500 := hK.1
  have hkn' := hkn
  obtain ⟨n1, n2, n3⟩ := hkn'
  generalize eP : (fun k => kd k = 16 ∧ kd (pa k 0) = 10 ∧ ((eqX H p (pa (pa k 0) 0) (trC ν u a) ∧ eqX H p (pa (pa k 0) 1) (trC ν u b)) ∨ (eqX H p (pa (pa k 0) 0) (trC ν u b) ∧ eqX H p (pa (pa k 0) 1) (trC ν u a)))) = P
  have hP : ∀ k, P k ↔ (kd k = 16 ∧ kd (pa k 0) = 10 ∧ ((eqX H p (pa (pa k 0) 0) (trC ν u a) ∧ eqX H p (pa (pa k 0) 1) (trC ν u b)) ∨ (eqX H p (pa (pa k 0) 0) (trC ν u b) ∧ eqX H p (pa (pa k 0) 1) (trC ν u a)))) := fun k => by rw [← eP]
  have loop : ∀ (n i f : Nat), i + n = Kl.length → n < f → Yq (bX1_fails_L90 (runC d) f (a : Int) (b : Int) (i : Int) u (fun s6 => some (0, s6)) (fun s7 => some (1, s7))) u (∃ j k, i ≤ j ∧ Kl[j]? = some k ∧ P k) := by
    intro n
    induction n with
    | zero =>
      intro i f hi hf
      obtain ⟨f, rfl⟩ : ∃ f', f = f' + 1 := ⟨f - 1, by omega⟩
      rw [bX1_fails_L90, un_eq, n1, if_neg (by omega)]
      exact ⟨fun ⟨j, k, q1, q2, _⟩ => by have := (List.getElem?_eq_some_iff.mp q2).1; omega, fun _ => rfl⟩
    | succ n ih =>
      intro i f hi hf
      obtain ⟨f, rfl⟩ : ∃ f', f = f' + 1 := ⟨f - 1, by omega⟩
      have hil : i < Kl.length := by omega
      have gi : Kl[i]? = some Kl[i] := List.getElem?_eq_getElem hil
      generalize ef : Kl[i] = k at gi
      have hkK := List.mem_of_getElem? gi
      obtain ⟨y, y1, y0, y2, y3⟩ := hkn.at hK gi
      have hn := nodeC hs y0 y2
      rw [y3] at hn
      have nx := ih (i + 1) f (by omega) (by omega)
      have skip : ¬ P k → Yq (ar ((i : Int) + 1) fun v8 => bX1_fails_L90 (runC d) f (a : Int) (b : Int) v8 u (fun s6 => some (0, s6)) (fun s7 => some (1, s7))) u (∃ j k, i ≤ j ∧ Kl[j]? = some k ∧ P k) := fun hno => by
        rw [ar_pos ⟨by omega, by omega⟩, show (i : Int) + 1 = ((i + 1 : Nat) : Int) by omega]
        refine nx.iff ⟨fun ⟨j, k', q1, q2, q3⟩ => ⟨j, k', by omega, q2, q3⟩, fun ⟨j, k', q1, q2, q3⟩ => ⟨j, k', ?_, q2, q3⟩⟩
        by_cases hji : j = i
        · rw [hji, gi] at q2
          rw [← Option.some.inj q2] at q3
          exact absurd q3 hno
        · omega
      have found : P k → Yq (some ((1 : Int), u)) u (∃ j k, i ≤ j ∧ Kl[j]? = some k ∧ P k) := fun hyes => ⟨fun _ => rfl, fun q => absurd ⟨i, k, Nat.le_refl _, gi, hyes⟩ q⟩
      rw [bX1_fails_L90, un_eq, n1, if_pos (by omega), ld_nat (by omega), y1, ld_nat (by omega), hn.1]
      by_cases h16 : kd k = 16
      · obtain ⟨z, z1, z0, z2, z3, z4, z5⟩ := hK.not (d := d) (by omega) hs hkK h16 y0 y2 y3
        have hnz := nodeC hs z0 z2
        rw [z3] at hnz
        rw [if_pos (by omega), cl_eq z1, gd_pos (keeps_rf u _), ld_nat (by omega), hnz.1]
        by_cases h10 : kd (pa k 0) = 10
        · have hlen := (eq_len z4).1 h10
          obtain ⟨p0, a1, a2, a3⟩ := partN (d := d) (i := 0) (by omega) hs z0 z2 (by rw [z3]; omega) (Or.inr rfl)
          obtain ⟨p1, b1, b2, b3⟩ := partN (d := d) (i := 1) (by omega) hs z0 z2 (by rw [z3]; omega) (Or.inl (by rw [z3]; omega))
          rw [z3] at a3 b3
          have a1 : runC d 98 [(z : Int), 0] u = some ((p0 : Int), u) := a1
          have b1 : runC d 98 [(z : Int), 1] u = some ((p1 : Int), u) := b1
          obtain ⟨e1, e2⟩ := rX1_equal (d := d) (by omega) h hs (by omega : p0 < nC u) ha
          obtain ⟨e3, e4⟩ := rX1_equal (d := d) (by omega) h hs (by omega : p1 < nC u) hb
          obtain ⟨e5, e6⟩ := rX1_equal (d := d) (by omega) h hs (by omega : p0 < nC u) hb
          obtain ⟨e7, e8⟩ := rX1_equal (d := d) (by omega) h hs (by omega : p1 < nC u) ha
          rw [a3] at e1 e2 e5 e6
          rw [b3] at e3 e4 e7 e8
          have j7 : ¬ (eqX H p (pa (pa k 0) 0) (trC ν u a) ∧ eqX H p (pa (pa k 0) 1) (trC ν u b)) → Yq (cl (runC d 98 [(z : Int), 0] u) fun v9 s10 => cl (runC d 59 [v9, (b : Int)] s10) fun v11 s12 => if v11 = 0 then (ar ((i : Int) + 1) fun v13 => bX1_fails_L90 (runC d) f (a : Int) (b : Int) v13 s12 (fun s6 => some (0, s6)) (fun s7 => some (1, s7))) else (cl (runC d 98 [(z : Int), 1] s12) fun v14 s15 => cl (runC d 59 [v14, (a : Int)] s15) fun v16 s17 => if v16 = 0 then (ar ((i : Int) + 1) fun v18 => bX1_fails_L90 (runC d) f (a : Int) (b : Int) v18 s17 (fun s6 => some (0, s6)) (fun s7 => some (1, s7))) else (some (1, s17)))) u (∃ j k, i ≤ j ∧ Kl[j]? = some k ∧ P k) := fun hno => by
            rw [cl_eq a1]
            by_cases q1 : eqX H p (pa (pa k 0) 0) (trC ν u b)
            · rw [cl_eq (e5 q1), if_neg (by decide), cl_eq b1]
              by_cases q2 : eqX H p (pa (pa k 0) 1) (trC ν u a)
              · rw [cl_eq (e7 q2), if_neg (by decide)]
                exact found ((hP k).mpr ⟨h16, h10, Or.inr ⟨q1, q2⟩⟩)
              · rw [cl_eq (e8 q2), if_pos rfl]
                refine skip (fun w => ?_)
                rcases ((hP k).mp w).2.2 with w | w
                · exact hno w
                · exact q2 w.2
            · rw [cl_eq (e6 q1), if_pos rfl]
              refine skip (fun w => ?_)
              rcases ((hP k).mp w).2.2 with w | w
              · exact hno w
              · exact q1 w.1
          rw [if_pos (by omega), jn_eq, cl_eq z1, cl_eq a1]
          by_cases q1 : eqX H p (pa (pa k 0) 0) (trC ν u a)
          · rw [cl_eq (e1 q1), if_neg (by decide), cl_eq b1]
            by_cases q2 : eqX H p (pa (pa k 0) 1) (trC ν u b)
            · rw [cl_eq (e3 q2), if_neg (by decide)]
              exact found ((hP k).mpr ⟨h16, h10, Or.inl ⟨q1, q2⟩⟩)
            · rw [cl_eq (e4 q2), if_pos rfl]
              exact j7 (fun w => q2 w.2)
          · rw [cl_eq (e2 q1), if_pos rfl]
            exact j7 (fun w => q1 w.1)
        · rw [if_neg (by omega)]
          exact skip (fun w => h10 ((hP k).mp w).2.1)
      · rw [if_neg (by omega)]
        exact skip (fun w => h16 ((hP k).mp w).1)
  refine (loop Kl.length 0 KF (by omega) (Nat.lt_of_le_of_lt (by omega : _ ≤ 65536) KF_gt)).iff ⟨fun ⟨j, k, _, q1, q2⟩ => ⟨k, List.mem_of_getElem? q1, (hP k).mp q2⟩, fun ⟨k, q1, q2⟩ => ?_⟩
  obtain ⟨j, hj⟩ := List.getElem?_of_mem q1
  exact ⟨j, k, Nat.zero_le _, hj, (hP k).mpr q2⟩
theorem fails_L328 {d : Nat} (hd : 8 ≤ d) {ν : Nat → Nat} {c : Nat} {W : Wd} {u : Sg} {H : List Nat} {p : Nat → Nat} {M : List (Nat × Nat × Nat)} {J : List (Nat × Nat)} {Kl : List Nat} (h : HaC ν u H p) (h00 : 0 ∉ H) (hkn : KnC ν u Kl) (hK : KlOK W (Nm ν c) Kl) (hs : SC ν c u) {x : Nat} (x0 : 0 < x) (hx : x < nC u) (h14 : kd (trC ν u x) = 14) (hl2 : (ps (trC ν u x)).length = 2) : Yq (bX1_fails_L328 (runC d) KF (x : Int) 0 u (fun s6 => some (0, s6)) (fun s7 => some (1, s7))) u (saidS (FsL H p M J) (fun f => f ∈ Kl) (trC ν u x) 1) := by
  have hK500 := hK.1
  have hkn' := hkn
  obtain ⟨n1, n2, n3⟩ := hkn'
  have hnx := nodeC hs x0 hx
  have l1 : gL u 1 = gL u 0 := hs.1.1.2.2.2.1.1
  obtain ⟨x', xa1, xa2, xa3⟩ := partN (d := d) (i := 0) (by omega) hs x0 hx (by omega) (Or.inr rfl)
  obtain ⟨x'', xb1, xb2, xb3⟩ := partN (d := d) (i := 1) (by omega) hs x0 hx (by omega) (Or.inl (by omega))
  have xa1 : runC d 98 [(x : Int), 0] u = some ((x' : Int), u) := xa1
  have xb1 : runC d 98 [(x : Int), 1] u = some ((x'' : Int), u) := xb1
  have nz : ∀ {e : Nat}, e < nC u → (e = 0 ↔ trC ν u e = 0) := fun {e} he => by
    refine ⟨fun q => by rw [q]; rfl, fun q => ?_⟩
    refine Decidable.byContradiction (fun z => ?_)
    have : 0 < trC ν u e := tr_pos (okp_C (ν := ν) hs.1) (by omega) (by show e ≤ nC u - 1; omega)
    omega
  generalize eP : (fun k => kd k = 16 ∧ kd (pa k 0) = 14 ∧ wh (pa k 0) = wh (trC ν u x) ∧ eqX H p (pa (pa k 0) 0) (pa (trC ν u x) 0) ∧ eqX H p (pa (pa k 0) 1) (pa (trC ν u x) 1)) = P
  have hP : ∀ k, P k ↔ (kd k = 16 ∧ kd (pa k 0) = 14 ∧ wh (pa k 0) = wh (trC ν u x) ∧ eqX H p (pa (pa k 0) 0) (pa (trC ν u x) 0) ∧ eqX H p (pa (pa k 0) 1) (pa (trC ν u x) 1)) := fun k => by rw [← eP]
  have loop : ∀ (n i f : Nat), i + n = Kl.length → n < f → Yq (bX1_fails_L328 (runC d) f (x : Int) (i : Int) u (fun s6 => some (0, s6)) (fun s7 => some (1, s7))) u (∃ j k, i ≤ j ∧ Kl[j]? = some k ∧ P k) := by
    intro n
    induction n with
    | zero =>
      intro i f hi hf
      obtain ⟨f, rfl⟩ : ∃ f', f = f' + 1 := ⟨f - 1, by omega⟩
      rw [bX1_fails_L328, un_eq, n1, if_neg (by omega)]
      exact ⟨fun ⟨j, k, q1, q2, _⟩ => by have := (List.getElem?_eq_some_iff.mp q2).1; omega, fun _ => rfl⟩
    | succ n ih =>
      intro i f hi hf
      obtain ⟨f, rfl⟩ : ∃ f', f = f' + 1 := ⟨f - 1, by omega⟩
      have hil : i < Kl.length := by omega
      have gi : Kl[i]? = some Kl[i] := List.getElem?_eq_getElem hil
      generalize ef : Kl[i] = k at gi
      have hkK := List.mem_of_getElem? gi
      obtain ⟨y, y1, y0, y2, y3⟩ := hkn.at hK gi
      have hn := nodeC hs y0 y2
      rw [y3] at hn
      have nx := ih (i + 1) f (by omega) (by omega)
      have skip : ¬ P k → Yq (ar ((i : Int) + 1) fun v8 => bX1_fails_L328 (runC d) f (x : Int) v8 u (fun s6 => some (0, s6)) (fun s7 => some (1, s7))) u (∃ j k, i ≤ j ∧ Kl[j]? = some k ∧ P k) := fun hno => by
        rw [ar_pos ⟨by omega, by omega⟩, show (i : Int) + 1 = ((i + 1 : Nat) : Int) by omega]
        refine nx.iff ⟨fun ⟨j, k', q1, q2, q3⟩ => ⟨j, k', by omega, q2, q3⟩, fun ⟨j, k', q1, q2, q3⟩ => ⟨j, k', ?_, q2, q3⟩⟩
        by_cases hji : j = i
        · rw [hji, gi] at q2
          rw [← Option.some.inj q2] at q3
          exact absurd q3 hno
        · omega
      have found : P k → Yq (some ((1 : Int), u)) u (∃ j k, i ≤ j ∧ Kl[j]? = some k ∧ P k) := fun hyes => ⟨fun _ => rfl, fun q => absurd ⟨i, k, Nat.le_refl _, gi, hyes⟩ q⟩
      rw [bX1_fails_L328, un_eq, n1, if_pos (by omega), ld_nat (by omega), y1, ld_nat (by omega), hn.1]
      by_cases h16 : kd k = 16
      · obtain ⟨z, z1, z0, z2, z3, z4, z5⟩ := hK.not (d := d) (by omega) hs hkK h16 y0 y2 y3
        have hnz := nodeC hs z0 z2
        rw [z3] at hnz
        rw [if_pos (by omega), cl_eq z1, gd_pos (keeps_rf u _), ld_nat (by omega), hnz.1]
        by_cases h14' : kd (pa k 0) = 14
        · have hlen := (clty14 z4 z5 h14').2.2.1
          obtain ⟨p0, a1, a2, a3⟩ := partN (d := d) (i := 0) (by omega) hs z0 z2 (by rw [z3]; omega) (Or.inr rfl)
          obtain ⟨p1, b1, b2, b3⟩ := partN (d := d) (i := 1) (by omega) hs z0 z2 (by rw [z3]; omega) (Or.inl (by rw [z3]; omega))
          rw [z3] at a3 b3
          have a1 : runC d 98 [(z : Int), 0] u = some ((p0 : Int), u) := a1
          have b1 : runC d 98 [(z : Int), 1] u = some ((p1 : Int), u) := b1
          obtain ⟨e1, e2⟩ := rX1_equal (d := d) (by omega) h hs (by omega : p0 < nC u) (by omega : x' < nC u)
          obtain ⟨e3, e4⟩ := rX1_equal (d := d) (by omega) h hs (by omega : p1 < nC u) (by omega : x'' < nC u)
          rw [a3, xa3] at e1 e2
          rw [b3, xb3] at e3 e4
          have n0 := nz (by omega : p0 < nC u)
          have n0' := nz (by omega : x' < nC u)
          rw [a3] at n0
          rw [xa3] at n0'
          have j7 : ∀ t0 : Int, ((t0 = 1 ∧ eqX H p (pa (pa k 0) 0) (pa (trC ν u x) 0)) ∨ (t0 = 0 ∧ ¬ eqX H p (pa (pa k 0) 0) (pa (trC ν u x) 0))) → Yq (ld u 1 (z : Int) fun v9 => ld u 1 (x : Int) fun v10 => if v9 = v10 then (if t0 = 0 then (ar ((i : Int) + 1) fun v11 => bX1_fails_L328 (runC d) f (x : Int) v11 u (fun s6 => some (0, s6)) (fun s7 => some (1, s7))) else (cl (runC d 98 [(z : Int), 1] u) fun v12 s13 => cl (runC d 98 [(x : Int), 1] s13) fun v14 s15 => cl (runC d 59 [v12, v14] s15) fun v16 s17 => if v16 = 0 then (ar ((i : Int) + 1) fun v18 => bX1_fails_L328 (runC d) f (x : Int) v18 s17 (fun s6 => some (0, s6)) (fun s7 => some (1, s7))) else (some (1, s17)))) else (ar ((i : Int) + 1) fun v19 => bX1_fails_L328 (runC d) f (x : Int) v19 u (fun s6 => some (0, s6)) (fun s7 => some (1, s7)))) u (∃ j k, i ≤ j ∧ Kl[j]? = some k ∧ P k) := fun t0 ht0 => by
            rw [ld_nat (by omega), ld_nat (by omega), hnz.2.1 (by omega), hnx.2.1 (by omega)]
            by_cases hw : wh (pa k 0) = wh (trC ν u x)
            · rw [if_pos (by omega)]
              rcases ht0 with ⟨q1, q2⟩ | ⟨q1, q2⟩
              · rw [q1, if_neg (by decide), cl_eq b1, cl_eq xb1]
                by_cases q3 : eqX H p (pa (pa k 0) 1) (pa (trC ν u x) 1)
                · rw [cl_eq (e3 q3), if_neg (by decide)]
                  exact found ((hP k).mpr ⟨h16, h14', hw, q2, q3⟩)
                · rw [cl_eq (e4 q3), if_pos rfl]
                  exact skip (fun w => q3 ((hP k).mp w).2.2.2.2)
              · rw [q1, if_pos rfl]
                exact skip (fun w => q2 ((hP k).mp w).2.2.2.1)
            · rw [if_neg (by omega)]
              exact skip (fun w => hw ((hP k).mp w).2.2.1)
          rw [if_pos (by omega), jn_eq, cl_eq z1, cl_eq a1]
          by_cases q0 : p0 = 0
          · rw [if_pos (by omega), cl_eq xa1]
            by_cases q0' : x' = 0
            · rw [if_pos (by omega)]
              exact j7 1 (Or.inl ⟨rfl, Or.inl (by rw [n0.mp q0, n0'.mp q0'])⟩)
            · rw [if_neg (by omega)]
              exact j7 0 (Or.inr ⟨rfl, fun w => q0' (n0'.mpr ((w.nz h00).mp (n0.mp q0)))⟩)
          · rw [if_neg (by omega), jn_eq, cl_eq xa1]
            by_cases q0' : x' = 0
            · rw [if_pos (by omega)]
              exact j7 0 (Or.inr ⟨rfl, fun w => q0 (n0.mpr ((w.nz h00).mpr (n0'.mp q0')))⟩)
            · rw [if_neg (by omega), cl_eq a1, cl_eq xa1]
              by_cases q1 : eqX H p (pa (pa k 0) 0) (pa (trC ν u x) 0)
              · rw [cl_eq (e1 q1), if_neg (by decide)]
                exact j7 1 (Or.inl ⟨rfl, q1⟩)
              · rw [cl_eq (e2 q1), if_pos rfl]
                exact j7 0 (Or.inr ⟨rfl, q1⟩)
        · rw [if_neg (by omega)]
          exact skip (fun w => h14' ((hP k).mp w).2.1)
      · rw [if_neg (by omega)]
        exact skip (fun w => h16 ((hP k).mp w).1)
  refine (loop Kl.length 0 KF (by omega) (Nat.lt_of_le_of_lt (by omega : _ ≤ 65536) KF_gt)).iff ⟨fun ⟨j, k, _, q1, q2⟩ => ?_, fun ⟨k, q1, q2⟩ => ?_⟩
  · obtain ⟨r1, r2, r3, r4, r5⟩ := (hP k).mp q2
    have hkK := List.mem_of_getElem? q1
    obtain ⟨hfr, hfc⟩ := hK.2 k hkK
    obtain ⟨w1, w2, w3⟩ := (eq_len hfr).2.2 r1
    have hlen := (clty14 (hfr.part w2) (hfc.part hfr.1.n (by omega) w2) r2).2.2.1
    refine ⟨k, hkK, Or.inr ⟨rfl, r1, by omega, r3.symm, by omega, fun i hi => ?_⟩⟩
    have : i = 0 ∨ i = 1 := by omega
    rcases this with e | e
    · rw [e]; exact r4.sy
    · rw [e]; exact r5.sy
  · rcases q2 with q2 | ⟨_, r1, r2, r3, r4, r5⟩
    · omega
    · obtain ⟨j, hj⟩ := List.getElem?_of_mem q1
      have x0' : eqX H p (pa (trC ν u x) 0) (pa (pa k 0) 0) := r5 0 (by omega)
      have x1' : eqX H p (pa (trC ν u x) 1) (pa (pa k 0) 1) := r5 1 (by omega)
      exact ⟨j, k, Nat.zero_le _, hj, (hP k).mpr ⟨r1, by omega, r3.symm, x0'.sy, x1'.sy⟩⟩
