theorem alike_L113 {d : Nat} (hd : 4 ≤ d) {ν : Nat → Nat} {c : Nat} {u : Sg} (hs : SC ν c u) {x y : Nat} (x0 : 0 < x) (y0 : 0 < y) (hx : x < nC u) (hy : y < nC u) (h8 : kd (trC ν u x) = 8) (h8' : kd (trC ν u y) = 8) (hl : (ps (trC ν u x)).length = (ps (trC ν u y)).length) (hlen : (ps (trC ν u x)).length ≤ 60000) {xx : Int → Int → Sg → Option (Int × Sg)} {xy : Sg → Option (Int × Sg)} : ∀ (m i f : Nat), i + m = (ps (trC ν u x)).length → m < f → 1 ≤ i → ((ps (trC ν u x)).drop i = (ps (trC ν u y)).drop i → bX1_alikeTerms_L113 (runC d) f (x : Int) (y : Int) (i : Int) u xx xy = xx (x : Int) (y : Int) u) ∧ ((ps (trC ν u x)).drop i ≠ (ps (trC ν u y)).drop i → bX1_alikeTerms_L113 (runC d) f (x : Int) (y : Int) (i : Int) u xx xy = xy u) := by
  have hn := nodeC hs x0 hx
  have l3 : gL u 3 = gL u 0 := hs.1.1.2.2.2.1.2.2.1
  intro m
  induction m with
  | zero =>
    intro i f hi hf h1
    obtain ⟨f, rfl⟩ : ∃ f', f = f' + 1 := ⟨f - 1, by omega⟩
    rw [bX1_alikeTerms_L113, ld_nat (by omega), hn.2.2.1, if_neg (by omega), List.drop_of_length_le (by omega), List.drop_of_length_le (by omega)]
    exact ⟨fun _ => rfl, fun q => absurd rfl q⟩
  | succ m ih =>
    intro i f hi hf h1
    obtain ⟨f, rfl⟩ : ∃ f', f = f' + 1 := ⟨f - 1, by omega⟩
    have hil : i < (ps (trC ν u x)).length := by omega
    rw [bX1_alikeTerms_L113, ld_nat (by omega), hn.2.2.1, if_pos (by omega), cl_eq (adjN (by omega) hs x0 hx h8 hil h1), cl_eq (adjN (by omega) hs y0 hy h8' (by omega) h1), drop_pa hil, drop_pa (show i < (ps (trC ν u y)).length by omega)]
    by_cases he : pa (trC ν u x) i = pa (trC ν u y) i
    · rw [if_pos (by rw [he]), ar_pos ⟨by omega, by omega⟩, show (i : Int) + 1 = ((i + 1 : Nat) : Int) by omega]
      obtain ⟨n1, n2⟩ := ih (i + 1) f (by omega) (by omega) (by omega)
      refine ⟨fun q => n1 (List.cons.inj q).2, fun q => n2 (fun z => q (by rw [he, z]))⟩
    · rw [if_neg (by omega)]
      exact ⟨fun q => absurd (List.cons.inj q).1 he, fun _ => rfl⟩
theorem rX1_alikeTerms {d : Nat} (hd : 6 ≤ d) {ν : Nat → Nat} {c : Nat} {W : Wd} {u : Sg} {H : List Nat} {p : Nat → Nat} {M : List (Nat × Nat × Nat)} {J : List (Nat × Nat)} (h : HaC ν u H p) (h0 : 0 ∉ H) (hs : SC ν c u) {x y : Nat} (x0 : 0 < x) (y0 : 0 < y) (hx : x < nC u) (hy : y < nC u) (htx : cltm W (Nm ν c) (trC ν u x)) (hty : cltm W (Nm ν c) (trC ν u y)) : Yq (runC d 58 [(x : Int), (y : Int)] u) u (alkS (FsL H p M J) (trC ν u x) (trC ν u y)) := by
  obtain ⟨d, rfl⟩ : ∃ d', d = d' + 1 := ⟨d - 1, by omega⟩
  rw [runC_eq (by omega)]
  show Yq (bX1_alikeTerms (runC d) x y u) u _
  unfold bX1_alikeTerms
  have hn := nodeC hs x0 hx
  have hm := nodeC hs y0 hy
  have l1 : gL u 1 = gL u 0 := hs.1.1.2.2.2.1.1
  have l3 : gL u 3 = gL u 0 := hs.1.1.2.2.2.1.2.2.1
  rw [ld_nat (by omega), ld_nat (by omega), hn.1, hm.1]
  by_cases hk : kd (trC ν u x) = kd (trC ν u y)
  · rw [if_pos (by omega), jn_eq]
    by_cases h4 : kd (trC ν u x) = 4
    · rw [if_pos (by omega)]
      show Yq (if (kd (trC ν u x) : Int) = 5 then _ else _) u _
      rw [if_neg (by omega), ld_nat (by omega), ld_nat (by omega), hn.2.1 (by omega), hm.2.1 (by omega)]
      by_cases hw : wh (trC ν u x) = wh (trC ν u y)
      · rw [if_pos (by omega), ld_nat (by omega), ld_nat (by omega), hn.2.2.1, hm.2.2.1]
        by_cases hl : (ps (trC ν u x)).length = (ps (trC ν u y)).length
        · rw [if_pos (by omega)]
          have hlen : (ps (trC ν u x)).length ≤ 2 := by
            rcases htx.1.1.n.2 with q | q | q | q | q | q | q | q | q | q | q | q | q | q <;> first | omega | exact q.2.1
          have loop : ∀ (n i f : Nat), i + n = (ps (trC ν u x)).length → n < f → Yq (bX1_alikeTerms_L268 (runC d) f (x : Int) (y : Int) (i : Int) u (fun s35 => some (1, s35)) (fun s36 => some (0, s36))) u (∀ k, i ≤ k → k < (ps (trC ν u x)).length → eqX H p (pa (trC ν u x) k) (pa (trC ν u y) k)) := by
            intro n
            induction n with
            | zero =>
              intro i f hi hf
              obtain ⟨f, rfl⟩ : ∃ f', f = f' + 1 := ⟨f - 1, by omega⟩
              rw [bX1_alikeTerms_L268, ld_nat (by omega), hn.2.2.1, if_neg (by omega)]
              exact ⟨fun _ => rfl, fun q => absurd (fun k h1 h2 => by omega) q⟩
            | succ n ih =>
              intro i f hi hf
              obtain ⟨f, rfl⟩ : ∃ f', f = f' + 1 := ⟨f - 1, by omega⟩
              obtain ⟨a, a1, a2, a3⟩ := partN (d := d) (i := i) (by omega) hs x0 hx (by omega) (Or.inl (by omega))
              obtain ⟨b, b1, b2, b3⟩ := partN (d := d) (i := i) (by omega) hs y0 hy (by omega) (Or.inl (by omega))
              rw [bX1_alikeTerms_L268, ld_nat (by omega), hn.2.2.1, if_pos (by omega), cl_eq a1, cl_eq b1]
              obtain ⟨e1, e2⟩ := rX1_equal (d := d) (by omega) h hs (by omega : a < nC u) (by omega : b < nC u)
              rw [a3, b3] at e1 e2
              by_cases he : eqX H p (pa (trC ν u x) i) (pa (trC ν u y) i)
              · rw [cl_eq (e1 he), if_neg (by decide), ar_pos ⟨by omega, by omega⟩, show (i : Int) + 1 = ((i + 1 : Nat) : Int) by omega]
                refine (ih (i + 1) f (by omega) (by omega)).iff ⟨fun q k k1 k2 => ?_, fun q k k1 k2 => q k (by omega) k2⟩
                by_cases hki : k = i
                · rw [hki]; exact he
                · exact q k (by omega) k2
              · rw [cl_eq (e2 he), if_pos rfl]
                exact ⟨fun q => absurd (q i (Nat.le_refl _) (by omega)) he, fun _ => rfl⟩
          refine (loop (ps (trC ν u x)).length 0 KF (by omega) (Nat.lt_of_le_of_lt (by omega : _ ≤ 65536) KF_gt)).iff ⟨fun q => Or.inl ⟨h4, by omega, hw, hl, fun i hi => q i (Nat.zero_le _) hi⟩, fun q k _ hk' => ?_⟩
          rcases q with ⟨_, _, _, _, q⟩ | ⟨q, _⟩
          · exact q k hk'
          · omega
        · rw [if_neg (by omega)]
          refine ⟨fun q => ?_, fun _ => rfl⟩
          rcases q with ⟨_, _, _, q, _⟩ | ⟨q, _⟩
          · exact absurd q hl
          · omega
      · rw [if_neg (by omega)]
        refine ⟨fun q => ?_, fun _ => rfl⟩
        rcases q with ⟨_, _, q, _⟩ | ⟨q, _⟩
        · exact absurd q hw
        · omega
    · by_cases h5 : kd (trC ν u x) = 5
      · rw [if_neg (by omega), if_pos (by omega)]
        show Yq (if (kd (trC ν u x) : Int) = 5 then _ else _) u _
        rw [if_pos (by omega)]
        obtain ⟨t1, t2, t3⟩ := the_part htx h5
        obtain ⟨v1, v2, v3⟩ := the_part hty (by omega)
        obtain ⟨a, a1, a2, a3⟩ := partN (d := d) (i := 0) (by omega) hs x0 hx (by rw [t3]; simp) (Or.inr rfl)
        obtain ⟨b, b1, b2, b3⟩ := partN (d := d) (i := 0) (by omega) hs y0 hy (by rw [v3]; simp) (Or.inr rfl)
        have a1 : runC d 98 [(x : Int), 0] u = some ((a : Int), u) := a1
        have b1 : runC d 98 [(y : Int), 0] u = some ((b : Int), u) := b1
        have a0 : 0 < a := Nat.pos_of_ne_zero (fun q => by
          have e0 : pa (trC ν u x) 0 = 0 := by rw [← a3, q]; rfl
          have := t1.2.1
          rw [e0, kd0] at this
          omega)
        have b0 : 0 < b := Nat.pos_of_ne_zero (fun q => by
          have e0 : pa (trC ν u y) 0 = 0 := by rw [← b3, q]; rfl
          have := v1.2.1
          rw [e0, kd0] at this
          omega)
        have ha : a < nC u := by omega
        have hb : b < nC u := by omega
        have na := nodeC hs a0 ha
        have nb := nodeC hs b0 hb
        rw [a3] at na
        rw [b3] at nb
        have k1 := t1.2.1
        have k2 := v1.2.1
        have z1 := (type_part t1).1
        have z2 := (type_part v1).1
        have z3 := clty_len t1
        rw [cl_eq a1, cl_eq b1, ld_nat (by omega), ld_nat (by omega), na.2.1 (by omega), nb.2.1 (by omega)]
        by_cases hw : wh (pa (trC ν u x) 0) = wh (pa (trC ν u y) 0)
        · rw [if_pos (by omega), ld_nat (by omega), ld_nat (by omega), na.2.2.1, nb.2.2.1]
          by_cases hl : (ps (pa (trC ν u x) 0)).length = (ps (pa (trC ν u y) 0)).length
          · rw [if_pos (by omega)]
            have lp := @alike_L113 d (by omega) ν c u hs a b a0 b0 ha hb (by rw [a3]; exact k1) (by rw [b3]; exact k2) (by rw [a3, b3]; exact hl) (by rw [a3]; exact z3)
            rw [a3, b3] at lp
            by_cases had : adjT (pa (trC ν u x) 0) = adjT (pa (trC ν u y) 0)
            · rw [show bX1_alikeTerms_L113 (runC d) KF (a : Int) (b : Int) 1 u _ _ = _ from (lp ((ps (pa (trC ν u x) 0)).length - 1) 1 KF (by omega) (Nat.lt_of_le_of_lt (by omega : _ ≤ 65536) KF_gt) (Nat.le_refl _)).1 had]
              obtain ⟨a', a1', a2', a3'⟩ := rX1_argOf (d := d) (by omega) hs a0 ha (by rw [a3]; exact z1)
              obtain ⟨b', b1', b2', b3'⟩ := rX1_argOf (d := d) (by omega) hs b0 hb (by rw [b3]; exact z2)
              rw [a3] at a3'
              rw [b3] at b3'
              have nz : ∀ {e : Nat}, e < nC u → (e = 0 ↔ trC ν u e = 0) := fun {e} he => by
                refine ⟨fun q => by rw [q]; rfl, fun q => ?_⟩
                refine Decidable.byContradiction (fun z => ?_)
                have : 0 < trC ν u e := tr_pos (okp_C (ν := ν) hs.1) (by omega) (by show e ≤ nC u - 1; omega)
                omega
              have ea := nz (by omega : a' < nC u)
              have eb := nz (by omega : b' < nC u)
              rw [a3'] at ea
              rw [b3'] at eb
              have mk' : eqX H p (pa (pa (trC ν u x) 0) 0) (pa (pa (trC ν u y) 0) 0) ↔ alkS (FsL H p M J) (trC ν u x) (trC ν u y) := by
                refine ⟨fun q => Or.inr ⟨h5, by omega, hw, had, q⟩, fun q => ?_⟩
                rcases q with ⟨q, _⟩ | ⟨_, _, _, _, q⟩
                · omega
                · exact q
              rw [cl_eq a1']
              by_cases ha' : a' = 0
              · rw [if_pos (by omega), cl_eq b1']
                by_cases hb' : b' = 0
                · rw [if_pos (by omega)]
                  exact ⟨fun _ => rfl, fun q => absurd (mk'.mp (Or.inl (by rw [ea.mp ha', eb.mp hb']))) q⟩
                · rw [if_neg (by omega)]
                  refine ⟨fun q => ?_, fun _ => rfl⟩
                  rcases mk'.mpr q with z | z
                  · exact absurd (eb.mpr (by rw [← z]; exact ea.mp ha')) hb'
                  · have := z.mem.1
                    rw [ea.mp ha'] at this
                    exact absurd this h0
              · rw [if_neg (by omega), jn_eq, cl_eq b1']
                by_cases hb' : b' = 0
                · rw [if_pos (by omega)]
                  refine ⟨fun q => ?_, fun _ => rfl⟩
                  rcases mk'.mpr q with z | z
                  · exact absurd (ea.mpr (by rw [z]; exact eb.mp hb')) ha'
                  · have := z.mem.2
                    rw [eb.mp hb'] at this
                    exact absurd this h0
                · rw [if_neg (by omega), cl_eq a1', cl_eq b1']
                  obtain ⟨e1, e2⟩ := rX1_equal (d := d) (by omega) h hs (by omega : a' < nC u) (by omega : b' < nC u)
                  rw [a3', b3'] at e1 e2
                  by_cases he : eqX H p (pa (pa (trC ν u x) 0) 0) (pa (pa (trC ν u y) 0) 0)
                  · rw [cl_eq (e1 he), if_neg (by decide)]
                    exact ⟨fun _ => rfl, fun q => absurd (mk'.mp he) q⟩
                  · rw [cl_eq (e2 he), if_pos rfl]
                    exact ⟨fun q => absurd (mk'.mpr q) he, fun _ => rfl⟩
            · rw [show bX1_alikeTerms_L113 (runC d) KF (a : Int) (b : Int) 1 u _ _ = _ from (lp ((ps (pa (trC ν u x) 0)).length - 1) 1 KF (by omega) (Nat.lt_of_le_of_lt (by omega : _ ≤ 65536) KF_gt) (Nat.le_refl _)).2 had]
              refine ⟨fun q => ?_, fun _ => rfl⟩
              rcases q with ⟨q, _⟩ | ⟨_, _, _, q, _⟩
              · omega
              · exact absurd q had
          · rw [if_neg (by omega)]
            refine ⟨fun q => ?_, fun _ => rfl⟩
            rcases q with ⟨q, _⟩ | ⟨_, _, _, q, _⟩
            · omega
            · have := congrArg List.length q
              unfold adjT at this
              rw [List.length_drop, List.length_drop] at this
              omega
        · rw [if_neg (by omega)]
          refine ⟨fun q => ?_, fun _ => rfl⟩
          rcases q with ⟨q, _⟩ | ⟨_, _, q, _⟩
          · omega
          · exact absurd q hw
      · rw [if_neg (by omega), if_neg (by omega)]
        refine ⟨fun q => ?_, fun _ => rfl⟩
        rcases q with ⟨q, _⟩ | ⟨q, _⟩ <;> omega
  · rw [if_neg (by omega)]
    refine ⟨fun q => ?_, fun _ => rfl⟩
    rcases q with ⟨q1, q2, _⟩ | ⟨q1, q2, _⟩ <;> omega
