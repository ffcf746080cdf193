/-! a form that is there already -/
section
variable {d : Nat} {u : Sg}
theorem seek_L75 {k w : Int} {a n x : Nat} {R : List Int} (h1 : IC1 u) (hx : x < nC u) (hc : (gN u 3 x).toNat = n) (hf : 0 ≤ gN u 2 x) (he : (gN u 2 x).toNat + n ≤ pC u) (hR : R.length = n) (hrow : ∀ i v, R[i]? = some v → gN u 11 (a + i) = v) (hle : a + n ≤ gL u 11) :
    ∀ (m i f : Nat), i + m = n → m < f → ∃ v : Int, (v = 0 ∨ v = 1) ∧ (v = 1 ↔ ∀ j, i ≤ j → j < n → gN u 7 ((gN u 2 x).toNat + j) = gN u 11 (a + j)) ∧ ∀ x0, bX2_seek_L75 (runC d) f k w (a : Int) (n : Int) (x : Int) 1 (i : Int) u x0 = x0 k w (a : Int) (n : Int) (x : Int) v u := by
  obtain ⟨⟨q1, q2, q3⟩, ⟨q4, q5⟩, ⟨q6, q7⟩, ⟨l1, l2, l3, l4, l5, l6⟩, l8, l11, l0, l7⟩ := h1
  intro m
  induction m with
  | zero =>
    intro i f hi hf0
    obtain ⟨f, rfl⟩ : ∃ f', f = f' + 1 := ⟨f - 1, by omega⟩
    refine ⟨1, Or.inr rfl, ⟨fun _ j _ _ => by omega, fun _ => rfl⟩, fun x0 => ?_⟩
    rw [bX2_seek_L75, if_neg (by omega)]
  | succ m ih =>
    intro i f hi hf0
    obtain ⟨f, rfl⟩ : ∃ f', f = f' + 1 := ⟨f - 1, by omega⟩
    have st : ∀ x0, bX2_seek_L75 (runC d) (f + 1) k w (a : Int) (n : Int) (x : Int) 1 (i : Int) u x0 = if gN u 7 ((gN u 2 x).toNat + i) = gN u 11 (a + i) then bX2_seek_L75 (runC d) f k w (a : Int) (n : Int) (x : Int) 1 ((i + 1 : Nat) : Int) u x0 else bX2_seek_L75 (runC d) f k w (a : Int) (n : Int) (x : Int) 0 ((i + 1 : Nat) : Int) u x0 := by
      intro x0
      rw [bX2_seek_L75, if_pos (by omega), if_neg (by decide), jn_eq, ld_nat (by omega), ar_pos ⟨by omega, by omega⟩, show gN u 2 x + (i : Int) = (((gN u 2 x).toNat + i : Nat) : Int) by omega, ld_nat (by omega), ar_pos ⟨by omega, by omega⟩, show (a : Int) + (i : Int) = ((a + i : Nat) : Int) by omega, ld_nat (by omega)]
      dsimp only
      rw [ar_pos ⟨by omega, by omega⟩, ar_pos ⟨by omega, by omega⟩, show (i : Int) + 1 = ((i + 1 : Nat) : Int) by omega]
    by_cases he2 : gN u 7 ((gN u 2 x).toNat + i) = gN u 11 (a + i)
    · obtain ⟨v, v1, v2, v3⟩ := ih (i + 1) f (by omega) (by omega)
      refine ⟨v, v1, v2.trans ⟨fun h j h1 h2 => ?_, fun h j h1 h2 => h j (by omega) h2⟩, fun x0 => ?_⟩
      · by_cases q : j = i
        · rw [q]; exact he2
        · exact h j (by omega) h2
      · rw [st, if_pos he2, v3]
    · refine ⟨0, Or.inl rfl, ⟨(fun h => by cases h), fun h => absurd (h i (Nat.le_refl _) (by omega)) he2⟩, fun x0 => ?_⟩
      rw [st, if_neg he2]
      cases f with
      | zero => omega
      | succ f =>
        rw [bX2_seek_L75]
        by_cases hlt : ((i + 1 : Nat) : Int) < (n : Int)
        · rw [if_pos hlt, if_pos rfl]
        · rw [if_neg hlt]
theorem raw_eq_R {k w : Int} {a n x : Nat} {R : List Int} (hc : (gN u 3 x).toNat = n) (hR : R.length = n) (hrow : ∀ i v, R[i]? = some v → gN u 11 (a + i) = v) (hk : gN u 0 x = k) (hw : gN u 1 x = w) : (∀ j, 0 ≤ j → j < n → gN u 7 ((gN u 2 x).toNat + j) = gN u 11 (a + j)) ↔ rawC u x = (k, w, R) := by
  constructor
  · intro h
    have e : (rawC u x).2.2 = R := by
      refine List.ext_getElem? (fun i => ?_)
      by_cases hi : i < n
      · have hr : R[i]? = some R[i] := List.getElem?_eq_getElem (by omega)
        rw [raw_at u (by omega), h i (Nat.zero_le _) hi, hr, hrow i _ hr]
      · rw [List.getElem?_eq_none (by rw [raw_len]; omega), List.getElem?_eq_none (by omega)]
    show (gN u 0 x, gN u 1 x, (rawC u x).2.2) = _
    rw [hk, hw, e]
  · intro h j _ hj
    have h2 := congrArg (fun r => r.2.2[j]?) h
    simp only at h2
    rw [raw_at u (by omega)] at h2
    have hr : R[j]? = some R[j] := List.getElem?_eq_getElem (by omega)
    rw [hr] at h2
    rw [hrow j _ hr]
    exact Option.some.inj h2
theorem seek_L27 {k w : Int} {a : Nat} {R : List Int} (hI : IC u) (hrow : ∀ i v, R[i]? = some v → gN u 11 (a + i) = v) (hle : a + R.length ≤ gL u 11) {b : Int} (hb : b = hsh (k, w, R)) :
    ∀ (n f : Nat) (y : Int), n ≤ nC u → n < f → topOf (hsx u) n b y →
      (bX2_seek_L27 (runC d) f k w (a : Int) (R.length : Int) y u (fun s7 => some (0, s7)) (fun v9 s8 => some (v9, s8)) = some (0, u) ∧ (∀ z, 0 < z → z < n → rawC u z ≠ (k, w, R))) ∨
      ∃ z : Nat, 0 < z ∧ z < n ∧ rawC u z = (k, w, R) ∧ bX2_seek_L27 (runC d) f k w (a : Int) (R.length : Int) y u (fun s7 => some (0, s7)) (fun v9 s8 => some (v9, s8)) = some ((z : Int), u) := by
  obtain ⟨h1, h2, h3, h4, h5⟩ := hI
  have h1' := h1
  obtain ⟨⟨q1, q2, q3⟩, ⟨q4, q5⟩, ⟨q6, q7⟩, ⟨l1, l2, l3, l4, l5, l6⟩, l8, l11, l0, l7⟩ := h1'
  intro n
  induction n using Nat.strongRecOn with
  | ind n ih =>
    intro f y hn hf ht
    obtain ⟨f, rfl⟩ : ∃ f', f = f' + 1 := ⟨f - 1, by omega⟩
    rw [bX2_seek_L27]
    rcases ht with ⟨rfl, ht⟩ | ⟨m, rfl, hm0, hmn, hmb, hmt⟩
    · rw [if_pos rfl]
      refine Or.inl ⟨rfl, fun z hz0 hz he => ht z hz0 hz ?_⟩
      unfold hsx; rw [he, hb]
    · rw [if_neg (by omega), jn_eq]
      obtain ⟨⟨g0, g1, g2, g3⟩, ge⟩ := h2.1 m hm0 (by omega)
      have hch := h3.2 m hm0 (by omega)
      rw [hmb] at hch
      have go : (rawC u m ≠ (k, w, R)) → ∀ X, X = (ld u 6 (m : Int) fun v3 => bX2_seek_L27 (runC d) f k w (a : Int) (R.length : Int) v3 u (fun s7 => some (0, s7)) (fun v9 s8 => some (v9, s8))) →
          (X = some (0, u) ∧ (∀ z, 0 < z → z < n → rawC u z ≠ (k, w, R))) ∨ ∃ z : Nat, 0 < z ∧ z < n ∧ rawC u z = (k, w, R) ∧ X = some ((z : Int), u) := by
        intro hne X hX
        rw [ld_nat (by omega)] at hX
        rcases ih m hmn f (gN u 6 m) (by omega) (by omega) hch with ⟨e1, e2⟩ | ⟨z, z1, z2, z3, z4⟩
        · refine Or.inl ⟨hX.trans e1, fun z hz0 hz he => ?_⟩
          rcases Nat.lt_trichotomy z m with c | c | c
          · exact e2 z hz0 c he
          · rw [c] at he; exact hne he
          · exact hmt z c hz (by unfold hsx; rw [he, hb])
        · exact Or.inr ⟨z, z1, by omega, z3, hX.trans z4⟩
      rw [ld_nat (by omega)]
      by_cases c0 : gN u 0 m = k
      · rw [if_pos c0, ld_nat (by omega)]
        by_cases c1 : gN u 1 m = w
        · rw [if_pos c1, ld_nat (by omega)]
          by_cases c3 : gN u 3 m = (R.length : Int)
          · have hcn : (gN u 3 m).toNat = R.length := by omega
            rw [if_pos c3]
            obtain ⟨v, v1, v2, v3⟩ := seek_L75 (d := d) (k := k) (w := w) (a := a) (R := R) h1 (by omega : m < nC u) hcn g2 (by omega) rfl hrow hle R.length 0 KF (by omega) (Nat.lt_of_le_of_lt (by omega : _ ≤ 65536) KF_gt)
            rw [show (0 : Int) = ((0 : Nat) : Int) from rfl, v3]
            rcases v1 with v1 | v1
            · subst v1
              have hne : rawC u m ≠ (k, w, R) := fun he => by
                have := v2.mpr ((raw_eq_R hcn rfl hrow c0 c1).mpr he)
                cases this
              refine go hne _ ?_
              rw [if_pos (by rfl)]; rfl
            · subst v1
              have he := (raw_eq_R hcn rfl hrow c0 c1).mp (v2.mp rfl)
              refine Or.inr ⟨m, hm0, hmn, he, ?_⟩
              rw [if_neg (by decide)]
          · rw [if_neg c3]
            refine go (fun he => c3 ?_) _ rfl
            have := congrArg (fun r => r.2.2.length) he
            simp only [raw_len] at this
            omega
        · rw [if_neg c1]
          exact go (fun he => c1 (congrArg (fun r => r.2.1) he)) _ rfl
      · rw [if_neg c0]
        exact go (fun he => c0 (congrArg (fun r => r.1) he)) _ rfl
end
/-- a node with the label of a tree is the node of the tree -/
theorem raw_of_tr {ν : Nat → Nat} {c : Nat} {u : Sg} (hs : SC ν c u) {k w a z : Nat} {L : List Nat} (hk1 : k ≠ 1) (hE : RowE ν u a k L) (z0 : 0 < z) (hz : z < nC u) : trC ν u z = mk k w L ↔ rawC u z = ((k : Int), (w : Int), rowC u a) := by
  obtain ⟨h1, h2, h3, h4, h5⟩ := hs.1
  obtain ⟨⟨g0, g1, g2, g3⟩, ge⟩ := h2.1 z z0 hz
  have hrow := hE.row
  have et := trC_eq (ν := ν) hs.1 z0 hz
  have elb : labC ν ((k : Int), (w : Int), rowC u a) = (k, w, (rowC u a).map Int.toNat) := by
    unfold labC
    simp only [Int.toNat_natCast]
    rw [if_neg (by omega)]
  constructor
  · intro h
    rw [et] at h
    obtain ⟨e1, e2, e3⟩ := mk_inj h
    have hkz : (gN u 0 z).toNat = k := e1
    have hk0 : gN u 0 z = (k : Int) := by omega
    have hw0 : gN u 1 z = (w : Int) := by
      have : (if gN u 0 z = 1 then ν (gN u 1 z).toNat else (gN u 1 z).toNat) = w := e2
      rw [if_neg (by omega)] at this
      omega
    have h7 : (rawC u z).2.2 = rowC u a := by
      have e4 : pmp (trC ν u) k ((rawC u z).2.2.map Int.toNat) = pmp (trC ν u) k ((rowC u a).map Int.toNat) := by
        have e5 : pmp (trC ν u) k ((rowC u a).map Int.toNat) = L := hrow.2.1
        rw [e5, ← e3, e1]; rfl
      have e6 := pmp_inj (w := w) (w' := w) (fun p hp p' hp' e7 => ?_) e4
      · exact toNat_inj _ _ (fun p hp => raw_nn h2 z0 hz hp) hrow.1 e6
      · have b1 : p < nC u := by
          have : p ∈ fpt (labC ν (rawC u z)) := by
            have ez : labC ν (rawC u z) = (k, (labC ν (rawC u z)).2.1, (rawC u z).2.2.map Int.toNat) := by rw [← e1]; rfl
            rw [ez]; exact hp
          rw [fpt_labC g0] at this
          obtain ⟨q, hq, rfl⟩ := List.mem_map.mp this
          have := (h5 z z0 hz).1 q hq
          omega
        have b2 : p' < nC u := by
          have : p' ∈ fpt (labC ν ((k : Int), (w : Int), rowC u a)) := by rw [elb]; exact hp'
          rw [fpt_labC (by show (0 : Int) ≤ (k : Int); omega)] at this
          obtain ⟨q, hq, rfl⟩ := List.mem_map.mp this
          have := hrow.2.2 (by omega) _ q hq
          omega
        exact trC_inj hs b1 b2 e7
    show (gN u 0 z, gN u 1 z, (rawC u z).2.2) = _
    rw [hk0, hw0, h7]
  · intro h
    rw [et, h, elb]
    congr 1
    exact hrow.2.1
theorem tX2_seek {d : Nat} (hd : 5 ≤ d) {ν : Nat → Nat} {c : Nat} {u : Sg} {k w a : Nat} {L : List Nat} (hs : SC ν c u) (hk1 : k ≠ 1) (hE : RowE ν u a k L) :
    ∃ v : Int, runC d 113 [(k : Int), (w : Int), (a : Int)] u = some (v, sI u 12 (a : Int)) ∧ ((v = 0 ∧ ¬ ndC ν u (mk k w L)) ∨ ∃ z : Nat, v = (z : Int) ∧ 0 < z ∧ z < nC u ∧ trC ν u z = mk k w L) := by
  obtain ⟨⟨q1, q2, q3⟩, ⟨q4, q5⟩, ⟨q6, q7⟩, ⟨l1, l2, l3, l4, l5, l6⟩, l8, l11, l0, l7⟩ := id hs.1.1
  have hE1 := hE.1
  have hlen : (rowC u a).length = L.length := by rw [row_len]; omega
  have hbr := hsh_rng ((k : Int), (w : Int), rowC u a)
  obtain ⟨d, rfl⟩ : ∃ d', d = d' + 1 := ⟨d - 1, by omega⟩
  rw [runC_eq (by omega)]
  show ∃ v, bX2_seek (runC d) k w a u = some (v, _) ∧ _
  unfold bX2_seek
  rw [un_eq, ar_pos ⟨by omega, by omega⟩, cl_eq (rX2_hash (by omega) q6 q7 l11.2 (by omega)), gd_pos (by unfold keeps; simp), ld_pos ⟨by omega, by omega⟩, un_eq]
  have htop := hs.1.2.2.1.1 (hsh ((k : Int), (w : Int), rowC u a)).toNat (by omega)
  rw [show (((hsh ((k : Int), (w : Int), rowC u a)).toNat : Nat) : Int) = hsh ((k : Int), (w : Int), rowC u a) by omega] at htop
  have er : rC (sI u 12 (a : Int)) = a := by show (gI (sI u 12 (a : Int)) 12).toNat = a; rw [gI_sI, if_pos rfl]; omega
  have hI6 : IC (sI u 12 (a : Int)) := (show EqS u (sI u 12 (a : Int)) from ⟨fun _ _ => rfl, fun k hk => by rw [gI_sI, if_neg (by omega)]⟩).ic hs.1 ⟨by rw [gI_sI, if_pos rfl, er], by rw [er, gL_sI]; omega⟩ l11
  rw [show gI u 12 - (a : Int) = ((rowC u a).length : Int) by omega]
  have hnk : nC u < KF := Nat.lt_of_le_of_lt (by omega : _ ≤ 90000) (by decide)
  rcases seek_L27 (d := d) (u := sI u 12 (a : Int)) (k := (k : Int)) (w := (w : Int)) (a := a) (R := rowC u a) hI6 (fun i v hi => by
      have hil := (List.getElem?_eq_some_iff.mp hi).1
      rw [row_len] at hil
      rw [row_at u hil] at hi
      exact Option.some.inj hi) (by rw [hlen, gL_sI]; omega) rfl (nC u) KF (gA u 8 (hsh ((k : Int), (w : Int), rowC u a))) (Nat.le_refl _) hnk htop with ⟨e, hno⟩ | ⟨z, z0, hz, hr, e⟩
  · exact ⟨0, e, Or.inl ⟨rfl, fun ⟨x, x0, hx, hx2⟩ => hno x x0 hx ((raw_of_tr hs hk1 hE x0 hx).mp hx2)⟩⟩
  · exact ⟨(z : Int), e, Or.inr ⟨z, rfl, z0, hz, (raw_of_tr hs hk1 hE z0 hz).mpr hr⟩⟩
