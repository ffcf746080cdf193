/-! the sizes that the stores keep -/
theorem mn9_add {k a Z : Int} (hk : 0 ≤ k) (ha : 0 ≤ a) (hZ : 0 ≤ Z) : mn9 (k + mn9 a + Z) = mn9 (k + a + Z) := by
  unfold mn9
  split <;> (try split) <;> (try split) <;> omega
theorem mn9_sum {s : Nat → Int} {g : Nat → Nat} : ∀ (l : List Int) (k : Int), 0 ≤ k → (∀ p ∈ l, 0 ≤ p ∧ (p = 0 ∧ g 0 = 0 ∨ p ≠ 0 ∧ s p.toNat = mn9 (g p.toNat : Int))) → mn9 (k + (l.map (gz s)).sum) = mn9 (k + (((l.map Int.toNat).map g).sum : Nat))
  | [], k, _, _ => rfl
  | p :: l, k, hk, h => by
    rw [List.map_cons, List.map_cons, List.map_cons, List.sum_cons, List.sum_cons]
    obtain ⟨p0, hp⟩ := h p List.mem_cons_self
    have hr := fun q hq => h q (List.mem_cons_of_mem p hq)
    rcases hp with ⟨e, e0⟩ | ⟨e, es⟩
    · have ez : gz s p = 0 := by unfold gz; rw [if_pos e]
      rw [ez, e, show (0 : Int).toNat = 0 from rfl, e0]
      have := mn9_sum l k hk hr
      rw [show k + (0 + (l.map (gz s)).sum) = k + (l.map (gz s)).sum by omega, this]
      congr 1
      omega
    · have ez : gz s p = mn9 (g p.toNat : Int) := by unfold gz; rw [if_neg e]; exact es
      have hm : 0 ≤ mn9 (g p.toNat : Int) := by unfold mn9; split <;> omega
      have := mn9_sum l (k + mn9 (g p.toNat : Int)) (by omega) hr
      rw [ez, ← Int.add_assoc, this, mn9_add hk (by omega) (by omega)]
      congr 1
      omega
theorem szT_0 : szT 0 = 0 := by rw [szT_eq]; unfold szS; rw [if_pos rfl]
theorem sz_C {ν : Nat → Nat} {c : Nat} {u : Sg} (hs : SC ν c u) : ∀ (x : Nat), 0 < x → x < nC u → gN u 4 x = mn9 (szT (trC ν u x) : Int) := by
  intro x
  induction x using Nat.strongRecOn with
  | ind x ih =>
    intro x0 hx
    have hn := nodeC hs x0 hx
    have hsz := (hs.1.2.2.2.2 x x0 hx).2.1
    have hps := raw_ps hs x0 hx
    have hk : (rawC u x).1 = (kd (trC ν u x) : Int) := hn.1
    have t0 : trC ν u 0 = 0 := rfl
    have hch : ∀ p ∈ fptR (rawC u x), 0 ≤ p ∧ (p = 0 ∧ szT (trC ν u 0) = 0 ∨ p ≠ 0 ∧ gN u 4 p.toNat = mn9 (szT (trC ν u p.toNat) : Int)) := fun p hp => by
      refine ⟨raw_nn hs.1.2.1 x0 hx (fptR_sub hp), ?_⟩
      by_cases hp0 : p = 0
      · exact Or.inl ⟨hp0, by rw [t0, szT_0]⟩
      · obtain ⟨b1, b2, b3⟩ := fms_node (ν := ν) hs x0 hx hp hp0
        exact Or.inr ⟨hp0, ih _ b2 b1 (by omega)⟩
    have hne : trC ν u x ≠ 0 := by have : 0 < trC ν u x := tr_pos (okp_C hs.1) x0 (by show x ≤ nC u - 1; omega); omega
    rw [hsz, szT_eq]
    unfold szE szS
    rw [if_neg hne]
    by_cases h8 : kd (trC ν u x) = 8
    · have h8' : (rawC u x).1 = 8 := by rw [hk, h8]; rfl
      have hf : fptR (rawC u x) = (rawC u x).2.2.take 1 := by unfold fptR; rw [if_pos h8']
      rw [if_pos h8', if_pos h8, hps, h8]
      unfold pmp
      rw [if_pos rfl]
      rw [hf] at hch
      have := mn9_sum (s := gN u 4) (g := fun y => szT (trC ν u y)) ((rawC u x).2.2.take 1) (1 + (((rawC u x).2.2.drop 1).length : Int)) (by omega) hch
      rw [show 1 + ((((rawC u x).2.2.take 1).map (gz (gN u 4))).sum + (((rawC u x).2.2.drop 1).length : Int)) = 1 + (((rawC u x).2.2.drop 1).length : Int) + (((rawC u x).2.2.take 1).map (gz (gN u 4))).sum by omega, this]
      congr 1
      cases hr : (rawC u x).2.2 with
      | nil => rfl
      | cons a l =>
        simp only [List.take_succ_cons, List.take_zero, List.drop_succ_cons, List.drop_zero, List.map_cons, List.map_nil, List.sum_cons, List.sum_nil, List.cons_append, List.nil_append, List.length_map]
        omega
    · have h8' : ¬ (rawC u x).1 = 8 := by rw [hk]; omega
      have hf : fptR (rawC u x) = (rawC u x).2.2 := by unfold fptR; rw [if_neg h8']
      rw [if_neg h8', if_neg h8, hps]
      unfold pmp
      rw [if_neg h8]
      rw [hf] at hch
      have := mn9_sum (s := gN u 4) (g := fun y => szT (trC ν u y)) (rawC u x).2.2 1 (by omega) hch
      rw [this, List.map_map, List.map_map, List.map_map]
      congr 1
theorem mzF_sum {s : Nat → Int} {g : Nat → Nat} : ∀ (l : List Int) (k : Nat), k + (((l.map Int.toNat).map g).sum) ≤ 1000000000 → (∀ p ∈ l, 0 ≤ p ∧ (p = 0 ∧ g 0 = 0 ∨ p ≠ 0 ∧ s p.toNat = (g p.toNat : Int))) → mzF s (k : Int) l = ((k + ((l.map Int.toNat).map g).sum : Nat) : Int)
  | [], k, _, _ => rfl
  | p :: l, k, hb, h => by
    rw [List.map_cons, List.map_cons, List.sum_cons] at hb
    rw [List.map_cons, List.map_cons, List.sum_cons, mzF]
    obtain ⟨p0, hp⟩ := h p List.mem_cons_self
    have hr := fun q hq => h q (List.mem_cons_of_mem p hq)
    rcases hp with ⟨e, e0⟩ | ⟨e, es⟩
    · have e1 : g p.toNat = 0 := by rw [e]; exact e0
      rw [if_pos e, mzF_sum l k (by omega) hr, e1, Nat.zero_add]
    · rw [if_neg e, es, wrap_id ⟨by omega, by omega⟩]
      have := mzF_sum l (k + g p.toNat) (by omega) hr
      rw [show (k : Int) + (g p.toNat : Int) = ((k + g p.toNat : Nat) : Int) by omega, this, Nat.add_assoc]
theorem sum_take {l : List Nat} : ∀ {a : Nat}, a ∈ l → a ≤ l.sum := fun h => by
  induction l with
  | nil => simp at h
  | cons b l ih =>
    rw [List.sum_cons]
    rcases List.mem_cons.mp h with e | e
    · omega
    · have := ih e; omega
theorem sz_T {ν : Nat → Nat} {c : Nat} {u : Sg} (hs : ST ν c u) : ∀ (x : Nat), 0 < x → x ≤ nT u → okT (trT ν u x) → szT (trT ν u x) ≤ 100000 → gN u 4 x = (szT (trT ν u x) : Int) := by
  intro x
  induction x using Nat.strongRecOn with
  | ind x ih =>
    intro x0 hx ho hb
    have hn := nodeT hs x0 hx
    obtain ⟨h1, h2, h3, h4, h5⟩ := hs.1
    obtain ⟨c0, ⟨c1, c2⟩, c3⟩ := h2.1 x x0 hx
    obtain ⟨g1, g2, g3, g4⟩ := h5 x x0 hx
    have hps := rawT_ps hs x0 hx
    have hk : (rawT u x).1 = tkT (kd (trT ν u x)) := hn.1
    have t0 : trT ν u 0 = 0 := rfl
    have hch : ∀ p ∈ fptT (rawT u x), 0 ≤ p ∧ (p = 0 ∧ szT (trT ν u 0) = 0 ∨ p ≠ 0 ∧ gN u 4 p.toNat = (szT (trT ν u p.toNat) : Int)) := fun p hp => by
      refine ⟨rawT_nn h2 x0 hx (fptT_sub hp), ?_⟩
      by_cases hz : p = 0
      · exact Or.inl ⟨hz, by rw [t0, szT_0]⟩
      · obtain ⟨a1, a2, a3⟩ := fms_nodeT hs x0 hx hp hz
        exact Or.inr ⟨hz, ih _ a2 a1 (by omega) (ho.c a3) (by have := sz_c a3; omega)⟩
    have hok := ho.n
    have hne : trT ν u x ≠ 0 := fun e => by
      have := okN_kd hok
      rw [e] at this
      revert this
      unfold isTm isFo
      decide
    have hin : kd (trT ν u x) = 1 ∨ kd (trT ν u x) = 2 ∨ kd (trT ν u x) = 3 ∨ kd (trT ν u x) = 4 ∨ kd (trT ν u x) = 5 ∨ (8 ≤ kd (trT ν u x) ∧ kd (trT ν u x) ≤ 18 ∧ kd (trT ν u x) ≠ 15) := by
      have := okN_kd hok
      unfold isTm isFo at this
      omega
    have hcases : kd (trT ν u x) = 1 ∨ kd (trT ν u x) = 2 ∨ kd (trT ν u x) = 3 ∨ kd (trT ν u x) = 8 ∨ kd (trT ν u x) = 9 ∨ (kd (trT ν u x) ≠ 8 ∧ ¬ kd (trT ν u x) ≤ 3 ∧ kd (trT ν u x) ≠ 9) := by omega
    rw [g2, szT_eq]
    rw [szT_eq] at hb
    unfold szS at hb ⊢
    rw [if_neg hne] at hb ⊢
    rcases hcases with q | q | q | q | q | q
    · have e : mzT (gN u 4) (rawT u x) = 1 := by
        have : (rawT u x).1 = 2 := by rw [hk, q]; decide
        unfold mzT
        rw [if_neg (by omega), if_neg (by omega), if_pos (Or.inl this)]
      have p0 : ps (trT ν u x) = [] := by
        rcases hok.2 with z | z | z | z | z | z | z | z | z | z | z | z | z | z <;> first | omega | exact z.2
      rw [e, if_neg (by omega), p0]; rfl
    · have e : mzT (gN u 4) (rawT u x) = 1 := by
        have : (rawT u x).1 = 1 := by rw [hk, q]; decide
        unfold mzT
        rw [if_pos this]
      have p0 : ps (trT ν u x) = [] := by
        rcases hok.2 with z | z | z | z | z | z | z | z | z | z | z | z | z | z <;> first | omega | exact z.2
      rw [e, if_neg (by omega), p0]; rfl
    · have e : mzT (gN u 4) (rawT u x) = 1 := by
        have : (rawT u x).1 = 2 := by rw [hk, q]; decide
        unfold mzT
        rw [if_neg (by omega), if_neg (by omega), if_pos (Or.inl this)]
      have p0 : ps (trT ν u x) = [] := by
        rcases hok.2 with z | z | z | z | z | z | z | z | z | z | z | z | z | z <;> first | omega | exact z.2.1 | exact z.2
      rw [e, if_neg (by omega), p0]; rfl
    · have kk : (rawT u x).1 = 7 := by rw [hk, q]; decide
      have hl := c0.2.2.2.1 kk
      rw [if_pos q] at hb ⊢
      have hpp : ∃ b l1 r, (rawT u x).2 = b :: l1 :: r := by
        cases hr : (rawT u x).2 with
        | nil => rw [hr] at hl; simp at hl
        | cons b l =>
          cases l with
          | nil => rw [hr] at hl; simp at hl
          | cons l1 r => exact ⟨b, l1, r, rfl⟩
      obtain ⟨b, l1, r, hr⟩ := hpp
      have hf : fptT (rawT u x) = [l1] := by unfold fptT; rw [if_pos kk, hr]; rfl
      have hc := hch l1 (by rw [hf]; exact List.mem_cons_self)
      have e : mzT (gN u 4) (rawT u x) = if l1 ≤ 0 then wrap (1 + ((r.length + 2 : Nat) - 2 : Int)) else wrap (wrap (1 + ((r.length + 2 : Nat) - 2 : Int)) + gN u 4 l1.toNat) := by
        unfold mzT
        rw [if_neg (by omega), if_pos kk, hr]; rfl
      have nw8 : nw 8 = 1 := by decide
      rw [hps, q, hr, nw8] at hb
      rw [e, hps, q, hr, nw8]
      unfold pmp at hb ⊢
      simp only [if_true, List.drop_succ_cons, List.drop_zero, List.map_cons, List.take_succ_cons, List.take_zero, List.map_nil, List.cons_append, List.nil_append, List.sum_cons, List.sum_nil, List.length_map] at hb ⊢
      rcases hc.2 with ⟨z, z2⟩ | ⟨z, z2⟩
      · have e0 : szT (trT ν u l1.toNat) = 0 := by rw [z]; exact z2
        rw [if_pos (by omega), wrap_id ⟨by omega, by omega⟩]
        omega
      · have := hc.1
        rw [if_neg (by omega), z2]
        rw [wrap_id (v := 1 + ((r.length + 2 : Nat) - 2 : Int)) ⟨by omega, by omega⟩, wrap_id ⟨by omega, by omega⟩]
        omega
    · have e : mzT (gN u 4) (rawT u x) = 1 := by
        have : (rawT u x).1 = 8 := by rw [hk, q]; decide
        unfold mzT
        rw [if_neg (by omega), if_neg (by omega), if_pos (Or.inr (Or.inr this))]
      have p0 : ps (trT ν u x) = [] := by
        rcases hok.2 with z | z | z | z | z | z | z | z | z | z | z | z | z | z <;> first | omega | exact z.2.2
      rw [e, if_neg (by omega), p0]; rfl
    · obtain ⟨q1, q2, q3⟩ := q
      obtain ⟨hf, hfs⟩ := fptT_drop (r := rawT u x) hk (by omega) (by omega) (by omega) (by omega)
      rw [if_neg q1] at hb ⊢
      have e : mzT (gN u 4) (rawT u x) = mzF (gN u 4) 1 ((rawT u x).2.drop (fsT (rawT u x).1)) := by
        have t := tkT_in hin
        have b1 : ¬ (rawT u x).1 = 1 := by rw [hk, t.2.1]; omega
        have b2 : ¬ (rawT u x).1 = 2 := by rw [hk, t.1]; omega
        have b3 : ¬ (rawT u x).1 = 3 := by rw [hk]; exact t.2.2.1
        have b7 : ¬ (rawT u x).1 = 7 := by rw [hk, t.2.2.2.2.1]; omega
        have b8 : ¬ (rawT u x).1 = 8 := by rw [hk, t.2.2.2.1]; omega
        unfold mzT
        rw [if_neg b1, if_neg b7, if_neg (by omega)]
      rw [hps] at hb
      rw [e, hfs, ← hf, hps]
      rw [← hf] at hb
      unfold pmp at hb ⊢
      rw [if_neg q1] at hb ⊢
      have hb' : 1 + (((fptT (rawT u x)).map Int.toNat).map (fun y => szT (trT ν u y))).sum ≤ 1000000000 := by
        rw [List.map_map] at hb
        exact Nat.le_trans hb (by decide)
      have := mzF_sum (s := gN u 4) (g := fun y => szT (trT ν u y)) (fptT (rawT u x)) 1 hb' hch
      rw [show ((1 : Nat) : Int) = 1 from rfl] at this
      rw [this, ← hf, List.map_map, List.map_map, List.map_map]
      rfl
