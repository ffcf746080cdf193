/-! the model's count of binders -/
theorem rawT_ps {ν : Nat → Nat} {c : Nat} {u : Sg} (hs : ST ν c u) {x : Nat} (x0 : 0 < x) (hx : x ≤ nT u) : ps (trT ν u x) = pmp (trT ν u) (kd (trT ν u x)) (((rawT u x).2.drop (nw (kd (trT ν u x)))).map Int.toNat) := by
  have e := trT_eq (ν := ν) hs.1 x0 hx
  have ek := congrArg kd e
  have ep := congrArg ps e
  rw [kd_mk] at ek
  rw [ps_mk, ← ek] at ep
  have i2 := (labT_inv (ν := ν) (hs.1.2.1.1 x x0 hx).1).2.1
  rw [← ek] at i2
  rw [← i2]; exact ep
theorem fptT_drop {r : Int × List Int} {k : Nat} (hk : r.1 = tkT k) (h8 : k ≠ 8) (h3 : ¬ k ≤ 3) (h9 : k ≠ 9) (h7 : k ≠ 6 ∧ k ≠ 7 ∧ k ≠ 15) : fptT r = r.2.drop (nw k) ∧ fsT r.1 = nw k := by
  have e : fsT r.1 = nw k := by
    by_cases k4 : k = 4
    · subst k4; rw [hk]; decide
    by_cases k5 : k = 5
    · subst k5; rw [hk]; decide
    have et : tkT k = (k : Int) - 1 := by unfold tkT; rw [if_neg (by omega), if_neg (by omega), if_neg (by omega)]
    rw [hk, et]
    unfold fsT nw
    by_cases hq : k = 12 ∨ k = 13 ∨ k = 14
    · rw [if_pos (by omega), if_pos (by omega)]
    · rw [if_neg (by omega), if_neg (by omega)]
  refine ⟨?_, e⟩
  unfold fptT
  rw [e, if_neg ?_, if_neg ?_]
  · rw [hk]; unfold tkT; split
    · omega
    · split
      · omega
      · split <;> omega
  · rw [hk]; unfold tkT; split
    · omega
    · split
      · omega
      · split <;> omega
theorem mlF_gen {lo : Nat → Int} {k : Int} {T : Nat → Nat} (hk : k ≠ 17) : ∀ (l : List Int) (i a : Nat), (∀ p ∈ l, 0 ≤ p ∧ (p = 0 ∨ lo p.toNat = (loT (T p.toNat) : Int))) → T 0 = 0 → mlF lo k i (a : Int) l = (((l.map (fun p => loT (T p.toNat))).foldl max a : Nat) : Int)
  | [], _, _, _, _ => rfl
  | p :: l, i, a, h, h0 => by
    have hp := h p List.mem_cons_self
    rw [mlF, List.map_cons, List.foldl_cons, show (if k = 17 ∧ i = 1 then lo p.toNat - 1 else lo p.toNat) = lo p.toNat from if_neg (fun q => hk q.1)]
    have e : (if p = 0 then (a : Int) else mx (a : Int) (lo p.toNat)) = ((max a (loT (T p.toNat)) : Nat) : Int) := by
      by_cases hz : p = 0
      · rw [if_pos hz, hz, show (0 : Int).toNat = 0 from rfl, h0, loT0]; simp
      · rcases hp.2 with q | q
        · exact absurd q hz
        · rw [if_neg hz, q]
          unfold mx
          split <;> omega
    rw [e]
    exact mlF_gen hk l (i + 1) _ (fun q hq => h q (List.mem_cons_of_mem _ hq)) h0
theorem fms_nodeT {ν : Nat → Nat} {c : Nat} {u : Sg} (hs : ST ν c u) {x : Nat} (x0 : 0 < x) (hx : x ≤ nT u) {p : Int} (hp : p ∈ fptT (rawT u x)) (hp0 : p ≠ 0) : 0 < p.toNat ∧ p.toNat < x ∧ trT ν u p.toNat ∈ fms (trT ν u x) := by
  have hI := hs.1
  obtain ⟨h1, h2, h3, h4, h5⟩ := hI
  have a := (h5 x x0 hx).1 p hp
  have b := rawT_nn h2 x0 hx (fptT_sub hp)
  have hpos : 0 < p.toNat := by omega
  refine ⟨hpos, by omega, ?_⟩
  have htp : 0 < trT ν u p.toNat := tr_pos (okp_T (ν := ν) hs.1) hpos (by show p.toNat ≤ nT u; omega)
  have e := trT_eq (ν := ν) hs.1 x0 hx
  have ek := congrArg kd e
  have ep := congrArg ps e
  rw [kd_mk] at ek
  rw [ps_mk, ← ek] at ep
  have hf : p.toNat ∈ fpt (labT ν (rawT u x)) := by rw [fpt_labT (h2.1 x x0 hx).1]; exact List.mem_map.mpr ⟨p, hp, rfl⟩
  unfold fpt at hf
  rw [← ek] at hf
  unfold fms
  refine List.mem_filter.mpr ⟨?_, by simp; omega⟩
  rw [ep]
  unfold pmp
  by_cases h8 : kd (trT ν u x) = 8
  · rw [if_pos h8] at hf
    rw [if_pos h8, if_pos h8]
    cases hl : (labT ν (rawT u x)).2.2 with
    | nil => rw [hl] at hf; simp at hf
    | cons q r => rw [hl] at hf; simp at hf; simp [hf]
  · rw [if_neg h8] at hf
    rw [if_neg h8, if_neg h8]
    exact List.mem_map.mpr ⟨_, hf, rfl⟩
theorem lo_T {ν : Nat → Nat} {c : Nat} {u : Sg} (hs : ST ν c u) (hw : WF FT u) : ∀ (x : Nat), 0 < x → x ≤ nT u → okT (trT ν u x) → gN u 5 x = (loT (trT ν u x) : Int) := by
  intro x
  induction x using Nat.strongRecOn with
  | ind x ih =>
    intro x0 hx ho
    have hn := nodeT hs x0 hx
    have hI := hs.1
    obtain ⟨h1, h2, h3, h4, h5⟩ := hI
    obtain ⟨c0, ⟨c1, c2⟩, c3⟩ := h2.1 x x0 hx
    obtain ⟨g1, g2, g3, g4⟩ := h5 x x0 hx
    have hps := rawT_ps hs x0 hx
    have hk : (rawT u x).1 = tkT (kd (trT ν u x)) := hn.1
    have hch : ∀ p ∈ fptT (rawT u x), 0 ≤ p ∧ (p = 0 ∨ gN u 5 p.toNat = (loT (trT ν u p.toNat) : Int)) := fun p hp => by
      refine ⟨rawT_nn h2 x0 hx (fptT_sub hp), ?_⟩
      by_cases hz : p = 0
      · exact Or.inl hz
      · obtain ⟨a1, a2, a3⟩ := fms_nodeT hs x0 hx hp hz
        exact Or.inr (ih _ a2 a1 (by omega) (ho.c a3))
    have hok := ho.n
    have hcases : kd (trT ν u x) = 1 ∨ kd (trT ν u x) = 2 ∨ kd (trT ν u x) = 3 ∨ kd (trT ν u x) = 8 ∨ kd (trT ν u x) = 9 ∨ kd (trT ν u x) = 18 ∨ (kd (trT ν u x) ≠ 8 ∧ ¬ kd (trT ν u x) ≤ 3 ∧ kd (trT ν u x) ≠ 9 ∧ (kd (trT ν u x) ≠ 6 ∧ kd (trT ν u x) ≠ 7 ∧ kd (trT ν u x) ≠ 15) ∧ kd (trT ν u x) ≠ 18) := by
      have := okN_kd hok
      unfold isTm isFo at this
      omega
    rw [g3, loT_eq]
    unfold loS
    rcases hcases with q | q | q | q | q | q | q
    · have e : mlT (gN u 5) (rawT u x) = 0 := by
        have : (rawT u x).1 = 2 := by rw [hk, q]; decide
        unfold mlT
        rw [if_neg (by omega), if_neg (by omega), if_pos (Or.inl this)]
      have p0 : ps (trT ν u x) = [] := by
        rcases hok.2 with z | z | z | z | z | z | z | z | z | z | z | z | z | z <;> first | omega | exact z.2
      rw [e, if_neg (by omega), p0, q]; rfl
    · have kk : (rawT u x).1 = 1 := by rw [hk, q]; decide
      have hd := hn.2.2.2.1 (by rw [q]; decide) (by omega)
      have hl3 : (gN u 3 x).toNat = (rawT u x).2.length := (rawT_len u x).symm
      have hl := c0.2.1 (Or.inl kk)
      have e0 : ((rawT u x).2[0]?).getD 0 = dt u x 0 := by rw [rawT_at u (by omega)]; rfl
      have hin : inR (dt u x 0) := hw.2.2.2.1 9 _ (by decide)
      rw [if_pos q]
      have em : mlT (gN u 5) (rawT u x) = wrap (dt u x 0 + 1) := by unfold mlT; rw [if_pos kk, e0]
      rw [em]
      by_cases hmx : dt u x 0 = 2147483647
      · rw [g3, em, hmx] at g4
        have : wrap (2147483647 + 1) = -2147483648 := by decide
        omega
      · have := hin.1
        have := hin.2
        rw [wrap_id ⟨by omega, by omega⟩, hd]; omega
    · have e : mlT (gN u 5) (rawT u x) = 0 := by
        have : (rawT u x).1 = 2 := by rw [hk, q]; decide
        unfold mlT
        rw [if_neg (by omega), if_neg (by omega), if_pos (Or.inl this)]
      have p0 : ps (trT ν u x) = [] := by
        rcases hok.2 with z | z | z | z | z | z | z | z | z | z | z | z | z | z <;> first | omega | exact z.2.1 | exact z.2
      rw [e, if_neg (by omega), p0, q]; rfl
    · have kk : (rawT u x).1 = 7 := by rw [hk, q]; decide
      have hl := c0.2.2.2.1 kk
      rw [if_neg (by omega), q]
      have hpp : ∃ b l1 r, (rawT u x).2 = b :: l1 :: r := by
        cases hr : (rawT u x).2 with
        | nil => rw [hr] at hl; simp at hl
        | cons b l =>
          cases l with
          | nil => rw [hr] at hl; simp at hl
          | cons l1 r => exact ⟨b, l1, r, rfl⟩
      obtain ⟨b, l1, r, hr⟩ := hpp
      have hf : fptT (rawT u x) = [l1] := by unfold fptT; rw [if_pos kk, hr]; rfl
      have hc := hch l1 (by rw [hf]; exact List.mem_cons_self)
      have e : mlT (gN u 5) (rawT u x) = if l1 ≤ 0 then 0 else gN u 5 l1.toNat := by
        unfold mlT
        rw [if_neg (by omega), if_pos kk, hr]; rfl
      rw [e, hps, q, hr]
      have nw8 : nw 8 = 1 := by decide
      rw [nw8]
      unfold loX pmp
      simp only [if_true, List.drop_succ_cons, List.drop_zero, List.map_cons, List.take_succ_cons, List.take_zero, List.map_nil, List.cons_append, List.nil_append, List.foldl_cons, List.foldl_nil, Nat.zero_max]
      rcases hc.2 with z | z
      · rw [if_pos (by omega), z, show trT ν u (0 : Int).toNat = 0 from rfl, loT0]; rfl
      · by_cases hz : l1 ≤ 0
        · have : l1 = 0 := by omega
          rw [if_pos hz, this, show trT ν u (0 : Int).toNat = 0 from rfl, loT0]; rfl
        · rw [if_neg hz, z]
    · have e : mlT (gN u 5) (rawT u x) = 0 := by
        have : (rawT u x).1 = 8 := by rw [hk, q]; decide
        unfold mlT
        rw [if_neg (by omega), if_neg (by omega), if_pos (Or.inr (Or.inr this))]
      have p0 : ps (trT ν u x) = [] := by
        rcases hok.2 with z | z | z | z | z | z | z | z | z | z | z | z | z | z <;> first | omega | exact z.2.2
      rw [e, if_neg (by omega), p0, q]; rfl
    · -- ALL
      have kk : (rawT u x).1 = 17 := by rw [hk, q]; decide
      obtain ⟨hf, hfs⟩ := fptT_drop (r := rawT u x) hk (by omega) (by omega) (by omega) (by omega)
      have nw0 : nw (kd (trT ν u x)) = 0 := by rw [q]; decide
      rw [nw0, List.drop_zero] at hf
      rw [nw0] at hfs
      have hp2 : ∃ y f, ps (trT ν u x) = [y, f] := by
        rcases hok.2 with z | z | z | z | z | z | z | z | z | z | z | z | z | z <;> first | omega | exact ⟨z.2.2.choose, z.2.2.choose_spec.choose, z.2.2.choose_spec.choose_spec.1⟩
      have hlen : (rawT u x).2.length = 2 := by
        obtain ⟨y, f, hy⟩ := hp2
        have := hn.2.1
        rw [hy, nw0] at this
        rw [rawT_len, this]; rfl
      have hr2 : ∃ a b, (rawT u x).2 = [a, b] := by
        cases hr : (rawT u x).2 with
        | nil => rw [hr] at hlen; simp at hlen
        | cons a l =>
          cases l with
          | nil => rw [hr] at hlen; simp at hlen
          | cons b l =>
            cases l with
            | nil => exact ⟨a, b, rfl⟩
            | cons b2 l => rw [hr] at hlen; simp at hlen
      obtain ⟨a, b, hr⟩ := hr2
      have ha := hch a (by rw [hf, hr]; simp)
      have hb := hch b (by rw [hf, hr]; simp)
      have e : mlT (gN u 5) (rawT u x) = mlF (gN u 5) 17 0 0 [a, b] := by
        unfold mlT
        rw [if_neg (by omega), if_neg (by omega), if_neg (by omega), hfs, kk, hr]; rfl
      have zT : ∀ v : Int, 0 ≤ v → (v = 0 ∨ gN u 5 v.toNat = (loT (trT ν u v.toNat) : Int)) → (if v = 0 then (0 : Int) else gN u 5 v.toNat) = (loT (trT ν u v.toNat) : Int) := fun v v0 hv => by
        by_cases hz : v = 0
        · rw [if_pos hz, hz, show trT ν u (0 : Int).toNat = 0 from rfl, loT0]; rfl
        · rcases hv with q | q
          · exact absurd q hz
          · rw [if_neg hz, q]
      have za := zT a ha.1 ha.2
      have zb := zT b hb.1 hb.2
      rw [e, if_neg (by omega), hps, nw0, q, hr]
      unfold loX pmp
      simp only [List.drop_zero, List.map_cons, List.map_nil, List.take_succ_cons, List.take_zero, List.drop_succ_cons, List.foldl_cons, List.foldl_nil, Nat.zero_max, show ¬ (18 : Nat) = 8 from by decide, if_false, if_true]
      rw [mlF, mlF, mlF]
      by_cases hzb : b = 0
      · rw [if_pos hzb] at zb
        rw [if_pos hzb]
        by_cases hza : a = 0
        · rw [if_pos hza] at za
          rw [if_pos hza]; omega
        · rw [if_neg hza] at za
          rw [if_neg hza, if_neg (fun q => by omega), za]
          unfold mx
          split <;> omega
      · rw [if_neg hzb] at zb
        rw [if_neg hzb, show (if (17 : Int) = 17 ∧ 0 + 1 = 1 then gN u 5 b.toNat - 1 else gN u 5 b.toNat) = gN u 5 b.toNat - 1 from if_pos ⟨rfl, rfl⟩, zb]
        by_cases hza : a = 0
        · rw [if_pos hza] at za
          rw [if_pos hza]
          unfold mx
          split <;> omega
        · rw [if_neg hza] at za
          rw [if_neg hza, if_neg (fun q => by omega), za]
          unfold mx
          split <;> split <;> omega
    · obtain ⟨q1, q2, q3, q4, q5⟩ := q
      obtain ⟨hf, hfs⟩ := fptT_drop (r := rawT u x) hk q1 q2 q3 q4
      have hkn : (rawT u x).1 ≠ 1 ∧ (rawT u x).1 ≠ 7 ∧ ¬ ((rawT u x).1 = 2 ∨ (rawT u x).1 = 3 ∨ (rawT u x).1 = 8) ∧ (rawT u x).1 ≠ 17 := by
        rw [hk]; unfold tkT
        rw [if_neg (by omega), if_neg (by omega)]
        split <;> omega
      have e : mlT (gN u 5) (rawT u x) = mlF (gN u 5) (rawT u x).1 (nw (kd (trT ν u x))) 0 ((rawT u x).2.drop (nw (kd (trT ν u x)))) := by
        unfold mlT
        rw [if_neg hkn.1, if_neg hkn.2.1, if_neg hkn.2.2.1, hfs]
      have hm := mlF_gen (lo := gN u 5) (T := trT ν u) hkn.2.2.2 ((rawT u x).2.drop (nw (kd (trT ν u x)))) (nw (kd (trT ν u x))) 0 (fun p hp => hch p (by rw [hf]; exact hp)) rfl
      rw [e, if_neg (by omega), show (0 : Int) = ((0 : Nat) : Int) from rfl, hm]
      unfold loX
      rw [if_neg q1, if_neg q5, hps]
      unfold pmp
      rw [if_neg q1, List.map_map, List.map_map]
      rfl
