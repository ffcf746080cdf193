/-! what the array of binders says -/
theorem loF_gen {lo : Nat → Int} {k : Int} {T : Nat → Nat} (hk : k ≠ 18) : ∀ (l : List Int) (i a : Nat), (∀ p ∈ l, 0 ≤ p ∧ (p = 0 ∨ lo p.toNat = (loT (T p.toNat) : Int))) → T 0 = 0 → loF lo k i (a : Int) l = (((l.map (fun p => loT (T p.toNat))).foldl max a : Nat) : Int)
  | [], _, _, _, _ => rfl
  | p :: l, i, a, h, h0 => by
    have hp := h p List.mem_cons_self
    rw [loF, List.map_cons, List.foldl_cons, show (if k = 18 ∧ i = 1 then lo p.toNat - 1 else lo p.toNat) = lo p.toNat from if_neg (fun q => hk q.1)]
    have e : (if p = 0 then (a : Int) else mx (a : Int) (lo p.toNat)) = ((max a (loT (T p.toNat)) : Nat) : Int) := by
      by_cases hz : p = 0
      · rw [if_pos hz, hz, show (0 : Int).toNat = 0 from rfl, h0, loT0]; simp
      · rcases hp.2 with q | q
        · exact absurd q hz
        · rw [if_neg hz, q]
          unfold mx
          split <;> omega
    rw [e]
    exact loF_gen hk l (i + 1) _ (fun q hq => h q (List.mem_cons_of_mem _ hq)) h0
theorem raw_ps {ν : Nat → Nat} {c : Nat} {u : Sg} (hs : SC ν c u) {x : Nat} (x0 : 0 < x) (hx : x < nC u) : ps (trC ν u x) = pmp (trC ν u) (kd (trC ν u x)) ((rawC u x).2.2.map Int.toNat) := by
  have e := trC_eq (ν := ν) hs.1 x0 hx
  have h := congrArg ps e
  rw [ps_mk] at h
  have hk := congrArg kd e
  rw [kd_mk] at hk
  rw [hk]; exact h
theorem fms_node {ν : Nat → Nat} {c : Nat} {u : Sg} (hs : SC ν c u) {x : Nat} (x0 : 0 < x) (hx : x < nC u) {p : Int} (hp : p ∈ fptR (rawC u x)) (hp0 : p ≠ 0) : 0 < p.toNat ∧ p.toNat < x ∧ trC ν u p.toNat ∈ fms (trC ν u x) := by
  have hn := nodeC hs x0 hx
  obtain ⟨h1, h2, h3, h4, h5⟩ := hs.1
  have a := (h5 x x0 hx).1 p hp
  have b := raw_nn h2 x0 hx (fptR_sub hp)
  have hpos : 0 < p.toNat := by omega
  refine ⟨hpos, by omega, ?_⟩
  have htp := tr_pos (okp_C (ν := ν) hs.1) hpos (by show p.toNat ≤ nC u - 1; omega)
  have htp : 0 < trC ν u p.toNat := htp
  unfold fms
  refine List.mem_filter.mpr ⟨?_, by simp; omega⟩
  rw [raw_ps hs x0 hx]
  unfold fptR at hp
  have hk : (rawC u x).1 = (kd (trC ν u x) : Int) := hn.1
  by_cases h8 : kd (trC ν u x) = 8
  · rw [if_pos (by rw [hk, h8]; rfl)] at hp
    rw [if_pos h8]
    unfold pmp
    rw [if_pos h8]
    cases hr : (rawC u x).2.2 with
    | nil => rw [hr] at hp; simp at hp
    | cons a r => rw [hr] at hp; simp at hp; simp [hp]
  · rw [if_neg (by rw [hk]; omega)] at hp
    rw [if_neg h8]
    unfold pmp
    rw [if_neg h8, List.map_map]
    exact List.mem_map.mpr ⟨p, hp, rfl⟩
theorem lo_C {ν : Nat → Nat} {c : Nat} {u : Sg} (hs : SC ν c u) : ∀ (x : Nat), 0 < x → x < nC u → okT (trC ν u x) → gN u 5 x = (loT (trC ν u x) : Int) := by
  intro x
  induction x using Nat.strongRecOn with
  | ind x ih =>
    intro x0 hx ho
    have hn := nodeC hs x0 hx
    have hlo := (hs.1.2.2.2.2 x x0 hx).2.2.1
    have hps := raw_ps hs x0 hx
    have hk : (rawC u x).1 = (kd (trC ν u x) : Int) := hn.1
    have hch : ∀ p ∈ fptR (rawC u x), 0 ≤ p ∧ (p = 0 ∨ gN u 5 p.toNat = (loT (trC ν u p.toNat) : Int)) := fun p hp => by
      refine ⟨raw_nn hs.1.2.1 x0 hx (fptR_sub hp), ?_⟩
      by_cases hp0 : p = 0
      · exact Or.inl hp0
      · obtain ⟨b1, b2, b3⟩ := fms_node (ν := ν) hs x0 hx hp hp0
        exact Or.inr (ih _ b2 b1 (by omega) (ho.c b3))
    rw [hlo, loT_eq]
    unfold loE loS
    by_cases h2 : kd (trC ν u x) = 2
    · rw [if_pos (by rw [hk, h2]; rfl), if_pos h2]
      have hnil : fptR (rawC u x) = [] := by
        have hl : (rawC u x).2.2 = [] := by
          rcases ho.n.2 with q | q | q | q | q | q | q | q | q | q | q | q | q | q <;> try omega
          have := congrArg List.length hps
          rw [pmp_len, List.length_map, q.2] at this
          exact List.eq_nil_of_length_eq_zero this.symm
        unfold fptR; rw [hl]; split <;> rfl
      rw [hnil]
      show (rawC u x).2.1 + 1 = _
      rw [show (rawC u x).2.1 = gN u 1 x from rfl, hn.2.1 (by omega)]
      omega
    · rw [if_neg (by rw [hk]; omega), if_neg h2]
      unfold loX
      by_cases h18 : kd (trC ν u x) = 18
      · rw [if_neg (by omega), if_pos h18]
        rcases ho.n.2 with q | q | q | q | q | q | q | q | q | q | q | q | q | q <;> try omega
        obtain ⟨q1, q2, y, f, q3, q4, q5, q6⟩ := q
        have hf : fptR (rawC u x) = (rawC u x).2.2 := by unfold fptR; rw [if_neg (by rw [hk]; omega)]
        rw [hf] at hch ⊢
        have hlen : (rawC u x).2.2.length = 2 := by
          have := congrArg List.length hps
          rw [pmp_len, List.length_map, q3] at this
          exact this.symm
        rw [hps]
        unfold pmp
        rw [if_neg (by omega), List.map_map]
        match hr : (rawC u x).2.2, hlen with
        | [p1, p2], _ =>
          rw [hr] at hch hps
          have c1 := hch p1 (by simp)
          have c2 := hch p2 (by simp)
          have hz : ∀ p : Int, (0 ≤ p ∧ (p = 0 ∨ gN u 5 p.toNat = (loT (trC ν u p.toNat) : Int))) → (p = 0 → loT (trC ν u p.toNat) = 0) := fun p _ e => by rw [e]; exact loT0
          rw [hk, h18]
          simp only [loF, List.take, List.drop, List.map, List.foldl, Function.comp]
          have d1 := hz p1 c1
          have d2 := hz p2 c2
          rcases Decidable.em (p1 = 0) with e1 | e1 <;> rcases Decidable.em (p2 = 0) with e2 | e2
          · simp only [e1, e2, if_true]
            have := d1 e1
            have := d2 e2
            rw [e1] at *
            rw [e2] at *
            omega
          · rw [if_pos e1, if_neg e2]
            have := d1 e1
            rcases c2.2 with q | q
            · exact absurd q e2
            · rw [q]; unfold mx; simp; split <;> omega
          · rw [if_neg e1, if_pos e2]
            have := d2 e2
            rcases c1.2 with q | q
            · exact absurd q e1
            · rw [q]; unfold mx; simp; split <;> omega
          · rw [if_neg e1, if_neg e2]
            rcases c1.2 with q | q
            · exact absurd q e1
            · rcases c2.2 with q' | q'
              · exact absurd q' e2
              · rw [q, q']; unfold mx; simp; split <;> split <;> omega
      · rw [show (0 : Int) = ((0 : Nat) : Int) from rfl, loF_gen (T := trC ν u) (by rw [hk]; omega) _ 0 0 hch rfl, if_neg h18]
        congr 1
        rw [hps]
        unfold fptR pmp
        by_cases h8 : kd (trC ν u x) = 8
        · rw [if_pos (by rw [hk, h8]; rfl), if_pos h8, if_pos h8]
          congr 1
          cases (rawC u x).2.2 with
          | nil => rfl
          | cons a r => rfl
        · rw [if_neg (by rw [hk]; omega), if_neg h8, if_neg h8, List.map_map, List.map_map]
          rfl
