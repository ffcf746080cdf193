theorem DatIs.okr {ν : Nat → Nat} {u : Sg} {h s : Nat} (hd : DatIs ν u h s) (ho : okT s) (h3 : ¬ kd s ≤ 3) (hl : (ps s).length ≤ 900) : okR (tkT (kd s), rowH u h) := by
  have hlen : (rowH u h).length = (ps s).length + nw (kd s) := by rw [rowH_len]; have := hd.1; omega
  have hn := nw_le (kd s)
  have hin := okT_kin ho
  unfold okR
  dsimp only
  rw [hlen]
  have et : (kd s = 4 ∧ tkT (kd s) = 4) ∨ (kd s = 5 ∧ tkT (kd s) = 5) ∨ (8 ≤ kd s ∧ kd s ≤ 18 ∧ kd s ≠ 15 ∧ tkT (kd s) = (kd s : Int) - 1) := by
    unfold tkT
    rw [if_neg (by omega), if_neg (by omega)]
    split <;> omega
  have e1 : kd s = 4 ∨ kd s = 12 ∨ kd s = 13 ∨ kd s = 14 → nw (kd s) = 1 := fun q => by
    rcases q with q | q | q | q <;> (rw [q]; decide)
  have e8 : kd s = 8 → nw (kd s) = 1 ∧ 1 ≤ (ps s).length := fun q => by
    refine ⟨by rw [q]; decide, ?_⟩
    rcases ho.n.2 with z | z | z | z | z | z | z | z | z | z | z | z | z | z <;> try omega
    obtain ⟨_, a, js, z, _⟩ := z
    rw [z]; simp
  have e9 : kd s = 9 → nw (kd s) = 0 ∧ (ps s).length = 0 := fun q => by
    refine ⟨by rw [q]; decide, ?_⟩
    rcases ho.n.2 with z | z | z | z | z | z | z | z | z | z | z | z | z | z <;> try omega
    rw [z.2.2]; rfl
  refine ⟨by omega, fun q => by omega, fun q => ?_, fun q => ?_, fun q => ?_, by omega⟩
  · have := e1 (by omega); omega
  · have := e8 (by omega); omega
  · have := e9 (by omega); omega
theorem DatIs.fm {ν : Nat → Nat} {u : Sg} {h s : Nat} (hd : DatIs ν u h s) (ho : okT s) (h3 : ¬ kd s ≤ 3) : ∀ p ∈ fptT (tkT (kd s), rowH u h), p ≤ (nT u : Int) := fun p hp => by
  have hin := okT_kin ho
  have hlen : (rowH u h).length = (ps s).length + nw (kd s) := by rw [rowH_len]; have := hd.1; omega
  have hm : ∃ i, i < (ps s).length ∧ ¬ (kd s = 8 ∧ 0 < i) ∧ (rowH u h)[i + nw (kd s)]? = some p := by
    by_cases h8 : kd s = 8
    · have k7 : tkT (kd s) = 7 := by rw [h8]; decide
      have n1 : nw (kd s) = 1 := by rw [h8]; decide
      unfold fptT at hp
      rw [if_pos k7] at hp
      cases hr : rowH u h with
      | nil => rw [show (tkT (kd s), rowH u h).2 = rowH u h from rfl, hr] at hp; simp at hp
      | cons b l =>
        cases l with
        | nil => rw [show (tkT (kd s), rowH u h).2 = rowH u h from rfl, hr] at hp; simp at hp
        | cons b2 l =>
          rw [show (tkT (kd s), rowH u h).2 = rowH u h from rfl, hr] at hp
          simp at hp
          rw [hr] at hlen
          simp at hlen
          exact ⟨0, by omega, by omega, by rw [n1, hp]; rfl⟩
    · by_cases h9 : kd s = 9
      · have k8 : tkT (kd s) = 8 := by rw [h9]; decide
        unfold fptT at hp
        rw [if_neg (by show ¬ tkT (kd s) = 7; omega), if_pos (Or.inr (Or.inr (Or.inr k8)))] at hp
        cases hp
      · have hf := (fptT_drop (r := (tkT (kd s), rowH u h)) rfl h8 h3 h9 (by omega)).1
        rw [hf] at hp
        obtain ⟨i, hi⟩ := List.getElem?_of_mem hp
        rw [List.getElem?_drop] at hi
        have hil := (List.getElem?_eq_some_iff.mp hi).1
        have hil : nw (kd s) + i < (rowH u h).length := hil
        exact ⟨i, by omega, fun q => h8 q.1, by rw [Nat.add_comm]; exact hi⟩
  obtain ⟨i, hi, hq, e⟩ := hm
  obtain ⟨y, y1, _, y3⟩ := hd.2.2 i _ (List.getElem?_eq_getElem hi)
  rw [rowH_at u (by have := hd.1; omega), y1] at e
  have := (y3 hq).1
  have := Option.some.inj e
  omega
