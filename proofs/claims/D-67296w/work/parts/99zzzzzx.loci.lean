/-! the greatest locus of a form, in the class -/
theorem lvL_part {t n : Nat} (hk : ¬ kd t ≤ 3) : lvL t n ↔ ∀ c ∈ fms t, lvL c n := by
  unfold lvL
  rw [lvT_eq, if_neg hk]
  constructor
  · intro h c hc l hl h3
    exact h l (List.mem_flatMap.mpr ⟨c, hc, hl⟩) h3
  · intro h l hl h3
    obtain ⟨c, hc, q⟩ := List.mem_flatMap.mp hl
    exact h c hc l q h3
theorem lvL_leaf {t n : Nat} (hk : kd t ≤ 3) : lvL t n ↔ (kd t = 3 → wh t < n) := by
  unfold lvL
  rw [lvT_eq, if_pos hk]
  constructor
  · intro h h3
    exact h t (List.mem_singleton.mpr rfl) h3
  · intro h l hl h3
    rw [List.mem_singleton.mp hl] at h3 ⊢
    exact h h3
theorem loci_0 {d : Nat} (hd : 3 ≤ d) {u : Sg} : runC d 5 [0] u = some (-1, u) := by
  obtain ⟨d, rfl⟩ : ∃ e, d = e + 1 := ⟨d - 1, by omega⟩
  rw [runC_eq (by omega)]
  rfl
theorem rX1_loci {ν : Nat → Nat} {c : Nat} {u : Sg} (hs : SC ν c u) : ∀ (t : Nat), okT t → szT t ≤ 60000 → ∀ (d x : Nat), 6 + htT t ≤ d → 0 < x → x < nC u → trC ν u x = t → ∃ r : Int, runC d 5 [(x : Int)] u = some (r, u) ∧ -1 ≤ r ∧ r < 10 ∧ ∀ n : Nat, r < (n : Int) ↔ lvL t n := by
  intro t
  induction t using Nat.strongRecOn with
  | ind t ih =>
    intro ho hz d x hd x0 hx et
    have hhp : 1 ≤ htT t := by rw [htT_eq]; omega
    obtain ⟨d, rfl⟩ : ∃ d', d = d' + 1 := ⟨d - 1, by omega⟩
    have hn := nodeC hs x0 hx
    rw [et] at hn
    obtain ⟨n0, n1, n3, ⟨n2, n2'⟩, nL, nP⟩ := hn
    have hin := okT_kin ho
    have h1 := hs.1.1
    have l1 : x < gL u 1 := by rw [h1.2.2.2.1.1]; exact nL
    have l2 : x < gL u 2 := by rw [h1.2.2.2.1.2.1]; exact nL
    have l3 : x < gL u 3 := by rw [h1.2.2.2.1.2.2.1]; exact nL
    have l7 : gL u 7 < 2147483648 := by rcases h1.2.2.2.2.2.2.2 with q | q <;> omega
    have hlz := len_sz ho (fun q => by rw [q, kd0] at hin; omega)
    have hKF := KF_big
    rw [runC_eq (by omega)]
    show ∃ r : Int, bX1_loci (runC d) x u = some (r, u) ∧ _
    unfold bX1_loci jn
    dsimp only
    rw [if_neg (by omega), ld_nat nL, n0]
    by_cases h3 : kd t = 3
    · rw [if_pos (by omega), ld_nat l1, n1 (by omega)]
      have h2 : wh t < 2 := by
        rcases ho.n.2 with q | q | q | q | q | q | q | q | q | q | q | q | q | q <;> first | omega | (have := q.2.2; omega)
      exact ⟨_, rfl, by omega, by omega, fun n => by rw [lvL_leaf (by omega)]; omega⟩
    · rw [if_neg (by omega), ld_nat nL, n0]
      have loop : ∀ (lim : Nat), lim ≤ (ps t).length → (kd t = 8 → lim ≤ 1) → ∀ (m i f : Nat) (acc : Int), i + m = lim → m < f → -1 ≤ acc → acc < 10 → ∃ r : Int, bX1_loci_L62 (runC d) f (x : Int) acc (lim : Int) (i : Int) u (fun v6 s5 => some (v6, s5)) = some (r, u) ∧ -1 ≤ r ∧ r < 10 ∧ ∀ n : Nat, r < (n : Int) ↔ acc < (n : Int) ∧ ∀ j c', i ≤ j → j < lim → (ps t)[j]? = some c' → c' ≠ 0 → lvL c' n := by
        intro lim hlim h8l m
        induction m with
        | zero =>
          intro i f acc hi hf a1 a2
          obtain ⟨f, rfl⟩ : ∃ f', f = f' + 1 := ⟨f - 1, by omega⟩
          rw [bX1_loci_L62, if_neg (by omega)]
          exact ⟨acc, rfl, a1, a2, fun n => ⟨fun z => ⟨z, fun j c' z1 z2 => by omega⟩, fun z => z.1⟩⟩
        | succ m ihm =>
          intro i f acc hi hf a1 a2
          obtain ⟨f, rfl⟩ : ∃ f', f = f' + 1 := ⟨f - 1, by omega⟩
          have hil : i < (ps t).length := by omega
          have hat : runC d 98 [(x : Int), (i : Int)] u = some (pt u x i, u) := rX2_at (by omega) l2 n2 (by omega) l7
          have h8 : kd t ≠ 8 ∨ i = 0 := by
            by_cases q : kd t = 8
            · have := h8l q; exact Or.inr (by omega)
            · exact Or.inl q
          have hpc := partC hs x0 hx (i := i) (t := pa t i) (by rw [et]; exact pa_get hil)
          rw [et] at hpc
          obtain ⟨b1, b2⟩ := hpc.2.1 h8
          rw [bX1_loci_L62, if_pos (by omega), cl_eq hat]
          have hpa : ∀ c', (ps t)[i]? = some c' → c' = pa t i := fun c' q => by
            have := pa_get hil
            rw [q] at this
            exact Option.some.inj this
          by_cases hp0 : pt u x i = 0
          · have e0 : pa t i = 0 := by rw [← b2, hp0]; rfl
            obtain ⟨r, e1, e2, e3, e4⟩ := ihm (i + 1) f acc (by omega) (by omega) a1 a2
            rw [hp0, cl_eq (loci_0 (by omega))]
            show ∃ r : Int, (un (if acc < -1 then (-1 : Int) else acc) fun v5 => ar ((i : Int) + 1) fun v6 => bX1_loci_L62 (runC d) f (x : Int) v5 (lim : Int) v6 u (fun v6 s5 => some (v6, s5))) = some (r, u) ∧ _
            rw [un_eq, if_neg (by omega), ar_pos ⟨by omega, by omega⟩, show (i : Int) + 1 = ((i + 1 : Nat) : Int) by omega]
            refine ⟨r, e1, e2, e3, fun n => ?_⟩
            rw [e4 n]
            refine and_congr_right (fun _ => ⟨fun z j c' z1 z2 z3 z4 => ?_, fun z j c' z1 => z j c' (by omega)⟩)
            by_cases q : j = i
            · rw [q] at z3
              exact absurd ((hpa c' z3).trans e0) z4
            · exact z j c' (by omega) z2 z3 z4
          · have hy0 : 0 < (pt u x i).toNat := by have := hpc.1; omega
            have hc0 : pa t i ≠ 0 := by
              have : 0 < trC ν u (pt u x i).toNat := tr_pos (okp_C (ν := ν) hs.1) hy0 (by show (pt u x i).toNat ≤ nC u - 1; omega)
              omega
            have hcm : pa t i ∈ fms t := fms_at.mpr ⟨i, h8, pa_get hil, hc0⟩
            have hhc := ht_c hcm
            have hzc := sz_c hcm
            obtain ⟨r0, c1, c2, c3, c4⟩ := ih (pa t i) (fms_lt hcm) (ho.c hcm) (by omega) d (pt u x i).toNat (by omega) hy0 (by omega) b2
            rw [show pt u x i = (((pt u x i).toNat : Nat) : Int) from (Int.toNat_of_nonneg hpc.1).symm, cl_eq c1]
            obtain ⟨r, e1, e2, e3, e4⟩ := ihm (i + 1) f (if acc < r0 then r0 else acc) (by omega) (by omega) (by split <;> omega) (by split <;> omega)
            show ∃ r : Int, (un (if acc < r0 then r0 else acc) fun v5 => ar ((i : Int) + 1) fun v6 => bX1_loci_L62 (runC d) f (x : Int) v5 (lim : Int) v6 u (fun v6 s5 => some (v6, s5))) = some (r, u) ∧ _
            rw [un_eq, ar_pos ⟨by omega, by omega⟩, show (i : Int) + 1 = ((i + 1 : Nat) : Int) by omega]
            refine ⟨r, e1, e2, e3, fun n => ?_⟩
            rw [e4 n]
            constructor
            · rintro ⟨z0, z⟩
              have za : acc < (n : Int) := by split at z0 <;> omega
              have zr : r0 < (n : Int) := by split at z0 <;> omega
              refine ⟨za, fun j c' z1 z2 z3 z4 => ?_⟩
              by_cases q : j = i
              · rw [q] at z3
                rw [hpa c' z3]
                exact (c4 n).mp zr
              · exact z j c' (by omega) z2 z3 z4
            · rintro ⟨z0, z⟩
              have zr : r0 < (n : Int) := (c4 n).mpr (z i _ (Nat.le_refl _) (by omega) (pa_get hil) hc0)
              exact ⟨by split <;> omega, fun j c' z1 => z j c' (by omega)⟩
      by_cases h8 : kd t = 8
      · rw [if_pos (by omega)]
        have hlen : 1 ≤ (ps t).length := by
          rcases ho.n.2 with q | q | q | q | q | q | q | q | q | q | q | q | q | q <;> first | omega | (obtain ⟨-, p, l, hp, -⟩ := q; rw [hp]; simp)
        obtain ⟨r, e1, e2, e3, e4⟩ := loop 1 hlen (fun _ => Nat.le_refl _) 1 0 KF (-1) (by omega) (by omega) (by omega) (by omega)
        refine ⟨r, e1, e2, e3, fun n => ?_⟩
        rw [e4 n, lvL_part (by omega)]
        constructor
        · rintro ⟨-, z⟩ c' hc'
          obtain ⟨i', h8', hi', hc0⟩ := fms_at.mp hc'
          exact z i' c' (Nat.zero_le _) (by omega) hi' hc0
        · intro z
          exact ⟨by omega, fun j c' _ hj hc' h0 => z c' (fms_at.mpr ⟨j, Or.inr (by omega), hc', h0⟩)⟩
      · rw [if_neg (by omega), ld_nat l3, n3]
        obtain ⟨r, e1, e2, e3, e4⟩ := loop (ps t).length (Nat.le_refl _) (fun q => absurd q h8) (ps t).length 0 KF (-1) (by omega) (by omega) (by omega) (by omega)
        refine ⟨r, e1, e2, e3, fun n => ?_⟩
        rw [e4 n]
        by_cases hk3 : kd t ≤ 3
        · have p0 : ps t = [] := by
            rcases ho.n.2 with q | q | q | q | q | q | q | q | q | q | q | q | q | q <;> first | omega | exact q.2
          rw [lvL_leaf hk3, p0]
          exact ⟨fun _ q => absurd q h3, fun _ => ⟨by omega, fun j c' _ hj => by simp at hj⟩⟩
        · rw [lvL_part hk3]
          constructor
          · rintro ⟨-, z⟩ c' hc'
            obtain ⟨i', h8', hi', hc0⟩ := fms_at.mp hc'
            exact z i' c' (Nat.zero_le _) (List.getElem?_eq_some_iff.mp hi').1 hi' hc0
          · intro z
            exact ⟨by omega, fun j c' _ hj hc' h0 => z c' (fms_at.mpr ⟨j, Or.inl h8, hc', h0⟩)⟩
