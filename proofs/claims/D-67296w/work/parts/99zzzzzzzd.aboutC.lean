/-! face: about in the class -/
/-- how many parts a formula has -/
def prN (f : Nat) : Nat := if f = yesT then 0 else if kd f = 17 then (ps f).length else 1
def soN (f : Nat) : Nat := if kd f ≤ 5 then 0 else if kd f = 8 then 1 else 2
def abV (f : Nat) (k : Int) : Nat := if k = 0 then soN f else if k = 1 then szT f else if k = 2 then (if soN f < 2 then 0 else prN f) else (if soN f < 2 then 0 else min 1000 (cnF (htT f + 1) f 0))
theorem soN_fo {f : Nat} (ho : okT f) (h : ¬ soN f < 2) : isFo f := by
  have := okT_kin ho
  unfold soN at h
  unfold isFo
  split at h
  · omega
  · split at h <;> omega
theorem cAbout {d : Nat} (hd : 300 ≤ d) {W : Wd} {c : Nat} {Fo Pr : List Nat} {lc : Nat} {K : Int} {u : Sg} (h : ReC W c Fo Pr lc K u) (hF : FoP Fo) (h9 : 0 ≤ gI u 99 ∧ gI u 99 < 1000000) (a k : Int) : wp (runC d 92 [a, k] u) (FcC (isF Fo a ∧ 0 ≤ k ∧ k ≤ 3) False (abV (frm Fo a) k : Int) (fun u' => u' = u) (fun u' => ReC W c Fo Pr lc K u' ∧ NdC u u' (fun _ => False))) := by
  obtain ⟨d, rfl⟩ : ∃ e, d = e + 1 := ⟨d - 1, by omega⟩
  rw [runC_eq (by omega)]
  show wp (bX1_about (runC d) a k u) _
  have hs := h.1.1
  have hn9 := nC_le hs
  have nd : NdC u (tS u) (fun _ => False) := fun z ⟨y, a, b, e⟩ => Or.inl ⟨y, a, b, e⟩
  have bad : ¬ (isF Fo a ∧ 0 ≤ k ∧ k ≤ 3) → ∀ Kc : Int → Sg → Option (Int × Sg), wp (cl (runC d 4 [0] u) fun v10 s11 => pr v10 s11 (Kc v10 s11)) (FcC (isF Fo a ∧ 0 ≤ k ∧ k ≤ 3) False (abV (frm Fo a) k : Int) (fun u' => u' = u) (fun u' => ReC W c Fo Pr lc K u' ∧ NdC u u' (fun _ => False))) := fun hb Kc => by
    rw [cl_eq (need_no (by omega) h9), pr_x (by decide), wp_some]
    exact Or.inr (Or.inr ⟨hb, rfl, h.tS h9, nd⟩)
  unfold bX1_about
  rw [wp_jn]; dsimp only
  rw [wp_jn]; dsimp only
  rcases cF (d := d) (by omega) h h9 a with ⟨hA, x, x0, hx, ex, e⟩ | ⟨hA, e⟩
  · rw [cl_eq e, pr_n (by omega)]
    by_cases k0 : k < 0
    · rw [if_pos k0, wp_jn]; dsimp only
      exact bad (fun q => by omega) _
    rw [if_neg k0]
    by_cases k3 : k ≤ 3
    · rw [if_pos k3, wp_jn]; dsimp only
      obtain ⟨fo, fz, -⟩ := hF _ hA.mem
      have fh := hF.ht hA.mem
      have hn := nodeC hs x0 hx
      rw [ex] at hn
      have hl0 : x < gL u 0 := hn.2.2.2.2.1
      have hkk := okT_kin fo
      have e12 : runC d 12 [(kd (frm Fo a) : Int)] u = some (if kd (frm Fo a) ≤ 5 then 1 else 0, u) := by
        obtain ⟨d, rfl⟩ : ∃ e, d = e + 1 := ⟨d - 1, by omega⟩
        rw [runC_eq (by omega)]
        show bX1_isTerm (runC d) _ u = _
        unfold bX1_isTerm
        by_cases q : kd (frm Fo a) ≤ 5
        · rw [if_pos (by omega), if_pos q]
        · rw [if_neg (by omega), if_neg q]
      rw [cl_eq (need_ok (by omega)), pr_0, wp_ld]
      refine ⟨⟨by omega, by omega⟩, ?_⟩
      rw [gA_nat, hn.1, cl_eq e12]
      -- behind the sort
      have tail : wp (if k = 0 then (some ((soN (frm Fo a) : Int), u)) else (if k = 1 then (ld u 4 (x : Int) fun v5 => some (v5, u)) else (if k = 2 then (if (soN (frm Fo a) : Int) < 2 then (some (0, u)) else (cl (runC d 114 [(x : Int)] u) fun v6 s7 => some (v6, s7))) else (if (soN (frm Fo a) : Int) < 2 then (some (0, u)) else (cl (runC d 37 [(x : Int), 0] u) fun v8 s9 => some (v8, s9)))))) (FcC (isF Fo a ∧ 0 ≤ k ∧ k ≤ 3) False (abV (frm Fo a) k : Int) (fun u' => u' = u) (fun u' => ReC W c Fo Pr lc K u' ∧ NdC u u' (fun _ => False))) := by
        have ok : isF Fo a ∧ 0 ≤ k ∧ k ≤ 3 := ⟨hA, by omega, k3⟩
        have fin : ∀ v : Int, v = (abV (frm Fo a) k : Int) → wp (some (v, u)) (FcC (isF Fo a ∧ 0 ≤ k ∧ k ≤ 3) False (abV (frm Fo a) k : Int) (fun u' => u' = u) (fun u' => ReC W c Fo Pr lc K u' ∧ NdC u u' (fun _ => False))) := fun v hv => wp_some.mpr (Or.inl ⟨ok, id, hv, rfl⟩)
        by_cases q0 : k = 0
        · rw [if_pos q0]
          exact fin _ (by unfold abV; rw [if_pos q0])
        · rw [if_neg q0]
          by_cases q1 : k = 1
          · rw [if_pos q1, wp_ld]
            have hsz := sz_C hs x x0 hx
            rw [ex] at hsz
            have h4 := hs.1.1.2.2.2.1
            refine ⟨⟨by omega, by omega⟩, ?_⟩
            rw [gA_nat, hsz]
            refine fin _ ?_
            unfold abV mn9
            rw [if_neg q0, if_pos q1, if_neg (by omega)]
          · rw [if_neg q1]
            by_cases q2 : k = 2
            · rw [if_pos q2]
              by_cases qs : soN (frm Fo a) < 2
              · rw [if_pos (by omega)]
                refine fin _ ?_
                unfold abV
                rw [if_neg q0, if_neg q1, if_pos q2, if_pos qs]; rfl
              · rw [if_neg (by omega)]
                have e114 : runC d 114 [(x : Int)] u = some ((prN (frm Fo a) : Int), u) := by
                  obtain ⟨d, rfl⟩ : ∃ e, d = e + 1 := ⟨d - 1, by omega⟩
                  rw [runC_eq (by omega)]
                  show bX2_partsOf (runC d) (x : Int) u = _
                  unfold bX2_partsOf
                  obtain ⟨yy, nn, g13, g14, ⟨y0, yh, ye⟩, -⟩ := h.1.2.1
                  rw [un_eq, g13]
                  by_cases qy : x = yy
                  · rw [if_pos (by omega)]
                    unfold prN
                    rw [if_pos (by rw [← ex, qy]; exact ye)]; rfl
                  · have qf : ¬ frm Fo a = yesT := fun z => qy (trC_inj hs hx yh (by rw [ex, ye]; exact z))
                    rw [if_neg (by omega), ld_nat hl0, hn.1]
                    unfold prN
                    rw [if_neg qf]
                    by_cases q17 : kd (frm Fo a) = 17
                    · have h3' : x < gL u 3 := by have h4 := hs.1.1.2.2.2.1; omega
                      rw [if_pos (by omega), ld_nat h3', hn.2.2.1, if_pos q17]
                    · rw [if_neg (by omega), if_neg q17]; rfl
                rw [cl_eq e114]
                refine fin _ ?_
                unfold abV
                rw [if_neg q0, if_neg q1, if_pos q2, if_neg qs]
            · rw [if_neg q2]
              by_cases qs : soN (frm Fo a) < 2
              · rw [if_pos (by omega)]
                refine fin _ ?_
                unfold abV
                rw [if_neg q0, if_neg q1, if_neg q2, if_pos qs]; rfl
              · rw [if_neg (by omega)]
                have ec : runC d 37 [(x : Int), 0] u = _ := rX1_casesOf hs hn9 (htT (frm Fo a) + 1) (frm Fo a) 0 d x (by omega) fo (soN_fo fo qs) (by omega) (by omega) x0 hx ex
                rw [cl_eq ec]
                refine fin _ ?_
                unfold abV
                rw [if_neg q0, if_neg q1, if_neg q2, if_neg qs]
      by_cases q5 : kd (frm Fo a) ≤ 5
      · rw [if_pos q5, if_neg (by decide)]
        have es : (0 : Int) = (soN (frm Fo a) : Int) := by unfold soN; rw [if_pos q5]; rfl
        have := tail
        rw [← es] at this
        exact this
      · rw [if_neg q5, if_pos rfl, wp_ld]
        refine ⟨⟨by omega, by omega⟩, ?_⟩
        rw [gA_nat, hn.1]
        by_cases q8 : kd (frm Fo a) = 8
        · rw [if_pos (by omega)]
          have es : (1 : Int) = (soN (frm Fo a) : Int) := by unfold soN; rw [if_neg q5, if_pos q8]; rfl
          have := tail
          rw [← es] at this
          exact this
        · rw [if_neg (by omega)]
          have es : (2 : Int) = (soN (frm Fo a) : Int) := by unfold soN; rw [if_neg q5, if_neg q8]; rfl
          have := tail
          rw [← es] at this
          exact this
    · rw [if_neg k3, wp_jn]; dsimp only
      exact bad (fun q => k3 q.2.2) _
  · rw [cl_eq e, pr_x (by decide), wp_some]
    exact Or.inr (Or.inr ⟨fun q => hA q.1, rfl, h.tS h9, nd⟩)
