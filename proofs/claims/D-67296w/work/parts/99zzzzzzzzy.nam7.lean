/-! names: the constants of kept atoms and types, told by few of their leaves -/
/-- the first constant of a form -/
def hdL (t : Nat) : List Nat := ((lvT t).filter (fun l => decide (kd l = 1))).take 1
theorem hdL_le (t : Nat) : (hdL t).length ≤ 1 := by unfold hdL; rw [List.length_take]; omega
/-- what a kept form brings: of an atom the first constants of its parts, of a type that of its term, of what puts together those behind the first -/
def lmF (f : Nat) : List Nat := if 9 ≤ kd f ∧ kd f ≤ 14 then (fms f).flatMap hdL else if kd f = 8 then (fms f).flatMap hdL else if kd f = 4 ∧ isM f = true then ((fms f).drop 1).flatMap hdL else []
def LmF (Fo : List Nat) : List Nat := Fo.flatMap lmF
theorem LmF_ap {Fo : List Nat} {t l : Nat} (h : l ∈ LmF Fo) : l ∈ LmF (Fo ++ [t]) := by
  unfold LmF at *
  rw [List.flatMap_append]
  exact List.mem_append_left _ h
theorem LmF_in {Fo : List Nat} {f l : Nat} (hf : f ∈ Fo) (h : l ∈ lmF f) : l ∈ LmF Fo := List.mem_flatMap.mpr ⟨f, hf, h⟩
/-- of what puts together alone -/
def mgF (f : Nat) : List Nat := if kd f = 4 ∧ isM f = true then ((fms f).drop 1).flatMap hdL else []
def MgF (Fo : List Nat) : List Nat := Fo.flatMap mgF
theorem MgF_in {Fo : List Nat} {f l : Nat} (hf : f ∈ Fo) (h : l ∈ mgF f) : l ∈ MgF Fo := List.mem_flatMap.mpr ⟨f, hf, h⟩
theorem MgF_lm {Fo : List Nat} {l : Nat} (h : l ∈ MgF Fo) : l ∈ LmF Fo := by
  obtain ⟨f, hf, q⟩ := List.mem_flatMap.mp h
  refine LmF_in hf ?_
  unfold mgF at q
  split at q
  · rename_i w
    unfold lmF
    rw [if_neg (by have := w.1; omega), if_neg (by have := w.1; omega), if_pos w]
    exact q
  · cases q
theorem hd_one {t a : Nat} (hk : ¬ kd t ≤ 3) (h : fms t = [a]) : hdL t = hdL a := by
  unfold hdL
  rw [lvT_eq, if_neg hk, h]
  simp
theorem hd_two {t a b : Nat} (hk : ¬ kd t ≤ 3) (h : fms t = [a, b]) : hdL t = hdL a ∧ (hdL a ≠ [] ∨ hdL b = []) ∨ hdL a = [] ∧ hdL t = hdL b := by
  unfold hdL
  rw [lvT_eq t, if_neg hk, h]
  have e : [a, b].flatMap lvT = lvT a ++ lvT b := by simp
  rw [e, List.filter_append]
  cases hA : (lvT a).filter (fun l => decide (kd l = 1)) with
  | nil => exact Or.inr ⟨rfl, by simp⟩
  | cons x l => exact Or.inl ⟨by simp, Or.inl (by simp)⟩
theorem hd_lf {t : Nat} (h : hdL t ≠ []) : 1 ≤ lf t := by
  unfold hdL at h
  unfold lf
  cases hl : lvT t with
  | nil => rw [hl] at h; exact absurd rfl h
  | cons a l => rw [List.length_cons]; omega
/-- the constants of a kept term -/
theorem lm_tm {Fo : List Nat} : ∀ (t : Nat), okT t → kd t ≤ 8 → KpT Fo t → ∀ l ∈ lvT t, kd l = 1 → l ∈ hdL t ∨ l ∈ MgF Fo := by
  intro t
  induction t using Nat.strongRecOn with
  | ind t ih =>
    intro ho h8 hK l hl k1
    by_cases hk : kd t ≤ 3
    · rw [lvT_eq, if_pos hk, List.mem_singleton] at hl
      left
      unfold hdL
      rw [lvT_eq, if_pos hk, ← hl]
      simp [k1]
    · have hl0 := hl
      rw [lvT_eq, if_neg hk] at hl
      obtain ⟨c, hc, hlc⟩ := List.mem_flatMap.mp hl
      have hIH : ∀ c ∈ fms t, l ∈ lvT c → l ∈ hdL c ∨ l ∈ MgF Fo := fun c hc hlc => ih c (fms_lt hc) (ho.c hc) (by have := kd_14 ho.n (by omega) hc; omega) (fun s hs p q => hK s (sub_c hc hs) p q) l hlc k1
      rcases hIH c hc hlc with q | q
      · have tF : t ∈ Fo := hK t (sub_rf t) (by omega) h8
        have len2 : (fms t).length ≤ 2 := by
          have h1 : (fms t).length ≤ (if kd t = 8 then (ps t).take 1 else ps t).length := List.length_filter_le _ _
          rcases ho.n.2 with w | w | w | w | w | w | w | w | w | w | w | w | w | w <;> first | omega | skip
          · rw [if_neg (by omega)] at h1; have := w.2.1; omega
          · obtain ⟨_, _, y, hy, _⟩ := w
            rw [if_neg (by omega), hy] at h1; simp at h1; omega
          · rw [if_pos w.1, List.length_take] at h1; omega
        match hf : fms t, len2 with
        | [], _ => rw [hf] at hc; cases hc
        | [a], _ =>
          rw [hf, List.mem_singleton] at hc
          left
          rw [hd_one hk hf, ← hc]; exact q
        | [a, b], _ =>
          rcases hd_two hk hf with ⟨e1, e2⟩ | ⟨e1, e2⟩
          · rw [hf] at hc
            rcases List.mem_cons.mp hc with w | w
            · left; rw [e1, ← w]; exact q
            · rw [List.mem_singleton.mp w] at q
              rcases e2 with z | z
              · right
                have hm : isM t = true := by
                  unfold isM
                  rw [hf]
                  have l1 := hd_lf z
                  have l2 := hd_lf (t := b) (fun e => by rw [e] at q; cases q)
                  simp [List.filter_cons, l1, l2]
                have k4 : kd t = 4 := by
                  rcases ho.n.2 with w | w | w | w | w | w | w | w | w | w | w | w | w | w <;> first | omega | exact w.1 | skip
                  · obtain ⟨k5, _, y, hy, _⟩ := w
                    have h1 : (fms t).length ≤ (if kd t = 8 then (ps t).take 1 else ps t).length := List.length_filter_le _ _
                    rw [if_neg (by omega), hy, hf] at h1; simp at h1
                  · have h1 : (fms t).length ≤ (if kd t = 8 then (ps t).take 1 else ps t).length := List.length_filter_le _ _
                    rw [if_pos w.1, List.length_take, hf] at h1; simp at h1; omega
                refine MgF_in tF ?_
                unfold mgF
                rw [if_pos ⟨k4, hm⟩, hf]
                simpa using q
              · rw [z] at q; cases q
          · rw [hf] at hc
            rcases List.mem_cons.mp hc with w | w
            · rw [w, e1] at q; cases q
            · left; rw [e2]; rw [List.mem_singleton.mp w] at q; exact q
        | _ :: _ :: _ :: _, h => simp at h
      · exact Or.inr q
/-- of a kept atom or type -/
theorem lm_at {Fo : List Nat} {A : Nat} (ho : okT A) (h8 : 8 ≤ kd A) (h14 : kd A ≤ 14) (hA : A ∈ Fo) (hK : ∀ z ∈ fms A, KpT Fo z) {l : Nat} (hl : l ∈ lvT A) (k1 : kd l = 1) : l ∈ LmF Fo := by
  rw [lvT_eq, if_neg (by omega)] at hl
  obtain ⟨c, hc, hlc⟩ := List.mem_flatMap.mp hl
  rcases lm_tm c (ho.c hc) (kd_14 ho.n h14 hc) (hK c hc) l hlc k1 with q | q
  · refine LmF_in hA ?_
    unfold lmF
    by_cases h9 : 9 ≤ kd A
    · rw [if_pos ⟨h9, h14⟩]; exact List.mem_flatMap.mpr ⟨c, hc, q⟩
    · rw [if_neg (by omega), if_pos (by omega)]; exact List.mem_flatMap.mpr ⟨c, hc, q⟩
  · exact MgF_lm q
