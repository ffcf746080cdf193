/-! parts: empty places are at most two thirds of the size -/
theorem zc_sz : ∀ (t : Nat), okT t → 3 * zcT t + (if kd t ≤ 5 then 1 else 0) ≤ 2 * szT t + (if kd t = 8 then 1 else 0) := by
  intro t
  induction t using Nat.strongRecOn with
  | ind t ih =>
    intro ho
    have h0 := okT_0 ho
    have hs := sz_fms h0
    have key : ∀ (l : List Nat), (∀ c ∈ l, c ∈ fms t) → 3 * (l.map zcT).sum + (l.map (fun c => if kd c ≤ 5 then 1 else 0)).sum ≤ 2 * (l.map szT).sum + (l.map (fun c => if kd c = 8 then 1 else 0)).sum := by
      intro l
      induction l with
      | nil => intro _; simp
      | cons a l ihl =>
        intro h
        have h1 := ihl (fun c hc => h c (List.mem_cons_of_mem _ hc))
        have ha := h a List.mem_cons_self
        have h2 := ih a (fms_lt ha) (ho.c ha)
        simp only [List.map_cons, List.sum_cons]
        omega
    have k1 := key (fms t) (fun c hc => hc)
    have z8 : (∀ c ∈ fms t, kd c ≠ 8) → ((fms t).map (fun c => if kd c = 8 then 1 else 0)).sum = 0 := fun h => by
      rw [List.map_congr_left (g := fun _ => 0) (fun c hc => if_neg (h c hc))]
      have zz : ∀ l : List Nat, (l.map (fun _ => 0)).sum = 0 := fun l => by induction l with
        | nil => rfl
        | cons a l q => rw [List.map_cons, List.sum_cons, q]
      exact zz _
    rw [zc_eq]
    unfold zcS
    have tm8 : ∀ {c}, isTm c → kd c ≠ 8 := fun h => by unfold isTm at h; omega
    have fo8 : ∀ {c}, isFo c → kd c ≠ 8 := fun h => by unfold isFo at h; omega
    by_cases k18 : kd t = 18
    · obtain ⟨y, f, hp, y8, ff, my, mf⟩ := ps_all1 ho k18
      have hfm : fms t = [y, f] := by
        unfold fms
        rw [if_neg (by omega), hp]
        simp [okT_0 (ho.c my), okT_0 (ho.c mf)]
      rw [hfm] at k1 hs ⊢
      have f8 := fo8 ff
      simp only [List.map_cons, List.map_nil, List.sum_cons, List.sum_nil, if_pos y8, if_neg f8] at k1 hs ⊢
      rw [if_neg (by omega), if_neg (by omega), if_neg (by omega)]
      omega
    by_cases k5 : kd t = 5
    · have hy : ∃ y, ps t = [y] ∧ kd y = 8 := by
        rcases ho.n.2 with q | q | q | q | q | q | q | q | q | q | q | q | q | q <;> first | omega | skip
        exact q.2.2
      obtain ⟨y, e, y8⟩ := hy
      have hfm : fms t = [y] := by
        unfold fms
        rw [if_neg (by omega), e]
        have : y ≠ 0 := fun z => by rw [z, kd0] at y8; omega
        simp [this]
      rw [hfm] at k1 hs ⊢
      simp only [List.map_cons, List.map_nil, List.sum_cons, List.sum_nil, if_pos y8] at k1 hs ⊢
      rw [if_neg (by omega), if_pos (by omega), if_neg (by omega)]
      omega
    by_cases k14 : kd t = 14
    · have hy : ∃ a b, ps t = [a, b] ∧ (a = 0 ∨ isTm a) ∧ isTm b := by
        rcases ho.n.2 with q | q | q | q | q | q | q | q | q | q | q | q | q | q <;> first | omega | skip
        exact q.2
      obtain ⟨a, b, e, ha, hb⟩ := hy
      have ea : pa t 0 = a := by unfold pa; rw [e]; rfl
      have hb0 := isTm_pos hb
      have b5 : kd b ≤ 5 := by unfold isTm at hb; omega
      have b8 := tm8 hb
      rcases ha with w | w
      · have hfm : fms t = [b] := by
          unfold fms
          rw [if_neg (by omega), e, w]
          simp [hb0]
        rw [hfm] at k1 hs ⊢
        simp only [List.map_cons, List.map_nil, List.sum_cons, List.sum_nil, if_pos b5, if_neg b8] at k1 hs ⊢
        rw [if_pos ⟨Or.inr k14, by rw [ea, w]⟩, if_neg (by omega), if_neg (by omega)]
        omega
      · have hfm : fms t = [a, b] := by
          unfold fms
          rw [if_neg (by omega), e]
          simp [hb0, isTm_pos w]
        rw [hfm] at k1 hs ⊢
        have a8 := tm8 w
        simp only [List.map_cons, List.map_nil, List.sum_cons, List.sum_nil, if_neg a8, if_neg b8] at k1 hs ⊢
        rw [if_neg (fun h => isTm_pos w (by rw [← ea]; exact h.2)), if_neg (by omega), if_neg (by omega)]
        omega
    · have h8 : ∀ c ∈ fms t, kd c ≠ 8 := fun c hc => by
        have hc' := fms_ps hc
        rcases ho.n.2 with q | q | q | q | q | q | q | q | q | q | q | q | q | q <;> first | omega | skip
        · rw [q.2] at hc'; cases hc'.1
        · rw [q.2] at hc'; cases hc'.1
        · rw [q.2.1] at hc'; cases hc'.1
        · exact tm8 (q.2.2 c hc'.1)
        · obtain ⟨k8, a, js, e, ha, _⟩ := q
          unfold fms at hc
          rw [if_pos k8, e] at hc
          have hm := (List.mem_filter.mp hc).1
          rw [List.take_succ_cons, List.take_zero, List.mem_singleton] at hm
          rw [hm]
          rcases ha with w | w
          · exact absurd (hm.trans w) hc'.2
          · exact tm8 w
        · rw [q.2.2] at hc'; cases hc'.1
        · obtain ⟨_, _, a, b, e, ha, hb⟩ := q
          rw [e] at hc'
          rcases List.mem_cons.mp hc'.1 with w | w
          · rw [w]; exact tm8 ha
          · rw [List.mem_singleton.mp w]; exact tm8 hb
        · exact tm8 (q.2.2 c hc'.1)
        · obtain ⟨_, a, e, ha⟩ := q
          rw [e, List.mem_singleton] at hc'
          rw [hc'.1]; exact tm8 ha
        · obtain ⟨_, _, f, e, hf, _⟩ := q
          rw [e, List.mem_singleton] at hc'
          rw [hc'.1]; exact fo8 hf
        · exact fo8 (q.2.2.2 c hc'.1).1
      rw [z8 h8] at k1
      by_cases k8 : kd t = 8
      · rw [if_neg (show ¬ kd t ≤ 5 by omega), if_pos k8]
        split <;> omega
      · rw [if_neg (fun h => by omega), if_neg k8]
        split <;> omega
/-- the parts of the images of a kept form: half as many again as its size -/
theorem img_ps2 {g : Nat → Nat → Nat} {t d : Nat} (ho : okT t) : 3 * ((imgL g t d).map (fun s => (ps s).length)).sum + 2 ≤ 5 * szT t := by
  have h1 := img_ps (g := g) t ho d
  have h2 := zc_sz t ho
  split at h2 <;> split at h2 <;> omega
