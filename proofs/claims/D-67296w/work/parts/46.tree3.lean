theorem zf_pos {h : Nat → Nat} {c : Nat} (hc : c ≠ 0) : zf h c = h c := if_neg hc
theorem chm_mem {f : Nat → Nat → Nat} {k d : Nat} {l : List Nat} (h8 : k ≠ 8) {x : Nat} (h : x ∈ chm f k d l) : ∃ c ∈ l, ∃ d', (d' = d ∨ d' = d + 1) ∧ x = zf (f d') c := by
  unfold chm at h
  rw [if_neg h8] at h
  split at h
  · rcases List.mem_append.mp h with q | q
    · obtain ⟨c, hc, e⟩ := List.mem_map.mp q
      exact ⟨c, List.mem_of_mem_take hc, d, Or.inl rfl, e.symm⟩
    · obtain ⟨c, hc, e⟩ := List.mem_map.mp q
      exact ⟨c, List.mem_of_mem_drop hc, d + 1, Or.inr rfl, e.symm⟩
  · obtain ⟨c, hc, e⟩ := List.mem_map.mp h
    exact ⟨c, hc, d, Or.inl rfl, e.symm⟩
theorem okT_sb {g : Nat → Nat → Nat} : ∀ (t : Nat), okT t → gOn g t → ∀ d, okT (sbT g d t) := by
  intro t
  induction t using Nat.strongRecOn with
  | ind t ih =>
    intro ho hg d
    by_cases hk : kd t ≤ 3
    · rw [sbT_eq, if_pos hk]; exact (hg.l hk d).2
    · obtain ⟨e1, e2, e3⟩ := sb_kd (g := g) (d := d) hk
      have hn := ho.n
      have hch : ∀ c ∈ fms t, ∀ d', okT (sbT g d' c) := fun c hc d' => ih c (fms_lt hc) (ho.c hc) (hg.c hk hc) d'
      have self : sbT g d t = mk (kd (sbT g d t)) (wh (sbT g d t)) (ps (sbT g d t)) := by
        rw [e1, e2, e3, sbT_eq, if_neg hk]
      rw [okT_eq]
      have hfm : ∀ c' ∈ fms (sbT g d t), okT c' := by
        intro c' hc'
        unfold fms at hc'
        rw [e1, e3] at hc'
        obtain ⟨h1, h2⟩ := List.mem_filter.mp hc'
        have h2 : c' ≠ 0 := by simpa using h2
        by_cases h8 : kd t = 8
        · rw [if_pos h8] at h1
          unfold chm at h1
          rw [if_pos h8] at h1
          cases hps : ps t with
          | nil => rw [hps] at h1; simp at h1
          | cons a js =>
            rw [hps] at h1
            simp at h1
            have ha : a ≠ 0 := fun q => h2 (by rw [h1]; unfold zf; rw [if_pos q])
            rw [h1, zf_pos ha]
            exact hch a (by unfold fms; rw [if_pos h8, hps]; exact List.mem_filter.mpr ⟨by simp, by simpa using ha⟩) d
        · rw [if_neg h8] at h1
          obtain ⟨c, hc, d', hd', e⟩ := chm_mem h8 h1
          have hc0 : c ≠ 0 := fun q => h2 (by rw [e]; unfold zf; rw [if_pos q])
          rw [e, zf_pos hc0]
          exact hch c (fms_mem hc h8 hc0) d'
      refine ⟨⟨self, ?_⟩, hfm⟩
      rw [e1, e2, e3]
      have tm : ∀ c ∈ ps t, kd t ≠ 8 → isTm c → ∀ d', isTm (zf (sbT g d') c) := fun c hc h8 h d' => by
        rw [zf_pos (isTm_pos h)]; exact sb_tm (hg.c hk (fms_mem hc h8 (isTm_pos h))) h
      have map4 : kd t ≠ 8 → kd t ≠ 18 → chm (sbT g) (kd t) d (ps t) = (ps t).map (zf (sbT g d)) := fun h8 h18 => by unfold chm; rw [if_neg h8, if_neg h18]
      rcases hn.2 with q | q | q | q | q | q | q | q | q | q | q | q | q | q
      · omega
      · omega
      · omega
      · refine Or.inr (Or.inr (Or.inr (Or.inl ⟨q.1, by rw [chm_len]; exact q.2.1, fun c hc => ?_⟩)))
        obtain ⟨c1, hc1, d', hd', e⟩ := chm_mem (by omega) hc
        rw [e]; exact tm c1 hc1 (by omega) (q.2.2 c1 hc1) d'
      · obtain ⟨q1, q2, y, q3, q4⟩ := q
        have hy0 : y ≠ 0 := fun e => by rw [e, kd0] at q4; omega
        refine Or.inr (Or.inr (Or.inr (Or.inr (Or.inl ⟨q1, q2, sbT g d y, ?_, ?_⟩))))
        · rw [map4 (by omega) (by omega), q3]; simp [zf, hy0]
        · rw [(sb_kd (g := g) (d := d) (t := y) (by omega)).1]; exact q4
      · obtain ⟨q1, a, js, q2, q3, q4, q5⟩ := q
        refine Or.inr (Or.inr (Or.inr (Or.inr (Or.inr (Or.inl ⟨q1, zf (sbT g d) a, js, ?_, ?_, q4, q5⟩)))))
        · unfold chm; rw [if_pos q1, q2]; rfl
        · rcases q3 with q3 | q3
          · exact Or.inl (by unfold zf; rw [if_pos q3])
          · refine Or.inr ?_
            rw [zf_pos (isTm_pos q3)]
            exact sb_tm (hg.c hk (by unfold fms; rw [if_pos q1, q2]; exact List.mem_filter.mpr ⟨by simp, by simpa using isTm_pos q3⟩)) q3
      · refine Or.inr (Or.inr (Or.inr (Or.inr (Or.inr (Or.inr (Or.inl ⟨q.1, q.2.1, ?_⟩))))))
        rw [map4 (by omega) (by omega), q.2.2]; rfl
      · obtain ⟨q1, q2, a, b, q3, q4, q5⟩ := q
        refine Or.inr (Or.inr (Or.inr (Or.inr (Or.inr (Or.inr (Or.inr (Or.inl ⟨q1, q2, zf (sbT g d) a, zf (sbT g d) b, ?_, tm a (by rw [q3]; simp) (by omega) q4 d, tm b (by rw [q3]; simp) (by omega) q5 d⟩)))))))
        rw [map4 (by omega) (by omega), q3]; rfl
      · refine Or.inr (Or.inr (Or.inr (Or.inr (Or.inr (Or.inr (Or.inr (Or.inr (Or.inl ⟨q.1, by rw [chm_len]; exact q.2.1, fun c hc => ?_⟩))))))))
        obtain ⟨c1, hc1, d', hd', e⟩ := chm_mem (by omega) hc
        rw [e]; exact tm c1 hc1 (by omega) (q.2.2 c1 hc1) d'
      · obtain ⟨q1, a, q3, q4⟩ := q
        refine Or.inr (Or.inr (Or.inr (Or.inr (Or.inr (Or.inr (Or.inr (Or.inr (Or.inr (Or.inl ⟨q1, zf (sbT g d) a, ?_, tm a (by rw [q3]; simp) (by omega) q4 d⟩)))))))))
        rw [map4 (by omega) (by omega), q3]; rfl
      · obtain ⟨q1, a, b, q3, q4, q5⟩ := q
        refine Or.inr (Or.inr (Or.inr (Or.inr (Or.inr (Or.inr (Or.inr (Or.inr (Or.inr (Or.inr (Or.inl ⟨q1, zf (sbT g d) a, zf (sbT g d) b, ?_, ?_, tm b (by rw [q3]; simp) (by omega) q5 d⟩))))))))))
        · rw [map4 (by omega) (by omega), q3]; rfl
        · rcases q4 with q4 | q4
          · exact Or.inl (by unfold zf; rw [if_pos q4])
          · exact Or.inr (tm a (by rw [q3]; simp) (by omega) q4 d)
      · obtain ⟨q1, q2, f, q3, q4, q5⟩ := q
        refine Or.inr (Or.inr (Or.inr (Or.inr (Or.inr (Or.inr (Or.inr (Or.inr (Or.inr (Or.inr (Or.inr (Or.inl ⟨q1, q2, sbT g d f, ?_, (sb_fo q4).1, by rw [(sb_fo q4).2]; exact q5⟩)))))))))))
        rw [map4 (by omega) (by omega), q3]; simp [zf, isFo_pos q4]
      · obtain ⟨q1, q2, q3, q4⟩ := q
        refine Or.inr (Or.inr (Or.inr (Or.inr (Or.inr (Or.inr (Or.inr (Or.inr (Or.inr (Or.inr (Or.inr (Or.inr (Or.inl ⟨q1, q2, by rw [chm_len]; exact q3, fun f hf => ?_⟩))))))))))))
        obtain ⟨c, hc, d', hd', e⟩ := chm_mem (by omega) hf
        obtain ⟨r1, r2, r3, r4⟩ := q4 c hc
        have oc := ho.c (fms_mem hc (by omega) (isFo_pos r1))
        rw [e, zf_pos (isFo_pos r1)]
        exact ⟨(sb_fo r1).1, by rw [(sb_fo r1).2]; exact r2, sb_yes oc r1 r3, sb_no oc r1 r4⟩
      · obtain ⟨q1, q2, y, f, q3, q4, q5, q6⟩ := q
        have hy0 : y ≠ 0 := fun e => by rw [e, kd0] at q4; omega
        refine Or.inr (Or.inr (Or.inr (Or.inr (Or.inr (Or.inr (Or.inr (Or.inr (Or.inr (Or.inr (Or.inr (Or.inr (Or.inr ⟨q1, q2, sbT g d y, sbT g (d + 1) f, ?_, ?_, (sb_fo q5).1, sb_yes (ho.c (fms_mem (by rw [q3]; simp) (by omega) (isFo_pos q5))) q5 q6⟩))))))))))))
        · unfold chm; rw [if_neg (by omega), if_pos q1, q3]; simp [zf, hy0, isFo_pos q5]
        · rw [(sb_kd (g := g) (d := d) (t := y) (by omega)).1]; exact q4
/-- a form that does not speak of the binder stays as it is -/
def putg (s : Nat) : Nat → Nat → Nat := fun d t => if kd t = 2 ∧ wh t = d then s else t
theorem foldl_max {l : List Nat} : ∀ (a : Nat), (∀ x ∈ l, x ≤ l.foldl max a) ∧ a ≤ l.foldl max a := by
  induction l with
  | nil => exact fun a => ⟨(fun x h => by cases h), Nat.le_refl _⟩
  | cons b l ih =>
    intro a
    rw [List.foldl_cons]
    obtain ⟨h1, h2⟩ := ih (max a b)
    refine ⟨fun x hx => ?_, by omega⟩
    rcases List.mem_cons.mp hx with q | q
    · rw [q]; omega
    · exact h1 x q
theorem map_id' {f : Nat → Nat} {l : List Nat} (h : ∀ c ∈ l, f c = c) : l.map f = l := by
  rw [List.map_congr_left h]; simp
theorem sb_id {s : Nat} : ∀ (t : Nat), okT t → ∀ d, loT t ≤ d → sbT (putg s) d t = t := by
  intro t
  induction t using Nat.strongRecOn with
  | ind t ih =>
    intro ho d hd
    have hn := ho.n
    rw [loT_eq] at hd
    unfold loS at hd
    by_cases hk : kd t ≤ 3
    · rw [sbT_eq, if_pos hk]
      unfold putg
      by_cases h2 : kd t = 2
      · rw [if_pos h2] at hd
        rw [if_neg (by omega)]
      · rw [if_neg (fun q => h2 q.1)]
    · rw [if_neg (by omega)] at hd
      rw [sbT_eq, if_neg hk]
      have hz : ∀ c, (c ≠ 0 → c ∈ fms t) → ∀ d', loT c ≤ d' → zf (sbT (putg s) d') c = c := fun c hc d' hl => by
        unfold zf
        split
        · rename_i q; exact q.symm
        · rename_i q; exact ih c (fms_lt (hc q)) (ho.c (hc q)) d' hl
      have e : chm (sbT (putg s)) (kd t) d (ps t) = ps t := by
        unfold chm
        unfold loX at hd
        by_cases h8 : kd t = 8
        · rw [if_pos h8] at hd ⊢
          rw [map_id' (fun c hc => hz c (fun q => by unfold fms; rw [if_pos h8]; exact List.mem_filter.mpr ⟨hc, by simpa using q⟩) d (Nat.le_trans ((foldl_max 0).1 _ (List.mem_map.mpr ⟨c, hc, rfl⟩)) hd)), List.take_append_drop]
        · rw [if_neg h8] at hd ⊢
          by_cases h18 : kd t = 18
          · rw [if_pos h18] at hd ⊢
            rw [map_id' (fun c hc => hz c (fun q => fms_mem (List.mem_of_mem_take hc) h8 q) d (by have := (foldl_max (l := ((ps t).take 1).map loT) 0).1 _ (List.mem_map.mpr ⟨c, hc, rfl⟩); omega)), map_id' (fun c hc => hz c (fun q => fms_mem (List.mem_of_mem_drop hc) h8 q) (d + 1) (by have := (foldl_max (l := ((ps t).drop 1).map loT) 0).1 _ (List.mem_map.mpr ⟨c, hc, rfl⟩); omega)), List.take_append_drop]
          · rw [if_neg h18] at hd ⊢
            exact map_id' (fun c hc => hz c (fun q => fms_mem hc h8 q) d (Nat.le_trans ((foldl_max 0).1 _ (List.mem_map.mpr ⟨c, hc, rfl⟩)) hd))
      rw [e]
      exact hn.1.symm
theorem ht_c {t c : Nat} (h : c ∈ fms t) : htT c + 1 ≤ htT t := by
  rw [htT_eq t]
  have := (foldl_max (l := (fms t).map htT) 0).1 _ (List.mem_map.mpr ⟨c, h, rfl⟩)
  omega
theorem sum_mem {f : Nat → Nat} : ∀ {l : List Nat} {c : Nat}, c ∈ l → f c ≤ (l.map f).sum
  | a :: l, c, h => by
    rw [List.map_cons, List.sum_cons]
    rcases List.mem_cons.mp h with q | q
    · rw [q]; omega
    · have := sum_mem (f := f) q
      omega
theorem sz_c {t c : Nat} (h : c ∈ fms t) : szT c + 1 ≤ szT t := by
  have h0 : t ≠ 0 := fun e => by have := fms_lt h; omega
  rw [szT_eq t]
  unfold szS
  rw [if_neg h0]
  unfold fms at h
  have h1 := (List.mem_filter.mp h).1
  split
  · rename_i h8
    rw [if_pos h8] at h1
    have := sum_mem (f := szT) h1
    omega
  · rename_i h8
    rw [if_neg h8] at h1
    have := sum_mem (f := szT) h1
    omega
theorem sz_pos {t : Nat} (h : t ≠ 0) : 1 ≤ szT t := by
  rw [szT_eq]; unfold szS; rw [if_neg h]; split <;> omega
theorem len_sum {f : Nat → Nat} : ∀ {l : List Nat}, (∀ c ∈ l, 1 ≤ f c) → l.length ≤ (l.map f).sum
  | [], _ => Nat.le_refl _
  | a :: l, h => by
    rw [List.map_cons, List.sum_cons, List.length_cons]
    have := h a List.mem_cons_self
    have := len_sum (f := f) (l := l) (fun c hc => h c (List.mem_cons_of_mem _ hc))
    omega
theorem ht_sz : ∀ (t : Nat), t ≠ 0 → htT t ≤ szT t := by
  intro t
  induction t using Nat.strongRecOn with
  | ind t ih =>
    intro h0
    rw [htT_eq]
    have key : ∀ (l : List Nat), (∀ c ∈ l, htT c + 1 ≤ szT t) → ∀ a, a + 1 ≤ szT t → (l.map htT).foldl max a + 1 ≤ szT t := by
      intro l
      induction l with
      | nil => exact fun _ a ha => ha
      | cons b l ihl =>
        intro h a ha
        rw [List.map_cons, List.foldl_cons]
        refine ihl (fun c hc => h c (List.mem_cons_of_mem _ hc)) _ ?_
        have := h b List.mem_cons_self
        omega
    have := key (fms t) (fun c hc => by
      have a := ih c (fms_lt hc) (fms_ps hc).2
      have b := sz_c hc
      omega) 0 (by have := sz_pos h0; omega)
    omega
