/-! counting openings: what all the puts of an opening make -/
theorem vn_s {s d i : Nat} : vnT s d (i + 1) = vnT s d 1 + vnT s (d + 1) i := by
  have e1 : ∀ (l : List Nat) (p q : Nat → Prop), (∀ r ∈ l, p r ↔ q r) → (l.filter (fun r => @decide (p r) (Classical.propDecidable _))).length = (l.filter (fun r => @decide (q r) (Classical.propDecidable _))).length := fun l p q h => by
    congr 1
    refine List.filter_congr (fun r hr => ?_)
    simp [h r hr]
  have e2 : (((List.range i).map Nat.succ).filter (fun r => @decide (hvT s (d + r)) (Classical.propDecidable _))).length = ((List.range i).filter (fun r => @decide (hvT s (d + 1 + r)) (Classical.propDecidable _))).length := by
    rw [List.filter_map, List.length_map]
    exact e1 _ _ _ (fun r _ => by rw [show d + 1 + r = d + Nat.succ r by omega])
  unfold vnT
  rw [List.range_succ_eq_map, List.filter_cons]
  rw [show List.range 1 = [0] from rfl, List.filter_cons, List.filter_nil]
  by_cases h : hvT s d
  · have hd : @decide (hvT s (d + 0)) (Classical.propDecidable _) = true := by simpa using h
    rw [if_pos hd, if_pos hd, List.length_cons, e2, List.length_cons, List.length_nil]
    omega
  · have hd : ¬ @decide (hvT s (d + 0)) (Classical.propDecidable _) = true := by simpa using h
    rw [if_neg hd, if_neg hd, e2, List.length_nil]
    omega
theorem mv_add {k s d i : Nat} (h : i + 1 ≤ k) : mvT k s (d + 1) i + mvT 1 s d 1 ≤ mvT k s d (i + 1) := by
  have h1 := vn_s (s := s) (d := d) (i := i)
  have h2 := vn_i (s := s) (d := d) (i := i + 1)
  unfold mvT
  omega
theorem sum_add3 {f g h : Nat → Nat} : ∀ {l : List Nat}, (∀ c ∈ l, f c + g c ≤ h c) → (l.map f).sum + (l.map g).sum ≤ (l.map h).sum
  | [], _ => Nat.le_refl _
  | a :: l, q => by
    have h1 := q a List.mem_cons_self
    have h2 := sum_add3 (l := l) (fun c hc => q c (List.mem_cons_of_mem _ hc))
    simp only [List.map_cons, List.sum_cons]
    omega
theorem wk_add {k i : Nat} (h : i + 1 ≤ k) : ∀ (b d : Nat), wkT k i b (d + 1) + wkT 1 1 b d ≤ wkT k (i + 1) b d := by
  intro b
  induction b using Nat.strongRecOn with
  | ind b ih =>
    intro d
    rw [wk_eq k i, wk_eq 1 1, wk_eq k (i + 1)]
    unfold wkS
    have hm := mv_add (s := b) (d := d) h
    by_cases k14 : kd b ≤ 14
    · rw [if_pos k14, if_pos k14, if_pos k14]
      have := sum_add3 (l := dP b) (f := fun s => mvT k s (d + 1) i) (g := fun s => mvT 1 s d 1) (h := fun s => mvT k s d (i + 1)) (fun c _ => mv_add h)
      omega
    · rw [if_neg k14, if_neg k14, if_neg k14]
      by_cases k18 : kd b = 18
      · rw [if_pos k18, if_pos k18, if_pos k18]
        have h1 := sum_add3 (l := (ps b).take 1) (f := fun c => wkT k i c (d + 1)) (g := fun c => wkT 1 1 c d) (h := fun c => wkT k (i + 1) c d) (fun c hc => ih c (ps_lt (List.mem_of_mem_take hc)) d)
        have h2 := sum_add3 (l := (ps b).drop 1) (f := fun c => wkT k i c (d + 1 + 1)) (g := fun c => wkT 1 1 c (d + 1)) (h := fun c => wkT k (i + 1) c (d + 1)) (fun c hc => ih c (ps_lt (List.mem_of_mem_drop hc)) (d + 1))
        omega
      · rw [if_neg k18, if_neg k18, if_neg k18]
        have h1 := sum_add3 (l := ps b) (f := fun c => wkT k i c (d + 1)) (g := fun c => wkT 1 1 c d) (h := fun c => wkT k (i + 1) c d) (fun c hc => ih c (ps_lt hc) d)
        omega
theorem vn_0 {s d : Nat} : vnT s d 0 = 0 := rfl
theorem wk_0 {k : Nat} : ∀ (b d : Nat), wkT k 0 b d = 0 := by
  intro b
  induction b using Nat.strongRecOn with
  | ind b ih =>
    intro d
    have hm : ∀ s d, mvT k s d 0 = 0 := fun s d => by unfold mvT; rw [vn_0]; omega
    have hz : ∀ (l : List Nat) (f : Nat → Nat), (∀ c ∈ l, f c = 0) → (l.map f).sum = 0 := fun l f h => by
      induction l with
      | nil => rfl
      | cons a l ihl =>
        rw [List.map_cons, List.sum_cons, h a List.mem_cons_self, ihl (fun c hc => h c (List.mem_cons_of_mem _ hc))]
    rw [wk_eq]
    unfold wkS
    by_cases k14 : kd b ≤ 14
    · rw [if_pos k14, hm, hz _ _ (fun c _ => hm c d)]
    · rw [if_neg k14]
      by_cases k18 : kd b = 18
      · rw [if_pos k18, hm, hz _ _ (fun c hc => ih c (ps_lt (List.mem_of_mem_take hc)) d), hz _ _ (fun c hc => ih c (ps_lt (List.mem_of_mem_drop hc)) (d + 1))]
      · rw [if_neg k18, hm, hz _ _ (fun c hc => ih c (ps_lt hc) d)]
/-- what does not speak of the variable stays -/
theorem hv_un {t : Nat} {E : Nat → Nat} (hE : clE1 E) : ∀ (b : Nat), okT b → ∀ e, ¬ hvT b e → nwT t E e b = odT E e b := by
  intro b
  induction b using Nat.strongRecOn with
  | ind b ih =>
    intro ho e h
    unfold nwT odT
    by_cases hk : kd b ≤ 3
    · rw [sbT_eq, if_pos hk, sbT_eq, if_pos hk]
      exact gv_c (fun q => h (by rw [hv_eq]; exact Or.inl q))
    · rw [sbT_eq, if_neg hk, sbT_eq, if_neg hk]
      congr 1
      unfold chm
      have hz : ∀ c ∈ ps b, ∀ d, (c ≠ 0 → c ∈ fms b ∧ ¬ hvT c d) → zf (sbT (gv (cE t E)) d) c = zf (sbT (gv E) (d + 1)) c := fun c hc d q => by
        by_cases c0 : c = 0
        · rw [c0]; rfl
        · unfold zf
          rw [if_neg c0, if_neg c0]
          exact ih c (fms_lt (q c0).1) (ho.c (q c0).1) d (q c0).2
      by_cases h8 : kd b = 8
      · rw [if_pos h8, if_pos h8]
        congr 1
        refine List.map_congr_left (fun c hc => hz c (List.mem_of_mem_take hc) e (fun c0 => ?_))
        have mf : c ∈ fms b := by
          unfold fms
          rw [if_pos h8]
          exact List.mem_filter.mpr ⟨hc, by simpa using c0⟩
        exact ⟨mf, fun w => h ((hv_pl hk (by omega)).mpr ⟨c, mf, w⟩)⟩
      · rw [if_neg h8, if_neg h8]
        by_cases h18 : kd b = 18
        · rw [if_pos h18, if_pos h18]
          have h' : ¬ ((∃ c ∈ (ps b).take 1, hvT c e) ∨ ∃ c ∈ (ps b).drop 1, hvT c (e + 1)) := fun w => h (by rw [hv_eq]; exact Or.inr (Or.inl ⟨h18, w⟩))
          congr 1
          · refine List.map_congr_left (fun c hc => hz c (List.mem_of_mem_take hc) e (fun c0 => ⟨fms_mem (List.mem_of_mem_take hc) (by omega) c0, fun w => h' (Or.inl ⟨c, hc, w⟩)⟩))
          · refine List.map_congr_left (fun c hc => hz c (List.mem_of_mem_drop hc) (e + 1) (fun c0 => ⟨fms_mem (List.mem_of_mem_drop hc) (by omega) c0, fun w => h' (Or.inr ⟨c, hc, w⟩)⟩))
        · rw [if_neg h18, if_neg h18]
          exact List.map_congr_left (fun c hc => hz c hc e (fun c0 => ⟨fms_mem hc (by omega) c0, fun w => h ((hv_pl hk h18).mpr ⟨c, fms_mem hc (by omega) c0, w⟩)⟩))
/-- one put: a list as long as there are inner forms with the variable -/
theorem ev_wk {t : Nat} {E : Nat → Nat} (ht : clT1 t) (hE : clE1 E) : ∀ (b : Nat), okT b → (kd b = 8 ∨ isFo b) → ∀ e, ∃ Y : List Nat, Y.length ≤ wkT 1 1 b e ∧ ∀ s, subT s (nwT t E e b) → subT s (odT E e b) ∨ subT s t ∨ s ∈ Y := by
  intro b
  induction b using Nat.strongRecOn with
  | ind b ih =>
    intro ho hf e
    have b0 := okT_0 ho
    by_cases hc : nwT t E e b = odT E e b
    · exact ⟨[], Nat.zero_le _, fun s hs => Or.inl (by rw [← hc]; exact hs)⟩
    have hk : ¬ kd b ≤ 3 := by unfold isFo at hf; omega
    -- it has the variable
    have m1 : ∀ s, hvT s e → mvT 1 s e 1 = 1 := fun s h => by
      have : 0 < vnT s e 1 := List.length_pos_of_mem (vn_mem.mpr ⟨Nat.zero_lt_one, h⟩ : (0 : Nat) ∈ _)
      unfold mvT
      omega
    by_cases k14 : kd b ≤ 14
    · have hv : hvT b e := (hv_lf b ho k14 e).mpr (ch_lf ho k14 hc)
      have ew : wkT 1 1 b e = mvT 1 b e 1 + ((dP b).map (fun s => mvT 1 s e 1)).sum := by
        rw [wk_eq]; unfold wkS; rw [if_pos k14]
      refine ⟨nwT t E e b :: ((dP b).filter (fun s => @decide (hvT s e) (Classical.propDecidable _))).map (nwT t E e), ?_, fun s hs => ?_⟩
      · rw [ew, m1 b hv, List.length_cons, List.length_map]
        have : ((dP b).filter (fun s => @decide (hvT s e) (Classical.propDecidable _))).length ≤ ((dP b).map (fun s => mvT 1 s e 1)).sum := by
          generalize dP b = l
          induction l with
          | nil => exact Nat.zero_le _
          | cons a l ihl =>
            rw [List.filter_cons, List.map_cons, List.sum_cons]
            by_cases ha : hvT a e
            · simp [ha]
              rw [m1 a ha]
              omega
            · simp [ha]
              omega
        omega
      · rcases sub_sbf (gv_0 (clE1.c ht hE)) b ho k14 hs with ⟨c, hc', q⟩ | ⟨q, h1, h2, h3⟩
        · rcases cov_gen ht hE ho k14 hk hs with w | w | w | w | w
          · exact Or.inl w
          · exact Or.inr (Or.inl w)
          · exact Or.inr (Or.inr (by rw [w]; exact List.mem_cons_self))
          · obtain ⟨z, hz, e1⟩ := List.mem_map.mp w
            by_cases hcz : nwT t E e z = odT E e z
            · left
              obtain ⟨⟨c2, hc2, h4, _⟩, _⟩ := (dQ_mem ho).mp hz
              rw [← e1, hcz]
              exact sub_img (e := e + 1) (gv_0 hE) b ho k14 (sub_c hc2 h4)
            · obtain ⟨⟨c2, hc2, h4, h5⟩, _⟩ := (dQ_mem ho).mp hz
              have oz := sub_ok c2 (ho.c hc2) h4
              have kz := kd_sub14 ho k14 (sub_c hc2 h4)
              refine Or.inr (Or.inr (List.mem_cons_of_mem _ (List.mem_map.mpr ⟨z, List.mem_filter.mpr ⟨(dP_mem ho).mpr ⟨c2, hc2, h4, h5⟩, ?_⟩, e1⟩)))
              simpa using (hv_lf z oz kz e).mpr (ch_lf oz kz hcz)
          · obtain ⟨z, ⟨c2, hc2, h4, h5⟩, h6, h7, h8⟩ := (sg_mem ho).mp w
            have oz := sub_ok c2 (ho.c hc2) h4
            have kz := kd_sub14 ho k14 (sub_c hc2 h4)
            refine Or.inr (Or.inr (List.mem_cons_of_mem _ (List.mem_map.mpr ⟨z, List.mem_filter.mpr ⟨(dP_mem ho).mpr ⟨c2, hc2, h4, h5⟩, ?_⟩, h8.symm⟩)))
            simpa using (hv_lf z oz kz e).mpr (ch_lf oz kz h7)
        · by_cases hcq : nwT t E e q = odT E e q
          · left
            have h4 : s = odT E e q := by rw [h3]; exact hcq
            rw [h4]
            exact sub_img (e := e + 1) (gv_0 hE) b ho k14 h1
          · rw [subT_eq] at h1
            rcases h1 with w | ⟨c, hc', w⟩
            · exact Or.inr (Or.inr (by rw [h3, w]; exact List.mem_cons_self))
            · have oq := sub_ok c (ho.c hc') w
              have kq := kd_sub14 ho k14 (sub_c hc' w)
              refine Or.inr (Or.inr (List.mem_cons_of_mem _ (List.mem_map.mpr ⟨q, List.mem_filter.mpr ⟨(dP_mem ho).mpr ⟨c, hc', w, h2⟩, ?_⟩, h3.symm⟩)))
              simpa using (hv_lf q oq kq e).mpr (ch_lf oq kq hcq)
    · have hf : isFo b := hf.resolve_left (by omega)
      -- lists for parts
      have li : ∀ (l : List Nat) (d : Nat), (∀ p ∈ l, p ∈ ps b ∧ okT p ∧ (kd p = 8 ∨ isFo p)) → ∃ Y : List Nat, Y.length ≤ (l.map (fun c => wkT 1 1 c d)).sum ∧ ∀ p ∈ l, ∀ s, subT s (nwT t E d p) → subT s (odT E d p) ∨ subT s t ∨ s ∈ Y := fun l d => by
        induction l with
        | nil => exact fun _ => ⟨[], Nat.zero_le _, (fun p hp => by cases hp)⟩
        | cons a l ihl =>
          intro h
          obtain ⟨Y, y1, y2⟩ := ihl (fun p hp => h p (List.mem_cons_of_mem _ hp))
          obtain ⟨ha, oa, fa⟩ := h a List.mem_cons_self
          obtain ⟨Z, z1, z2⟩ := ih a (ps_lt ha) oa fa d
          refine ⟨Z ++ Y, ?_, fun p hp s hs => ?_⟩
          · rw [List.length_append, List.map_cons, List.sum_cons]; omega
          · rcases List.mem_cons.mp hp with w | w
            · rw [w] at hs ⊢
              exact (z2 s hs).imp id (fun q => q.imp id (List.mem_append_left _))
            · exact (y2 p w s hs).imp id (fun q => q.imp id (List.mem_append_right _))
      have hvb : hvT b e := by
        rcases Classical.em (hvT b e) with q | q
        · exact q
        · exact absurd (hv_un hE b ho e q) hc
      by_cases k18 : kd b = 18
      · obtain ⟨y, f, hp, y8, ff, my, mf⟩ := ps_all1 ho k18
        have oy := ho.c my
        have of := ho.c mf
        obtain ⟨fn, pn⟩ := fms_all (d := e) (gv_0 (clE1.c ht hE)) k18 hp (okT_0 oy) (okT_0 of)
        obtain ⟨fo, po⟩ := fms_all (d := e + 1) (gv_0 hE) k18 hp (okT_0 oy) (okT_0 of)
        obtain ⟨Y1, a1, a2⟩ := ih y (fms_lt my) oy (Or.inl y8) e
        obtain ⟨Y2, b1, b2⟩ := ih f (fms_lt mf) of (Or.inr ff) (e + 1)
        have ew : wkT 1 1 b e = mvT 1 b e 1 + wkT 1 1 y e + wkT 1 1 f (e + 1) := by
          rw [wk_eq]; unfold wkS; rw [if_neg k14, if_pos k18, hp]; simp
        refine ⟨nwT t E e b :: (Y1 ++ Y2), ?_, fun s hs => ?_⟩
        · rw [ew, m1 b hvb, List.length_cons, List.length_append]; omega
        · rw [subT_eq] at hs
          rcases hs with q | ⟨c, hc', q⟩
          · exact Or.inr (Or.inr (by rw [q]; exact List.mem_cons_self))
          · have hc2 : c ∈ [sbT (gv (cE t E)) e y, sbT (gv (cE t E)) (e + 1) f] := by rw [← fn]; exact hc'
            rcases List.mem_cons.mp hc2 with w | w
            · rw [w] at q
              rcases a2 s q with z | z | z
              · exact Or.inl (sub_c (c := odT E e y) (by show _ ∈ fms (sbT (gv E) (e + 1) b); rw [fo]; exact List.mem_cons_self) z)
              · exact Or.inr (Or.inl z)
              · exact Or.inr (Or.inr (List.mem_cons_of_mem _ (List.mem_append_left _ z)))
            · rw [List.mem_singleton.mp w] at q
              rcases b2 s q with z | z | z
              · exact Or.inl (sub_c (c := odT E (e + 1) f) (by show _ ∈ fms (sbT (gv E) (e + 1) b); rw [fo]; exact List.mem_cons_of_mem _ List.mem_cons_self) z)
              · exact Or.inr (Or.inl z)
              · exact Or.inr (Or.inr (List.mem_cons_of_mem _ (List.mem_append_right _ z)))
      · have hall : ∀ p ∈ ps b, p ∈ ps b ∧ okT p ∧ (kd p = 8 ∨ isFo p) := fun p hp => by
          have fp : isFo p := by
            rcases ho.n.2 with q | q | q | q | q | q | q | q | q | q | q | q | q | q <;> first | (exfalso; unfold isFo at hf; omega) | skip
            · obtain ⟨_, _, g, q1, q2, _⟩ := q
              rw [q1, List.mem_singleton] at hp
              rw [hp]; exact q2
            · exact (q.2.2.2 p hp).1
          exact ⟨hp, ho.c (fms_mem hp (by omega) (isFo_pos fp)), Or.inr fp⟩
        obtain ⟨Y, y1, y2⟩ := li (ps b) e hall
        have ew : wkT 1 1 b e = mvT 1 b e 1 + ((ps b).map (fun c => wkT 1 1 c e)).sum := by
          rw [wk_eq]; unfold wkS; rw [if_neg k14, if_neg k18]
        refine ⟨nwT t E e b :: Y, ?_, fun s hs => ?_⟩
        · rw [ew, m1 b hvb, List.length_cons]; omega
        · rw [subT_eq] at hs
          rcases hs with q | ⟨c, hc', q⟩
          · exact Or.inr (Or.inr (by rw [q]; exact List.mem_cons_self))
          · unfold nwT at hc'
            rw [fms_sbn (gv_0 (clE1.c ht hE)) hk k18] at hc'
            obtain ⟨p, hp, e1⟩ := List.mem_map.mp hc'
            rw [← e1] at q
            rcases y2 p (fms_ps hp).1 s q with z | z | z
            · refine Or.inl (sub_c (c := odT E e p) ?_ z)
              unfold odT
              rw [fms_sbn (gv_0 hE) hk k18]
              exact List.mem_map.mpr ⟨p, hp, rfl⟩
            · exact Or.inr (Or.inl z)
            · exact Or.inr (Or.inr (List.mem_cons_of_mem _ z))
