/-! what a bind makes: no more than there are inner forms with the constant -/
section BDK
variable {x : Nat}
theorem bx_no {z d : Nat} (ho : okT z) (h : x ∉ lvT z) : sbT (bindg x) d z = z := sb_same z ho (fun c hc d' => by
  unfold bindg
  rw [if_neg (fun e => h (by rw [← e]; exact hc))]) d
theorem okT_bx {z d : Nat} (ho : okT z) : okT (sbT (bindg x) d z) := okT_sb z ho (gOn_bindg ho) d
/-- the constant becomes the variable -/
theorem hv_bx (hx : kd x ≤ 3) : ∀ (z : Nat), okT z → x ∈ lvT z → ∀ d, hvT (sbT (bindg x) d z) d := by
  intro z
  induction z using Nat.strongRecOn with
  | ind z ih =>
    intro ho hl d
    by_cases hk : kd z ≤ 3
    · rw [lvT_eq, if_pos hk, List.mem_singleton] at hl
      rw [sbT_eq, if_pos hk]
      unfold bindg
      rw [if_pos hl.symm, hv_eq]
      exact Or.inl ⟨kd_mk _ _ _, wh_mk _ _ _⟩
    · have hl' := hl
      rw [lvT_eq, if_neg hk] at hl'
      obtain ⟨c, hc, hlc⟩ := List.mem_flatMap.mp hl'
      have k1 := (sb_kd (g := bindg x) (d := d) hk).1
      by_cases k18 : kd z = 18
      · obtain ⟨y, f, hp, y8, ff, my, mf⟩ := ps_all1 ho k18
        have pn := (fms_all (d := d) (bindg_0 (x := x)) k18 hp (okT_0 (ho.c my)) (okT_0 (ho.c mf))).2
        refine (hv_all (by omega) pn).mpr ?_
        have := (fms_ps hc).1
        rw [hp] at this
        rcases List.mem_cons.mp this with q | q
        · rw [q] at hlc; exact Or.inl (ih y (fms_lt my) (ho.c my) hlc d)
        · rw [List.mem_singleton.mp q] at hlc; exact Or.inr (ih f (fms_lt mf) (ho.c mf) hlc (d + 1))
      · refine (hv_pl (by omega) (by omega)).mpr ⟨sbT (bindg x) d c, ?_, ih c (fms_lt hc) (ho.c hc) hlc d⟩
        rw [fms_sbn (bindg_0 (x := x)) hk k18]
        exact List.mem_map.mpr ⟨c, hc, rfl⟩
theorem mv_1 {s e : Nat} (h : hvT s e) : mvT 1 s e 1 = 1 := by
  have : 0 < vnT s e 1 := List.length_pos_of_mem (vn_mem.mpr ⟨Nat.zero_lt_one, h⟩ : (0 : Nat) ∈ _)
  unfold mvT
  omega
theorem mv_flt {e : Nat} : ∀ (l : List Nat), (l.filter (fun s => @decide (hvT s e) (Classical.propDecidable _))).length ≤ (l.map (fun s => mvT 1 s e 1)).sum
  | [] => Nat.zero_le _
  | a :: l => by
    have ih := mv_flt (e := e) l
    rw [List.filter_cons, List.map_cons, List.sum_cons]
    by_cases ha : hvT a e
    · simp [ha]
      rw [mv_1 ha]
      omega
    · simp [ha]
      omega
/-- a leaf -/
def BdL (s : Nat) : Prop := ∃ e, s = mk 2 e []
theorem bd_li {d : Nat} : ∀ (l : List Nat), (∀ p ∈ l, ∃ Y : List Nat, Y.length ≤ wkT 1 1 (sbT (bindg x) d p) d ∧ ∀ s, subT s (sbT (bindg x) d p) → subT s p ∨ BdL s ∨ s ∈ Y) → ∃ Y : List Nat, Y.length ≤ ((l.map (sbT (bindg x) d)).map (fun p => wkT 1 1 p d)).sum ∧ ∀ p ∈ l, ∀ s, subT s (sbT (bindg x) d p) → subT s p ∨ BdL s ∨ s ∈ Y
  | [], _ => ⟨[], Nat.zero_le _, fun p hp => by cases hp⟩
  | p :: l, h => by
    obtain ⟨Y, y1, y2⟩ := bd_li l (fun q hq => h q (List.mem_cons_of_mem _ hq))
    obtain ⟨Z, z1, z2⟩ := h p List.mem_cons_self
    refine ⟨Z ++ Y, ?_, fun q hq s hs => ?_⟩
    · rw [List.length_append, List.map_cons, List.map_cons, List.sum_cons]
      omega
    · rcases List.mem_cons.mp hq with w | w
      · rw [w] at hs ⊢
        exact (z2 s hs).imp id (fun q => q.imp id (List.mem_append_left _))
      · exact (y2 q w s hs).imp id (fun q => q.imp id (List.mem_append_right _))
theorem bd_wk (hx : kd x ≤ 3) : ∀ (z : Nat), okT z → (kd z = 8 ∨ isFo z) → ∀ d, ∃ Y : List Nat, Y.length ≤ wkT 1 1 (sbT (bindg x) d z) d ∧ ∀ s, subT s (sbT (bindg x) d z) → subT s z ∨ BdL s ∨ s ∈ Y := by
  intro z
  induction z using Nat.strongRecOn with
  | ind z ih =>
    intro ho hf d
    by_cases hxn : ¬ x ∈ lvT z
    · exact ⟨[], Nat.zero_le _, fun s hs => Or.inl (by rw [bx_no ho hxn] at hs; exact hs)⟩
    have hxl : x ∈ lvT z := Classical.not_not.mp hxn
    have hk : ¬ kd z ≤ 3 := by unfold isFo at hf; omega
    have k1 := (sb_kd (g := bindg x) (d := d) hk).1
    have og := okT_bx (x := x) (d := d) ho
    have hv := hv_bx hx z ho hxl d
    by_cases k14 : kd z ≤ 14
    · refine ⟨sbT (bindg x) d z :: (dP (sbT (bindg x) d z)).filter (fun s => @decide (hvT s d) (Classical.propDecidable _)), ?_, fun s hs => ?_⟩
      · have ew : wkT 1 1 (sbT (bindg x) d z) d = mvT 1 (sbT (bindg x) d z) d 1 + ((dP (sbT (bindg x) d z)).map (fun s => mvT 1 s d 1)).sum := by
          rw [wk_eq]; unfold wkS; rw [if_pos (by omega)]
        rw [ew, mv_1 hv, List.length_cons]
        have := mv_flt (e := d) (dP (sbT (bindg x) d z))
        omega
      · have hs0 := hs
        rcases sub_sbf (bindg_0 (x := x)) z ho k14 hs with ⟨c, hc, q⟩ | ⟨c, hc, kc, q⟩
        · obtain ⟨oc, k3, _⟩ := lv_ok z ho c hc
          have k4 := (gLf_bind (x := x) (e := d) c k3 (okT_0 oc)).1
          rw [subT_eq] at q
          rcases q with w | ⟨y, hy, _⟩
          · unfold bindg at w
            by_cases e : c = x
            · rw [if_pos e] at w; exact Or.inr (Or.inl ⟨d, w⟩)
            · rw [if_neg e] at w; rw [w]; exact Or.inl (lv_is z hc)
          · rw [fms_lf (okT_bindg oc).n k4] at hy; cases hy
        · by_cases hxc : x ∈ lvT c
          · refine Or.inr (Or.inr ?_)
            have oc := sub_ok z ho hc
            have hvs : hvT s d := by rw [q]; exact hv_bx hx c oc hxc d
            rw [subT_eq] at hs0
            rcases hs0 with w | ⟨y, hy, w⟩
            · rw [w]; exact List.mem_cons_self
            · refine List.mem_cons_of_mem _ (List.mem_filter.mpr ⟨(dP_mem og).mpr ⟨y, hy, w, ?_⟩, by simpa using hvs⟩)
              rw [q, (sb_kd (g := bindg x) (d := d) kc).1]; exact kc
          · left
            rw [q, bx_no (sub_ok z ho hc) hxc]; exact hc
    by_cases k18 : kd z = 18
    · obtain ⟨y, f, hp, y8, ff, my, mf⟩ := ps_all1 ho k18
      obtain ⟨fn, pn⟩ := fms_all (d := d) (bindg_0 (x := x)) k18 hp (okT_0 (ho.c my)) (okT_0 (ho.c mf))
      obtain ⟨Y1, a1, a2⟩ := ih y (fms_lt my) (ho.c my) (Or.inl y8) d
      obtain ⟨Y2, b1, b2⟩ := ih f (fms_lt mf) (ho.c mf) (Or.inr ff) (d + 1)
      have ew : wkT 1 1 (sbT (bindg x) d z) d = mvT 1 (sbT (bindg x) d z) d 1 + wkT 1 1 (sbT (bindg x) d y) d + wkT 1 1 (sbT (bindg x) (d + 1) f) (d + 1) := by
        rw [wk_eq]; unfold wkS; rw [if_neg (by omega), if_pos (by omega), pn]; simp
      refine ⟨sbT (bindg x) d z :: (Y1 ++ Y2), ?_, fun s hs => ?_⟩
      · rw [ew, mv_1 hv, List.length_cons, List.length_append]
        omega
      · rw [subT_eq] at hs
        rcases hs with w | ⟨c, hc, w⟩
        · rw [w]; exact Or.inr (Or.inr List.mem_cons_self)
        · rw [fn] at hc
          rcases List.mem_cons.mp hc with q | q
          · rw [q] at w
            exact (a2 s w).imp (sub_c my) (fun q => q.imp id (fun r => List.mem_cons_of_mem _ (List.mem_append_left _ r)))
          · rw [List.mem_singleton.mp q] at w
            exact (b2 s w).imp (sub_c mf) (fun q => q.imp id (fun r => List.mem_cons_of_mem _ (List.mem_append_right _ r)))
    · have hk67 : kd z = 16 ∨ kd z = 17 := by unfold isFo at hf; omega
      have hl : ∀ p ∈ ps z, isFo p ∧ p ∈ fms z := fun p hp => by
        have fp : isFo p := by
          rcases ho.n.2 with q | q | q | q | q | q | q | q | q | q | q | q | q | q <;> first | omega | skip
          · obtain ⟨_, _, g, q3, q4, _⟩ := q
            rw [q3, List.mem_singleton] at hp
            rw [hp]; exact q4
          · exact (q.2.2.2 p hp).1
        exact ⟨fp, fms_mem hp (by omega) (isFo_pos fp)⟩
      have pn := ps_map (g := bindg x) (d := d) hk67 (fun c hc => isFo_pos (hl c hc).1)
      obtain ⟨Y, y1, y2⟩ := bd_li (x := x) (d := d) (ps z) (fun p hp => ih p (fms_lt (hl p hp).2) (ho.c (hl p hp).2) (Or.inr (hl p hp).1) d)
      have ew : wkT 1 1 (sbT (bindg x) d z) d = mvT 1 (sbT (bindg x) d z) d 1 + (((ps z).map (sbT (bindg x) d)).map (fun c => wkT 1 1 c d)).sum := by
        rw [wk_eq]; unfold wkS; rw [if_neg (by omega), if_neg (by omega), pn]
      refine ⟨sbT (bindg x) d z :: Y, ?_, fun s hs => ?_⟩
      · rw [ew, mv_1 hv, List.length_cons]
        omega
      · rw [subT_eq] at hs
        rcases hs with w | ⟨c, hc, w⟩
        · rw [w]; exact Or.inr (Or.inr List.mem_cons_self)
        · have hc' := (fms_ps hc).1
          rw [pn] at hc'
          obtain ⟨p, hp, e⟩ := List.mem_map.mp hc'
          rw [← e] at w
          exact (y2 p hp s w).imp (sub_c (hl p hp).2) (fun q => q.imp id (List.mem_cons_of_mem _))
end BDK
