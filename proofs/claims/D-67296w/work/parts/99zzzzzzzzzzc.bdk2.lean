/-! nodes that binds have made: those of nested binds together are few -/
theorem sb_cm2 {g h : Nat → Nat → Nat} {e e' : Nat} (hg : gLf g e) : ∀ (t : Nat), okT t → kd t ≤ 14 → sbT h e' (sbT g e t) = sbT (fun _ l => h e' (g e l)) 0 t := by
  intro t
  induction t using Nat.strongRecOn with
  | ind t ih =>
    intro ho h14
    by_cases hk : kd t ≤ 3
    · have e1 : sbT g e t = g e t := by rw [sbT_eq, if_pos hk]
      have h3 := (hg t hk (okT_0 ho)).1
      rw [e1, sbT_eq, if_pos h3, sbT_eq, if_pos hk]
    · obtain ⟨k1, k2, k3⟩ := sb_kd (g := g) (d := e) hk
      rw [sbT_eq, if_neg (by omega), sbT_eq (fun _ l => h e' (g e l)) 0 t, if_neg hk, k1, k2, k3, chm_ap (by omega), chm_ap (by omega), chm_ap (by omega)]
      have hz : ∀ c ∈ ps t, (kd t = 8 → c ∈ (ps t).take 1) → zf (sbT h e') (zf (sbT g e) c) = zf (sbT (fun _ l => h e' (g e l)) 0) c := fun c hc h8 => by
        by_cases c0 : c = 0
        · rw [c0]; rfl
        · have hf : c ∈ fms t := by
            unfold fms
            refine List.mem_filter.mpr ⟨?_, by simpa using c0⟩
            split
            · rename_i q; exact h8 q
            · exact hc
          have e1 : zf (sbT g e) c = sbT g e c := by unfold zf; rw [if_neg c0]
          have e2 : zf (sbT (fun _ l => h e' (g e l)) 0) c = sbT (fun _ l => h e' (g e l)) 0 c := by unfold zf; rw [if_neg c0]
          rw [e1, e2]
          unfold zf
          rw [if_neg (sb_n0 hg c0)]
          exact ih c (fms_lt hf) (ho.c hf) (by have := kd_14 ho.n h14 hf; omega)
      by_cases h8 : kd t = 8
      · rw [if_pos h8, if_pos h8, if_pos h8]
        have e1 : (((ps t).take 1).map (zf (sbT g e)) ++ (ps t).drop 1).take 1 = ((ps t).take 1).map (zf (sbT g e)) := by
          cases ps t with
          | nil => rfl
          | cons a l => simp
        have e2 : (((ps t).take 1).map (zf (sbT g e)) ++ (ps t).drop 1).drop 1 = (ps t).drop 1 := by
          cases ps t with
          | nil => rfl
          | cons a l => simp
        rw [e1, e2, List.map_map]
        congr 2
        exact List.map_congr_left (fun c hc => hz c (List.mem_of_mem_take hc) (fun _ => hc))
      · rw [if_neg h8, if_neg h8, if_neg h8, List.map_map]
        congr 1
        exact List.map_congr_left (fun c hc => hz c hc (fun q => absurd q h8))
section BDE
variable {x : Nat}
theorem bx_inv {D s : Nat} (hx : kd x = 1) (ho : okT s) (h14 : kd s ≤ 14) (h : mk 2 D [] ∉ lvT s) : sbT (fun _ l => if l = mk 2 D [] then x else l) 0 (sbT (bindg x) D s) = s := by
  rw [sb_cm2 gLf_bind s ho h14]
  refine sb_same s ho (fun c hc d => ?_) 0
  show (if bindg x D c = mk 2 D [] then x else bindg x D c) = c
  unfold bindg
  by_cases e : c = x
  · rw [if_pos e, if_pos rfl, e]
  · rw [if_neg e, if_neg (fun q => h (by rw [← q]; exact hc))]
theorem hv_keep (hx : kd x = 1) : ∀ (z : Nat), okT z → ∀ D j, hvT z j → hvT (sbT (bindg x) D z) j := by
  intro z
  induction z using Nat.strongRecOn with
  | ind z ih =>
    intro ho D j h
    by_cases hk : kd z ≤ 3
    · rw [sbT_eq, if_pos hk]
      have hz := h
      rw [hv_eq] at hz
      rcases hz with ⟨q, _⟩ | ⟨q, _⟩ | ⟨_, c, q, _⟩
      · unfold bindg
        rw [if_neg (fun e => by rw [e] at q; omega)]
        exact h
      · omega
      · rw [fms_lf ho.n hk] at q; cases q
    · have k1 := (sb_kd (g := bindg x) (d := D) hk).1
      by_cases k18 : kd z = 18
      · obtain ⟨y, f, hp, y8, ff, my, mf⟩ := ps_all1 ho k18
        have pn := (fms_all (d := D) (bindg_0 (x := x)) k18 hp (okT_0 (ho.c my)) (okT_0 (ho.c mf))).2
        refine (hv_all (by omega) pn).mpr ?_
        exact ((hv_all k18 hp).mp h).imp (ih y (fms_lt my) (ho.c my) D j) (ih f (fms_lt mf) (ho.c mf) (D + 1) (j + 1))
      · obtain ⟨c, hc, q⟩ := (hv_pl hk k18).mp h
        refine (hv_pl (by omega) (by omega)).mpr ⟨sbT (bindg x) D c, ?_, ih c (fms_lt hc) (ho.c hc) D j q⟩
        rw [fms_sbn (bindg_0 (x := x)) hk k18]
        exact List.mem_map.mpr ⟨c, hc, rfl⟩
theorem mv_keep (hx : kd x = 1) {z D e : Nat} (ho : okT z) : mvT 1 z e 1 ≤ mvT 1 (sbT (bindg x) D z) e 1 := by
  by_cases h : hvT z e
  · rw [mv_1 (hv_keep hx z ho D e h)]
    unfold mvT
    omega
  · have : vnT z e 1 = 0 := by
      unfold vnT
      rw [List.length_eq_zero_iff, List.filter_eq_nil_iff]
      intro r hr hv
      have := List.mem_range.mp hr
      rw [show r = 0 by omega] at hv
      exact h (by simpa using hv)
    unfold mvT
    omega
theorem lv_lo : ∀ (z : Nat), okT z → kd z ≤ 14 → ∀ D, loT z ≤ D → mk 2 D [] ∉ lvT z := fun z ho h14 D hl h => by
  have h1 := (hv_lf z ho h14 D).mpr ⟨mk 2 D [], h, kd_mk _ _ _, wh_mk _ _ _⟩
  have := hv_lo z ho D h1
  omega
/-- a bind leaves the names of other binders as they are -/
theorem wk_bx (hx : kd x = 1) : ∀ (z : Nat), okT z → (kd z = 8 ∨ isFo z) → ∀ e D, loT z ≤ D → wkT 1 1 z e ≤ wkT 1 1 (sbT (bindg x) D z) e := by
  intro z
  induction z using Nat.strongRecOn with
  | ind z ih =>
    intro ho hf e D hlo
    have hk : ¬ kd z ≤ 3 := by unfold isFo at hf; omega
    have k1 := (sb_kd (g := bindg x) (d := D) hk).1
    have og := okT_bx (x := x) (d := D) ho
    have mv := mv_keep (D := D) (e := e) hx ho
    by_cases k14 : kd z ≤ 14
    · rw [wk_eq, wk_eq]
      unfold wkS
      rw [if_pos k14, if_pos (by omega)]
      have sub : ∀ s ∈ dP z, okT s ∧ kd s ≤ 14 ∧ mk 2 D [] ∉ lvT s := fun s hs => by
        obtain ⟨c, hc, h1, h2⟩ := (dP_mem ho).mp hs
        have hsub := sub_c hc h1
        exact ⟨sub_ok z ho hsub, kd_sub14 ho k14 hsub, fun q => lv_lo z ho k14 D hlo (lv_in z ho hsub q)⟩
      have nd : ((dP z).map (sbT (bindg x) D)).Nodup := List.pairwise_map.mpr ((dd_nd _).imp_of_mem (fun {a b} ha hb hne q => hne (by
        obtain ⟨a1, a2, a3⟩ := sub a ha
        obtain ⟨b1, b2, b3⟩ := sub b hb
        rw [← bx_inv (x := x) hx a1 a2 a3, ← bx_inv (x := x) hx b1 b2 b3, q])))
      have h1 : (((dP z).map (sbT (bindg x) D)).map (fun s => mvT 1 s e 1)).sum ≤ ((dP (sbT (bindg x) D z)).map (fun s => mvT 1 s e 1)).sum := sum_sub nd (fun s hs => by
        obtain ⟨c, hc, q⟩ := List.mem_map.mp hs
        obtain ⟨p, hp, h1, h2⟩ := (dP_mem ho).mp hc
        refine (dP_mem og).mpr ⟨sbT (bindg x) D p, ?_, ?_, ?_⟩
        · rw [fms_sbn (bindg_0 (x := x)) hk (by omega)]
          exact List.mem_map.mpr ⟨p, hp, rfl⟩
        · rw [← q]
          exact sub_img (bindg_0 (x := x)) p (ho.c hp) (by have := kd_14 ho.n k14 hp; omega) h1
        · rw [← q, (sb_kd (g := bindg x) (d := D) h2).1]; exact h2)
      have h2 : ((dP z).map (fun s => mvT 1 s e 1)).sum ≤ (((dP z).map (sbT (bindg x) D)).map (fun s => mvT 1 s e 1)).sum := by
        rw [List.map_map]
        have : ∀ l : List Nat, (∀ s ∈ l, s ∈ dP z) → (l.map (fun s => mvT 1 s e 1)).sum ≤ (l.map ((fun s => mvT 1 s e 1) ∘ sbT (bindg x) D)).sum := by
          intro l
          induction l with
          | nil => intro _; exact Nat.le_refl _
          | cons a l ihl =>
            intro hl
            rw [List.map_cons, List.sum_cons, List.map_cons, List.sum_cons]
            exact Nat.add_le_add (mv_keep hx (sub a (hl a List.mem_cons_self)).1) (ihl (fun s hs => hl s (List.mem_cons_of_mem _ hs)))
        exact this _ (fun s hs => hs)
      omega
    by_cases k18 : kd z = 18
    · obtain ⟨y, f, hp, y8, ff, my, mf⟩ := ps_all1 ho k18
      have pn := (fms_all (d := D) (bindg_0 (x := x)) k18 hp (okT_0 (ho.c my)) (okT_0 (ho.c mf))).2
      have a1 := ih y (fms_lt my) (ho.c my) (Or.inl y8) e D (by have := lo_ally k18 hp; omega)
      have a2 := ih f (fms_lt mf) (ho.c mf) (Or.inr ff) (e + 1) (D + 1) (by have := lo_allf k18 hp; omega)
      have e1 : wkT 1 1 z e = mvT 1 z e 1 + wkT 1 1 y e + wkT 1 1 f (e + 1) := by
        rw [wk_eq]; unfold wkS; rw [if_neg k14, if_pos k18, hp]; simp
      have e2 : wkT 1 1 (sbT (bindg x) D z) e = mvT 1 (sbT (bindg x) D z) e 1 + wkT 1 1 (sbT (bindg x) D y) e + wkT 1 1 (sbT (bindg x) (D + 1) f) (e + 1) := by
        rw [wk_eq]; unfold wkS; rw [if_neg (by omega), if_pos (by omega), pn]; simp
      omega
    · have hk67 : kd z = 16 ∨ kd z = 17 := by unfold isFo at hf; omega
      have hl : ∀ p ∈ ps z, isFo p ∧ p ∈ fms z := fun p hp => by
        have fp : isFo p := by
          rcases ho.n.2 with q | q | q | q | q | q | q | q | q | q | q | q | q | q <;> first | omega | skip
          · obtain ⟨_, _, g, q3, q4, _⟩ := q
            rw [q3, List.mem_singleton] at hp
            rw [hp]; exact q4
          · exact (q.2.2.2 p hp).1
        exact ⟨fp, fms_mem hp (by omega) (isFo_pos fp)⟩
      have pn := ps_map (g := bindg x) (d := D) hk67 (fun c hc => isFo_pos (hl c hc).1)
      have e1 : wkT 1 1 z e = mvT 1 z e 1 + ((ps z).map (fun c => wkT 1 1 c e)).sum := by
        rw [wk_eq]; unfold wkS; rw [if_neg k14, if_neg k18]
      have e2 : wkT 1 1 (sbT (bindg x) D z) e = mvT 1 (sbT (bindg x) D z) e 1 + ((ps z).map (fun c => wkT 1 1 (sbT (bindg x) D c) e)).sum := by
        rw [wk_eq]; unfold wkS; rw [if_neg (by omega), if_neg (by omega), pn, List.map_map]; rfl
      have h2 : ∀ l : List Nat, (∀ p ∈ l, p ∈ ps z) → (l.map (fun c => wkT 1 1 c e)).sum ≤ (l.map (fun c => wkT 1 1 (sbT (bindg x) D c) e)).sum := by
        intro l
        induction l with
        | nil => intro _; exact Nat.le_refl _
        | cons a l ihl =>
          intro hl'
          obtain ⟨fa, ma⟩ := hl a (hl' a List.mem_cons_self)
          rw [List.map_cons, List.sum_cons, List.map_cons, List.sum_cons]
          exact Nat.add_le_add (ih a (fms_lt ma) (ho.c ma) (Or.inr fa) e D (by have := lo_part ho.n k18 ma; omega)) (ihl (fun p hp => hl' p (List.mem_cons_of_mem _ hp)))
      have := h2 (ps z) (fun p hp => hp)
      omega
end BDE
