/-! names in a form: constants and binders around it; no more than there are constants -/
theorem bindg_0 {x : Nat} : gN0 (bindg x) := fun e l h hk => (gLf_bind (x := x) (e := e) l hk h).2
theorem hv_bd {x : Nat} : ∀ (c : Nat), okT c → ∀ d j, hvT (sbT (bindg x) d c) j → hvT c j ∨ (j = d ∧ x ∈ lvT c) := by
  intro c
  induction c using Nat.strongRecOn with
  | ind c ih =>
    intro ho d j h
    by_cases hk : kd c ≤ 3
    · rw [sbT_eq, if_pos hk] at h
      unfold bindg at h
      by_cases e : c = x
      · rw [if_pos e] at h
        right
        rw [hv_eq] at h
        rcases h with ⟨_, q⟩ | ⟨q, _⟩ | ⟨_, c', q, _⟩
        · rw [wh_mk] at q
          exact ⟨q.symm, by rw [lvT_eq, if_pos hk, e]; exact List.mem_cons_self⟩
        · rw [kd_mk] at q; omega
        · rw [fms_nil] at q; cases q
      · rw [if_neg e] at h; exact Or.inl h
    · have k1 := (sb_kd (g := bindg x) (d := d) hk).1
      by_cases k18 : kd c = 18
      · obtain ⟨y, f, hp, y8, ff, my, mf⟩ := ps_all1 ho k18
        have pn := (fms_all (d := d) (bindg_0 (x := x)) k18 hp (okT_0 (ho.c my)) (okT_0 (ho.c mf))).2
        rcases (hv_all (by omega) pn).mp h with q | q
        · rcases ih y (fms_lt my) (ho.c my) d j q with w | ⟨w1, w2⟩
          · exact Or.inl ((hv_all k18 hp).mpr (Or.inl w))
          · exact Or.inr ⟨w1, lv_part ho.n my x w2⟩
        · rcases ih f (fms_lt mf) (ho.c mf) (d + 1) (j + 1) q with w | ⟨w1, w2⟩
          · exact Or.inl ((hv_all k18 hp).mpr (Or.inr w))
          · exact Or.inr ⟨by omega, lv_part ho.n mf x w2⟩
      · obtain ⟨z, hz, q⟩ := (hv_pl (by omega) (by omega)).mp h
        rw [fms_sbn (bindg_0 (x := x)) hk k18] at hz
        obtain ⟨p, hp, e1⟩ := List.mem_map.mp hz
        rw [← e1] at q
        rcases ih p (fms_lt hp) (ho.c hp) d j q with w | ⟨w1, w2⟩
        · exact Or.inl ((hv_pl hk k18).mpr ⟨p, hp, w⟩)
        · exact Or.inr ⟨w1, lv_part ho.n hp x w2⟩
theorem lv_bd {x : Nat} : ∀ (c : Nat), okT c → ∀ d l, l ∈ lvT (sbT (bindg x) d c) → kd l = 1 → l ∈ lvT c ∧ l ≠ x := by
  intro c
  induction c using Nat.strongRecOn with
  | ind c ih =>
    intro ho d l h h1
    by_cases hk : kd c ≤ 3
    · rw [sbT_eq, if_pos hk] at h
      have h3 := (gLf_bind (x := x) (e := d) c hk (okT_0 ho)).1
      rw [lvT_eq, if_pos h3, List.mem_singleton] at h
      unfold bindg at h
      by_cases e : c = x
      · rw [if_pos e] at h
        rw [h, kd_mk] at h1
        omega
      · rw [if_neg e] at h
        rw [h, lvT_eq, if_pos hk]
        exact ⟨List.mem_cons_self, e⟩
    · have k1 := (sb_kd (g := bindg x) (d := d) hk).1
      rw [lvT_eq, if_neg (by omega)] at h
      obtain ⟨z, hz, q⟩ := List.mem_flatMap.mp h
      by_cases k18 : kd c = 18
      · obtain ⟨y, f, hp, y8, ff, my, mf⟩ := ps_all1 ho k18
        have fn := (fms_all (d := d) (bindg_0 (x := x)) k18 hp (okT_0 (ho.c my)) (okT_0 (ho.c mf))).1
        rw [fn] at hz
        rcases List.mem_cons.mp hz with w | w
        · rw [w] at q
          obtain ⟨a, b⟩ := ih y (fms_lt my) (ho.c my) d l q h1
          exact ⟨lv_part ho.n my l a, b⟩
        · rw [List.mem_singleton.mp w] at q
          obtain ⟨a, b⟩ := ih f (fms_lt mf) (ho.c mf) (d + 1) l q h1
          exact ⟨lv_part ho.n mf l a, b⟩
      · rw [fms_sbn (bindg_0 (x := x)) hk k18] at hz
        obtain ⟨p, hp, e1⟩ := List.mem_map.mp hz
        rw [← e1] at q
        obtain ⟨a, b⟩ := ih p (fms_lt hp) (ho.c hp) d l q h1
        exact ⟨lv_part ho.n hp l a, b⟩
/-- names: constants (odd) and binders around (even), c at most -/
def NmL (c s : Nat) : Prop := ∃ L : List Nat, L.length ≤ c ∧ (∀ l ∈ lvT s, kd l = 1 → 2 * l + 1 ∈ L) ∧ ∀ j, hvT s j → 2 * j ∈ L
theorem NmL.mono {c c' s : Nat} (h : NmL c s) (hc : c ≤ c') : NmL c' s := by
  obtain ⟨L, h1, h2⟩ := h
  exact ⟨L, by omega, h2⟩
theorem NmL.vn {c s : Nat} (h : NmL c s) : VnB c s := fun d i => by
  obtain ⟨L, h1, _, h3⟩ := h
  unfold vnT
  have e1 : ((List.range i).filter (fun r => @decide (hvT s (d + r)) (Classical.propDecidable _))).length = (((List.range i).filter (fun r => @decide (hvT s (d + r)) (Classical.propDecidable _))).map (fun r => 2 * (d + r))).length := by rw [List.length_map]
  rw [e1]
  refine Nat.le_trans (nd_lenL _ L ?_ (fun z hz => ?_)) h1
  · exact List.pairwise_map.mpr (List.Pairwise.imp (fun hne e => hne (by omega)) vn_nd)
  · obtain ⟨r, hr, e⟩ := List.mem_map.mp hz
    rw [← e]
    exact h3 _ (vn_mem.mp hr).2
/-- a bind turns one name into another -/
theorem NmL.bd {c s x d : Nat} (ho : okT s) (hx : kd x = 1) (h : NmL c s) : NmL c (sbT (bindg x) d s) := by
  obtain ⟨L, h1, h2, h3⟩ := h
  refine ⟨L.map (fun z => if z = 2 * x + 1 then 2 * d else z), by rw [List.length_map]; exact h1, fun l hl k1 => ?_, fun j hj => ?_⟩
  · obtain ⟨a, b⟩ := lv_bd s ho d l hl k1
    exact List.mem_map.mpr ⟨2 * l + 1, h2 l a k1, by rw [if_neg (by omega)]⟩
  · rcases hv_bd s ho d j hj with q | ⟨q1, q2⟩
    · exact List.mem_map.mpr ⟨2 * j, h3 j q, by rw [if_neg (by omega)]⟩
    · exact List.mem_map.mpr ⟨2 * x + 1, h2 x q2 hx, by rw [if_pos rfl, q1]⟩
