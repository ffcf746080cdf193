/-! names in the types of binders: few -/
def tcS (L : List Nat) (f : Nat → Nat → Prop) (t : Nat) : Nat → Prop := fun d => if kd t = 18 then ((∀ l ∈ lvT (pa t 0), kd l = 1 → 2 * l + 1 ∈ L) ∧ ∀ j, hvT (pa t 0) (d + j) → 2 * j ∈ L) ∧ ∀ c ∈ (ps t).drop 1, f c (d + 1) else if kd t = 16 ∨ kd t = 17 then ∀ c ∈ ps t, f c d else True
/-- the names of all types of binders lie in a list: constants (odd), binders around (even) -/
def tcv (L : List Nat) (t d : Nat) : Prop := rcT (tcS L) (fun _ => True) t d
theorem tc_eq (L : List Nat) (t d : Nat) : tcv L t d = tcS L (tcv L) t d := by
  unfold tcv
  rw [rc_eq (fun f f' t h => by
    unfold tcS
    funext d
    have h1 : (∀ c ∈ ps t, f c d) = (∀ c ∈ ps t, f' c d) := propext ⟨fun q c hc => by rw [← h c hc]; exact q c hc, fun q c hc => by rw [h c hc]; exact q c hc⟩
    have h2 : (∀ c ∈ (ps t).drop 1, f c (d + 1)) = (∀ c ∈ (ps t).drop 1, f' c (d + 1)) := propext ⟨fun q c hc => by rw [← h c (List.mem_of_mem_drop hc)]; exact q c hc, fun q c hc => by rw [h c (List.mem_of_mem_drop hc)]; exact q c hc⟩
    rw [h1, h2]) t]
theorem tc_all {L : List Nat} {t y f d : Nat} (h18 : kd t = 18) (hp : ps t = [y, f]) : tcv L t d ↔ ((∀ l ∈ lvT y, kd l = 1 → 2 * l + 1 ∈ L) ∧ ∀ j, hvT y (d + j) → 2 * j ∈ L) ∧ tcv L f (d + 1) := by
  have e : pa t 0 = y := by unfold pa; rw [hp]; rfl
  rw [tc_eq]
  unfold tcS
  rw [if_pos h18, e, hp]
  simp
theorem tc_pl {L : List Nat} {t d : Nat} (h : kd t = 16 ∨ kd t = 17) : tcv L t d ↔ ∀ c ∈ ps t, tcv L c d := by
  rw [tc_eq]
  unfold tcS
  rw [if_neg (by omega), if_pos h]
theorem tc_lo {L : List Nat} {t d : Nat} (h : kd t ≤ 14) : tcv L t d := by
  rw [tc_eq]
  unfold tcS
  rw [if_neg (by omega), if_neg (by omega)]
  trivial
theorem ps_and1 {b : Nat} (ho : okT b) (h17 : kd b = 17) : ∀ p ∈ ps b, isFo p ∧ p ∈ fms b := by
  have hl : ∀ f ∈ ps b, isFo f := by
    rcases ho.n.2 with q | q | q | q | q | q | q | q | q | q | q | q | q | q <;> first | omega | exact fun p hp => (q.2.2.2 p hp).1
  exact fun p hp => ⟨hl p hp, fms_mem hp (by omega) (isFo_pos (hl p hp))⟩
theorem ps_67 {b : Nat} (ho : okT b) (h : kd b = 16 ∨ kd b = 17) : ∀ p ∈ ps b, isFo p ∧ p ∈ fms b := by
  rcases h with h | h
  · obtain ⟨g, hp, fg, _, mg⟩ := ps_not1 ho h
    intro p q
    rw [hp, List.mem_singleton] at q
    rw [q]; exact ⟨fg, mg⟩
  · exact ps_and1 ho h
theorem tc_mono {L L' : List Nat} (hL : ∀ z ∈ L, z ∈ L') : ∀ (t : Nat), okT t → isFo t → ∀ d, tcv L t d → tcv L' t d := by
  intro t
  induction t using Nat.strongRecOn with
  | ind t ih =>
    intro ho hf d h
    by_cases k14 : kd t ≤ 14
    · exact tc_lo k14
    by_cases k18 : kd t = 18
    · obtain ⟨y, f, hp, y8, ff, my, mf⟩ := ps_all1 ho k18
      obtain ⟨⟨h1, h2⟩, h3⟩ := (tc_all k18 hp).mp h
      exact (tc_all k18 hp).mpr ⟨⟨fun l hl k => hL _ (h1 l hl k), fun j hj => hL _ (h2 j hj)⟩, ih f (fms_lt mf) (ho.c mf) ff (d + 1) h3⟩
    · have h67 : kd t = 16 ∨ kd t = 17 := by unfold isFo at hf; omega
      exact (tc_pl h67).mpr (fun c hc => by
        obtain ⟨fc, mc⟩ := ps_67 ho h67 c hc
        exact ih c (fms_lt mc) (ho.c mc) fc d ((tc_pl h67).mp h c hc))
/-- a bind turns one name into another -/
theorem tc_bd {L : List Nat} {x e : Nat} (hx : kd x = 1) : ∀ (t : Nat), okT t → isFo t → ∀ d, tcv L t d → tcv (L.map (fun z => if z = 2 * x + 1 then 2 * e else z)) (sbT (bindg x) (e + d) t) d := by
  intro t
  induction t using Nat.strongRecOn with
  | ind t ih =>
    intro ho hf d h
    have hk : ¬ kd t ≤ 3 := by unfold isFo at hf; omega
    have kS := (sb_kd (g := bindg x) (d := e + d) hk).1
    by_cases k14 : kd t ≤ 14
    · exact tc_lo (by omega)
    by_cases k18 : kd t = 18
    · obtain ⟨y, f, hp, y8, ff, my, mf⟩ := ps_all1 ho k18
      obtain ⟨⟨h1, h2⟩, h3⟩ := (tc_all k18 hp).mp h
      have pn := (fms_all (d := e + d) (bindg_0 (x := x)) k18 hp (okT_0 (ho.c my)) (okT_0 (ho.c mf))).2
      refine (tc_all (by omega) pn).mpr ⟨⟨fun l hl k1 => ?_, fun j hj => ?_⟩, ?_⟩
      · obtain ⟨a, b⟩ := lv_bd y (ho.c my) (e + d) l hl k1
        exact List.mem_map.mpr ⟨2 * l + 1, h1 l a k1, by rw [if_neg (by omega)]⟩
      · rcases hv_bd y (ho.c my) (e + d) (d + j) hj with q | ⟨q1, q2⟩
        · exact List.mem_map.mpr ⟨2 * j, h2 j q, by rw [if_neg (by omega)]⟩
        · exact List.mem_map.mpr ⟨2 * x + 1, h1 x q2 hx, by rw [if_pos rfl]; omega⟩
      · exact ih f (fms_lt mf) (ho.c mf) ff (d + 1) h3
    · have h67 : kd t = 16 ∨ kd t = 17 := by unfold isFo at hf; omega
      have pn := ps_map (g := bindg x) (d := e + d) h67 (fun c hc => isFo_pos (ps_67 ho h67 c hc).1)
      refine (tc_pl (by omega)).mpr (fun c hc => ?_)
      rw [pn] at hc
      obtain ⟨p, hp, e1⟩ := List.mem_map.mp hc
      obtain ⟨fp, mp⟩ := ps_67 ho h67 p hp
      rw [← e1]
      exact ih p (fms_lt mp) (ho.c mp) fp d ((tc_pl h67).mp h p hp)
/-- below the new binder -/
theorem tc_up {L : List Nat} {x : Nat} (hL : ∀ j, 2 * j ∉ L) : ∀ (t : Nat), okT t → isFo t → ∀ d, tcv L t d → tcv L (sbT (bindg x) d t) (d + 1) := by
  intro t
  induction t using Nat.strongRecOn with
  | ind t ih =>
    intro ho hf d h
    have hk : ¬ kd t ≤ 3 := by unfold isFo at hf; omega
    have kS := (sb_kd (g := bindg x) (d := d) hk).1
    by_cases k14 : kd t ≤ 14
    · exact tc_lo (by omega)
    by_cases k18 : kd t = 18
    · obtain ⟨y, f, hp, y8, ff, my, mf⟩ := ps_all1 ho k18
      obtain ⟨⟨h1, h2⟩, h3⟩ := (tc_all k18 hp).mp h
      have pn := (fms_all (d := d) (bindg_0 (x := x)) k18 hp (okT_0 (ho.c my)) (okT_0 (ho.c mf))).2
      refine (tc_all (by omega) pn).mpr ⟨⟨fun l hl k1 => ?_, fun j hj => ?_⟩, ?_⟩
      · obtain ⟨a, b⟩ := lv_bd y (ho.c my) d l hl k1
        exact h1 l a k1
      · rcases hv_bd y (ho.c my) d (d + 1 + j) hj with q | ⟨q1, q2⟩
        · rw [show d + 1 + j = d + (1 + j) by omega] at q
          exact absurd (h2 (1 + j) q) (hL _)
        · omega
      · exact ih f (fms_lt mf) (ho.c mf) ff (d + 1) h3
    · have h67 : kd t = 16 ∨ kd t = 17 := by unfold isFo at hf; omega
      have pn := ps_map (g := bindg x) (d := d) h67 (fun c hc => isFo_pos (ps_67 ho h67 c hc).1)
      refine (tc_pl (by omega)).mpr (fun c hc => ?_)
      rw [pn] at hc
      obtain ⟨p, hp, e1⟩ := List.mem_map.mp hc
      obtain ⟨fp, mp⟩ := ps_67 ho h67 p hp
      rw [← e1]
      exact ih p (fms_lt mp) (ho.c mp) fp d ((tc_pl h67).mp h p hp)
/-- what a formula speaks of, its leaves or the types of its binders speak of -/
theorem hv_tc {L : List Nat} : ∀ (b : Nat), okT b → isFo b → ∀ (pol : Bool) (d j : Nat), tcv L b d → hvT b (d + j) → lvo b pol (d + j) ∨ 2 * j ∈ L := by
  intro b
  induction b using Nat.strongRecOn with
  | ind b ih =>
    intro ho hf pol d j ht h
    rw [lvo_eq]
    unfold lvoS
    by_cases k67 : kd b = 16 ∨ kd b = 17
    · obtain ⟨z, hz, q⟩ := (hv_pl (by omega) (by omega)).mp h
      have mz := (fms_ps hz).1
      have fz := (ps_67 ho k67 z mz).1
      have tz := (tc_pl k67).mp ht z mz
      rcases k67 with k16 | k17
      · rw [if_pos k16]
        exact (ih z (fms_lt hz) (ho.c hz) fz (!pol) d j tz q).imp (fun w => ⟨z, mz, w⟩) id
      · rw [if_neg (by omega), if_pos k17]
        exact (ih z (fms_lt hz) (ho.c hz) fz pol d j tz q).imp (fun w => ⟨z, mz, w⟩) id
    · rw [if_neg (fun q => k67 (Or.inl q)), if_neg (fun q => k67 (Or.inr q))]
      by_cases k18 : kd b = 18 ∧ pol = false
      · obtain ⟨y, f, hp, y8, ff, my, mf⟩ := ps_all1 ho k18.1
        obtain ⟨⟨_, h2⟩, h3⟩ := (tc_all k18.1 hp).mp ht
        rw [if_pos k18, hp]
        rcases (hv_all k18.1 hp).mp h with q | q
        · exact Or.inr (h2 j q)
        · rw [show d + j + 1 = d + 1 + j by omega] at q ⊢
          exact (ih f (fms_lt mf) (ho.c mf) ff false (d + 1) j h3 q).imp (fun w => ⟨f, by simp, w⟩) id
      · rw [if_neg k18]
        exact Or.inl h
/-- at most so many names in the types of binders -/
def NtL (κ s : Nat) : Prop := ∃ L : List Nat, L.length ≤ κ ∧ (isFo s → tcv L s 0)
theorem NtL.mono {κ κ' s : Nat} (h : NtL κ s) (hk : κ ≤ κ') : NtL κ' s := by
  obtain ⟨L, h1, h2⟩ := h
  exact ⟨L, by omega, h2⟩
theorem NtL.lo {κ s : Nat} (h : kd s ≤ 14) : NtL κ s := ⟨[], Nat.zero_le _, fun _ => tc_lo h⟩
theorem NtL.bd {κ x d s : Nat} (ho : okT s) (hx : kd x = 1) (h : NtL κ s) : NtL κ (sbT (bindg x) d s) := by
  obtain ⟨L, h1, h2⟩ := h
  by_cases hf : isFo s
  · exact ⟨L.map (fun z => if z = 2 * x + 1 then 2 * d else z), by rw [List.length_map]; exact h1, fun _ => tc_bd (e := d) hx s ho hf 0 (h2 hf)⟩
  · by_cases hk : kd s ≤ 3
    · refine NtL.lo ?_
      rw [sbT_eq, if_pos hk]
      have := (gLf_bind (x := x) (e := d) s hk (okT_0 ho)).1
      omega
    · have kS := (sb_kd (g := bindg x) (d := d) hk).1
      refine NtL.lo ?_
      have k0 := ho.n
      unfold isFo at hf
      rcases ho.n.2 with q | q | q | q | q | q | q | q | q | q | q | q | q | q <;> omega
/-- of the binders around, as many as leaves speak of, and these names -/
theorem NtL.vn {κ kl b : Nat} {pol : Bool} {i : Nat} (ho : okT b) (hf : isFo b) (h : NtL κ b) (hl : lnN b pol i ≤ kl) : vnT b 0 i ≤ kl + κ := by
  obtain ⟨L, h1, h2⟩ := h
  have ht := h2 hf
  refine Nat.le_trans ?_ (Nat.add_le_add hl h1)
  unfold vnT lnN
  have e1 : ((List.range i).filter (fun r => @decide (hvT b (0 + r)) (Classical.propDecidable _))).length = (((List.range i).filter (fun r => @decide (hvT b (0 + r)) (Classical.propDecidable _))).map (fun r => 2 * r)).length := by rw [List.length_map]
  have e2 : ((List.range i).filter (fun r => @decide (lvo b pol r) (Classical.propDecidable _))).length = (((List.range i).filter (fun r => @decide (lvo b pol r) (Classical.propDecidable _))).map (fun r => 2 * r)).length := by rw [List.length_map]
  rw [e1, e2, ← List.length_append]
  refine nd_lenL _ _ ?_ (fun z hz => ?_)
  · exact List.pairwise_map.mpr (List.Pairwise.imp (fun hne e => hne (by omega)) vn_nd)
  · obtain ⟨r, hr, e⟩ := List.mem_map.mp hz
    obtain ⟨q1, q2⟩ := vn_mem.mp hr
    rcases hv_tc b ho hf pol 0 r ht q2 with w | w
    · rw [Nat.zero_add] at w
      exact List.mem_append_left _ (List.mem_map.mpr ⟨r, ln_mem.mpr ⟨q1, w⟩, e⟩)
    · rw [← e]; exact List.mem_append_right _ w
