/-! long units with two leaves, by depth: what joins and binds do to them -/
/-- a unit with two leaves that does not pay by its leaves -/
def isLU (M t : Nat) : Prop := 8 ≤ kd t ∧ kd t ≤ 14 ∧ lf t = 2 ∧ 2 * M < 2 * (dQ t).length + 12
noncomputable def cdS (M : Nat) (f : Nat → Nat → List Nat) (t : Nat) : Nat → List Nat := fun e => if kd t ≤ 14 then (if @decide (isLU M t) (Classical.propDecidable _) = true then [mk e 0 [t]] else []) else if kd t = 18 then ((ps t).take 1).flatMap (fun c => f c e) ++ ((ps t).drop 1).flatMap (fun c => f c (e + 1)) else (ps t).flatMap (fun c => f c e)
/-- such units of a formula, with their depths -/
noncomputable def cdT (M t e : Nat) : List Nat := rcT (cdS M) (fun _ => []) t e
theorem cd_eq (M t e : Nat) : cdT M t e = cdS M (cdT M) t e := by
  unfold cdT
  rw [rc_eq (fun f f' t h => by
    unfold cdS
    funext e
    have h1 : ∀ e, ((ps t).take 1).flatMap (fun c => f c e) = ((ps t).take 1).flatMap (fun c => f' c e) := fun e => flatMap_c (fun c hc => by rw [h c (List.mem_of_mem_take hc)])
    have h2 : ∀ e, ((ps t).drop 1).flatMap (fun c => f c e) = ((ps t).drop 1).flatMap (fun c => f' c e) := fun e => flatMap_c (fun c hc => by rw [h c (List.mem_of_mem_drop hc)])
    have h3 : ∀ e, (ps t).flatMap (fun c => f c e) = (ps t).flatMap (fun c => f' c e) := fun e => flatMap_c (fun c hc => by rw [h c hc])
    rw [h1, h2, h3]) t]
theorem cd_lo {M t e z : Nat} (h : kd t ≤ 14) : z ∈ cdT M t e ↔ isLU M t ∧ z = mk e 0 [t] := by
  rw [cd_eq]
  unfold cdS
  rw [if_pos h]
  by_cases q : isLU M t
  · rw [if_pos (by simpa using q)]
    simp [q]
  · rw [if_neg (by simpa using q)]
    simp [q]
theorem cd_all {M t e z y f : Nat} (h : kd t = 18) (hp : ps t = [y, f]) : z ∈ cdT M t e ↔ z ∈ cdT M y e ∨ z ∈ cdT M f (e + 1) := by
  rw [cd_eq]
  unfold cdS
  rw [if_neg (by omega), if_pos h, hp]
  simp
theorem cd_pl {M t e z : Nat} (h : kd t = 16 ∨ kd t = 17) : z ∈ cdT M t e ↔ ∃ p ∈ ps t, z ∈ cdT M p e := by
  rw [cd_eq]
  unfold cdS
  rw [if_neg (by omega), if_neg (by omega)]
  exact List.mem_flatMap
/-- one deeper -/
def dpr (z : Nat) : Nat := mk (kd z + 1) 0 (ps z)
theorem cd_sh {M : Nat} : ∀ (t : Nat), okT t → (kd t = 8 ∨ isFo t) → ∀ e z, z ∈ cdT M t (e + 1) → ∃ v ∈ cdT M t e, z = dpr v := by
  intro t
  induction t using Nat.strongRecOn with
  | ind t ih =>
    intro ho hf e z hz
    by_cases k14 : kd t ≤ 14
    · obtain ⟨q1, q2⟩ := (cd_lo k14).mp hz
      refine ⟨mk e 0 [t], (cd_lo k14).mpr ⟨q1, rfl⟩, ?_⟩
      unfold dpr
      rw [q2, kd_mk, ps_mk]
    by_cases k18 : kd t = 18
    · obtain ⟨y, f, hp, y8, ff, my, mf⟩ := ps_all1 ho k18
      rcases (cd_all k18 hp).mp hz with q | q
      · obtain ⟨v, v1, v2⟩ := ih y (fms_lt my) (ho.c my) (Or.inl y8) e z q
        exact ⟨v, (cd_all k18 hp).mpr (Or.inl v1), v2⟩
      · obtain ⟨v, v1, v2⟩ := ih f (fms_lt mf) (ho.c mf) (Or.inr ff) (e + 1) z q
        exact ⟨v, (cd_all k18 hp).mpr (Or.inr v1), v2⟩
    · have hk67 : kd t = 16 ∨ kd t = 17 := by unfold isFo at hf; omega
      obtain ⟨p, hp, q⟩ := (cd_pl hk67).mp hz
      have fp : isFo p := by
        rcases ho.n.2 with q | q | q | q | q | q | q | q | q | q | q | q | q | q <;> first | omega | skip
        · obtain ⟨_, _, g, q3, q4, _⟩ := q
          rw [q3, List.mem_singleton] at hp
          rw [hp]; exact q4
        · exact (q.2.2.2 p hp).1
      have mp : p ∈ fms t := fms_mem hp (by omega) (isFo_pos fp)
      obtain ⟨v, v1, v2⟩ := ih p (fms_lt mp) (ho.c mp) (Or.inr fp) e z q
      exact ⟨v, (cd_pl hk67).mpr ⟨p, hp, v1⟩, v2⟩
/-- bound -/
def bdp (x z : Nat) : Nat := mk (kd z) 0 [sbT (bindg x) (kd z) (pa z 0)]
theorem cd_bx {M x : Nat} : ∀ (t : Nat), okT t → (kd t = 8 ∨ isFo t) → ∀ e z, z ∈ cdT M (sbT (bindg x) e t) e → ∃ v ∈ cdT M t e, z = bdp x v := by
  intro t
  induction t using Nat.strongRecOn with
  | ind t ih =>
    intro ho hf e z hz
    have hk : ¬ kd t ≤ 3 := by unfold isFo at hf; omega
    have k1 := (sb_kd (g := bindg x) (d := e) hk).1
    by_cases k14 : kd t ≤ 14
    · obtain ⟨⟨q1, q2, q3, q4⟩, q5⟩ := (cd_lo (by omega)).mp hz
      have hl := (iL_sbf gLf_bind (e := e) (g := bindg x) t ho k14).2
      have hd := dQ_sbf gLf_bind (e := e) (g := bindg x) ho k14 hk
      refine ⟨mk e 0 [t], (cd_lo k14).mpr ⟨⟨by omega, k14, by omega, by omega⟩, rfl⟩, ?_⟩
      unfold bdp
      have e1 : pa (mk e 0 [t]) 0 = t := by unfold pa; rw [ps_mk]; rfl
      rw [q5, kd_mk, e1]
    by_cases k18 : kd t = 18
    · obtain ⟨y, f, hp, y8, ff, my, mf⟩ := ps_all1 ho k18
      have pn := (fms_all (d := e) (bindg_0 (x := x)) k18 hp (okT_0 (ho.c my)) (okT_0 (ho.c mf))).2
      rcases (cd_all (by omega) pn).mp hz with q | q
      · obtain ⟨v, v1, v2⟩ := ih y (fms_lt my) (ho.c my) (Or.inl y8) e z q
        exact ⟨v, (cd_all k18 hp).mpr (Or.inl v1), v2⟩
      · obtain ⟨v, v1, v2⟩ := ih f (fms_lt mf) (ho.c mf) (Or.inr ff) (e + 1) z q
        exact ⟨v, (cd_all k18 hp).mpr (Or.inr v1), v2⟩
    · have hk67 : kd t = 16 ∨ kd t = 17 := by unfold isFo at hf; omega
      have hl : ∀ p ∈ ps t, isFo p ∧ p ∈ fms t := fun p hp => by
        have fp : isFo p := by
          rcases ho.n.2 with q | q | q | q | q | q | q | q | q | q | q | q | q | q <;> first | omega | skip
          · obtain ⟨_, _, g, q3, q4, _⟩ := q
            rw [q3, List.mem_singleton] at hp
            rw [hp]; exact q4
          · exact (q.2.2.2 p hp).1
        exact ⟨fp, fms_mem hp (by omega) (isFo_pos fp)⟩
      have pn := ps_map (g := bindg x) (d := e) hk67 (fun c hc => isFo_pos (hl c hc).1)
      obtain ⟨p', hp', q⟩ := (cd_pl (by rw [k1]; exact hk67)).mp hz
      rw [pn] at hp'
      obtain ⟨p, hp, ep⟩ := List.mem_map.mp hp'
      rw [← ep] at q
      obtain ⟨v, v1, v2⟩ := ih p (fms_lt (hl p hp).2) (ho.c (hl p hp).2) (Or.inr (hl p hp).1) e z q
      exact ⟨v, (cd_pl hk67).mpr ⟨p, hp, v1⟩, v2⟩
/-- how many there are, without doubles -/
noncomputable def nLU (M t : Nat) : Nat := (ddL (cdT M t 0)).length
theorem cd_not {M f z : Nat} (ho : okT f) : z ∈ cdT M (notT f) 0 → z ∈ cdT M f 0 := fun h => by
  unfold notT at h
  by_cases h16 : kd f = 16
  · rw [if_pos h16] at h
    obtain ⟨g, e, _, _, _⟩ := ps_not1 ho h16
    rw [e] at h
    exact (cd_pl (Or.inl h16)).mpr ⟨g, by rw [e]; simp, h⟩
  · rw [if_neg h16] at h
    obtain ⟨p, hp, q⟩ := (cd_pl (Or.inl (kd_mk _ _ _))).mp h
    rw [ps_mk, List.mem_singleton] at hp
    rw [hp] at q; exact q
theorem cd_yes {M z : Nat} : ¬ z ∈ cdT M yesT 0 := fun h => by
  have k9 : kd yesT = 9 := by unfold yesT; rw [kd_mk]
  obtain ⟨⟨_, _, q, _⟩, _⟩ := (cd_lo (by omega)).mp h
  rw [lf_fms (by omega)] at q
  unfold yesT at q
  rw [fms_nil] at q
  simp at q
theorem cd_and {M z : Nat} {L : List Nat} (h : z ∈ cdT M (andT L) 0) : ∃ f ∈ L, z ∈ cdT M f 0 := by
  have hfl : ∀ g ∈ L.flatMap flt, z ∈ cdT M g 0 → ∃ f ∈ L, z ∈ cdT M f 0 := fun g hg hz => by
    obtain ⟨f, hf, q⟩ := List.mem_flatMap.mp hg
    rcases flt_in q with e | ⟨e, w⟩
    · rw [e] at hz; exact ⟨f, hf, hz⟩
    · exact ⟨f, hf, (cd_pl (Or.inr e)).mpr ⟨g, w, hz⟩⟩
  unfold andT at h
  by_cases hn : noT ∈ L
  · rw [if_pos hn] at h
    exfalso
    have e1 : noT = mk 16 0 [yesT] := rfl
    rw [e1] at h
    obtain ⟨p, hp, q⟩ := (cd_pl (Or.inl (kd_mk _ _ _))).mp h
    rw [ps_mk, List.mem_singleton] at hp
    rw [hp] at q; exact cd_yes q
  · rw [if_neg hn] at h
    cases hl : L.flatMap flt with
    | nil => rw [hl] at h; exact absurd h cd_yes
    | cons a l =>
      rw [hl] at h hfl
      cases l with
      | nil => exact hfl a List.mem_cons_self h
      | cons b l =>
        obtain ⟨p, hp, q⟩ := (cd_pl (t := mk 17 0 (a :: b :: l)) (Or.inr (kd_mk _ _ _))).mp h
        rw [ps_mk] at hp
        exact hfl p hp q
