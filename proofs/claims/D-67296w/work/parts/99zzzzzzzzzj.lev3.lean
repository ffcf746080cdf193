/-! binders one within the other: no more than there are bound forms -/
def abS (f : Nat → Nat) (t : Nat) : Nat := if kd t ≤ 14 then 0 else if kd t ≠ 18 then ((ps t).map f).foldl max 0 else 1 + ((ps t).map f).foldl max 0
def abT (t : Nat) : Nat := rcT abS 0 t
theorem ab_eq (t : Nat) : abT t = abS abT t := rc_eq (fun f f' t h => by
  unfold abS
  have h3 : (ps t).map f = (ps t).map f' := List.map_congr_left h
  rw [h3]) t
theorem ab_part {t c : Nat} (h : ¬ kd t ≤ 14) (hc : c ∈ ps t) : abT c + (if kd t ≠ 18 then 0 else 1) ≤ abT t := by
  have h1 : abT c ≤ ((ps t).map abT).foldl max 0 := le_fmax (Or.inl (List.mem_map.mpr ⟨c, hc, rfl⟩))
  rw [ab_eq t]
  unfold abS
  rw [if_neg h]
  split <;> omega
theorem ab_lo {f : Nat} (h : kd f ≤ 14) : abT f = 0 := by rw [ab_eq]; unfold abS; rw [if_pos h]
theorem ab_not {f : Nat} (ho : okT f) : abT (notT f) = abT f := by
  unfold notT
  by_cases h16 : kd f = 16
  · obtain ⟨g, e, _, _, _⟩ := ps_not1 ho h16
    rw [if_pos h16, e, ab_eq f]
    unfold abS
    rw [if_neg (by omega), if_pos (by omega), e]
    simp
  · rw [if_neg h16, ab_eq (mk 16 0 [f])]
    unfold abS
    rw [kd_mk, if_neg (by decide), if_pos (by decide), ps_mk]
    simp
theorem ab_no : abT noT = 0 := by
  have : noT = notT yesT := by unfold notT; rw [if_neg (by unfold yesT; rw [kd_mk]; decide)]; rfl
  rw [ab_eq]
  unfold abS
  rw [if_neg (by unfold noT; rw [kd_mk]; decide), if_pos (by unfold noT; rw [kd_mk]; decide)]
  have hp : ps noT = [yesT] := by unfold noT; rw [ps_mk]
  rw [hp]
  have : abT yesT = 0 := ab_lo (by unfold yesT; rw [kd_mk]; decide)
  simp [this]
theorem ab_and {L : List Nat} {B : Nat} (h : ∀ f ∈ L, abT f ≤ B) : abT (andT L) ≤ B := by
  have hfl : ∀ g ∈ L.flatMap flt, abT g ≤ B := fun g hg => by
    obtain ⟨f, hf, q⟩ := List.mem_flatMap.mp hg
    rcases flt_in q with e | ⟨e, z⟩
    · rw [e]; exact h f hf
    · have := ab_part (t := f) (by omega) z
      have := h f hf
      omega
  unfold andT
  by_cases hn : noT ∈ L
  · rw [if_pos hn, ab_no]; omega
  · rw [if_neg hn]
    cases hl : L.flatMap flt with
    | nil => show abT yesT ≤ _; rw [ab_lo (by unfold yesT; rw [kd_mk]; decide)]; omega
    | cons a l =>
      rw [hl] at hfl
      cases l with
      | nil => show abT a ≤ _; have := hfl a List.mem_cons_self; omega
      | cons b l =>
        show abT (mk 17 0 (a :: b :: l)) ≤ _
        rw [ab_eq]
        unfold abS
        rw [kd_mk, if_neg (by decide), if_pos (by decide), ps_mk]
        have : ((a :: b :: l).map abT).foldl max 0 ≤ B := fmax_le (Nat.zero_le _) (fun x hx => by
          obtain ⟨c, hc, e⟩ := List.mem_map.mp hx
          rw [← e]; exact hfl c hc)
        omega
theorem ab_two {a b B : Nat} (ha : abT a ≤ B) (hb : abT b ≤ B) : abT (andT [a, b]) ≤ B := ab_and (fun f hf => by
  rcases List.mem_cons.mp hf with q | q
  · rw [q]; exact ha
  · rw [List.mem_singleton.mp q]; exact hb)
theorem ab_jn {k : Int} {x y B : Nat} (ox : okT x ∧ isFo x) (oy : k ≠ 0 → okT y ∧ isFo y) (hx : abT x ≤ B) (hy : k ≠ 0 → abT y ≤ B) : abT (jnT k x y) ≤ B := by
  unfold jnT
  by_cases k0 : k = 0
  · rw [if_pos k0, ab_not ox.1]; omega
  rw [if_neg k0]
  have oy := oy k0
  have hy := hy k0
  have two : ∀ {a b : Nat}, okT a ∧ isFo a → okT b ∧ isFo b → okT (andT [a, b]) := fun {a b} ha hb => (okT_and (fun z hz => by
    rcases List.mem_cons.mp hz with q | q
    · rw [q]; exact ha
    · rw [List.mem_singleton.mp q]; exact hb)).1
  have im : ∀ {a b : Nat}, okT a ∧ isFo a → okT b ∧ isFo b → abT a ≤ B → abT b ≤ B → abT (impT a b) ≤ B := fun {a b} oa ob ha hb => by
    unfold impT
    rw [ab_not (two oa (okT_not ob.1 ob.2))]
    exact ab_two ha (by rw [ab_not ob.1]; exact hb)
  by_cases k1 : k = 1
  · rw [if_pos k1]; have := ab_two hx hy; omega
  rw [if_neg k1]
  by_cases k2 : k = 2
  · rw [if_pos k2, ab_not (two (okT_not ox.1 ox.2) (okT_not oy.1 oy.2))]
    have := ab_two (a := notT x) (b := notT y) (B := B) (by rw [ab_not ox.1]; exact hx) (by rw [ab_not oy.1]; exact hy)
    omega
  rw [if_neg k2]
  by_cases k3 : k = 3
  · rw [if_pos k3]; have := im ox oy hx hy; omega
  rw [if_neg k3]
  exact ab_two (im ox oy hx hy) (im oy ox hy hx)
theorem ab_sb {g : Nat → Nat → Nat} (hg : gN0 g) : ∀ (f : Nat), okT f → (isFo f ∨ kd f = 8) → ∀ d, abT (sbT g d f) = abT f := by
  intro f
  induction f using Nat.strongRecOn with
  | ind f ih =>
    intro ho hf d
    have hk : ¬ kd f ≤ 3 := by unfold isFo at hf; omega
    have k1 := (sb_kd (g := g) (d := d) hk).1
    by_cases k14 : kd f ≤ 14
    · rw [ab_lo (by omega), ab_lo k14]
    have hf : isFo f := hf.resolve_right (by omega)
    by_cases k18 : kd f = 18
    · obtain ⟨y, b, hp, y8, fb, my, mb⟩ := ps_all1 ho k18
      have pS := (fms_all (d := d) hg k18 hp (okT_0 (ho.c my)) (okT_0 (ho.c mb))).2
      rw [ab_eq, ab_eq f]
      unfold abS
      rw [k1, pS, hp]
      simp only [List.map_cons, List.map_nil]
      rw [ih y (fms_lt my) (ho.c my) (Or.inr y8) d, ih b (fms_lt mb) (ho.c mb) (Or.inl fb) (d + 1)]
    · have hl : ∀ p ∈ ps f, isFo p := fun p hp => by
        rcases ho.n.2 with q | q | q | q | q | q | q | q | q | q | q | q | q | q <;> first | (exfalso; unfold isFo at hf; omega) | skip
        · obtain ⟨_, _, g', q1, q2, _⟩ := q
          rw [q1, List.mem_singleton] at hp
          rw [hp]; exact q2
        · exact (q.2.2.2 p hp).1
      have mf : ∀ p ∈ ps f, p ∈ fms f := fun p hp => fms_mem hp (by omega) (isFo_pos (hl p hp))
      rw [ab_eq, ab_eq f]
      unfold abS
      rw [k1, ps_map (by unfold isFo at hf; omega) (fun c hc => isFo_pos (hl c hc)), List.map_map]
      have : (ps f).map (abT ∘ sbT g d) = (ps f).map abT := List.map_congr_left (fun c hc => ih c (fms_lt (mf c hc)) (ho.c (mf c hc)) (Or.inl (hl c hc)) d)
      rw [this]
theorem ab_al {y f B : Nat} (h8 : kd y = 8) (hf : abT f ≤ B) : abT (alT y f) ≤ B + 1 := by
  unfold alT
  split
  · rw [ab_lo (by unfold yesT; rw [kd_mk]; decide)]; omega
  · rw [ab_eq]
    unfold abS
    rw [kd_mk, if_neg (by decide), if_neg (by decide), ps_mk]
    have : ([y, f].map abT).foldl max 0 ≤ B := fmax_le (Nat.zero_le _) (fun x hx => by
      simp only [List.map_cons, List.map_nil, List.mem_cons, List.not_mem_nil, or_false] at hx
      rcases hx with q | q
      · rw [q, ab_lo (by omega)]; omega
      · rw [q]; exact hf)
    omega
theorem ab_bd {W : Wd} {o : Int} {x y B : Nat} (oy : okT y) (fy : isFo y) (hy : abT y ≤ B) (x8 : kd (wcT W (wh x)) = 8) (hbo : okT (bdA W o x y)) : abT (bdT W o x y) ≤ B + 1 := by
  have a2 : abT (bdF o y) ≤ B ∧ okT (bdF o y) ∧ isFo (bdF o y) := by
    unfold bdF
    split
    · exact ⟨hy, oy, fy⟩
    · exact ⟨by rw [ab_not oy]; exact hy, okT_not oy fy⟩
  have a3 : abT (bdA W o x y) ≤ B + 1 := by
    unfold bdA bdG
    refine ab_al x8 ?_
    rw [ab_sb (fun e l h hk => (gLf_bind (x := x) (e := e) l hk h).2) (bdF o y) a2.2.1 (Or.inl a2.2.2) 0]
    exact a2.1
  unfold bdT
  split
  · exact a3
  · rw [ab_not hbo]; exact a3
/-- opened binders one within the other -/
theorem sc_ab : ∀ (F : Nat), okT F → isFo F → ∀ pol, scT F pol ≤ abT F := by
  intro F
  induction F using Nat.strongRecOn with
  | ind F ih =>
    intro ho hf pol
    have mx : ∀ (l : List Nat) (b : Bool), (∀ p ∈ l, scT p b ≤ abT F) → (l.map (fun c => scT c b)).foldl max 0 ≤ abT F := fun l b h => fmax_le (Nat.zero_le _) (fun x hx => by
      obtain ⟨p, hp, e⟩ := List.mem_map.mp hx
      rw [← e]; exact h p hp)
    rw [scT_eq]
    unfold scS
    by_cases k16 : kd F = 16
    · obtain ⟨f, hp, ff, kf, mf⟩ := ps_not1 ho k16
      rw [if_pos k16]
      refine mx (ps F) (!pol) (fun p hp' => ?_)
      have h1 := ab_part (t := F) (by omega) hp'
      rw [hp, List.mem_singleton] at hp'
      rw [hp'] at h1 ⊢
      have := ih f (fms_lt mf) (ho.c mf) ff (!pol)
      omega
    rw [if_neg k16]
    by_cases k17 : kd F = 17
    · have hl : ∀ f ∈ ps F, isFo f := by
        rcases ho.n.2 with q | q | q | q | q | q | q | q | q | q | q | q | q | q <;> first | omega | exact fun p hp => (q.2.2.2 p hp).1
      have mf : ∀ p ∈ ps F, p ∈ fms F := fun p hp => fms_mem hp (by omega) (isFo_pos (hl p hp))
      rw [if_pos k17]
      refine mx (ps F) pol (fun p hp => ?_)
      have h1 := ab_part (t := F) (by omega) hp
      have := ih p (fms_lt (mf p hp)) (ho.c (mf p hp)) (hl p hp) pol
      omega
    rw [if_neg k17]
    by_cases k18 : kd F = 18 ∧ pol = false
    · obtain ⟨y, f, hp, y8, ff, my, mf⟩ := ps_all1 ho k18.1
      have h1 := ab_part (t := F) (c := f) (by omega) (by rw [hp]; simp)
      have h2 := ih f (fms_lt mf) (ho.c mf) ff false
      rw [if_pos k18, hp]
      rw [if_neg (by omega)] at h1
      simp
      omega
    · rw [if_neg k18]; exact Nat.zero_le _
def KfB (Fo : List Nat) : Prop := ∀ f ∈ Fo, isFo f → abT f ≤ nFB Fo
theorem KfB.ap {Fo : List Nat} {t : Nat} (h : KfB Fo) (ht : isFo t → abT t ≤ nFB (Fo ++ [t])) : KfB (Fo ++ [t]) := fun f hf k => by
  rcases List.mem_append.mp hf with q | q
  · have := h f q k
    have := nFB_ap (Fo := Fo) (t := t)
    omega
  · rw [List.mem_singleton.mp q] at k ⊢; exact ht k
theorem KfB.tm {Fo : List Nat} {t : Nat} (h : KfB Fo) (hk : kd t ≤ 14) : KfB (Fo ++ [t]) := h.ap (fun _ => by rw [ab_lo hk]; exact Nat.zero_le _)
theorem KfB.jn {Fo : List Nat} {k : Int} {x y : Nat} (h : KfB Fo) (hx : x ∈ Fo) (ox : okT x ∧ isFo x) (hy : k ≠ 0 → y ∈ Fo) (oy : k ≠ 0 → okT y ∧ isFo y) : KfB (Fo ++ [jnT k x y]) := h.ap (fun _ => by
  have h1 := ab_jn ox oy (h x hx ox.2) (fun q => h y (hy q) (oy q).2)
  have := nFB_ap (Fo := Fo) (t := jnT k x y)
  omega)
theorem isB_bd {W : Wd} {o : Int} {x y : Nat} (hbo : okT (bdA W o x y)) (h : abT (bdT W o x y) ≠ 0) : isB (bdT W o x y) = true := by
  have key : abT (bdA W o x y) ≠ 0 → kd (bdA W o x y) = 18 := fun q => by
    unfold bdA alT at q ⊢
    split at q
    · exact absurd (ab_lo (by unfold yesT; rw [kd_mk]; decide)) q
    · rename_i w
      rw [if_neg w, kd_mk]
  unfold bdT at h ⊢
  split at h
  · rename_i w
    rw [if_pos w]
    unfold isB
    simp [key h]
  · rename_i w
    rw [ab_not hbo] at h
    rw [if_neg w]
    have k18 := key h
    unfold isB notT
    rw [if_neg (by omega)]
    have e : pa (mk 16 0 [bdA W o x y]) 0 = bdA W o x y := by unfold pa; rw [ps_mk]; rfl
    rw [kd_mk, e, k18]
    decide
theorem KfB.bd {W : Wd} {Fo : List Nat} {o : Int} {x y : Nat} (h : KfB Fo) (hy : y ∈ Fo) (oy : okT y) (fy : isFo y) (x8 : kd (wcT W (wh x)) = 8) (hbo : okT (bdA W o x y)) : KfB (Fo ++ [bdT W o x y]) := h.ap (fun _ => by
  have h1 := ab_bd (o := o) oy fy (h y hy fy) x8 hbo
  have h2 := nFB_ap (Fo := Fo) (t := bdT W o x y)
  by_cases q : abT (bdT W o x y) = 0
  · rw [q]; exact Nat.zero_le _
  · rw [if_pos (isB_bd hbo q)] at h2
    omega)
