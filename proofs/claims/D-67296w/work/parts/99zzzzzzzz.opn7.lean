/-! counting openings: what is made besides, by cases and new constants -/
def prN1 (l : List Nat) : Nat := l.foldr (· * ·) 1
def kaS (f : Nat → Bool → Nat) (t : Nat) : Bool → Nat := fun pol => if kd t = 16 then prN1 ((ps t).map (fun c => f c (!pol))) else if kd t = 17 then (if pol then prN1 ((ps t).map (fun c => f c true)) else ((ps t).map (fun c => f c false)).sum) else if kd t = 18 ∧ pol = false then prN1 (((ps t).drop 1).map (fun c => f c false)) else 1
/-- cases of a formula (false: of NOT of it) -/
def kaT (t : Nat) (pol : Bool) : Nat := rcT kaS (fun _ => 1) t pol
theorem kaT_eq (t : Nat) (pol : Bool) : kaT t pol = kaS kaT t pol := by
  unfold kaT
  rw [rc_eq (fun f f' t h => by
    unfold kaS
    funext pol
    have h1 : ∀ b, (ps t).map (fun c => f c b) = (ps t).map (fun c => f' c b) := fun b => List.map_congr_left fun c hc => by rw [h c hc]
    have h2 : ((ps t).drop 1).map (fun c => f c false) = ((ps t).drop 1).map (fun c => f' c false) := List.map_congr_left fun c hc => by rw [h c (List.mem_of_mem_drop hc)]
    rw [h1, h1, h1, h2]) t]
def eiS (f : Nat → Bool → Nat) (t : Nat) : Bool → Nat := fun pol => if kd t = 16 then ((ps t).map (fun c => f c (!pol))).sum else if kd t = 17 then ((ps t).map (fun c => f c pol)).sum else if kd t = 18 ∧ pol = false then 1 + (((ps t).drop 1).map (fun c => f c false)).sum else 0
/-- new constants -/
def eiT (t : Nat) (pol : Bool) : Nat := rcT eiS (fun _ => 0) t pol
theorem eiT_eq (t : Nat) (pol : Bool) : eiT t pol = eiS eiT t pol := by
  unfold eiT
  rw [rc_eq (fun f f' t h => by
    unfold eiS
    funext pol
    have h1 : ∀ b, (ps t).map (fun c => f c b) = (ps t).map (fun c => f' c b) := fun b => List.map_congr_left fun c hc => by rw [h c hc]
    have h2 : ((ps t).drop 1).map (fun c => f c false) = ((ps t).drop 1).map (fun c => f' c false) := List.map_congr_left fun c hc => by rw [h c (List.mem_of_mem_drop hc)]
    rw [h1, h1, h2]) t]
theorem prod_ge : ∀ (l : List Nat), (∀ x ∈ l, 1 ≤ x) → 1 ≤ prN1 l ∧ (l.map (fun x => x - 1)).sum ≤ prN1 l - 1
  | [], _ => ⟨Nat.le_refl _, Nat.zero_le _⟩
  | a :: l, h => by
    have h1 := h a List.mem_cons_self
    obtain ⟨h2, h3⟩ := prod_ge l (fun x hx => h x (List.mem_cons_of_mem _ hx))
    have e : prN1 (a :: l) = a * prN1 l := rfl
    rw [e, List.map_cons, List.sum_cons]
    generalize prN1 l = p at *
    have g1 : 1 * 1 ≤ a * p := Nat.mul_le_mul h1 h2
    have g2 : (a - 1) + (p - 1) ≤ a * p - 1 := by
      obtain ⟨a', rfl⟩ : ∃ a', a = a' + 1 := ⟨a - 1, by omega⟩
      obtain ⟨p', rfl⟩ : ∃ p', p = p' + 1 := ⟨p - 1, by omega⟩
      have : (a' + 1) * (p' + 1) = a' * p' + a' + p' + 1 := by rw [Nat.add_mul, Nat.mul_add]; omega
      omega
    omega
theorem sum_ge {f : Nat → Nat} : ∀ {l : List Nat}, (∀ c ∈ l, 1 ≤ f c) → l.length ≤ (l.map f).sum ∧ (l.map (fun c => f c - 1)).sum + l.length = (l.map f).sum
  | [], _ => ⟨Nat.le_refl _, rfl⟩
  | a :: l, h => by
    have h1 := h a List.mem_cons_self
    obtain ⟨h2, h3⟩ := sum_ge (l := l) (fun c hc => h c (List.mem_cons_of_mem _ hc))
    simp only [List.map_cons, List.sum_cons, List.length_cons]
    omega
theorem sum_bd {x κ e : Nat → Nat} {c : Nat} : ∀ {l : List Nat}, (∀ p ∈ l, x p ≤ 5 * (κ p - 1) + 3 * e p + c) → (l.map x).sum ≤ 5 * (l.map (fun p => κ p - 1)).sum + 3 * (l.map e).sum + c * l.length
  | [], _ => by simp
  | a :: l, h => by
    have h1 := h a List.mem_cons_self
    have h2 := sum_bd (l := l) (fun p hp => h p (List.mem_cons_of_mem _ hp))
    simp only [List.map_cons, List.sum_cons, List.length_cons, Nat.mul_add]
    omega
/-- what an opening makes besides: five for each case more, three for each constant -/
theorem exo_le : ∀ (F : Nat), okT F → isFo F → ∀ pol, 1 ≤ kaT F pol ∧ exoT F pol ≤ 5 * (kaT F pol - 1) + 3 * eiT F pol + 1 ∧ (¬ (kd F = 17 ∧ pol = true) → ¬ (kd F = 16 ∧ kd (pa F 0) = 17 ∧ pol = false) → exoT F pol ≤ 5 * (kaT F pol - 1) + 3 * eiT F pol) := by
  intro F
  induction F using Nat.strongRecOn with
  | ind F ih =>
    intro ho hf pol
    by_cases k16 : kd F = 16
    · obtain ⟨f, hp, ff, kf, mf⟩ := ps_not1 ho k16
      obtain ⟨i1, i2, i3⟩ := ih f (fms_lt mf) (ho.c mf) ff (!pol)
      have e1 : kaT F pol = kaT f (!pol) := by rw [kaT_eq]; unfold kaS; rw [if_pos k16, hp]; simp [prN1]
      have e2 : eiT F pol = eiT f (!pol) := by rw [eiT_eq]; unfold eiS; rw [if_pos k16, hp]; simp
      have e3 : exoT F pol = exoT f (!pol) := by rw [exoT_eq]; unfold exoS; rw [if_pos k16, hp]; simp
      rw [e1, e2, e3]
      have ep : pa F 0 = f := by unfold pa; rw [hp]; rfl
      refine ⟨i1, i2, fun _ q => i3 (fun w => q ⟨k16, by rw [ep]; exact w.1, ?_⟩) (fun w => absurd w.1 kf)⟩
      cases pol with
      | true => exact absurd w.2 (by decide)
      | false => rfl
    by_cases k17 : kd F = 17
    · have hl : 2 ≤ (ps F).length ∧ ∀ f ∈ ps F, isFo f ∧ kd f ≠ 17 ∧ f ≠ yesT ∧ f ≠ noT := by
        rcases ho.n.2 with q | q | q | q | q | q | q | q | q | q | q | q | q | q <;> first | omega | exact q.2.2
      have mf : ∀ p ∈ ps F, p ∈ fms F := fun p hp => fms_mem hp (by omega) (isFo_pos (hl.2 p hp).1)
      have I := fun p (hp : p ∈ ps F) b => ih p (fms_lt (mf p hp)) (ho.c (mf p hp)) (hl.2 p hp).1 b
      cases pol with
      | true =>
        have e1 : kaT F true = prN1 ((ps F).map (fun c => kaT c true)) := by rw [kaT_eq]; unfold kaS; rw [if_neg k16, if_pos k17, if_pos rfl]
        have e2 : eiT F true = ((ps F).map (fun c => eiT c true)).sum := by rw [eiT_eq]; unfold eiS; rw [if_neg k16, if_pos k17]
        have e3 : exoT F true = 1 + 0 + ((ps F).map (fun c => exoT c true)).sum := by rw [exoT_eq]; unfold exoS; rw [if_neg k16, if_pos k17, if_pos rfl]
        obtain ⟨p1, p2⟩ := prod_ge ((ps F).map (fun c => kaT c true)) (fun x hx => by
          obtain ⟨c, hc, e⟩ := List.mem_map.mp hx
          rw [← e]; exact (I c hc true).1)
        rw [List.map_map] at p2
        have b := sum_bd (x := fun c => exoT c true) (κ := fun c => kaT c true) (e := fun c => eiT c true) (c := 0) (l := ps F) (fun p hp => by
          have := (I p hp true).2.2 (fun w => (hl.2 p hp).2.1 w.1) (fun w => by cases w.2.2)
          show exoT p true ≤ 5 * (kaT p true - 1) + 3 * eiT p true + 0
          omega)
        have p2 : ((ps F).map (fun c => kaT c true - 1)).sum ≤ prN1 ((ps F).map (fun c => kaT c true)) - 1 := p2
        rw [e1, e2, e3]
        exact ⟨p1, by omega, fun q => absurd ⟨k17, rfl⟩ q⟩
      | false =>
        have e1 : kaT F false = ((ps F).map (fun c => kaT c false)).sum := by rw [kaT_eq]; unfold kaS; rw [if_neg k16, if_pos k17, if_neg (by decide)]
        have e2 : eiT F false = ((ps F).map (fun c => eiT c false)).sum := by rw [eiT_eq]; unfold eiS; rw [if_neg k16, if_pos k17]
        have e3 : exoT F false = 1 + (ps F).length + ((ps F).map (fun c => exoT c false)).sum := by rw [exoT_eq]; unfold exoS; rw [if_neg k16, if_pos k17, if_neg (by decide)]
        obtain ⟨p1, p2⟩ := sum_ge (f := fun c => kaT c false) (l := ps F) (fun c hc => (I c hc false).1)
        have b := sum_bd (x := fun c => exoT c false) (κ := fun c => kaT c false) (e := fun c => eiT c false) (c := 1) (l := ps F) (fun p hp => (I p hp false).2.1)
        rw [e1, e2, e3]
        have h2 := hl.1
        exact ⟨by omega, by omega, fun _ _ => by omega⟩
    by_cases k18 : kd F = 18
    · cases pol with
      | true =>
        have e1 : kaT F true = 1 := by rw [kaT_eq]; unfold kaS; rw [if_neg k16, if_neg k17, if_neg (fun q => by cases q.2)]
        have e3 : exoT F true = 0 := by rw [exoT_eq]; unfold exoS; rw [if_neg k16, if_neg k17, if_neg (fun q => by cases q.2)]
        rw [e1, e3]
        exact ⟨Nat.le_refl _, Nat.zero_le _, fun _ _ => Nat.zero_le _⟩
      | false =>
        obtain ⟨y, f, hp, y8, ff, my, mf⟩ := ps_all1 ho k18
        obtain ⟨i1, i2, i3⟩ := ih f (fms_lt mf) (ho.c mf) ff false
        have e1 : kaT F false = kaT f false := by rw [kaT_eq]; unfold kaS; rw [if_neg k16, if_neg k17, if_pos ⟨k18, rfl⟩, hp]; simp [prN1]
        have e2 : eiT F false = 1 + eiT f false := by rw [eiT_eq]; unfold eiS; rw [if_neg k16, if_neg k17, if_pos ⟨k18, rfl⟩, hp]; simp
        have e3 : exoT F false = 2 + exoT f false := by rw [exoT_eq]; unfold exoS; rw [if_neg k16, if_neg k17, if_pos ⟨k18, rfl⟩, hp]; simp
        rw [e1, e2, e3]
        exact ⟨i1, by omega, fun _ _ => by omega⟩
    · have e1 : kaT F pol = 1 := by rw [kaT_eq]; unfold kaS; rw [if_neg k16, if_neg k17, if_neg (fun q => k18 q.1)]
      have e3 : exoT F pol = 0 := by rw [exoT_eq]; unfold exoS; rw [if_neg k16, if_neg k17, if_neg (fun q => k18 q.1)]
      rw [e1, e3]
      exact ⟨Nat.le_refl _, Nat.zero_le _, fun _ _ => Nat.zero_le _⟩
