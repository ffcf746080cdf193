/-! openings: what is made beside, with any number of cases -/
theorem exo_all {Q : Nat} {s' : Nat → Nat} : ∀ (F : Nat), okT F → isFo F → ∀ (pol : Bool) (i : Nat), Q * exoT F pol + suG s' F pol i ≤ suX (fun i => 2 * Q + s' i) Q F pol i + 2 * Q * (kaT F pol - 1) := by
  intro F
  induction F using Nat.strongRecOn with
  | ind b ih =>
    intro ho hf pol i
    by_cases k16 : kd b = 16
    · obtain ⟨f, hp, ff, kf, mf⟩ := ps_not1 ho k16
      have ek : kaT b pol = kaT f (!pol) := by rw [kaT_eq]; unfold kaS; rw [if_pos k16, hp]; simp [prN1]
      have ex : exoT b pol = exoT f (!pol) := by rw [exoT_eq]; unfold exoS; rw [if_pos k16, hp]; simp
      have eu : suG s' b pol i = suG s' f (!pol) i := by rw [suG_eq]; unfold suZ; rw [if_pos k16, hp]; simp
      have es : suX (fun i => 2 * Q + s' i) Q b pol i = suX (fun i => 2 * Q + s' i) Q f (!pol) i := by rw [suX_eq]; unfold suXS; rw [if_pos k16, hp]; simp
      rw [ek, ex, eu, es]
      exact ih f (fms_lt mf) (ho.c mf) ff (!pol) i
    by_cases k17 : kd b = 17
    · have hl : 2 ≤ (ps b).length ∧ ∀ f ∈ ps b, isFo f := by
        rcases ho.n.2 with q | q | q | q | q | q | q | q | q | q | q | q | q | q <;> first | omega | exact ⟨q.2.2.1, fun p hp => (q.2.2.2 p hp).1⟩
      have mf : ∀ p ∈ ps b, p ∈ fms b := fun p hp => fms_mem hp (by omega) (isFo_pos (hl.2 p hp))
      have kpos : ∀ p ∈ ps b, 1 ≤ kaT p pol := fun p hp => ka_pos p (ho.c (mf p hp)) (hl.2 p hp) pol
      have ex : exoT b pol = 1 + (if pol then 0 else (ps b).length) + ((ps b).map (fun c => exoT c pol)).sum := by rw [exoT_eq]; unfold exoS; rw [if_neg k16, if_pos k17]
      have eu : suG s' b pol i = ((ps b).map (fun c => suG s' c pol i)).sum := by rw [suG_eq]; unfold suZ; rw [if_neg k16, if_pos k17]
      have es : suX (fun i => 2 * Q + s' i) Q b pol i = Q + ((ps b).map (fun c => suX (fun i => 2 * Q + s' i) Q c pol i)).sum := by rw [suX_eq]; unfold suXS; rw [if_neg k16, if_pos k17]
      have h3 : ∀ l : List Nat, (∀ p ∈ l, p ∈ ps b) → Q * (l.map (fun c => exoT c pol)).sum + (l.map (fun c => suG s' c pol i)).sum ≤ (l.map (fun c => suX (fun i => 2 * Q + s' i) Q c pol i)).sum + 2 * Q * (l.map (fun c => kaT c pol - 1)).sum := by
        intro l
        induction l with
        | nil => intro _; simp
        | cons a l ihl =>
          intro hl'
          have h4 := ihl (fun p hp => hl' p (List.mem_cons_of_mem _ hp))
          have ma := hl' a List.mem_cons_self
          have h5 := ih a (fms_lt (mf a ma)) (ho.c (mf a ma)) (hl.2 a ma) pol i
          simp only [List.map_cons, List.sum_cons, Nat.mul_add]
          omega
      have h6 := h3 (ps b) (fun p hp => hp)
      rw [ex, eu, es]
      cases pol with
      | true =>
        have ek : kaT b true = prN1 ((ps b).map (fun c => kaT c true)) := by rw [kaT_eq]; unfold kaS; rw [if_neg k16, if_pos k17]; simp
        have h7 := (prod_ge ((ps b).map (fun c => kaT c true)) (fun x hx => by
          obtain ⟨c, hc, e⟩ := List.mem_map.mp hx
          rw [← e]; exact kpos c hc)).2
        rw [List.map_map] at h7
        have h7' : ((ps b).map (fun c => kaT c true - 1)).sum ≤ prN1 ((ps b).map (fun c => kaT c true)) - 1 := h7
        have h8 : 2 * Q * ((ps b).map (fun c => kaT c true - 1)).sum ≤ 2 * Q * (prN1 ((ps b).map (fun c => kaT c true)) - 1) := Nat.mul_le_mul_left _ h7'
        rw [ek, if_pos rfl, Nat.mul_add, Nat.mul_add]
        omega
      | false =>
        have ek : kaT b false = ((ps b).map (fun c => kaT c false)).sum := by rw [kaT_eq]; unfold kaS; rw [if_neg k16, if_pos k17]; simp
        have h7 := (sum_ge (f := fun c => kaT c false) (l := ps b) kpos).2
        have h8 : kaT b false - 1 = ((ps b).map (fun c => kaT c false - 1)).sum + ((ps b).length - 1) := by omega
        rw [h8, if_neg (by decide), Nat.mul_add, Nat.mul_add, Nat.mul_add]
        have h9 : Q * (ps b).length ≤ 2 * Q * ((ps b).length - 1) := by
          have : Q * (ps b).length ≤ Q * (2 * ((ps b).length - 1)) := Nat.mul_le_mul_left _ (by omega)
          rw [← Nat.mul_assoc, Nat.mul_comm Q 2] at this
          exact this
        omega
    by_cases k18 : kd b = 18 ∧ pol = false
    · obtain ⟨k18, kp⟩ := k18
      subst kp
      obtain ⟨y, f, hp, y8, ff, my, mf⟩ := ps_all1 ho k18
      have ek : kaT b false = kaT f false := by rw [kaT_eq]; unfold kaS; rw [if_neg k16, if_neg k17, if_pos ⟨k18, rfl⟩, hp]; simp [prN1]
      have ex : exoT b false = 2 + exoT f false := by rw [exoT_eq]; unfold exoS; rw [if_neg k16, if_neg k17, if_pos ⟨k18, rfl⟩, hp]; simp
      have eu : suG s' b false i = s' i + suG s' f false (i + 1) := by rw [suG_eq]; unfold suZ; rw [if_neg k16, if_neg k17, if_pos ⟨k18, rfl⟩, hp]; simp
      have es : suX (fun i => 2 * Q + s' i) Q b false i = 2 * Q + s' i + suX (fun i => 2 * Q + s' i) Q f false (i + 1) := by rw [suX_eq]; unfold suXS; rw [if_neg k16, if_neg k17, if_pos ⟨k18, rfl⟩, hp]; simp
      have h1 := ih f (fms_lt mf) (ho.c mf) ff false (i + 1)
      rw [ek, ex, eu, es, Nat.mul_add, Nat.mul_comm Q 2]
      omega
    · have ex : exoT b pol = 0 := by rw [exoT_eq]; unfold exoS; rw [if_neg k16, if_neg k17, if_neg k18]
      have eu : suG s' b pol i = 0 := by rw [suG_eq]; unfold suZ; rw [if_neg k16, if_neg k17, if_neg k18]
      rw [ex, eu]
      simp
