/-! openings: a leaf is smaller by two for every opened binder -/
theorem ei_sz : ∀ (F : Nat), okT F → isFo F → ∀ pol, 2 * eiT F pol + 1 ≤ szT F := by
  intro F
  induction F using Nat.strongRecOn with
  | ind F ih =>
    intro ho hf pol
    have h0 := sz_fms (okT_0 ho)
    by_cases k14 : kd F ≤ 14
    · have e : eiT F pol = 0 := by rw [eiT_eq]; unfold eiS; rw [if_neg (by omega), if_neg (by omega), if_neg (fun q => by have := q.1; omega)]
      rw [e]; omega
    by_cases k18 : kd F = 18
    · obtain ⟨y, b, hp, y8, fb, my, mb⟩ := ps_all1 ho k18
      have hs : szT F = 1 + (szT y + szT b) := by rw [sz_pl (okT_0 ho) (by omega), hp]; simp
      have sy := sz_fms (okT_0 (ho.c my))
      cases pol with
      | true =>
        have e : eiT F true = 0 := by rw [eiT_eq]; unfold eiS; rw [if_neg (by omega), if_neg (by omega), if_neg (fun q => by cases q.2)]
        rw [e]; omega
      | false =>
        have e : eiT F false = 1 + eiT b false := by rw [eiT_eq]; unfold eiS; rw [if_neg (by omega), if_neg (by omega), if_pos ⟨k18, rfl⟩, hp]; simp
        have := ih b (fms_lt mb) (ho.c mb) fb false
        rw [e]; omega
    · have h67 : kd F = 16 ∨ kd F = 17 := by unfold isFo at hf; omega
      have hs : szT F = 1 + ((ps F).map szT).sum := sz_pl (okT_0 ho) (by omega)
      have key : ∀ (q : Bool) (l : List Nat), (∀ p ∈ l, 2 * eiT p q + 1 ≤ szT p) → 2 * (l.map (fun p => eiT p q)).sum ≤ (l.map szT).sum := fun q l => by
        induction l with
        | nil => exact fun _ => Nat.le_refl _
        | cons a l ihl =>
          intro hl
          have h1 := hl a List.mem_cons_self
          have h2 := ihl (fun p hp => hl p (List.mem_cons_of_mem _ hp))
          simp only [List.map_cons, List.sum_cons]
          omega
      have hI : ∀ q, ∀ p ∈ ps F, 2 * eiT p q + 1 ≤ szT p := fun q p hp => by
        obtain ⟨fp, mp⟩ := ps_67 ho h67 p hp
        exact ih p (fms_lt mp) (ho.c mp) fp q
      rcases h67 with k | k
      · have e : eiT F pol = ((ps F).map (fun p => eiT p (!pol))).sum := by rw [eiT_eq]; unfold eiS; rw [if_pos k]
        have := key (!pol) (ps F) (hI _)
        rw [e]; omega
      · have e : eiT F pol = ((ps F).map (fun p => eiT p pol)).sum := by rw [eiT_eq]; unfold eiS; rw [if_neg (by omega), if_pos k]
        have := key pol (ps F) (hI _)
        rw [e]; omega
theorem sum_ei {pol : Bool} : ∀ {l : List Nat} {p : Nat}, (∀ q ∈ l, 2 * eiT q pol + 1 ≤ szT q) → p ∈ l → szT p + 2 * (l.map (fun q => eiT q pol)).sum ≤ (l.map szT).sum + 2 * eiT p pol
  | [], _, _, h => by cases h
  | a :: l, p, h, hp => by
    have h1 := h a List.mem_cons_self
    simp only [List.map_cons, List.sum_cons]
    rcases List.mem_cons.mp hp with e | e
    · rw [e]
      have key : ∀ (l : List Nat), (∀ p ∈ l, 2 * eiT p pol + 1 ≤ szT p) → 2 * (l.map (fun p => eiT p pol)).sum ≤ (l.map szT).sum := fun l => by
        induction l with
        | nil => exact fun _ => Nat.le_refl _
        | cons a l ihl =>
          intro hl
          have h1 := hl a List.mem_cons_self
          have h2 := ihl (fun p hp => hl p (List.mem_cons_of_mem _ hp))
          simp only [List.map_cons, List.sum_cons]
          omega
      have := key l (fun q hq => h q (List.mem_cons_of_mem _ hq))
      omega
    · have := sum_ei (l := l) (fun q hq => h q (List.mem_cons_of_mem _ hq)) e
      omega
/-- what is asserted or denied -/
def TqE (M N : Nat) (P : Nat → Prop) (B n F : Nat) (pol : Bool) (E : Nat → Nat) (c : Nat) : Prop := htT (opn pol (sbT (gv E) 0 F)) < n → AlN M N P F → nz0 F ≤ B + 2 * eiT F pol → ∀ x ∈ (tqF n (opn pol (sbT (gv E) 0 F)) c).1, ∀ z ∈ x, kd z = 18 → RepU M N P B z
theorem tqL_E {M N : Nat} {P : Nat → Prop} {B n : Nat} {pol : Bool} {E : Nat → Nat} : ∀ {l : List Nat} {c : Nat}, (∀ p ∈ l, ∀ c, TqE M N P B n p pol E c) → (∀ p ∈ l, htT (opn pol (sbT (gv E) 0 p)) < n ∧ AlN M N P p ∧ nz0 p ≤ B + 2 * eiT p pol) → ∀ A ∈ (tqL (tqF n) (l.map (fun p => opn pol (sbT (gv E) 0 p))) c).1, ∀ x ∈ A, ∀ z ∈ x, kd z = 18 → RepU M N P B z
  | [], c, _, _, A, hA => by cases hA
  | p :: l, c, h, hh, A, hA => by
    intro x hx z hz h18
    have hA : A ∈ (tqF n (opn pol (sbT (gv E) 0 p)) c).1 :: (tqL (tqF n) (l.map (fun p => opn pol (sbT (gv E) 0 p))) (tqF n (opn pol (sbT (gv E) 0 p)) c).2).1 := hA
    obtain ⟨p1, p2, p3⟩ := hh p List.mem_cons_self
    rcases List.mem_cons.mp hA with w | w
    · rw [w] at hx
      exact h p List.mem_cons_self c p1 p2 p3 x hx z hz h18
    · exact tqL_E (l := l) (fun q hq => h q (List.mem_cons_of_mem _ hq)) (fun q hq => hh q (List.mem_cons_of_mem _ hq)) A w x hx z hz h18
theorem tq_E {M N : Nat} {P : Nat → Prop} {B : Nat} (hP : ∀ s, 15 ≤ kd s → P s) : ∀ (n F : Nat) (pol : Bool) (E : Nat → Nat) (c : Nat), okT F → isFo F → clE1 E → TqE M N P B n F pol E c := by
  intro n
  induction n with
  | zero => exact fun F pol E c _ _ _ h => by omega
  | succ n ih =>
    have base : ∀ (F : Nat) (pol : Bool) (E : Nat → Nat) (c : Nat), okT F → isFo F → kd F ≠ 16 → clE1 E → TqE M N P B (n + 1) F pol E c := by
      intro F pol E c ho hf k16 hE hH hA hB x hx z hz h18
      have hB : szT F ≤ B + 2 * eiT F pol := by unfold nz0 at hB; rw [if_neg k16] at hB; exact hB
      have hk : ¬ kd F ≤ 3 := by unfold isFo at hf; omega
      have kS := (sb_kd (g := gv E) (d := 0) hk).1
      have oS := okT_sb F ho (gOn_gv hE ho) 0
      have fS' := (sb_fo (g := gv E) (d := 0) hf).1
      have e1 : opn true (sbT (gv E) 0 F) = sbT (gv E) 0 F := opn_t
      have e2 : opn false (sbT (gv E) 0 F) = mk 16 0 [sbT (gv E) 0 F] := by
        rw [opn_f]
        unfold notT
        rw [if_neg (by omega)]
      have pa0 : pa (mk 16 0 [sbT (gv E) 0 F]) 0 = sbT (gv E) 0 F := by unfold pa; rw [ps_mk]; rfl
      have kd16 : kd (mk 16 0 [sbT (gv E) 0 F]) = 16 := kd_mk _ _ _
      have mS : sbT (gv E) 0 F ∈ fms (mk 16 0 [sbT (gv E) 0 F]) := fms_mem (by rw [ps_mk]; exact List.mem_cons_self) (by rw [kd_mk]; decide) (okT_0 oS)
      have leaf : z = opn pol (sbT (gv E) 0 F) → RepU M N P B z := fun ez => by
        cases pol with
        | true =>
          have hk18 : kd F = 18 := by rw [ez, opn_t] at h18; omega
          have e0 : eiT F true = 0 := by rw [eiT_eq]; unfold eiS; rw [if_neg (by omega), if_neg (by omega), if_neg (fun q => by cases q.2)]
          rw [e0] at hB
          exact ⟨F, E, ⟨ho, hf, by omega, hA⟩, hE, by rw [ez, opn_t]⟩
        | false => rw [ez, e2, kd16] at h18; omega
      have one : ∀ {w : Nat}, x ∈ [[w]] → z = w := fun {w} q => by
        rw [List.mem_singleton.mp q] at hz
        exact List.mem_singleton.mp hz
      by_cases k17 : kd F = 17
      · have hl : ∀ f ∈ ps F, isFo f := by
          rcases ho.n.2 with q | q | q | q | q | q | q | q | q | q | q | q | q | q <;> first | omega | exact fun p hp => (q.2.2.2 p hp).1
        have mf : ∀ p ∈ ps F, p ∈ fms F := fun p hp => fms_mem hp (by omega) (isFo_pos (hl p hp))
        have pS : ps (sbT (gv E) 0 F) = (ps F).map (sbT (gv E) 0) := ps_map (Or.inr k17) (fun c hc => isFo_pos (hl c hc))
        have hc : ∀ p ∈ ps F, htT (sbT (gv E) 0 p) + 1 ≤ htT (sbT (gv E) 0 F) := fun p hp => ht_c (by rw [fms_sbn (gv_0 hE) hk (by omega)]; exact List.mem_map.mpr ⟨p, mf p hp, rfl⟩)
        have eF : eiT F pol = ((ps F).map (fun p => eiT p pol)).sum := by rw [eiT_eq]; unfold eiS; rw [if_neg (by omega), if_pos k17]
        have ssz : ∀ p ∈ ps F, szT p ≤ B + 2 * eiT p pol := fun p hp => by
          have h1 := sum_ei (pol := pol) (fun q hq => ei_sz q (ho.c (mf q hq)) (hl q hq) pol) hp
          have h2 := sz_pl (okT_0 ho) (by omega)
          rw [eF] at hB
          omega
        cases pol with
        | true =>
          rw [e1] at hH hx
          rw [tqF, if_neg (by omega), if_pos (by omega)] at hx
          have em : (ps F).map (fun p => opn true (sbT (gv E) 0 p)) = ps (sbT (gv E) 0 F) := by rw [pS]; exact List.map_congr_left (fun p _ => opn_t)
          obtain ⟨A, a1, x', a2, a3⟩ := prodL_in hx hz
          rw [← em] at a1
          exact tqL_E (M := M) (N := N) (P := P) (B := B) (n := n) (pol := true) (E := E) (l := ps F) (c := c) (fun p hp c' => ih p true E c' (ho.c (mf p hp)) (hl p hp) hE) (fun p hp => ⟨by rw [opn_t]; have := hc p hp; omega, hA.c ho hf (mf p hp) (hl p hp), by have := ssz p hp; have := nz0_le (ho.c (mf p hp)); omega⟩) A a1 x' a2 z a3 h18
        | false =>
          rw [e2] at hH hx
          have h16 := ht_c mS
          have em : (ps F).map (fun p => opn false (sbT (gv E) 0 p)) = (ps (sbT (gv E) 0 F)).map notT := by rw [pS, List.map_map]; exact List.map_congr_left (fun p _ => opn_f)
          have t1 : tqF (n + 1) (mk 16 0 [sbT (gv E) 0 F]) c = ((tqL (tqF n) ((ps (sbT (gv E) 0 F)).map notT) c).1.flatten, (tqL (tqF n) ((ps (sbT (gv E) 0 F)).map notT) c).2) := by
            rw [tqF, if_neg (by omega), if_neg (by omega), if_pos kd16, pa0, if_neg (by omega), if_pos (by omega)]
          rw [t1] at hx
          obtain ⟨A, a1, a2⟩ := List.mem_flatten.mp hx
          rw [← em] at a1
          exact tqL_E (M := M) (N := N) (P := P) (B := B) (n := n) (pol := false) (E := E) (l := ps F) (c := c) (fun p hp c' => ih p false E c' (ho.c (mf p hp)) (hl p hp) hE) (fun p hp => ⟨by
            rw [opn_f]
            have := hc p hp
            have := ht_not (okT_sb p (ho.c (mf p hp)) (gOn_gv hE (ho.c (mf p hp))) 0)
            omega, hA.c ho hf (mf p hp) (hl p hp), by
            have h1 := ssz p hp
            have h2 := nz0_le (ho.c (mf p hp))
            omega⟩) A a1 x a2 z hz h18
      by_cases k18 : kd F = 18
      · cases pol with
        | true =>
          rw [e1, tqF, if_neg (by omega), if_neg (by omega), if_neg (by omega)] at hx
          exact leaf (by rw [e1]; exact one hx)
        | false =>
          obtain ⟨y, b, hp, y8, fb, my, mb⟩ := ps_all1 ho k18
          have oy := ho.c my
          have ob := ho.c mb
          have pS := (fms_all (d := 0) (gv_0 hE) k18 hp (okT_0 oy) (okT_0 ob)).2
          have fS := (fms_all (d := 0) (gv_0 hE) k18 hp (okT_0 oy) (okT_0 ob)).1
          have pa1 : pa (sbT (gv E) 0 F) 1 = odT E 0 b := by unfold pa; rw [pS]; rfl
          have ht := clT1_const (2 * c)
          have einst : sbT (putg (mk 1 (2 * c) [])) 0 (odT E 0 b) = nwT (mk 1 (2 * c) []) E 0 b := put_gv hE b ob 0
          rw [e2] at hH hx
          have h16 := ht_c mS
          have hb := ht_c (t := sbT (gv E) 0 F) (c := odT E 0 b) (by rw [fS]; exact List.mem_cons_of_mem _ List.mem_cons_self)
          have hi := ht_put_le (ht_con (2 * c)) (odT E 0 b) (okT_od hE ob) 0
          rw [einst] at hi
          have hnt := ht_not (okT_nw ht hE (e := 0) ob)
          have t1 : tqF (n + 1) (mk 16 0 [sbT (gv E) 0 F]) c = tqF n (notT (nwT (mk 1 (2 * c) []) E 0 b)) (c + 1) := by
            rw [tqF, if_neg (by omega), if_neg (by omega), if_pos kd16, pa0, if_neg (by omega), if_neg (by omega), if_pos (by omega), pa1, einst]
          rw [t1] at hx
          have hs : szT F = 1 + (szT y + szT b) := by rw [sz_pl (okT_0 ho) (by omega), hp]; simp
          have sy := sz_fms (okT_0 oy)
          have eF : eiT F false = 1 + eiT b false := by rw [eiT_eq]; unfold eiS; rw [if_neg (by omega), if_neg (by omega), if_pos ⟨k18, rfl⟩, hp]; simp
          rw [eF] at hB
          exact ih b false (cE (mk 1 (2 * c) []) E) (c + 1) ob fb (clE1.c ht hE) (by rw [opn_f]; show htT (notT (nwT (mk 1 (2 * c) []) E 0 b)) < n; omega) (hA.c ho hf mb fb) (by
            have h2 := nz0_le ob
            omega) x (by rw [opn_f]; exact hx) z hz h18
      · have k14 : kd F ≤ 14 := by unfold isFo at hf; omega
        cases pol with
        | true =>
          rw [e1] at hx
          by_cases k9 : kd F = 9
          · rw [tqF, if_pos (by omega)] at hx
            rw [List.mem_singleton.mp hx] at hz
            cases hz
          · rw [tqF, if_neg (by omega), if_neg (by omega), if_neg (by omega)] at hx
            exact leaf (by rw [e1]; exact one hx)
        | false =>
          rw [e2] at hx
          by_cases k9 : kd F = 9
          · rw [tqF, if_neg (by omega), if_neg (by omega), if_pos kd16, pa0, if_pos (by omega)] at hx
            cases hx
          · rw [tqF, if_neg (by omega), if_neg (by omega), if_pos kd16, pa0, if_neg (by omega), if_neg (by omega), if_neg (by omega)] at hx
            exact leaf (by rw [e2]; exact one hx)
    intro F pol E c ho hf hE
    by_cases k16 : kd F = 16
    · obtain ⟨f, hp, ff, kf, mf⟩ := ps_not1 ho k16
      have of := ho.c mf
      have e0 : F = notT f := by
        have w0 : wh F = 0 := by
          rcases ho.n.2 with q | q | q | q | q | q | q | q | q | q | q | q | q | q <;> first | omega | exact q.2.1
        have := ho.n.1
        rw [hp, k16, w0] at this
        unfold notT
        rw [if_neg kf]
        exact this
      have on := okT_sb f of (gOn_gv hE of) 0
      have fn := (sb_fo (g := gv E) (d := 0) ff).1
      have e1 : opn pol (sbT (gv E) 0 F) = opn (!pol) (sbT (gv E) 0 f) := by
        rw [e0, sb_notT (gOn_gv hE of) of ff]
        cases pol with
        | true => rw [opn_t, Bool.not_true, opn_f]
        | false => rw [opn_f, Bool.not_false, opn_t]; exact notT_not on fn
      have h := base f (!pol) E c of ff kf hE
      unfold TqE at h ⊢
      rw [e1]
      exact fun hH hA hB => h hH (hA.c ho hf mf ff) (by
        have e4 : pa F 0 = f := by unfold pa; rw [hp]; rfl
        have eF : eiT F pol = eiT f (!pol) := by rw [eiT_eq]; unfold eiS; rw [if_pos k16, hp]; simp
        unfold nz0 at hB ⊢
        rw [if_pos k16, e4, eF] at hB
        rw [if_neg kf]
        exact hB)
    · exact base F pol E c ho hf k16 hE
