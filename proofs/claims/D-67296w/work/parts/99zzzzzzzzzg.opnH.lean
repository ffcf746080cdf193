/-! openings: the leaves are what kept formulas have become -/
/-- what is asserted or denied -/
def TqR (P : Nat → Prop) (B n F : Nat) (pol : Bool) (E : Nat → Nat) (c : Nat) : Prop := htT (opn pol (sbT (gv E) 0 F)) < n → Alls P F → szT (opn pol F) ≤ B → ∀ x ∈ (tqF n (opn pol (sbT (gv E) 0 F)) c).1, ∀ z ∈ x, Rep P B z
theorem tqL_R {P : Nat → Prop} {B n : Nat} {pol : Bool} {E : Nat → Nat} : ∀ {l : List Nat} {c : Nat}, (∀ p ∈ l, ∀ c, TqR P B n p pol E c) → (∀ p ∈ l, htT (opn pol (sbT (gv E) 0 p)) < n ∧ Alls P p ∧ szT (opn pol p) ≤ B) → ∀ A ∈ (tqL (tqF n) (l.map (fun p => opn pol (sbT (gv E) 0 p))) c).1, ∀ x ∈ A, ∀ z ∈ x, Rep P B z
  | [], c, _, _, A, hA => by cases hA
  | p :: l, c, h, hh, A, hA => by
    intro x hx z hz
    have hA : A ∈ (tqF n (opn pol (sbT (gv E) 0 p)) c).1 :: (tqL (tqF n) (l.map (fun p => opn pol (sbT (gv E) 0 p))) (tqF n (opn pol (sbT (gv E) 0 p)) c).2).1 := hA
    obtain ⟨p1, p2, p3⟩ := hh p List.mem_cons_self
    rcases List.mem_cons.mp hA with w | w
    · rw [w] at hx
      exact h p List.mem_cons_self c p1 p2 p3 x hx z hz
    · exact tqL_R (l := l) (fun q hq => h q (List.mem_cons_of_mem _ hq)) (fun q hq => hh q (List.mem_cons_of_mem _ hq)) A w x hx z hz
theorem sz_opn {F : Nat} {pol : Bool} (h16 : kd F ≠ 16) (h0 : F ≠ 0) : szT (opn pol F) = szT F + (if pol then 0 else 1) := by
  cases pol with
  | true => rw [opn_t]; rfl
  | false =>
    rw [opn_f]
    unfold notT
    rw [if_neg h16, sz_pl (b := mk 16 0 [F]) (by have := mk_pos 16 0 [F]; omega) (by rw [kd_mk]; decide), ps_mk]
    simp
    omega
theorem sz_not_le {F : Nat} (ho : okT F) : szT (notT F) ≤ szT F + 1 := by
  by_cases h16 : kd F = 16
  · obtain ⟨f, hp, ff, kf, mf⟩ := ps_not1 ho h16
    have e : notT F = f := by unfold notT; rw [if_pos h16, hp]; rfl
    have := sz_subT F ho (sub_c mf (sub_rf f))
    rw [e]; omega
  · have := sz_opn (pol := false) h16 (okT_0 ho)
    rw [opn_f] at this
    rw [this]
    exact Nat.le_refl _
theorem tq_R {P : Nat → Prop} {B : Nat} (hP : ∀ s, 15 ≤ kd s → P s) : ∀ (n F : Nat) (pol : Bool) (E : Nat → Nat) (c : Nat), okT F → isFo F → clE1 E → TqR P B n F pol E c := by
  intro n
  induction n with
  | zero => exact fun F pol E c _ _ _ h => by omega
  | succ n ih =>
    have base : ∀ (F : Nat) (pol : Bool) (E : Nat → Nat) (c : Nat), okT F → isFo F → kd F ≠ 16 → clE1 E → TqR P B (n + 1) F pol E c := by
      intro F pol E c ho hf k16 hE hH hA hB x hx z hz
      have hk : ¬ kd F ≤ 3 := by unfold isFo at hf; omega
      have kS := (sb_kd (g := gv E) (d := 0) hk).1
      have oS := okT_sb F ho (gOn_gv hE ho) 0
      have fS' := (sb_fo (g := gv E) (d := 0) hf).1
      have e1 : opn true (sbT (gv E) 0 F) = sbT (gv E) 0 F := opn_t
      have e2 : opn false (sbT (gv E) 0 F) = mk 16 0 [sbT (gv E) 0 F] := by
        rw [opn_f]
        unfold notT
        rw [if_neg (by omega)]
      have pa0 : pa (mk 16 0 [sbT (gv E) 0 F]) 0 = sbT (gv E) 0 F := by unfold pa; rw [ps_mk]; rfl
      have kd16 : kd (mk 16 0 [sbT (gv E) 0 F]) = 16 := kd_mk _ _ _
      have mS : sbT (gv E) 0 F ∈ fms (mk 16 0 [sbT (gv E) 0 F]) := fms_mem (by rw [ps_mk]; exact List.mem_cons_self) (by rw [kd_mk]; decide) (okT_0 oS)
      have sB := sz_opn (pol := pol) k16 (okT_0 ho)
      have leaf : z = opn pol (sbT (gv E) 0 F) → Rep P B z := fun ez => by
        refine ⟨opn pol F, E, ?_, hE, ?_⟩
        · cases pol with
          | true => rw [opn_t] at hB ⊢; exact ⟨ho, hf, hB, hA⟩
          | false => rw [opn_f] at hB ⊢; exact ⟨(okT_not ho hf).1, (okT_not ho hf).2, hB, Alls.not hP ho hA⟩
        · rw [ez]
          cases pol with
          | true => rw [opn_t, opn_t]
          | false => rw [opn_f, opn_f, sb_notT (gOn_gv hE ho) ho hf]
      have one : ∀ {w : Nat}, x ∈ [[w]] → z = w := fun {w} q => by
        rw [List.mem_singleton.mp q] at hz
        exact List.mem_singleton.mp hz
      by_cases k17 : kd F = 17
      · have hl : ∀ f ∈ ps F, isFo f := by
          rcases ho.n.2 with q | q | q | q | q | q | q | q | q | q | q | q | q | q <;> first | omega | exact fun p hp => (q.2.2.2 p hp).1
        have mf : ∀ p ∈ ps F, p ∈ fms F := fun p hp => fms_mem hp (by omega) (isFo_pos (hl p hp))
        have pS : ps (sbT (gv E) 0 F) = (ps F).map (sbT (gv E) 0) := ps_map (Or.inr k17) (fun c hc => isFo_pos (hl c hc))
        have hc : ∀ p ∈ ps F, htT (sbT (gv E) 0 p) + 1 ≤ htT (sbT (gv E) 0 F) := fun p hp => ht_c (by rw [fms_sbn (gv_0 hE) hk (by omega)]; exact List.mem_map.mpr ⟨p, mf p hp, rfl⟩)
        have ssz : ∀ p ∈ ps F, szT p + 1 ≤ szT F := fun p hp => by
          rw [sz_pl (okT_0 ho) (by omega)]
          have := le_sum_mem (f := szT) hp
          omega
        cases pol with
        | true =>
          rw [e1] at hH hx
          rw [tqF, if_neg (by omega), if_pos (by omega)] at hx
          have em : (ps F).map (fun p => opn true (sbT (gv E) 0 p)) = ps (sbT (gv E) 0 F) := by rw [pS]; exact List.map_congr_left (fun p _ => opn_t)
          obtain ⟨A, a1, x', a2, a3⟩ := prodL_in hx hz
          rw [← em] at a1
          exact tqL_R (P := P) (B := B) (n := n) (pol := true) (E := E) (l := ps F) (c := c) (fun p hp c' => ih p true E c' (ho.c (mf p hp)) (hl p hp) hE) (fun p hp => ⟨by rw [opn_t]; have := hc p hp; omega, hA.sub (sub_c (mf p hp) (sub_rf p)), by rw [opn_t] at hB ⊢; have := ssz p hp; omega⟩) A a1 x' a2 z a3
        | false =>
          rw [e2] at hH hx
          have h16 := ht_c mS
          have em : (ps F).map (fun p => opn false (sbT (gv E) 0 p)) = (ps (sbT (gv E) 0 F)).map notT := by rw [pS, List.map_map]; exact List.map_congr_left (fun p _ => opn_f)
          have t1 : tqF (n + 1) (mk 16 0 [sbT (gv E) 0 F]) c = ((tqL (tqF n) ((ps (sbT (gv E) 0 F)).map notT) c).1.flatten, (tqL (tqF n) ((ps (sbT (gv E) 0 F)).map notT) c).2) := by
            rw [tqF, if_neg (by omega), if_neg (by omega), if_pos kd16, pa0, if_neg (by omega), if_pos (by omega)]
          rw [t1] at hx
          obtain ⟨A, a1, a2⟩ := List.mem_flatten.mp hx
          rw [← em] at a1
          exact tqL_R (P := P) (B := B) (n := n) (pol := false) (E := E) (l := ps F) (c := c) (fun p hp c' => ih p false E c' (ho.c (mf p hp)) (hl p hp) hE) (fun p hp => ⟨by
            rw [opn_f]
            have := hc p hp
            have := ht_not (okT_sb p (ho.c (mf p hp)) (gOn_gv hE (ho.c (mf p hp))) 0)
            omega, hA.sub (sub_c (mf p hp) (sub_rf p)), by
            rw [opn_f]
            have h1 := ssz p hp
            have h2 := sz_not_le (ho.c (mf p hp))
            simp at sB
            omega⟩) A a1 x a2 z hz
      by_cases k18 : kd F = 18
      · cases pol with
        | true =>
          rw [e1, tqF, if_neg (by omega), if_neg (by omega), if_neg (by omega)] at hx
          exact leaf (by rw [e1]; exact one hx)
        | false =>
          obtain ⟨y, b, hp, y8, fb, my, mb⟩ := ps_all1 ho k18
          have oy := ho.c my
          have ob := ho.c mb
          have pS := (fms_all (d := 0) (gv_0 hE) k18 hp (okT_0 oy) (okT_0 ob)).2
          have fS := (fms_all (d := 0) (gv_0 hE) k18 hp (okT_0 oy) (okT_0 ob)).1
          have pa1 : pa (sbT (gv E) 0 F) 1 = odT E 0 b := by unfold pa; rw [pS]; rfl
          have ht := clT1_const (2 * c)
          have einst : sbT (putg (mk 1 (2 * c) [])) 0 (odT E 0 b) = nwT (mk 1 (2 * c) []) E 0 b := put_gv hE b ob 0
          rw [e2] at hH hx
          have h16 := ht_c mS
          have hb := ht_c (t := sbT (gv E) 0 F) (c := odT E 0 b) (by rw [fS]; exact List.mem_cons_of_mem _ List.mem_cons_self)
          have hi := ht_put_le (ht_con (2 * c)) (odT E 0 b) (okT_od hE ob) 0
          rw [einst] at hi
          have hnt := ht_not (okT_nw ht hE (e := 0) ob)
          have t1 : tqF (n + 1) (mk 16 0 [sbT (gv E) 0 F]) c = tqF n (notT (nwT (mk 1 (2 * c) []) E 0 b)) (c + 1) := by
            rw [tqF, if_neg (by omega), if_neg (by omega), if_pos kd16, pa0, if_neg (by omega), if_neg (by omega), if_pos (by omega), pa1, einst]
          rw [t1] at hx
          have hs : szT F = 1 + (szT y + szT b) := by rw [sz_pl (okT_0 ho) (by omega), hp]; simp
          have sy := sz_fms (okT_0 oy)
          exact ih b false (cE (mk 1 (2 * c) []) E) (c + 1) ob fb (clE1.c ht hE) (by rw [opn_f]; show htT (notT (nwT (mk 1 (2 * c) []) E 0 b)) < n; omega) (hA.sub (sub_c mb (sub_rf b))) (by
            rw [opn_f]
            have h2 := sz_not_le ob
            simp at sB
            omega) x (by rw [opn_f]; exact hx) z hz
      · have k14 : kd F ≤ 14 := by unfold isFo at hf; omega
        cases pol with
        | true =>
          rw [e1] at hx
          by_cases k9 : kd F = 9
          · rw [tqF, if_pos (by omega)] at hx
            rw [List.mem_singleton.mp hx] at hz
            cases hz
          · rw [tqF, if_neg (by omega), if_neg (by omega), if_neg (by omega)] at hx
            exact leaf (by rw [e1]; exact one hx)
        | false =>
          rw [e2] at hx
          by_cases k9 : kd F = 9
          · rw [tqF, if_neg (by omega), if_neg (by omega), if_pos kd16, pa0, if_pos (by omega)] at hx
            cases hx
          · rw [tqF, if_neg (by omega), if_neg (by omega), if_pos kd16, pa0, if_neg (by omega), if_neg (by omega), if_neg (by omega)] at hx
            exact leaf (by rw [e2]; exact one hx)
    intro F pol E c ho hf hE
    by_cases k16 : kd F = 16
    · obtain ⟨f, hp, ff, kf, mf⟩ := ps_not1 ho k16
      have of := ho.c mf
      have e0 : F = notT f := by
        have w0 : wh F = 0 := by
          rcases ho.n.2 with q | q | q | q | q | q | q | q | q | q | q | q | q | q <;> first | omega | exact q.2.1
        have := ho.n.1
        rw [hp, k16, w0] at this
        unfold notT
        rw [if_neg kf]
        exact this
      have on := okT_sb f of (gOn_gv hE of) 0
      have fn := (sb_fo (g := gv E) (d := 0) ff).1
      have e1 : opn pol (sbT (gv E) 0 F) = opn (!pol) (sbT (gv E) 0 f) := by
        rw [e0, sb_notT (gOn_gv hE of) of ff]
        cases pol with
        | true => rw [opn_t, Bool.not_true, opn_f]
        | false => rw [opn_f, Bool.not_false, opn_t]; exact notT_not on fn
      have e3 : opn pol F = opn (!pol) f := by
        rw [e0]
        cases pol with
        | true => rw [opn_t, Bool.not_true, opn_f]
        | false => rw [opn_f, Bool.not_false, opn_t]; exact notT_not of ff
      have h := base f (!pol) E c of ff kf hE
      unfold TqR at h ⊢
      rw [e1, e3]
      exact fun hH hA hB => h hH (hA.sub (sub_c mf (sub_rf f))) hB
    · exact base F pol E c ho hf k16 hE
