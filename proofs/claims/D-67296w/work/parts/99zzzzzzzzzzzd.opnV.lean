/-! openings: an ALL that is a leaf is smaller by two than what was opened, or is all of it -/
def TqG (M N : Nat) (P : Nat → Prop) (B n F : Nat) (pol : Bool) (E : Nat → Nat) (c : Nat) : Prop := htT (opn pol (sbT (gv E) 0 F)) < n → AlN M N P F → nz0 F ≤ B → ∀ x ∈ (tqF n (opn pol (sbT (gv E) 0 F)) c).1, ∀ z ∈ x, kd z = 18 → RepU M N P (B - 2) z ∨ z = opn pol (sbT (gv E) 0 F)
theorem sum_two {f : Nat → Nat} : ∀ {l : List Nat} {a : Nat}, a ∈ l → 2 ≤ l.length → (∀ c ∈ l, 1 ≤ f c) → f a + 1 ≤ (l.map f).sum
  | [b], _, _, h2, _ => by simp at h2
  | b :: d :: l, a, h, _, h1 => by
    rw [List.map_cons, List.sum_cons]
    have hb := h1 b List.mem_cons_self
    have hd := h1 d (List.mem_cons_of_mem _ List.mem_cons_self)
    rcases List.mem_cons.mp h with q | q
    · rw [q, List.map_cons, List.sum_cons]; omega
    · have := le_sum_mem (f := f) q
      omega
theorem tq_G {M N : Nat} {P : Nat → Prop} {B : Nat} (hP : ∀ s, 15 ≤ kd s → P s) : ∀ (n F : Nat) (pol : Bool) (E : Nat → Nat) (c : Nat), okT F → isFo F → clE1 E → TqG M N P B n F pol E c := by
  intro n
  cases n with
  | zero => exact fun F pol E c _ _ _ h => by omega
  | succ n =>
    have base : ∀ (F : Nat) (pol : Bool) (E : Nat → Nat) (c : Nat), okT F → isFo F → kd F ≠ 16 → clE1 E → TqG M N P B (n + 1) F pol E c := by
      intro F pol E c ho hf k16 hE hH hA hB x hx z hz h18
      have hB : szT F ≤ B := by unfold nz0 at hB; rw [if_neg k16] at hB; exact hB
      have hk : ¬ kd F ≤ 3 := by unfold isFo at hf; omega
      have kS := (sb_kd (g := gv E) (d := 0) hk).1
      have oS := okT_sb F ho (gOn_gv hE ho) 0
      have fS' := (sb_fo (g := gv E) (d := 0) hf).1
      have e1 : opn true (sbT (gv E) 0 F) = sbT (gv E) 0 F := opn_t
      have e2 : opn false (sbT (gv E) 0 F) = mk 16 0 [sbT (gv E) 0 F] := by
        rw [opn_f]
        unfold notT
        rw [if_neg (by omega)]
      have pa0 : pa (mk 16 0 [sbT (gv E) 0 F]) 0 = sbT (gv E) 0 F := by unfold pa; rw [ps_mk]; rfl
      have kd16 : kd (mk 16 0 [sbT (gv E) 0 F]) = 16 := kd_mk _ _ _
      have mS : sbT (gv E) 0 F ∈ fms (mk 16 0 [sbT (gv E) 0 F]) := fms_mem (by rw [ps_mk]; exact List.mem_cons_self) (by rw [kd_mk]; decide) (okT_0 oS)
      have leaf : z = opn pol (sbT (gv E) 0 F) → RepU M N P (B - 2) z ∨ z = opn pol (sbT (gv E) 0 F) := Or.inr
      have one : ∀ {w : Nat}, x ∈ [[w]] → z = w := fun {w} q => by
        rw [List.mem_singleton.mp q] at hz
        exact List.mem_singleton.mp hz
      by_cases k17 : kd F = 17
      · have hl : ∀ f ∈ ps F, isFo f := by
          rcases ho.n.2 with q | q | q | q | q | q | q | q | q | q | q | q | q | q <;> first | omega | exact fun p hp => (q.2.2.2 p hp).1
        have mf : ∀ p ∈ ps F, p ∈ fms F := fun p hp => fms_mem hp (by omega) (isFo_pos (hl p hp))
        have pS : ps (sbT (gv E) 0 F) = (ps F).map (sbT (gv E) 0) := ps_map (Or.inr k17) (fun c hc => isFo_pos (hl c hc))
        have hc : ∀ p ∈ ps F, htT (sbT (gv E) 0 p) + 1 ≤ htT (sbT (gv E) 0 F) := fun p hp => ht_c (by rw [fms_sbn (gv_0 hE) hk (by omega)]; exact List.mem_map.mpr ⟨p, mf p hp, rfl⟩)
        have ssz : ∀ p ∈ ps F, szT p + 2 ≤ szT F := fun p hp => by
          have l2 : 2 ≤ (ps F).length := by
            rcases ho.n.2 with q | q | q | q | q | q | q | q | q | q | q | q | q | q <;> first | omega | exact q.2.2.1
          rw [sz_pl (okT_0 ho) (by omega)]
          have := sum_two (f := szT) hp l2 (fun c hc => by have := sz_fms (okT_0 (ho.c (mf c hc))); omega)
          omega
        cases pol with
        | true =>
          rw [e1] at hH hx
          rw [tqF, if_neg (by omega), if_pos (by omega)] at hx
          have em : (ps F).map (fun p => opn true (sbT (gv E) 0 p)) = ps (sbT (gv E) 0 F) := by rw [pS]; exact List.map_congr_left (fun p _ => opn_t)
          obtain ⟨A, a1, x', a2, a3⟩ := prodL_in hx hz
          rw [← em] at a1
          exact Or.inl (tqL_U (M := M) (N := N) (P := P) (B := B - 2) (n := n) (pol := true) (E := E) (l := ps F) (c := c) (fun p hp c' => tq_U hP n p true E c' (ho.c (mf p hp)) (hl p hp) hE) (fun p hp => ⟨by rw [opn_t]; have := hc p hp; omega, hA.c ho hf (mf p hp) (hl p hp), by have := ssz p hp; have := nz0_le (ho.c (mf p hp)); omega⟩) A a1 x' a2 z a3 h18)
        | false =>
          rw [e2] at hH hx
          have h16 := ht_c mS
          have em : (ps F).map (fun p => opn false (sbT (gv E) 0 p)) = (ps (sbT (gv E) 0 F)).map notT := by rw [pS, List.map_map]; exact List.map_congr_left (fun p _ => opn_f)
          have t1 : tqF (n + 1) (mk 16 0 [sbT (gv E) 0 F]) c = ((tqL (tqF n) ((ps (sbT (gv E) 0 F)).map notT) c).1.flatten, (tqL (tqF n) ((ps (sbT (gv E) 0 F)).map notT) c).2) := by
            rw [tqF, if_neg (by omega), if_neg (by omega), if_pos kd16, pa0, if_neg (by omega), if_pos (by omega)]
          rw [t1] at hx
          obtain ⟨A, a1, a2⟩ := List.mem_flatten.mp hx
          rw [← em] at a1
          exact Or.inl (tqL_U (M := M) (N := N) (P := P) (B := B - 2) (n := n) (pol := false) (E := E) (l := ps F) (c := c) (fun p hp c' => tq_U hP n p false E c' (ho.c (mf p hp)) (hl p hp) hE) (fun p hp => ⟨by
            rw [opn_f]
            have := hc p hp
            have := ht_not (okT_sb p (ho.c (mf p hp)) (gOn_gv hE (ho.c (mf p hp))) 0)
            omega, hA.c ho hf (mf p hp) (hl p hp), by
            have h1 := ssz p hp
            have h2 := nz0_le (ho.c (mf p hp))
            omega⟩) A a1 x a2 z hz h18)
      by_cases k18 : kd F = 18
      · cases pol with
        | true =>
          rw [e1, tqF, if_neg (by omega), if_neg (by omega), if_neg (by omega)] at hx
          exact leaf (by rw [e1]; exact one hx)
        | false =>
          obtain ⟨y, b, hp, y8, fb, my, mb⟩ := ps_all1 ho k18
          have oy := ho.c my
          have ob := ho.c mb
          have pS := (fms_all (d := 0) (gv_0 hE) k18 hp (okT_0 oy) (okT_0 ob)).2
          have fS := (fms_all (d := 0) (gv_0 hE) k18 hp (okT_0 oy) (okT_0 ob)).1
          have pa1 : pa (sbT (gv E) 0 F) 1 = odT E 0 b := by unfold pa; rw [pS]; rfl
          have ht := clT1_const (2 * c)
          have einst : sbT (putg (mk 1 (2 * c) [])) 0 (odT E 0 b) = nwT (mk 1 (2 * c) []) E 0 b := put_gv hE b ob 0
          rw [e2] at hH hx
          have h16 := ht_c mS
          have hb := ht_c (t := sbT (gv E) 0 F) (c := odT E 0 b) (by rw [fS]; exact List.mem_cons_of_mem _ List.mem_cons_self)
          have hi := ht_put_le (ht_con (2 * c)) (odT E 0 b) (okT_od hE ob) 0
          rw [einst] at hi
          have hnt := ht_not (okT_nw ht hE (e := 0) ob)
          have t1 : tqF (n + 1) (mk 16 0 [sbT (gv E) 0 F]) c = tqF n (notT (nwT (mk 1 (2 * c) []) E 0 b)) (c + 1) := by
            rw [tqF, if_neg (by omega), if_neg (by omega), if_pos kd16, pa0, if_neg (by omega), if_neg (by omega), if_pos (by omega), pa1, einst]
          rw [t1] at hx
          have hs : szT F = 1 + (szT y + szT b) := by rw [sz_pl (okT_0 ho) (by omega), hp]; simp
          have sy := sz_fms (okT_0 oy)
          exact Or.inl (tq_U hP n b false (cE (mk 1 (2 * c) []) E) (c + 1) ob fb (clE1.c ht hE) (by rw [opn_f]; show htT (notT (nwT (mk 1 (2 * c) []) E 0 b)) < n; omega) (hA.c ho hf mb fb) (by
            have h2 := nz0_le ob
            omega) x (by rw [opn_f]; exact hx) z hz h18)
      · have k14 : kd F ≤ 14 := by unfold isFo at hf; omega
        cases pol with
        | true =>
          rw [e1] at hx
          by_cases k9 : kd F = 9
          · rw [tqF, if_pos (by omega)] at hx
            rw [List.mem_singleton.mp hx] at hz
            cases hz
          · rw [tqF, if_neg (by omega), if_neg (by omega), if_neg (by omega)] at hx
            exact leaf (by rw [e1]; exact one hx)
        | false =>
          rw [e2] at hx
          by_cases k9 : kd F = 9
          · rw [tqF, if_neg (by omega), if_neg (by omega), if_pos kd16, pa0, if_pos (by omega)] at hx
            cases hx
          · rw [tqF, if_neg (by omega), if_neg (by omega), if_pos kd16, pa0, if_neg (by omega), if_neg (by omega), if_neg (by omega)] at hx
            exact leaf (by rw [e2]; exact one hx)
    intro F pol E c ho hf hE
    by_cases k16 : kd F = 16
    · obtain ⟨f, hp, ff, kf, mf⟩ := ps_not1 ho k16
      have of := ho.c mf
      have e0 : F = notT f := by
        have w0 : wh F = 0 := by
          rcases ho.n.2 with q | q | q | q | q | q | q | q | q | q | q | q | q | q <;> first | omega | exact q.2.1
        have := ho.n.1
        rw [hp, k16, w0] at this
        unfold notT
        rw [if_neg kf]
        exact this
      have on := okT_sb f of (gOn_gv hE of) 0
      have fn := (sb_fo (g := gv E) (d := 0) ff).1
      have e1 : opn pol (sbT (gv E) 0 F) = opn (!pol) (sbT (gv E) 0 f) := by
        rw [e0, sb_notT (gOn_gv hE of) of ff]
        cases pol with
        | true => rw [opn_t, Bool.not_true, opn_f]
        | false => rw [opn_f, Bool.not_false, opn_t]; exact notT_not on fn
      have h := base f (!pol) E c of ff kf hE
      unfold TqG at h ⊢
      rw [e1]
      exact fun hH hA hB => h hH (hA.c ho hf mf ff) (by
        have e4 : pa F 0 = f := by unfold pa; rw [hp]; rfl
        unfold nz0 at hB ⊢
        rw [if_pos k16, e4] at hB
        rw [if_neg kf]
        exact hB)
    · exact base F pol E c ho hf k16 hE
