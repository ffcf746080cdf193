/-! openings: the premises together -/
theorem gv_cl {E : Nat → Nat} : ∀ (t : Nat), okT t → ∀ d, loT t ≤ d → sbT (gv E) d t = t := by
  intro t
  induction t using Nat.strongRecOn with
  | ind t ih =>
    intro ho d hd
    have hn := ho.n
    rw [loT_eq] at hd
    unfold loS at hd
    by_cases hk : kd t ≤ 3
    · rw [sbT_eq, if_pos hk]
      unfold gv
      by_cases h2 : kd t = 2
      · rw [if_pos h2] at hd
        rw [if_neg (by omega)]
      · rw [if_neg (fun q => h2 q.1)]
    · rw [if_neg (by omega)] at hd
      rw [sbT_eq, if_neg hk]
      have hz : ∀ c, (c ≠ 0 → c ∈ fms t) → ∀ d', loT c ≤ d' → zf (sbT (gv E) d') c = c := fun c hc d' hl => by
        unfold zf
        split
        · rename_i q; exact q.symm
        · rename_i q; exact ih c (fms_lt (hc q)) (ho.c (hc q)) d' hl
      have e : chm (sbT (gv E)) (kd t) d (ps t) = ps t := by
        unfold chm
        unfold loX at hd
        by_cases h8 : kd t = 8
        · rw [if_pos h8] at hd ⊢
          rw [map_id' (fun c hc => hz c (fun q => by unfold fms; rw [if_pos h8]; exact List.mem_filter.mpr ⟨hc, by simpa using q⟩) d (Nat.le_trans ((foldl_max 0).1 _ (List.mem_map.mpr ⟨c, hc, rfl⟩)) hd)), List.take_append_drop]
        · rw [if_neg h8] at hd ⊢
          by_cases h18 : kd t = 18
          · rw [if_pos h18] at hd ⊢
            rw [map_id' (fun c hc => hz c (fun q => fms_mem (List.mem_of_mem_take hc) h8 q) d (by have := (foldl_max (l := ((ps t).take 1).map loT) 0).1 _ (List.mem_map.mpr ⟨c, hc, rfl⟩); omega)), map_id' (fun c hc => hz c (fun q => fms_mem (List.mem_of_mem_drop hc) h8 q) (d + 1) (by have := (foldl_max (l := ((ps t).drop 1).map loT) 0).1 _ (List.mem_map.mpr ⟨c, hc, rfl⟩); omega)), List.take_append_drop]
          · rw [if_neg h18] at hd ⊢
            exact map_id' (fun c hc => hz c (fun q => fms_mem hc h8 q) d (Nat.le_trans ((foldl_max 0).1 _ (List.mem_map.mpr ⟨c, hc, rfl⟩)) hd))
      rw [e]
      exact hn.1.symm

/-- the constants of a form -/
def csP (f : Nat) (n : Nat) : Prop := ∃ l ∈ lvT f, kd l = 1 ∧ wh l = n
theorem cs_sub {f s n : Nat} (ho : okT f) (hs : subT s f) (h : csP s n) : csP f n := by
  obtain ⟨l, h1, h2⟩ := h
  exact ⟨l, lv_in f ho hs h1, h2⟩
theorem cs_put {b m n : Nat} (h : csP (sbT (putg (mk 1 m [])) 0 b) n) : csP b n ∨ n = m := by
  obtain ⟨l, h1, h2, h3⟩ := h
  obtain ⟨c, d', q1, q2⟩ := lv_sb b h1
  unfold putg at q2
  split at q2
  · rw [lvT_eq, if_pos (by rw [kd_mk]; decide), List.mem_singleton] at q2
    right
    rw [← h3, q2, wh_mk]
  · have k3 := (lv_sb0 b q1).2
    rw [lvT_eq, if_pos k3, List.mem_singleton] at q2
    rw [q2] at h2 h3
    exact Or.inl ⟨c, q1, h2, h3⟩
theorem cs_not {f n : Nat} (ho : okT f) (hf : isFo f) (h : csP (notT f) n) : csP f n := by
  unfold notT at h
  split at h
  · rename_i k16
    obtain ⟨g, hp, fg, _, mg⟩ := ps_not1 ho k16
    rw [hp] at h
    have h : csP g n := h
    exact cs_sub ho (sub_c mg (sub_rf g)) h
  · obtain ⟨l, h1, h2⟩ := h
    rw [lvT_eq, if_neg (by rw [kd_mk]; decide)] at h1
    obtain ⟨c, q1, q2⟩ := List.mem_flatMap.mp h1
    have := (fms_ps q1).1
    rw [ps_mk, List.mem_singleton] at this
    rw [this] at q2
    exact ⟨l, q2, h2⟩
theorem prodL_in : ∀ {As : List (List (List Nat))} {y : List Nat} {z : Nat}, y ∈ prodL As → z ∈ y → ∃ A ∈ As, ∃ x ∈ A, z ∈ x
  | [], y, z, hy, hz => by
    have : y = [] := List.mem_singleton.mp hy
    rw [this] at hz
    cases hz
  | A :: r, y, z, hy, hz => by
    obtain ⟨y', h1, h2⟩ := List.mem_flatMap.mp (show y ∈ (prodL r).flatMap (fun y => A.map (fun x => x ++ y)) from hy)
    obtain ⟨x, h3, h4⟩ := List.mem_map.mp h2
    rw [← h4] at hz
    rcases List.mem_append.mp hz with q | q
    · exact ⟨A, List.mem_cons_self, x, h3, q⟩
    · obtain ⟨B, b1, x', b2, b3⟩ := prodL_in h1 q
      exact ⟨B, List.mem_cons_of_mem _ b1, x', b2, b3⟩
/-- the constants of the leaves -/
def TqC (n F : Nat) (pol : Bool) (E : Nat → Nat) (c : Nat) : Prop := htT (opn pol (sbT (gv E) 0 F)) < n → ∀ x ∈ (tqF n (opn pol (sbT (gv E) 0 F)) c).1, ∀ z ∈ x, ∀ m, csP z m → csP F m ∨ (∃ r, csP (E r) m) ∨ ∃ d, m = 2 * d ∧ c ≤ d ∧ d < c + eiT F pol
theorem cs_gv {E : Nat → Nat} {b m d : Nat} (h : csP (sbT (gv E) d b) m) : csP b m ∨ ∃ r, csP (E r) m := by
  obtain ⟨l, h1, h2, h3⟩ := h
  obtain ⟨c, d', q1, q2⟩ := lv_sb b h1
  unfold gv at q2
  split at q2
  · exact Or.inr ⟨_, l, q2, h2, h3⟩
  · have k3 := (lv_sb0 b q1).2
    rw [lvT_eq, if_pos k3, List.mem_singleton] at q2
    rw [q2] at h2 h3
    exact Or.inl ⟨c, q1, h2, h3⟩
theorem tqL_C {n : Nat} {pol : Bool} {E : Nat → Nat} : ∀ {l : List Nat} {c : Nat}, (∀ p ∈ l, ∀ c, TqC n p pol E c ∧ TqN n p pol E c) → (∀ p ∈ l, htT (opn pol (sbT (gv E) 0 p)) < n) → ∀ A ∈ (tqL (tqF n) (l.map (fun p => opn pol (sbT (gv E) 0 p))) c).1, ∀ x ∈ A, ∀ z ∈ x, ∀ m, csP z m → (∃ p ∈ l, csP p m) ∨ (∃ r, csP (E r) m) ∨ ∃ d, m = 2 * d ∧ c ≤ d ∧ d < c + (l.map (fun p => eiT p pol)).sum
  | [], c, _, _, A, hA => by cases hA
  | p :: l, c, h, hh, A, hA => by
    intro x hx z hz m hm
    have hA : A ∈ (tqF n (opn pol (sbT (gv E) 0 p)) c).1 :: (tqL (tqF n) (l.map (fun p => opn pol (sbT (gv E) 0 p))) (tqF n (opn pol (sbT (gv E) 0 p)) c).2).1 := hA
    have p1 := hh p List.mem_cons_self
    have e2 := ((h p List.mem_cons_self c).2 p1).1.1
    rw [List.map_cons, List.sum_cons]
    rcases List.mem_cons.mp hA with w | w
    · rw [w] at hx
      rcases (h p List.mem_cons_self c).1 p1 x hx z hz m hm with q | q | ⟨d, d1, d2, d3⟩
      · exact Or.inl ⟨p, List.mem_cons_self, q⟩
      · exact Or.inr (Or.inl q)
      · exact Or.inr (Or.inr ⟨d, d1, d2, by omega⟩)
    · rcases tqL_C (l := l) (fun q hq => h q (List.mem_cons_of_mem _ hq)) (fun q hq => hh q (List.mem_cons_of_mem _ hq)) A w x hx z hz m hm with ⟨q, q1, q2⟩ | q | ⟨d, d1, d2, d3⟩
      · exact Or.inl ⟨q, List.mem_cons_of_mem _ q1, q2⟩
      · exact Or.inr (Or.inl q)
      · rw [e2] at d2 d3
        exact Or.inr (Or.inr ⟨d, d1, by omega, by omega⟩)
theorem tq_C : ∀ (n F : Nat) (pol : Bool) (E : Nat → Nat) (c : Nat), okT F → isFo F → clE1 E → TqC n F pol E c := by
  intro n
  induction n with
  | zero => exact fun F pol E c _ _ _ h => by omega
  | succ n ih =>
    have base : ∀ (F : Nat) (pol : Bool) (E : Nat → Nat) (c : Nat), okT F → isFo F → kd F ≠ 16 → clE1 E → TqC (n + 1) F pol E c := by
      intro F pol E c ho hf k16 hE hH x hx z hz m hm
      have hk : ¬ kd F ≤ 3 := by unfold isFo at hf; omega
      have kS := (sb_kd (g := gv E) (d := 0) hk).1
      have oS := okT_sb F ho (gOn_gv hE ho) 0
      have fS' := (sb_fo (g := gv E) (d := 0) hf).1
      have e1 : opn true (sbT (gv E) 0 F) = sbT (gv E) 0 F := opn_t
      have e2 : opn false (sbT (gv E) 0 F) = mk 16 0 [sbT (gv E) 0 F] := by
        rw [opn_f]
        unfold notT
        rw [if_neg (by omega)]
      have pa0 : pa (mk 16 0 [sbT (gv E) 0 F]) 0 = sbT (gv E) 0 F := by unfold pa; rw [ps_mk]; rfl
      have kd16 : kd (mk 16 0 [sbT (gv E) 0 F]) = 16 := kd_mk _ _ _
      have mS : sbT (gv E) 0 F ∈ fms (mk 16 0 [sbT (gv E) 0 F]) := fms_mem (by rw [ps_mk]; exact List.mem_cons_self) (by rw [kd_mk]; decide) (okT_0 oS)
      have leaf : z = opn pol (sbT (gv E) 0 F) → csP F m ∨ (∃ r, csP (E r) m) ∨ ∃ d, m = 2 * d ∧ c ≤ d ∧ d < c + eiT F pol := fun ez => by
        rw [ez] at hm
        have hm' : csP (sbT (gv E) 0 F) m := by
          cases pol with
          | true => rw [e1] at hm; exact hm
          | false => rw [opn_f] at hm; exact cs_not oS fS' hm
        exact (cs_gv hm').imp id Or.inl
      have one : ∀ {w : Nat}, x ∈ [[w]] → z = w := fun {w} q => by
        rw [List.mem_singleton.mp q] at hz
        exact List.mem_singleton.mp hz
      by_cases k17 : kd F = 17
      · have hl : ∀ f ∈ ps F, isFo f := by
          rcases ho.n.2 with q | q | q | q | q | q | q | q | q | q | q | q | q | q <;> first | omega | exact fun p hp => (q.2.2.2 p hp).1
        have mf : ∀ p ∈ ps F, p ∈ fms F := fun p hp => fms_mem hp (by omega) (isFo_pos (hl p hp))
        have pS : ps (sbT (gv E) 0 F) = (ps F).map (sbT (gv E) 0) := ps_map (Or.inr k17) (fun c hc => isFo_pos (hl c hc))
        have hc : ∀ p ∈ ps F, htT (sbT (gv E) 0 p) + 1 ≤ htT (sbT (gv E) 0 F) := fun p hp => ht_c (by rw [fms_sbn (gv_0 hE) hk (by omega)]; exact List.mem_map.mpr ⟨p, mf p hp, rfl⟩)
        have up : (∃ p ∈ ps F, csP p m) → csP F m := fun ⟨p, hp, q⟩ => cs_sub ho (sub_c (mf p hp) (sub_rf p)) q
        have ei : eiT F pol = ((ps F).map (fun c => eiT c pol)).sum := by rw [eiT_eq]; unfold eiS; rw [if_neg k16, if_pos k17]
        cases pol with
        | true =>
          rw [e1] at hH hx
          rw [tqF, if_neg (by omega), if_pos (by omega)] at hx
          have em : (ps F).map (fun p => opn true (sbT (gv E) 0 p)) = ps (sbT (gv E) 0 F) := by rw [pS]; exact List.map_congr_left (fun p _ => opn_t)
          obtain ⟨A, a1, x', a2, a3⟩ := prodL_in hx hz
          rw [← em] at a1
          rw [ei]
          exact (tqL_C (n := n) (pol := true) (E := E) (l := ps F) (c := c) (fun p hp c' => ⟨ih p true E c' (ho.c (mf p hp)) (hl p hp) hE, tq_cnt n p true E c' (ho.c (mf p hp)) (hl p hp) hE⟩) (fun p hp => by rw [opn_t]; have := hc p hp; omega) A a1 x' a2 z a3 m hm).imp up id
        | false =>
          rw [e2] at hH hx
          have h16 := ht_c mS
          have em : (ps F).map (fun p => opn false (sbT (gv E) 0 p)) = (ps (sbT (gv E) 0 F)).map notT := by rw [pS, List.map_map]; exact List.map_congr_left (fun p _ => opn_f)
          have t1 : tqF (n + 1) (mk 16 0 [sbT (gv E) 0 F]) c = ((tqL (tqF n) ((ps (sbT (gv E) 0 F)).map notT) c).1.flatten, (tqL (tqF n) ((ps (sbT (gv E) 0 F)).map notT) c).2) := by
            rw [tqF, if_neg (by omega), if_neg (by omega), if_pos kd16, pa0, if_neg (by omega), if_pos (by omega)]
          rw [t1] at hx
          obtain ⟨A, a1, a2⟩ := List.mem_flatten.mp hx
          rw [← em] at a1
          rw [ei]
          exact (tqL_C (n := n) (pol := false) (E := E) (l := ps F) (c := c) (fun p hp c' => ⟨ih p false E c' (ho.c (mf p hp)) (hl p hp) hE, tq_cnt n p false E c' (ho.c (mf p hp)) (hl p hp) hE⟩) (fun p hp => by
            rw [opn_f]
            have := hc p hp
            have := ht_not (okT_sb p (ho.c (mf p hp)) (gOn_gv hE (ho.c (mf p hp))) 0)
            omega) A a1 x a2 z hz m hm).imp up id
      by_cases k18 : kd F = 18
      · cases pol with
        | true =>
          rw [e1, tqF, if_neg (by omega), if_neg (by omega), if_neg (by omega)] at hx
          exact leaf (by rw [e1]; exact one hx)
        | false =>
          obtain ⟨y, b, hp, y8, fb, my, mb⟩ := ps_all1 ho k18
          have oy := ho.c my
          have ob := ho.c mb
          have pS := (fms_all (d := 0) (gv_0 hE) k18 hp (okT_0 oy) (okT_0 ob)).2
          have fS := (fms_all (d := 0) (gv_0 hE) k18 hp (okT_0 oy) (okT_0 ob)).1
          have pa1 : pa (sbT (gv E) 0 F) 1 = odT E 0 b := by unfold pa; rw [pS]; rfl
          have ht := clT1_const (2 * c)
          have einst : sbT (putg (mk 1 (2 * c) [])) 0 (odT E 0 b) = nwT (mk 1 (2 * c) []) E 0 b := put_gv hE b ob 0
          have ei : eiT F false = 1 + eiT b false := by rw [eiT_eq]; unfold eiS; rw [if_neg k16, if_neg k17, if_pos ⟨k18, rfl⟩, hp]; simp
          rw [e2] at hH hx
          have h16 := ht_c mS
          have hb := ht_c (t := sbT (gv E) 0 F) (c := odT E 0 b) (by rw [fS]; exact List.mem_cons_of_mem _ List.mem_cons_self)
          have hi := ht_put_le (ht_con (2 * c)) (odT E 0 b) (okT_od hE ob) 0
          rw [einst] at hi
          have hnt := ht_not (okT_nw ht hE (e := 0) ob)
          have t1 : tqF (n + 1) (mk 16 0 [sbT (gv E) 0 F]) c = tqF n (notT (nwT (mk 1 (2 * c) []) E 0 b)) (c + 1) := by
            rw [tqF, if_neg (by omega), if_neg (by omega), if_pos kd16, pa0, if_neg (by omega), if_neg (by omega), if_pos (by omega), pa1, einst]
          rw [t1] at hx
          have i1 := ih b false (cE (mk 1 (2 * c) []) E) (c + 1) ob fb (clE1.c ht hE) (by rw [opn_f]; show htT (notT (nwT (mk 1 (2 * c) []) E 0 b)) < n; omega) x (by rw [opn_f]; exact hx) z hz m hm
          rw [ei]
          rcases i1 with q | ⟨r, q⟩ | ⟨d, d1, d2, d3⟩
          · exact Or.inl (cs_sub ho (sub_c mb (sub_rf b)) q)
          · unfold cE at q
            split at q
            · obtain ⟨l, l1, l2, l3⟩ := q
              rw [lvT_eq, if_pos (by rw [kd_mk]; decide), List.mem_singleton] at l1
              rw [l1, wh_mk] at l3
              exact Or.inr (Or.inr ⟨c, l3.symm, Nat.le_refl _, by omega⟩)
            · exact Or.inr (Or.inl ⟨_, q⟩)
          · exact Or.inr (Or.inr ⟨d, d1, by omega, by omega⟩)
      · have k14 : kd F ≤ 14 := by unfold isFo at hf; omega
        cases pol with
        | true =>
          rw [e1] at hx
          by_cases k9 : kd F = 9
          · rw [tqF, if_pos (by omega)] at hx
            rw [List.mem_singleton.mp hx] at hz
            cases hz
          · rw [tqF, if_neg (by omega), if_neg (by omega), if_neg (by omega)] at hx
            exact leaf (by rw [e1]; exact one hx)
        | false =>
          rw [e2] at hx
          by_cases k9 : kd F = 9
          · rw [tqF, if_neg (by omega), if_neg (by omega), if_pos kd16, pa0, if_pos (by omega)] at hx
            cases hx
          · rw [tqF, if_neg (by omega), if_neg (by omega), if_pos kd16, pa0, if_neg (by omega), if_neg (by omega), if_neg (by omega)] at hx
            exact leaf (by rw [e2]; exact one hx)
    intro F pol E c ho hf hE
    by_cases k16 : kd F = 16
    · obtain ⟨f, hp, ff, kf, mf⟩ := ps_not1 ho k16
      have of := ho.c mf
      have e0 : F = notT f := by
        have w0 : wh F = 0 := by
          rcases ho.n.2 with q | q | q | q | q | q | q | q | q | q | q | q | q | q <;> first | omega | exact q.2.1
        have := ho.n.1
        rw [hp, k16, w0] at this
        unfold notT
        rw [if_neg kf]
        exact this
      have on := okT_sb f of (gOn_gv hE of) 0
      have fn := (sb_fo (g := gv E) (d := 0) ff).1
      have e1 : opn pol (sbT (gv E) 0 F) = opn (!pol) (sbT (gv E) 0 f) := by
        rw [e0, sb_notT (gOn_gv hE of) of ff]
        cases pol with
        | true => rw [opn_t, Bool.not_true, opn_f]
        | false => rw [opn_f, Bool.not_false, opn_t]; exact notT_not on fn
      have e2 : eiT F pol = eiT f (!pol) := by rw [eiT_eq]; unfold eiS; rw [if_pos k16, hp]; simp
      have h := base f (!pol) E c of ff kf hE
      unfold TqC at h ⊢
      rw [e1, e2]
      intro hH x hx z hz m hm
      exact (h hH x hx z hz m hm).imp (fun q => cs_sub ho (sub_c mf (sub_rf f)) q) id
    · exact base F pol E c ho hf k16 hE
