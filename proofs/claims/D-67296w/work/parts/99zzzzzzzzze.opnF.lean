/-! openings: the constants that the leaves of one case speak of -/
theorem hv_in {E : Nat → Nat} (hE : clE1 E) : ∀ (b : Nat), okT b → ∀ d r, hvT b (d + r) → subT (E r) (sbT (gv E) d b) := by
  intro b
  induction b using Nat.strongRecOn with
  | ind b ih =>
    intro ho d r h
    by_cases hk : kd b ≤ 3
    · rw [hv_eq] at h
      rcases h with ⟨q1, q2⟩ | ⟨q, _⟩ | ⟨_, c, q, _⟩
      · rw [sbT_eq, if_pos hk]
        unfold gv
        rw [if_pos ⟨q1, by omega⟩, q2, Nat.add_sub_cancel_left]
        exact sub_rf _
      · omega
      · rw [fms_lf ho.n hk] at q; cases q
    · by_cases k18 : kd b = 18
      · obtain ⟨y, f, hp, y8, ff, my, mf⟩ := ps_all1 ho k18
        have fn := (fms_all (d := d) (gv_0 hE) k18 hp (okT_0 (ho.c my)) (okT_0 (ho.c mf))).1
        rcases (hv_all k18 hp).mp h with q | q
        · exact sub_c (by rw [fn]; exact List.mem_cons_self) (ih y (fms_lt my) (ho.c my) d r q)
        · exact sub_c (by rw [fn]; exact List.mem_cons_of_mem _ List.mem_cons_self) (ih f (fms_lt mf) (ho.c mf) (d + 1) r (by rw [show d + 1 + r = d + r + 1 by omega]; exact q))
      · obtain ⟨p, hp, q⟩ := (hv_pl hk k18).mp h
        exact sub_c (by rw [fms_sbn (gv_0 hE) hk k18]; exact List.mem_map.mpr ⟨p, hp, rfl⟩) (ih p (fms_lt hp) (ho.c hp) d r q)
theorem prN1_pos {l : List Nat} (h : ∀ x ∈ l, 1 ≤ x) : 1 ≤ prN1 l := by
  induction l with
  | nil => exact Nat.le_refl 1
  | cons a l ih =>
    show 1 ≤ a * prN1 l
    exact Nat.mul_pos (h a List.mem_cons_self) (ih (fun x hx => h x (List.mem_cons_of_mem _ hx)))
theorem prN1_one {l : List Nat} (h : ∀ x ∈ l, 1 ≤ x) (h1 : prN1 l ≤ 1) : ∀ x ∈ l, x ≤ 1 := by
  induction l with
  | nil => intro x hx; cases hx
  | cons a l ih =>
    have h1 : a * prN1 l ≤ 1 := h1
    have ha := h a List.mem_cons_self
    have hp := prN1_pos (fun x hx => h x (List.mem_cons_of_mem _ hx))
    have a1 : a * 1 ≤ a * prN1 l := Nat.mul_le_mul_left a hp
    have a2 : 1 * prN1 l ≤ a * prN1 l := Nat.mul_le_mul_right _ ha
    intro x hx
    rcases List.mem_cons.mp hx with q | q
    · rw [q]; omega
    · exact ih (fun x hx => h x (List.mem_cons_of_mem _ hx)) (by omega) x q
theorem ka_pos : ∀ (F : Nat), okT F → isFo F → ∀ pol, 1 ≤ kaT F pol := by
  intro F
  induction F using Nat.strongRecOn with
  | ind F ih =>
    intro ho hf pol
    rw [kaT_eq]
    unfold kaS
    by_cases k16 : kd F = 16
    · obtain ⟨f, hp, ff, kf, mf⟩ := ps_not1 ho k16
      rw [if_pos k16, hp]
      exact prN1_pos (fun x hx => by
        rw [List.map_cons, List.map_nil, List.mem_singleton] at hx
        rw [hx]; exact ih f (fms_lt mf) (ho.c mf) ff _)
    rw [if_neg k16]
    by_cases k17 : kd F = 17
    · have hl : 2 ≤ (ps F).length ∧ ∀ f ∈ ps F, isFo f := by
        rcases ho.n.2 with q | q | q | q | q | q | q | q | q | q | q | q | q | q <;> first | omega | exact ⟨q.2.2.1, fun p hp => (q.2.2.2 p hp).1⟩
      have mf : ∀ p ∈ ps F, p ∈ fms F := fun p hp => fms_mem hp (by omega) (isFo_pos (hl.2 p hp))
      rw [if_pos k17]
      split
      · exact prN1_pos (fun x hx => by
          obtain ⟨p, hp, e⟩ := List.mem_map.mp hx
          rw [← e]; exact ih p (fms_lt (mf p hp)) (ho.c (mf p hp)) (hl.2 p hp) _)
      · cases hps : ps F with
        | nil => have := hl.1; rw [hps] at this; simp at this
        | cons a l =>
          have ha : a ∈ ps F := by rw [hps]; exact List.mem_cons_self
          have := ih a (fms_lt (mf a ha)) (ho.c (mf a ha)) (hl.2 a ha) false
          rw [List.map_cons, List.sum_cons]
          omega
    rw [if_neg k17]
    split
    · rename_i q
      obtain ⟨y, f, hp, y8, ff, my, mf⟩ := ps_all1 ho q.1
      rw [hp]
      exact prN1_pos (fun x hx => by
        rw [List.drop_succ_cons, List.drop_zero, List.map_cons, List.map_nil, List.mem_singleton] at hx
        rw [hx]; exact ih f (fms_lt mf) (ho.c mf) ff _)
    · exact Nat.le_refl 1
/-- one case: its leaves speak of what they speak of -/
def TqK (n F : Nat) (pol : Bool) (E : Nat → Nat) (c : Nat) : Prop := htT (opn pol (sbT (gv E) 0 F)) < n → kaT F pol ≤ 1 → nNo F pol → ∃ L, (tqF n (opn pol (sbT (gv E) 0 F)) c).1 = [L] ∧ (∀ r, lvo F pol r → ∃ z ∈ L, subT (E r) z) ∧ ∃ D : List Nat, D.Nodup ∧ D.length = kpT F pol ∧ ∀ d ∈ D, (∃ z ∈ L, subT (mk 1 (2 * d) []) z) ∧ c ≤ d ∧ d < c + eiT F pol
theorem tqL_K {n : Nat} {E : Nat → Nat} : ∀ {l : List Nat} {c : Nat}, (∀ p ∈ l, ∀ c, TqK n p true E c ∧ TqN n p true E c) → (∀ p ∈ l, htT (opn true (sbT (gv E) 0 p)) < n ∧ kaT p true ≤ 1 ∧ nNo p true) → ∃ L, prodL (tqL (tqF n) (l.map (fun p => opn true (sbT (gv E) 0 p))) c).1 = [L] ∧ (∀ p ∈ l, ∀ r, lvo p true r → ∃ z ∈ L, subT (E r) z) ∧ ∃ D : List Nat, D.Nodup ∧ D.length = (l.map (fun p => kpT p true)).sum ∧ ∀ d ∈ D, (∃ z ∈ L, subT (mk 1 (2 * d) []) z) ∧ c ≤ d ∧ d < c + (l.map (fun p => eiT p true)).sum
  | [], c, _, _ => ⟨[], rfl, (fun p hp => by cases hp), [], List.nodup_nil, rfl, fun d hd => by cases hd⟩
  | p :: l, c, h, hh => by
    obtain ⟨p1, p2, p3⟩ := hh p List.mem_cons_self
    obtain ⟨L1, a1, a2, D1, a3, a4, a5⟩ := (h p List.mem_cons_self c).1 p1 p2 p3
    have e2 := ((h p List.mem_cons_self c).2 p1).1.1
    obtain ⟨L2, b1, b2, D2, b3, b4, b5⟩ := tqL_K (l := l) (c := (tqF n (opn true (sbT (gv E) 0 p)) c).2) (fun q hq => h q (List.mem_cons_of_mem _ hq)) (fun q hq => hh q (List.mem_cons_of_mem _ hq))
    rw [e2] at b5
    refine ⟨L1 ++ L2, ?_, ?_, D1 ++ D2, ?_, ?_, ?_⟩
    · show (prodL (tqL (tqF n) (l.map (fun p => opn true (sbT (gv E) 0 p))) (tqF n (opn true (sbT (gv E) 0 p)) c).2).1).flatMap (fun y => (tqF n (opn true (sbT (gv E) 0 p)) c).1.map (fun x => x ++ y)) = [L1 ++ L2]
      rw [b1, a1]
      rfl
    · intro q hq r hr
      rcases List.mem_cons.mp hq with w | w
      · rw [w] at hr
        obtain ⟨z, z1, z2⟩ := a2 r hr
        exact ⟨z, List.mem_append_left _ z1, z2⟩
      · obtain ⟨z, z1, z2⟩ := b2 q w r hr
        exact ⟨z, List.mem_append_right _ z1, z2⟩
    · refine List.nodup_append.mpr ⟨a3, b3, fun x hx y hy e => ?_⟩
      have h1 := (a5 x hx).2
      have h2 := (b5 y hy).2
      omega
    · rw [List.length_append, a4, b4, List.map_cons, List.sum_cons]
    · intro d hd
      rw [List.map_cons, List.sum_cons]
      rcases List.mem_append.mp hd with w | w
      · obtain ⟨⟨z, z1, z2⟩, z3, z4⟩ := a5 d w
        exact ⟨⟨z, List.mem_append_left _ z1, z2⟩, z3, by omega⟩
      · obtain ⟨⟨z, z1, z2⟩, z3, z4⟩ := b5 d w
        exact ⟨⟨z, List.mem_append_right _ z1, z2⟩, by omega, by omega⟩
theorem tq_K : ∀ (n F : Nat) (pol : Bool) (E : Nat → Nat) (c : Nat), okT F → isFo F → clE1 E → TqK n F pol E c := by
  intro n
  induction n with
  | zero => exact fun F pol E c _ _ _ h => by omega
  | succ n ih =>
    have base : ∀ (F : Nat) (pol : Bool) (E : Nat → Nat) (c : Nat), okT F → isFo F → kd F ≠ 16 → clE1 E → TqK (n + 1) F pol E c := by
      intro F pol E c ho hf k16 hE hH hka hno
      have hk : ¬ kd F ≤ 3 := by unfold isFo at hf; omega
      have kS := (sb_kd (g := gv E) (d := 0) hk).1
      have oS := okT_sb F ho (gOn_gv hE ho) 0
      have e1 : opn true (sbT (gv E) 0 F) = sbT (gv E) 0 F := opn_t
      have e2 : opn false (sbT (gv E) 0 F) = mk 16 0 [sbT (gv E) 0 F] := by
        rw [opn_f]
        unfold notT
        rw [if_neg (by omega)]
      have pa0 : pa (mk 16 0 [sbT (gv E) 0 F]) 0 = sbT (gv E) 0 F := by unfold pa; rw [ps_mk]; rfl
      have kd16 : kd (mk 16 0 [sbT (gv E) 0 F]) = 16 := kd_mk _ _ _
      have mS : sbT (gv E) 0 F ∈ fms (mk 16 0 [sbT (gv E) 0 F]) := fms_mem (by rw [ps_mk]; exact List.mem_cons_self) (by rw [kd_mk]; decide) (okT_0 oS)
      -- what is not taken apart
      have leaf : kd F ≠ 17 → ¬ (kd F = 18 ∧ pol = false) → kd F ≠ 9 → (tqF (n + 1) (opn pol (sbT (gv E) 0 F)) c).1 = [[opn pol (sbT (gv E) 0 F)]] → ∃ L, (tqF (n + 1) (opn pol (sbT (gv E) 0 F)) c).1 = [L] ∧ (∀ r, lvo F pol r → ∃ z ∈ L, subT (E r) z) ∧ ∃ D : List Nat, D.Nodup ∧ D.length = kpT F pol ∧ ∀ d ∈ D, (∃ z ∈ L, subT (mk 1 (2 * d) []) z) ∧ c ≤ d ∧ d < c + eiT F pol := fun a1 a2 a3 et => by
        refine ⟨_, et, fun r hr => ⟨_, List.mem_cons_self, ?_⟩, [], List.nodup_nil, ?_, fun d hd => by cases hd⟩
        · rw [lvo_eq] at hr
          unfold lvoS at hr
          rw [if_neg k16, if_neg a1, if_neg a2] at hr
          have h1 := hv_in hE F ho 0 r (by rw [Nat.zero_add]; exact hr)
          cases pol with
          | true => rw [e1]; exact h1
          | false => rw [e2]; exact sub_c mS h1
        · rw [kp_eq]; unfold kpS; rw [if_neg k16, if_neg a1, if_neg a2]; rfl
      by_cases k17 : kd F = 17
      · have hl : ∀ f ∈ ps F, isFo f ∧ f ≠ yesT ∧ f ≠ noT := by
          rcases ho.n.2 with q | q | q | q | q | q | q | q | q | q | q | q | q | q <;> first | omega | exact fun p hp => ⟨(q.2.2.2 p hp).1, (q.2.2.2 p hp).2.2⟩
        have hl2 : 2 ≤ (ps F).length := by
          rcases ho.n.2 with q | q | q | q | q | q | q | q | q | q | q | q | q | q <;> first | omega | exact q.2.2.1
        have mf : ∀ p ∈ ps F, p ∈ fms F := fun p hp => fms_mem hp (by omega) (isFo_pos (hl p hp).1)
        have pS : ps (sbT (gv E) 0 F) = (ps F).map (sbT (gv E) 0) := ps_map (Or.inr k17) (fun c hc => isFo_pos (hl c hc).1)
        have nn : ∀ p ∈ ps F, ∀ b, nNo p b := fun p hp b => ⟨fun q => (hl p hp).2.1 (yes_9 (ho.c (mf p hp)) q.1), fun q => (hl p hp).2.2 q.1⟩
        have hc : ∀ p ∈ ps F, htT (sbT (gv E) 0 p) + 1 ≤ htT (sbT (gv E) 0 F) := fun p hp => ht_c (by rw [fms_sbn (gv_0 hE) hk (by omega)]; exact List.mem_map.mpr ⟨p, mf p hp, rfl⟩)
        cases pol with
        | true =>
          rw [e1] at hH ⊢
          have ei : eiT F true = ((ps F).map (fun c => eiT c true)).sum := by rw [eiT_eq]; unfold eiS; rw [if_neg k16, if_pos k17]
          have kp : kpT F true = ((ps F).map (fun c => kpT c true)).sum := by rw [kp_eq]; unfold kpS; rw [if_neg k16, if_pos k17]
          have ka : kaT F true = prN1 ((ps F).map (fun c => kaT c true)) := by rw [kaT_eq]; unfold kaS; rw [if_neg k16, if_pos k17, if_pos rfl]
          have k1 : ∀ p ∈ ps F, kaT p true ≤ 1 := fun p hp => prN1_one (l := (ps F).map (fun c => kaT c true)) (fun x hx => by
            obtain ⟨q, hq, e⟩ := List.mem_map.mp hx
            rw [← e]; exact ka_pos q (ho.c (mf q hq)) (hl q hq).1 true) (by rw [← ka]; exact hka) _ (List.mem_map.mpr ⟨p, hp, rfl⟩)
          obtain ⟨L, l1, l2, D, l3, l4, l5⟩ := tqL_K (n := n) (E := E) (l := ps F) (c := c) (fun p hp c' => ⟨ih p true E c' (ho.c (mf p hp)) (hl p hp).1 hE, tq_cnt n p true E c' (ho.c (mf p hp)) (hl p hp).1 hE⟩) (fun p hp => ⟨by rw [opn_t]; have := hc p hp; omega, k1 p hp, nn p hp true⟩)
          have em : (ps F).map (fun p => opn true (sbT (gv E) 0 p)) = ps (sbT (gv E) 0 F) := by rw [pS]; exact List.map_congr_left (fun p _ => opn_t)
          rw [em] at l1
          refine ⟨L, ?_, fun r hr => ?_, D, l3, by rw [kp]; exact l4, by rw [ei]; exact l5⟩
          · rw [tqF, if_neg (by omega), if_pos (by omega)]
            exact l1
          · rw [lvo_eq] at hr
            unfold lvoS at hr
            rw [if_neg k16, if_pos k17] at hr
            obtain ⟨p, hp, q⟩ := hr
            exact l2 p hp r q
        | false =>
          exfalso
          have ka : kaT F false = ((ps F).map (fun c => kaT c false)).sum := by rw [kaT_eq]; unfold kaS; rw [if_neg k16, if_pos k17, if_neg (by decide)]
          rw [ka] at hka
          have hpos : ∀ p ∈ ps F, 1 ≤ kaT p false := fun p hp => ka_pos p (ho.c (mf p hp)) (hl p hp).1 false
          have : ∀ (l : List Nat), (∀ p ∈ l, 1 ≤ kaT p false) → l.length ≤ (l.map (fun c => kaT c false)).sum := by
            intro l
            induction l with
            | nil => intro _; exact Nat.zero_le _
            | cons a l ihl =>
              intro h
              have := ihl (fun p hp => h p (List.mem_cons_of_mem _ hp))
              have := h a List.mem_cons_self
              rw [List.map_cons, List.sum_cons, List.length_cons]
              omega
          have := this (ps F) hpos
          omega
      by_cases k18 : kd F = 18
      · cases pol with
        | true =>
          exact leaf k17 (fun q => by cases q.2) (by omega) (by rw [e1, tqF, if_neg (by omega), if_neg (by omega), if_neg (by omega)])
        | false =>
          obtain ⟨y, b, hp, y8, fb, my, mb⟩ := ps_all1 ho k18
          have oy := ho.c my
          have ob := ho.c mb
          have by' : b ≠ yesT := by
            rcases ho.n.2 with q | q | q | q | q | q | q | q | q | q | q | q | q | q <;> try omega
            obtain ⟨_, _, y', f', q3, _, _, q6⟩ := q
            rw [hp] at q3
            injection q3 with _ q4
            injection q4 with q5 _
            rw [q5]; exact q6
          have pS := (fms_all (d := 0) (gv_0 hE) k18 hp (okT_0 oy) (okT_0 ob)).2
          have fS := (fms_all (d := 0) (gv_0 hE) k18 hp (okT_0 oy) (okT_0 ob)).1
          have pa1 : pa (sbT (gv E) 0 F) 1 = odT E 0 b := by unfold pa; rw [pS]; rfl
          have ht := clT1_const (2 * c)
          have einst : sbT (putg (mk 1 (2 * c) [])) 0 (odT E 0 b) = nwT (mk 1 (2 * c) []) E 0 b := put_gv hE b ob 0
          have ei : eiT F false = 1 + eiT b false := by rw [eiT_eq]; unfold eiS; rw [if_neg k16, if_neg k17, if_pos ⟨k18, rfl⟩, hp]; simp
          have ka : kaT F false = kaT b false := by rw [kaT_eq]; unfold kaS; rw [if_neg k16, if_neg k17, if_pos ⟨k18, rfl⟩, hp]; simp [prN1]
          have kp : kpT F false = (if @decide (lvo b false 0) (Classical.propDecidable _) = true then 1 else 0) + kpT b false := by
            rw [kp_eq]; unfold kpS; rw [if_neg k16, if_neg k17, if_pos ⟨k18, rfl⟩, hp]; simp
          rw [e2] at hH ⊢
          have h16 := ht_c mS
          have hb := ht_c (t := sbT (gv E) 0 F) (c := odT E 0 b) (by rw [fS]; exact List.mem_cons_of_mem _ List.mem_cons_self)
          have hi := ht_put_le (ht_con (2 * c)) (odT E 0 b) (okT_od hE ob) 0
          rw [einst] at hi
          have hnt := ht_not (okT_nw ht hE (e := 0) ob)
          obtain ⟨L, i1, i2, D, i3, i4, i5⟩ := ih b false (cE (mk 1 (2 * c) []) E) (c + 1) ob fb (clE1.c ht hE) (by rw [opn_f]; show htT (notT (nwT (mk 1 (2 * c) []) E 0 b)) < n; omega) (by rw [← ka]; exact hka) ⟨fun q => by' (yes_9 ob q.1), fun q => by cases q.2⟩
          rw [opn_f] at i1
          have t1 : tqF (n + 1) (mk 16 0 [sbT (gv E) 0 F]) c = tqF n (notT (nwT (mk 1 (2 * c) []) E 0 b)) (c + 1) := by
            rw [tqF, if_neg (by omega), if_neg (by omega), if_pos kd16, pa0, if_neg (by omega), if_neg (by omega), if_pos (by omega), pa1, einst]
          rw [t1]
          refine ⟨L, i1, fun r hr => ?_, ?_⟩
          · rw [lvo_eq] at hr
            unfold lvoS at hr
            rw [if_neg k16, if_neg k17, if_pos ⟨k18, rfl⟩, hp] at hr
            obtain ⟨f', hf', q⟩ := hr
            rw [List.drop_succ_cons, List.drop_zero, List.mem_singleton] at hf'
            rw [hf'] at q
            have := i2 (r + 1) q
            have ec : cE (mk 1 (2 * c) []) E (r + 1) = E r := by unfold cE; rw [if_neg (by omega)]; rfl
            rw [ec] at this
            exact this
          · by_cases h0 : lvo b false 0
            · refine ⟨c :: D, List.nodup_cons.mpr ⟨fun q => by have := (i5 c q).2; omega, i3⟩, ?_, fun d hd => ?_⟩
              · rw [kp, if_pos (by simpa using h0), List.length_cons, i4]; omega
              · rcases List.mem_cons.mp hd with w | w
                · obtain ⟨z, z1, z2⟩ := i2 0 h0
                  have ec : cE (mk 1 (2 * c) []) E 0 = mk 1 (2 * c) [] := by unfold cE; rw [if_pos rfl]
                  rw [ec] at z2
                  rw [w]
                  exact ⟨⟨z, z1, z2⟩, Nat.le_refl _, by omega⟩
                · obtain ⟨z, z1, z2⟩ := i5 d w
                  exact ⟨z, by omega, by omega⟩
            · refine ⟨D, i3, ?_, fun d hd => ?_⟩
              · rw [kp, if_neg (by simpa using h0), i4]; omega
              · obtain ⟨z, z1, z2⟩ := i5 d hd
                exact ⟨z, by omega, by omega⟩
      · have k14 : kd F ≤ 14 := by unfold isFo at hf; omega
        by_cases k9 : kd F = 9
        · cases pol with
          | true =>
            rw [e1]
            refine ⟨[], by rw [tqF, if_pos (by omega)], fun r hr => ?_, [], List.nodup_nil, ?_, fun d hd => by cases hd⟩
            · exfalso
              rw [lvo_eq] at hr
              unfold lvoS at hr
              rw [if_neg k16, if_neg k17, if_neg (fun q => k18 q.1), yes_9 ho k9] at hr
              obtain ⟨z, hz, _⟩ := (hv_pl (t := yesT) (by unfold yesT; rw [kd_mk]; decide) (by unfold yesT; rw [kd_mk]; decide)).mp hr
              unfold yesT at hz
              rw [fms_nil] at hz
              cases hz
            · rw [kp_eq]; unfold kpS; rw [if_neg k16, if_neg k17, if_neg (fun q => k18 q.1)]; rfl
          | false => exact absurd ⟨k9, rfl⟩ hno.1
        · refine leaf k17 (fun q => k18 q.1) k9 ?_
          cases pol with
          | true => rw [e1, tqF, if_neg (by omega), if_neg (by omega), if_neg (by omega)]
          | false => rw [e2, tqF, if_neg (by omega), if_neg (by omega), if_pos kd16, pa0, if_neg (by omega), if_neg (by omega), if_neg (by omega)]
    intro F pol E c ho hf hE
    by_cases k16 : kd F = 16
    · obtain ⟨f, hp, ff, kf, mf⟩ := ps_not1 ho k16
      have of := ho.c mf
      have e0 : F = notT f := by
        have w0 : wh F = 0 := by
          rcases ho.n.2 with q | q | q | q | q | q | q | q | q | q | q | q | q | q <;> first | omega | exact q.2.1
        have := ho.n.1
        rw [hp, k16, w0] at this
        unfold notT
        rw [if_neg kf]
        exact this
      have on := okT_sb f of (gOn_gv hE of) 0
      have fn := (sb_fo (g := gv E) (d := 0) ff).1
      have e1 : opn pol (sbT (gv E) 0 F) = opn (!pol) (sbT (gv E) 0 f) := by
        rw [e0, sb_notT (gOn_gv hE of) of ff]
        cases pol with
        | true => rw [opn_t, Bool.not_true, opn_f]
        | false => rw [opn_f, Bool.not_false, opn_t]; exact notT_not on fn
      have e2 : eiT F pol = eiT f (!pol) := by rw [eiT_eq]; unfold eiS; rw [if_pos k16, hp]; simp
      have e3 : kaT F pol = kaT f (!pol) := by rw [kaT_eq]; unfold kaS; rw [if_pos k16, hp]; simp [prN1]
      have e4 : kpT F pol = kpT f (!pol) := by rw [kp_eq]; unfold kpS; rw [if_pos k16, hp]; simp
      have e5 : ∀ r, lvo F pol r → lvo f (!pol) r := fun r hr => by
        rw [lvo_eq] at hr; unfold lvoS at hr; rw [if_pos k16, hp] at hr
        obtain ⟨f', hf', q⟩ := hr
        rw [List.mem_singleton.mp hf'] at q
        exact q
      have h := base f (!pol) E c of ff kf hE
      unfold TqK at h ⊢
      rw [e1, e2, e3, e4]
      intro hH hka hno
      have hq : nNo f (!pol) := by
        refine ⟨fun w => ?_, fun w => ?_⟩
        · refine hno.2 ⟨?_, ?_⟩
          · rw [e0, yes_9 of w.1]
            unfold notT noT
            rw [if_neg (by unfold yesT; rw [kd_mk]; decide)]
          · cases pol with
            | true => rfl
            | false => exact absurd w.2 (by decide)
        · rw [w.1] at kf
          exact kf (by unfold noT; rw [kd_mk])
      obtain ⟨L, a1, a2, a3⟩ := h hH hka hq
      exact ⟨L, a1, fun r hr => a2 r (e5 r hr), a3⟩
    · exact base F pol E c ho hf k16 hE
