/-! openings: cases and new constants by the kept formula -/
theorem prodL_le2 : ∀ (A : List (List (List Nat))), (prodL A).length = prN1 (A.map List.length)
  | [] => rfl
  | a :: r => by
    have ih := prodL_le2 r
    show ((prodL r).flatMap (fun y => a.map (fun x => x ++ y))).length = a.length * prN1 (r.map List.length)
    rw [List.length_flatMap, ← ih]
    generalize prodL r = p
    induction p with
    | nil => simp
    | cons b p ihp =>
      rw [List.map_cons, List.sum_cons, ihp, List.length_map, List.length_cons, Nat.mul_add]
      omega
theorem yes_9 {p : Nat} (ho : okT p) (h : kd p = 9) : p = yesT := by
  rcases ho.n.2 with q | q | q | q | q | q | q | q | q | q | q | q | q | q <;> try omega
  have := ho.n.1
  rw [h, q.2.1, q.2.2] at this
  exact this
/-- not the formula that is never true -/
def nNo (F : Nat) (pol : Bool) : Prop := ¬ (kd F = 9 ∧ pol = false) ∧ ¬ (F = noT ∧ pol = true)
def TqN (n F : Nat) (pol : Bool) (E : Nat → Nat) (c : Nat) : Prop := htT (opn pol (sbT (gv E) 0 F)) < n → ((tqF n (opn pol (sbT (gv E) 0 F)) c).2 = c + eiT F pol ∧ (opF n (opn pol (sbT (gv E) 0 F)) c).2 = c + eiT F pol) ∧ (nNo F pol → (tqF n (opn pol (sbT (gv E) 0 F)) c).1.length = kaT F pol)
theorem tqL_cnt {n : Nat} {pol : Bool} {E : Nat → Nat} : ∀ {l : List Nat} {c : Nat}, (∀ p ∈ l, ∀ c, TqN n p pol E c) → (∀ p ∈ l, htT (opn pol (sbT (gv E) 0 p)) < n) → (tqL (tqF n) (l.map (fun p => opn pol (sbT (gv E) 0 p))) c).2 = c + (l.map (fun p => eiT p pol)).sum ∧ (opL (opF n) (l.map (fun p => opn pol (sbT (gv E) 0 p))) c).2 = c + (l.map (fun p => eiT p pol)).sum ∧ ((∀ p ∈ l, nNo p pol) → (tqL (tqF n) (l.map (fun p => opn pol (sbT (gv E) 0 p))) c).1.map List.length = l.map (fun p => kaT p pol))
  | [], _, _, _ => ⟨rfl, rfl, fun _ => rfl⟩
  | p :: l, c, h, hh => by
    obtain ⟨⟨a1, a2⟩, a3⟩ := h p List.mem_cons_self c (hh p List.mem_cons_self)
    obtain ⟨b1, -, b3⟩ := tqL_cnt (l := l) (c := (tqF n (opn pol (sbT (gv E) 0 p)) c).2) (fun q hq => h q (List.mem_cons_of_mem _ hq)) (fun q hq => hh q (List.mem_cons_of_mem _ hq))
    obtain ⟨-, b2, -⟩ := tqL_cnt (l := l) (c := (opF n (opn pol (sbT (gv E) 0 p)) c).2) (fun q hq => h q (List.mem_cons_of_mem _ hq)) (fun q hq => hh q (List.mem_cons_of_mem _ hq))
    refine ⟨?_, ?_, fun hn => ?_⟩
    · show (tqL (tqF n) (l.map (fun p => opn pol (sbT (gv E) 0 p))) (tqF n (opn pol (sbT (gv E) 0 p)) c).2).2 = _
      rw [b1, a1]
      simp only [List.map_cons, List.sum_cons]
      omega
    · show (opL (opF n) (l.map (fun p => opn pol (sbT (gv E) 0 p))) (opF n (opn pol (sbT (gv E) 0 p)) c).2).2 = _
      rw [b2, a2]
      simp only [List.map_cons, List.sum_cons]
      omega
    · show (tqF n (opn pol (sbT (gv E) 0 p)) c).1.length :: ((tqL (tqF n) (l.map (fun p => opn pol (sbT (gv E) 0 p))) (tqF n (opn pol (sbT (gv E) 0 p)) c).2).1.map List.length) = kaT p pol :: l.map (fun p => kaT p pol)
      rw [a3 (hn p List.mem_cons_self), b3 (fun q hq => hn q (List.mem_cons_of_mem _ hq))]
theorem tq_cnt : ∀ (n F : Nat) (pol : Bool) (E : Nat → Nat) (c : Nat), okT F → isFo F → clE1 E → TqN n F pol E c := by
  intro n
  induction n with
  | zero => exact fun F pol E c _ _ _ h => by omega
  | succ n ih =>
    have base : ∀ (F : Nat) (pol : Bool) (E : Nat → Nat) (c : Nat), okT F → isFo F → kd F ≠ 16 → clE1 E → TqN (n + 1) F pol E c := by
      intro F pol E c ho hf k16 hE hH
      have hk : ¬ kd F ≤ 3 := by unfold isFo at hf; omega
      have kS := (sb_kd (g := gv E) (d := 0) hk).1
      have oS := okT_sb F ho (gOn_gv hE ho) 0
      have e1 : opn true (sbT (gv E) 0 F) = sbT (gv E) 0 F := opn_t
      have e2 : opn false (sbT (gv E) 0 F) = mk 16 0 [sbT (gv E) 0 F] := by
        rw [opn_f]
        unfold notT
        rw [if_neg (by omega)]
      have pa0 : pa (mk 16 0 [sbT (gv E) 0 F]) 0 = sbT (gv E) 0 F := by unfold pa; rw [ps_mk]; rfl
      have kd16 : kd (mk 16 0 [sbT (gv E) 0 F]) = 16 := kd_mk _ _ _
      have mS : sbT (gv E) 0 F ∈ fms (mk 16 0 [sbT (gv E) 0 F]) := fms_mem (by rw [ps_mk]; exact List.mem_cons_self) (by rw [kd_mk]; decide) (okT_0 oS)
      by_cases k17 : kd F = 17
      · have hl : ∀ f ∈ ps F, isFo f ∧ f ≠ yesT ∧ f ≠ noT := by
          rcases ho.n.2 with q | q | q | q | q | q | q | q | q | q | q | q | q | q <;> first | omega | exact fun p hp => ⟨(q.2.2.2 p hp).1, (q.2.2.2 p hp).2.2⟩
        have mf : ∀ p ∈ ps F, p ∈ fms F := fun p hp => fms_mem hp (by omega) (isFo_pos (hl p hp).1)
        have pS : ps (sbT (gv E) 0 F) = (ps F).map (sbT (gv E) 0) := ps_map (Or.inr k17) (fun c hc => isFo_pos (hl c hc).1)
        have nn : ∀ p ∈ ps F, ∀ b, nNo p b := fun p hp b => ⟨fun q => (hl p hp).2.1 (yes_9 (ho.c (mf p hp)) q.1), fun q => (hl p hp).2.2 q.1⟩
        have hc : ∀ p ∈ ps F, htT (sbT (gv E) 0 p) + 1 ≤ htT (sbT (gv E) 0 F) := fun p hp => ht_c (by rw [fms_sbn (gv_0 hE) hk (by omega)]; exact List.mem_map.mpr ⟨p, mf p hp, rfl⟩)
        cases pol with
        | true =>
          rw [e1] at hH ⊢
          have ei : eiT F true = ((ps F).map (fun c => eiT c true)).sum := by rw [eiT_eq]; unfold eiS; rw [if_neg k16, if_pos k17]
          have ka : kaT F true = prN1 ((ps F).map (fun c => kaT c true)) := by rw [kaT_eq]; unfold kaS; rw [if_neg k16, if_pos k17, if_pos rfl]
          obtain ⟨l1, l2, l3⟩ := tqL_cnt (n := n) (pol := true) (E := E) (l := ps F) (c := c) (fun p hp c' => ih p true E c' (ho.c (mf p hp)) (hl p hp).1 hE) (fun p hp => by rw [opn_t]; have := hc p hp; omega)
          have em : (ps F).map (fun p => opn true (sbT (gv E) 0 p)) = ps (sbT (gv E) 0 F) := by rw [pS]; exact List.map_congr_left (fun p _ => opn_t)
          rw [em] at l1 l2 l3
          rw [tqF, opF, if_neg (by omega), if_pos (by omega), if_pos (by omega), ei, ka]
          refine ⟨⟨l1, l2⟩, fun _ => ?_⟩
          show (prodL _).length = _
          rw [prodL_le2, l3 (fun p hp => nn p hp true)]
        | false =>
          rw [e2] at hH ⊢
          have h16 := ht_c mS
          have ei : eiT F false = ((ps F).map (fun c => eiT c false)).sum := by rw [eiT_eq]; unfold eiS; rw [if_neg k16, if_pos k17]
          have ka : kaT F false = ((ps F).map (fun c => kaT c false)).sum := by rw [kaT_eq]; unfold kaS; rw [if_neg k16, if_pos k17, if_neg (by decide)]
          obtain ⟨l1, l2, l3⟩ := tqL_cnt (n := n) (pol := false) (E := E) (l := ps F) (c := c) (fun p hp c' => ih p false E c' (ho.c (mf p hp)) (hl p hp).1 hE) (fun p hp => by
            rw [opn_f]
            have := hc p hp
            have := ht_not (okT_sb p (ho.c (mf p hp)) (gOn_gv hE (ho.c (mf p hp))) 0)
            omega)
          have em : (ps F).map (fun p => opn false (sbT (gv E) 0 p)) = (ps (sbT (gv E) 0 F)).map notT := by rw [pS, List.map_map]; exact List.map_congr_left (fun p _ => opn_f)
          rw [em] at l1 l2 l3
          have t1 : tqF (n + 1) (mk 16 0 [sbT (gv E) 0 F]) c = ((tqL (tqF n) ((ps (sbT (gv E) 0 F)).map notT) c).1.flatten, (tqL (tqF n) ((ps (sbT (gv E) 0 F)).map notT) c).2) := by
            rw [tqF, if_neg (by omega), if_neg (by omega), if_pos kd16, pa0, if_neg (by omega), if_pos (by omega)]
          have o1 : (opF (n + 1) (mk 16 0 [sbT (gv E) 0 F]) c).2 = (opL (opF n) ((ps (sbT (gv E) 0 F)).map notT) c).2 := by
            rw [opF, if_neg (by omega), if_pos kd16, pa0, if_pos (by omega)]
          rw [t1, o1, ei, ka]
          refine ⟨⟨l1, l2⟩, fun _ => ?_⟩
          show (List.flatten _).length = _
          rw [List.length_flatten, l3 (fun p hp => nn p hp false)]
      by_cases k18 : kd F = 18
      · cases pol with
        | true =>
          rw [e1]
          have ei : eiT F true = 0 := by rw [eiT_eq]; unfold eiS; rw [if_neg k16, if_neg k17, if_neg (fun q => by cases q.2)]
          have ka : kaT F true = 1 := by rw [kaT_eq]; unfold kaS; rw [if_neg k16, if_neg k17, if_neg (fun q => by cases q.2)]
          rw [tqF, opF, if_neg (by omega), if_neg (by omega), if_neg (by omega), if_neg (by omega), if_neg (by omega), ei, ka]
          exact ⟨⟨rfl, rfl⟩, fun _ => rfl⟩
        | false =>
          obtain ⟨y, b, hp, y8, fb, my, mb⟩ := ps_all1 ho k18
          have oy := ho.c my
          have ob := ho.c mb
          have by' : b ≠ yesT := by
            rcases ho.n.2 with q | q | q | q | q | q | q | q | q | q | q | q | q | q <;> try omega
            obtain ⟨_, _, y', f', q3, _, _, q6⟩ := q
            rw [hp] at q3
            injection q3 with _ q4
            injection q4 with q5 _
            rw [q5]; exact q6
          have pS := (fms_all (d := 0) (gv_0 hE) k18 hp (okT_0 oy) (okT_0 ob)).2
          have fS := (fms_all (d := 0) (gv_0 hE) k18 hp (okT_0 oy) (okT_0 ob)).1
          have pa1 : pa (sbT (gv E) 0 F) 1 = odT E 0 b := by unfold pa; rw [pS]; rfl
          have ht := clT1_const (2 * c)
          have einst : sbT (putg (mk 1 (2 * c) [])) 0 (odT E 0 b) = nwT (mk 1 (2 * c) []) E 0 b := put_gv hE b ob 0
          have ei : eiT F false = 1 + eiT b false := by rw [eiT_eq]; unfold eiS; rw [if_neg k16, if_neg k17, if_pos ⟨k18, rfl⟩, hp]; simp
          have ka : kaT F false = kaT b false := by rw [kaT_eq]; unfold kaS; rw [if_neg k16, if_neg k17, if_pos ⟨k18, rfl⟩, hp]; simp [prN1]
          rw [e2] at hH ⊢
          have h16 := ht_c mS
          have hb := ht_c (t := sbT (gv E) 0 F) (c := odT E 0 b) (by rw [fS]; exact List.mem_cons_of_mem _ List.mem_cons_self)
          have hi := ht_put_le (ht_con (2 * c)) (odT E 0 b) (okT_od hE ob) 0
          rw [einst] at hi
          have hno := ht_not (okT_nw ht hE (e := 0) ob)
          obtain ⟨⟨i1, i2⟩, i3⟩ := ih b false (cE (mk 1 (2 * c) []) E) (c + 1) ob fb (clE1.c ht hE) (by rw [opn_f]; show htT (notT (nwT (mk 1 (2 * c) []) E 0 b)) < n; omega)
          rw [opn_f] at i1 i2 i3
          have t1 : tqF (n + 1) (mk 16 0 [sbT (gv E) 0 F]) c = tqF n (notT (nwT (mk 1 (2 * c) []) E 0 b)) (c + 1) := by
            rw [tqF, if_neg (by omega), if_neg (by omega), if_pos kd16, pa0, if_neg (by omega), if_neg (by omega), if_pos (by omega), pa1, einst]
          have o1 : opF (n + 1) (mk 16 0 [sbT (gv E) 0 F]) c = opF n (notT (nwT (mk 1 (2 * c) []) E 0 b)) (c + 1) := by
            rw [opF, if_neg (by omega), if_pos kd16, pa0, if_neg (by omega), if_pos (by omega), pa1, einst]
          rw [t1, o1, ei, ka]
          refine ⟨⟨by rw [show c + (1 + eiT b false) = c + 1 + eiT b false by omega]; exact i1, by rw [show c + (1 + eiT b false) = c + 1 + eiT b false by omega]; exact i2⟩, fun _ => i3 ⟨fun q => by' (yes_9 ob q.1), fun q => by cases q.2⟩⟩
      · have k14 : kd F ≤ 14 := by unfold isFo at hf; omega
        have ei : eiT F pol = 0 := by rw [eiT_eq]; unfold eiS; rw [if_neg k16, if_neg k17, if_neg (fun q => k18 q.1)]
        have ka : kaT F pol = 1 := by rw [kaT_eq]; unfold kaS; rw [if_neg k16, if_neg k17, if_neg (fun q => k18 q.1)]
        rw [ei, ka]
        cases pol with
        | true =>
          rw [e1]
          have o1 : opF (n + 1) (sbT (gv E) 0 F) c = (sbT (gv E) 0 F, c) := by rw [opF, if_neg (by omega), if_neg (by omega)]
          by_cases k9 : kd (sbT (gv E) 0 F) = 9
          · have t1 : tqF (n + 1) (sbT (gv E) 0 F) c = ([[]], c) := by rw [tqF, if_pos k9]
            rw [t1, o1]; exact ⟨⟨rfl, rfl⟩, fun _ => rfl⟩
          · have t1 : tqF (n + 1) (sbT (gv E) 0 F) c = ([[sbT (gv E) 0 F]], c) := by rw [tqF, if_neg k9, if_neg (by omega), if_neg (by omega)]
            rw [t1, o1]; exact ⟨⟨rfl, rfl⟩, fun _ => rfl⟩
        | false =>
          rw [e2]
          have o1 : opF (n + 1) (mk 16 0 [sbT (gv E) 0 F]) c = (mk 16 0 [sbT (gv E) 0 F], c) := by rw [opF, if_neg (by omega), if_pos kd16, pa0, if_neg (by omega), if_neg (by omega)]
          by_cases k9 : kd (sbT (gv E) 0 F) = 9
          · have t1 : tqF (n + 1) (mk 16 0 [sbT (gv E) 0 F]) c = ([], c) := by rw [tqF, if_neg (by omega), if_neg (by omega), if_pos kd16, pa0, if_pos k9]
            rw [t1, o1]; exact ⟨⟨rfl, rfl⟩, fun q => absurd ⟨by omega, rfl⟩ q.1⟩
          · have t1 : tqF (n + 1) (mk 16 0 [sbT (gv E) 0 F]) c = ([[mk 16 0 [sbT (gv E) 0 F]]], c) := by rw [tqF, if_neg (by omega), if_neg (by omega), if_pos kd16, pa0, if_neg k9, if_neg (by omega), if_neg (by omega)]
            rw [t1, o1]; exact ⟨⟨rfl, rfl⟩, fun _ => rfl⟩
    intro F pol E c ho hf hE
    by_cases k16 : kd F = 16
    · obtain ⟨f, hp, ff, kf, mf⟩ := ps_not1 ho k16
      have of := ho.c mf
      have e0 : F = notT f := by
        have w0 : wh F = 0 := by
          rcases ho.n.2 with q | q | q | q | q | q | q | q | q | q | q | q | q | q <;> first | omega | exact q.2.1
        have := ho.n.1
        rw [hp, k16, w0] at this
        unfold notT
        rw [if_neg kf]
        exact this
      have on := okT_sb f of (gOn_gv hE of) 0
      have fn := (sb_fo (g := gv E) (d := 0) ff).1
      have e1 : opn pol (sbT (gv E) 0 F) = opn (!pol) (sbT (gv E) 0 f) := by
        rw [e0, sb_notT (gOn_gv hE of) of ff]
        cases pol with
        | true => rw [opn_t, Bool.not_true, opn_f]
        | false => rw [opn_f, Bool.not_false, opn_t]; exact notT_not on fn
      have e2 : eiT F pol = eiT f (!pol) := by rw [eiT_eq]; unfold eiS; rw [if_pos k16, hp]; simp
      have e3 : kaT F pol = kaT f (!pol) := by rw [kaT_eq]; unfold kaS; rw [if_pos k16, hp]; simp [prN1]
      have h := base f (!pol) E c of ff kf hE
      unfold TqN at h ⊢
      rw [e1, e2, e3]
      refine fun hH => ⟨(h hH).1, fun q => (h hH).2 ⟨fun w => ?_, fun w => ?_⟩⟩
      · refine q.2 ⟨?_, ?_⟩
        · rw [e0, yes_9 of w.1]
          unfold notT noT
          rw [if_neg (by unfold yesT; rw [kd_mk]; decide)]
        · cases pol with
          | true => rfl
          | false => exact absurd w.2 (by decide)
      · rw [w.1] at kf
        exact kf (by unfold noT; rw [kd_mk])
    · exact base F pol E c ho hf k16 hE
