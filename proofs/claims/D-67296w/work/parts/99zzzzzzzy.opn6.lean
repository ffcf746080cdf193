/-! an opening in the model asks for no more than a list -/
/-- the claim, for one formula -/
def OpnT (W : Wd) (n F : Nat) (pol : Bool) (E : Nat → Nat) (c : Nat) : Prop := tqR W (fun _ => True) n (opn pol (sbT (gv E) 0 F)) c → ∃ Y : List Nat, Y.length ≤ evT F pol + exoT F pol ∧ ∀ X : Nat → Prop, (∀ s, subT s (opn pol (sbT (gv E) 0 F)) → X s) → (∀ s ∈ Y, X s) → tqR W X n (opn pol (sbT (gv E) 0 F)) c
theorem OpnT.nt {W : Wd} {n f F : Nat} {pol : Bool} {E : Nat → Nat} {c : Nat} (hE : clE1 E) (ho : okT F) (k16 : kd F = 16) (hp : ps F = [f]) (of : okT f) (ff : isFo f) (kf : kd f ≠ 16) (h : OpnT W n f (!pol) E c) : OpnT W n F pol E c := by
  have e0 : F = notT f := by
    have w0 : wh F = 0 := by
      rcases ho.n.2 with q | q | q | q | q | q | q | q | q | q | q | q | q | q <;> first | omega | exact q.2.1
    have := ho.n.1
    rw [hp, k16, w0] at this
    unfold notT
    rw [if_neg kf]
    exact this
  have on := okT_sb f of (gOn_gv hE of) 0
  have fn := (sb_fo (g := gv E) (d := 0) ff).1
  have e1 : opn pol (sbT (gv E) 0 F) = opn (!pol) (sbT (gv E) 0 f) := by
    rw [e0, sb_notT (gOn_gv hE of) of ff]
    cases pol with
    | true => rw [opn_t, Bool.not_true, opn_f]
    | false => rw [opn_f, Bool.not_false, opn_t]; exact notT_not on fn
  have e2 : evT F pol = evT f (!pol) := by rw [ev_eq]; unfold evS; rw [if_pos k16, hp]; simp
  have e3 : exoT F pol = exoT f (!pol) := by rw [exoT_eq]; unfold exoS; rw [if_pos k16, hp]; simp
  unfold OpnT at *
  rw [e1, e2, e3]
  exact h
theorem tqRL_cov {W : Wd} {n : Nat} {pol : Bool} {E : Nat → Nat} : ∀ {l : List Nat} {c : Nat}, (∀ p ∈ l, ∀ c, OpnT W n p pol E c) → tqRL (tqR W (fun _ => True) n) (tqF n) (l.map (fun p => opn pol (sbT (gv E) 0 p))) c → ∃ Y : List Nat, Y.length ≤ (l.map (fun p => evT p pol)).sum + (l.map (fun p => exoT p pol)).sum ∧ ∀ X : Nat → Prop, (∀ p ∈ l, ∀ s, subT s (opn pol (sbT (gv E) 0 p)) → X s) → (∀ s ∈ Y, X s) → tqRL (tqR W X n) (tqF n) (l.map (fun p => opn pol (sbT (gv E) 0 p))) c
  | [], c, _, _ => ⟨[], Nat.zero_le _, fun _ _ _ => trivial⟩
  | p :: l, c, h, hT => by
    obtain ⟨h1, h2⟩ := hT
    obtain ⟨Y1, a1, a2⟩ := h p List.mem_cons_self c h1
    obtain ⟨Y2, b1, b2⟩ := tqRL_cov (l := l) (fun q hq => h q (List.mem_cons_of_mem _ hq)) h2
    refine ⟨Y1 ++ Y2, ?_, fun X hs hY => ⟨a2 X (hs p List.mem_cons_self) (fun s q => hY s (List.mem_append_left _ q)), b2 X (fun q hq => hs q (List.mem_cons_of_mem _ hq)) (fun s q => hY s (List.mem_append_right _ q))⟩⟩
    rw [List.length_append]
    simp only [List.map_cons, List.sum_cons]
    omega
theorem tq_cov {W : Wd} : ∀ (n F : Nat) (pol : Bool) (E : Nat → Nat) (c : Nat), okT F → isFo F → clE1 E → OpnT W n F pol E c := by
  intro n
  induction n with
  | zero =>
    intro F pol E c _ _ _ hT
    exact False.elim hT
  | succ n ih =>
    -- without NOT first
    have base : ∀ (F : Nat) (pol : Bool) (E : Nat → Nat) (c : Nat), okT F → isFo F → kd F ≠ 16 → clE1 E → OpnT W (n + 1) F pol E c := by
      intro F pol E c ho hf k16 hE hT
      have hk : ¬ kd F ≤ 3 := by unfold isFo at hf; omega
      have kS := (sb_kd (g := gv E) (d := 0) hk).1
      have oS := okT_sb F ho (gOn_gv hE ho) 0
      have e1 : opn true (sbT (gv E) 0 F) = sbT (gv E) 0 F := opn_t
      have e2 : opn false (sbT (gv E) 0 F) = mk 16 0 [sbT (gv E) 0 F] := by
        rw [opn_f]
        unfold notT
        rw [if_neg (by omega)]
      have pa0 : pa (mk 16 0 [sbT (gv E) 0 F]) 0 = sbT (gv E) 0 F := by unfold pa; rw [ps_mk]; rfl
      by_cases k17 : kd F = 17
      · have hl : ∀ f ∈ ps F, isFo f := by
          rcases ho.n.2 with q | q | q | q | q | q | q | q | q | q | q | q | q | q <;> first | omega | exact fun p hp => (q.2.2.2 p hp).1
        have mf : ∀ p ∈ ps F, p ∈ fms F := fun p hp => fms_mem hp (by omega) (isFo_pos (hl p hp))
        have pS : ps (sbT (gv E) 0 F) = (ps F).map (sbT (gv E) 0) := ps_map (Or.inr k17) (fun c hc => isFo_pos (hl c hc))
        have inS : ∀ p ∈ ps F, ∀ s, subT s (sbT (gv E) 0 p) → subT s (sbT (gv E) 0 F) := fun p hp s hs => sub_c (c := sbT (gv E) 0 p) (by rw [fms_sbn (gv_0 hE) hk (by omega)]; exact List.mem_map.mpr ⟨p, mf p hp, rfl⟩) hs
        cases pol with
        | true =>
          have ev : evT F true = ((ps F).map (fun c => evT c true)).sum := by rw [ev_eq]; unfold evS; rw [if_neg k16, if_pos k17]
          have ex : exoT F true = 1 + 0 + ((ps F).map (fun c => exoT c true)).sum := by rw [exoT_eq]; unfold exoS; rw [if_neg k16, if_pos k17]; rfl
          rw [e1] at hT
          have hT := hT
          rw [tqR] at hT
          have t1 := hT.1 (by omega)
          rw [pS] at t1
          obtain ⟨Y, y1, y2⟩ := tqRL_cov (W := W) (n := n) (pol := true) (E := E) (l := ps F) (c := c) (fun p hp c' => ih p true E c' (ho.c (mf p hp)) (hl p hp) hE) t1
          refine ⟨Y, ?_, fun X hs hY => ?_⟩
          · rw [ev, ex]; omega
          · rw [e1] at hs ⊢
            rw [tqR]
            refine ⟨fun _ => ?_, fun q => by omega, fun q => by omega⟩
            rw [pS]
            exact y2 X (fun p hp s q => hs s (inS p hp s q)) hY
        | false =>
          have ev : evT F false = ((ps F).map (fun c => evT c false)).sum := by rw [ev_eq]; unfold evS; rw [if_neg k16, if_pos k17]
          have ex : exoT F false = 1 + (ps F).length + ((ps F).map (fun c => exoT c false)).sum := by rw [exoT_eq]; unfold exoS; rw [if_neg k16, if_pos k17]; rfl
          rw [e2, tqR] at hT
          have t0 := hT.2.1 (kd_mk _ _ _) (by rw [pa0]; omega)
          rw [pa0] at t0
          obtain ⟨-, t1⟩ := t0
          rw [pS, List.map_map] at t1
          obtain ⟨Y, y1, y2⟩ := tqRL_cov (W := W) (n := n) (pol := false) (E := E) (l := ps F) (c := c) (fun p hp c' => ih p false E c' (ho.c (mf p hp)) (hl p hp) hE) t1
          refine ⟨(ps (sbT (gv E) 0 F)).map notT ++ Y, ?_, fun X hs hY => ?_⟩
          · rw [List.length_append, List.length_map, pS, List.length_map, ev, ex]; omega
          · rw [e2] at hs ⊢
            rw [tqR]
            have hsF : ∀ s, subT s (sbT (gv E) 0 F) → X s := fun s q => hs s (sub_c (c := sbT (gv E) 0 F) (fms_mem (by rw [ps_mk]; exact List.mem_cons_self) (by rw [kd_mk]; decide) (okT_0 oS)) q)
            refine ⟨fun q => by rw [kd_mk] at q; omega, fun _ _ => ?_, fun _ q => by rw [pa0] at q; omega⟩
            rw [pa0]
            refine ⟨fun p hp => hY _ (List.mem_append_left _ (List.mem_map.mpr ⟨p, hp, rfl⟩)), ?_⟩
            rw [pS, List.map_map]
            refine y2 X (fun p hp s q => ?_) (fun s q => hY s (List.mem_append_right _ q))
            have op := okT_sb p (ho.c (mf p hp)) (gOn_gv hE (ho.c (mf p hp))) 0
            rcases sub_ntT op q with w | w
            · rw [w]
              exact hY _ (List.mem_append_left _ (List.mem_map.mpr ⟨_, by rw [pS]; exact List.mem_map.mpr ⟨p, hp, rfl⟩, rfl⟩))
            · exact hsF s (inS p hp s w)
      by_cases k18 : kd F = 18
      · cases pol with
        | true =>
          refine ⟨[], Nat.zero_le _, fun X _ _ => ?_⟩
          rw [e1, tqR]
          exact ⟨fun q => by omega, fun q => by omega, fun q => by omega⟩
        | false =>
          obtain ⟨y, b, hp, y8, fb, my, mb⟩ := ps_all1 ho k18
          have oy := ho.c my
          have ob := ho.c mb
          have pS := (fms_all (d := 0) (gv_0 hE) k18 hp (okT_0 oy) (okT_0 ob)).2
          have fS := (fms_all (d := 0) (gv_0 hE) k18 hp (okT_0 oy) (okT_0 ob)).1
          have pa1 : pa (sbT (gv E) 0 F) 1 = odT E 0 b := by unfold pa; rw [pS]; rfl
          have ht := clT1_const (2 * c)
          have einst : sbT (putg (mk 1 (2 * c) [])) 0 (odT E 0 b) = nwT (mk 1 (2 * c) []) E 0 b := put_gv hE b ob 0
          have ev : evT F false = wkT 1 1 b 0 + evT b false := by rw [ev_eq]; unfold evS; rw [if_neg k16, if_neg k17, if_pos ⟨k18, rfl⟩, hp]; simp
          have ex : exoT F false = 2 + exoT b false := by rw [exoT_eq]; unfold exoS; rw [if_neg k16, if_neg k17, if_pos ⟨k18, rfl⟩, hp]; simp
          rw [e2, tqR] at hT
          have t0 := hT.2.2 (kd_mk _ _ _) (by rw [pa0]; omega)
          rw [pa0, pa1, einst] at t0
          obtain ⟨⟨t1, -, -, -⟩, t2⟩ := t0
          obtain ⟨Y1, a1, a2⟩ := ev_wk ht hE b ob (Or.inr fb) 0
          obtain ⟨Y2, b1, b2⟩ := ih b false (cE (mk 1 (2 * c) []) E) (c + 1) ob fb (clE1.c ht hE) t2
          refine ⟨mk 1 (2 * c) [] :: notT (nwT (mk 1 (2 * c) []) E 0 b) :: (Y1 ++ Y2), ?_, fun X hs hY => ?_⟩
          · rw [List.length_cons, List.length_cons, List.length_append, ev, ex]; omega
          · rw [e2] at hs ⊢
            rw [tqR]
            have hsF : ∀ s, subT s (sbT (gv E) 0 F) → X s := fun s q => hs s (sub_c (c := sbT (gv E) 0 F) (fms_mem (by rw [ps_mk]; exact List.mem_cons_self) (by rw [kd_mk]; decide) (okT_0 oS)) q)
            have hY1 : ∀ s ∈ Y1, X s := fun s q => hY s (List.mem_cons_of_mem _ (List.mem_cons_of_mem _ (List.mem_append_left _ q)))
            have hin : ∀ s, subT s (nwT (mk 1 (2 * c) []) E 0 b) → X s := fun s q => by
              rcases a2 s q with w | w | w
              · exact hsF s (sub_c (c := odT E 0 b) (by rw [fS]; exact List.mem_cons_of_mem _ List.mem_cons_self) w)
              · rw [sub_const w]; exact hY _ List.mem_cons_self
              · exact hY1 s w
            refine ⟨fun q => by rw [kd_mk] at q; omega, fun _ q => by rw [pa0] at q; omega, fun _ _ => ?_⟩
            rw [pa0, pa1, einst]
            have hnX : X (notT (nwT (mk 1 (2 * c) []) E 0 b)) := hY _ (List.mem_cons_of_mem _ List.mem_cons_self)
            refine ⟨⟨t1, hY _ List.mem_cons_self, ImT_put ht.1 ht.2.1 _ (okT_od hE ob) 0 (fun z q => hin z (by rw [← einst]; exact q)), hnX⟩, ?_⟩
            refine b2 X (fun s q => ?_) (fun s q => hY s (List.mem_cons_of_mem _ (List.mem_cons_of_mem _ (List.mem_append_right _ q))))
            rcases sub_ntT (okT_nw ht hE ob) q with w | w
            · rw [w]; exact hnX
            · exact hin s w
      · -- an atom
        have k14 : kd F ≤ 14 := by unfold isFo at hf; omega
        refine ⟨[], Nat.zero_le _, fun X _ _ => ?_⟩
        cases pol with
        | true =>
          rw [e1, tqR]
          exact ⟨fun q => by omega, fun q => by omega, fun q => by omega⟩
        | false =>
          rw [e2, tqR]
          exact ⟨fun q => by rw [kd_mk] at q; omega, fun _ q => by rw [pa0] at q; omega, fun _ q => by rw [pa0] at q; omega⟩
    intro F pol E c ho hf hE
    by_cases k16 : kd F = 16
    · obtain ⟨f, hp, ff, kf, mf⟩ := ps_not1 ho k16
      exact OpnT.nt hE ho k16 hp (ho.c mf) ff kf (base f (!pol) E c (ho.c mf) ff kf hE)
    · exact base F pol E c ho hf k16 hE
