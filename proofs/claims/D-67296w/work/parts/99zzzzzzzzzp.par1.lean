/-! parts: images of inner forms, with their parts -/
def imS2 (g : Nat → Nat → Nat) (f : Nat → Nat → List Nat) (t : Nat) : Nat → List Nat := fun d => if kd t ≤ 3 then [] else sbT g d t :: (if kd t = 18 then ((ps t).take 1).flatMap (fun c => f c d) ++ ((ps t).drop 1).flatMap (fun c => f c (d + 1)) else (fms t).flatMap (fun c => f c d))
/-- what the inner forms of a form become -/
def imgL (g : Nat → Nat → Nat) (t d : Nat) : List Nat := rcT (imS2 g) (fun _ => []) t d
theorem img_eq (g : Nat → Nat → Nat) (t d : Nat) : imgL g t d = imS2 g (imgL g) t d := by
  unfold imgL
  rw [rc_eq (fun f f' t h => by
    unfold imS2
    funext d
    have h1 : ((ps t).take 1).flatMap (fun c => f c d) = ((ps t).take 1).flatMap (fun c => f' c d) := flatMap_c (fun c hc => by rw [h c (List.mem_of_mem_take hc)])
    have h2 : ((ps t).drop 1).flatMap (fun c => f c (d + 1)) = ((ps t).drop 1).flatMap (fun c => f' c (d + 1)) := flatMap_c (fun c hc => by rw [h c (List.mem_of_mem_drop hc)])
    have h3 : (fms t).flatMap (fun c => f c d) = (fms t).flatMap (fun c => f' c d) := flatMap_c (fun c hc => by rw [h c (fms_ps hc).1])
    rw [h1, h2, h3]) t]
theorem sub_imgL {g : Nat → Nat → Nat} (hg : gN0 g) : ∀ (t : Nat), okT t → ∀ d s, subT s (sbT g d t) → s ∈ imgL g t d ∨ ∃ c d', c ∈ lvT t ∧ subT s (g d' c) := by
  intro t
  induction t using Nat.strongRecOn with
  | ind t ih =>
    intro ho d s hs
    by_cases hk : kd t ≤ 3
    · rw [sbT_eq, if_pos hk] at hs
      exact Or.inr ⟨t, d, by rw [lvT_eq, if_pos hk]; exact List.mem_cons_self, hs⟩
    · rw [img_eq]
      unfold imS2
      rw [if_neg hk]
      rw [subT_eq] at hs
      rcases hs with w | ⟨z, hz, w⟩
      · exact Or.inl (by rw [w]; exact List.mem_cons_self)
      · by_cases k18 : kd t = 18
        · obtain ⟨y, f, hp, y8, ff, my, mf⟩ := ps_all1 ho k18
          have fn := (fms_all (d := d) hg k18 hp (okT_0 (ho.c my)) (okT_0 (ho.c mf))).1
          rw [if_pos k18, hp]
          rw [fn] at hz
          rcases List.mem_cons.mp hz with q | q
          · rw [q] at w
            rcases ih y (fms_lt my) (ho.c my) d s w with r | ⟨c, d', r1, r2⟩
            · exact Or.inl (List.mem_cons_of_mem _ (List.mem_append_left _ (by simpa using r)))
            · exact Or.inr ⟨c, d', lv_part ho.n my c r1, r2⟩
          · rw [List.mem_singleton.mp q] at w
            rcases ih f (fms_lt mf) (ho.c mf) (d + 1) s w with r | ⟨c, d', r1, r2⟩
            · exact Or.inl (List.mem_cons_of_mem _ (List.mem_append_right _ (by simpa using r)))
            · exact Or.inr ⟨c, d', lv_part ho.n mf c r1, r2⟩
        · rw [fms_sbn hg hk k18] at hz
          obtain ⟨p, hp, e⟩ := List.mem_map.mp hz
          rw [← e] at w
          rw [if_neg k18]
          rcases ih p (fms_lt hp) (ho.c hp) d s w with r | ⟨c, d', r1, r2⟩
          · exact Or.inl (List.mem_cons_of_mem _ (List.mem_flatMap.mpr ⟨p, hp, r⟩))
          · exact Or.inr ⟨c, d', lv_part ho.n hp c r1, r2⟩
theorem ps_sbl {g : Nat → Nat → Nat} {d t : Nat} (hk : ¬ kd t ≤ 3) : (ps (sbT g d t)).length = (ps t).length := by
  rw [(sb_kd (g := g) (d := d) hk).2.2]
  unfold chm
  split
  · rw [List.length_append, List.length_map, ← List.length_append, List.take_append_drop]
  · split
    · rw [List.length_append, List.length_map, List.length_map, ← List.length_append, List.take_append_drop]
    · rw [List.length_map]
/-- nodes with a place for a term and none in it -/
def zcS (f : Nat → Nat) (t : Nat) : Nat := (if (kd t = 8 ∨ kd t = 14) ∧ pa t 0 = 0 then 1 else 0) + ((fms t).map f).sum
def zcT (t : Nat) : Nat := rcT zcS 0 t
theorem zc_eq (t : Nat) : zcT t = zcS zcT t := rc_eq (fun f f' t h => by
  unfold zcS
  rw [List.map_congr_left (fun c hc => h c (fms_ps hc).1)]) t
theorem sum_app2 {f : Nat → Nat} {a b : List Nat} : ((a ++ b).map f).sum = (a.map f).sum + (b.map f).sum := by rw [List.map_append, List.sum_append]
/-- as many parts as its size and these -/
theorem img_ps {g : Nat → Nat → Nat} : ∀ (t : Nat), okT t → ∀ d, ((imgL g t d).map (fun s => (ps s).length)).sum + 1 ≤ szT t + zcT t := by
  intro t
  induction t using Nat.strongRecOn with
  | ind t ih =>
    intro ho d
    have h0 := okT_0 ho
    rw [img_eq, zc_eq]
    unfold imS2 zcS
    by_cases hk : kd t ≤ 3
    · rw [if_pos hk]
      have := sz_fms h0
      simp
      omega
    · rw [if_neg hk, List.map_cons, List.sum_cons, ps_sbl hk]
      have key : ∀ (l : List Nat) (d' : Nat), (∀ c ∈ l, c ∈ fms t) → ((l.flatMap (fun c => imgL g c d')).map (fun s => (ps s).length)).sum + l.length ≤ (l.map szT).sum + (l.map zcT).sum := by
        intro l d'
        induction l with
        | nil => intro _; simp
        | cons a l ihl =>
          intro h
          have h1 := ihl (fun c hc => h c (List.mem_cons_of_mem _ hc))
          have ha := h a List.mem_cons_self
          have h2 := ih a (fms_lt ha) (ho.c ha) d'
          rw [List.flatMap_cons, sum_app2, List.map_cons, List.sum_cons, List.map_cons, List.sum_cons, List.length_cons]
          omega
      by_cases k18 : kd t = 18
      · obtain ⟨y, f, hp, y8, ff, my, mf⟩ := ps_all1 ho k18
        have k1 := key [y] d (fun c hc => by rw [List.mem_singleton.mp hc]; exact my)
        have k2 := key [f] (d + 1) (fun c hc => by rw [List.mem_singleton.mp hc]; exact mf)
        have hsz : szT t = 1 + (szT y + szT f) := by rw [sz_pl h0 (by omega), hp]; simp
        have hfm : fms t = [y, f] := by
          unfold fms
          rw [if_neg (by omega), hp]
          simp [okT_0 (ho.c my), okT_0 (ho.c mf)]
        rw [if_pos k18, hfm, hp, sum_app2, hsz]
        simp only [List.map_cons, List.map_nil, List.sum_cons, List.sum_nil, List.length_cons, List.length_nil, List.take_succ_cons, List.take_zero, List.drop_succ_cons, List.drop_zero] at k1 k2 ⊢
        omega
      · rw [if_neg k18]
        have k1 := key (fms t) d (fun c hc => hc)
        by_cases h8 : kd t = 8
        · have e1 : szT t = 1 + (((ps t).take 1).map szT).sum + ((ps t).drop 1).length := by
            rw [szT_ex h0]; unfold exp1; rw [if_pos h8]
          have e2 : ((fms t).map szT).sum ≤ (((ps t).take 1).map szT).sum := by
            unfold fms
            rw [if_pos h8]
            exact sum_flt _
          have e3 : (ps t).length ≤ 1 + ((ps t).drop 1).length := by rw [List.length_drop]; omega
          by_cases hz : pa t 0 = 0
          · rw [if_pos ⟨Or.inl h8, hz⟩]; omega
          · have hne : 1 ≤ (fms t).length := by
              have hps : ∃ a l, ps t = a :: l := by
                rcases ho.n.2 with q | q | q | q | q | q | q | q | q | q | q | q | q | q <;> first | omega | skip
                obtain ⟨_, a, js, e, _⟩ := q
                exact ⟨a, js, e⟩
              obtain ⟨a, l, e⟩ := hps
              have ea : pa t 0 = a := by unfold pa; rw [e]; rfl
              rw [ea] at hz
              unfold fms
              rw [if_pos h8, e]
              simp [hz]
            omega
        · have e1 := sz_pl h0 h8
          have e2 : ((fms t).map szT).sum ≤ ((ps t).map szT).sum := by
            unfold fms
            rw [if_neg h8]
            exact sum_flt _
          have e3 : (ps t).length ≤ (fms t).length + (if (kd t = 8 ∨ kd t = 14) ∧ pa t 0 = 0 then 1 else 0) := by
            by_cases hz : kd t = 14 ∧ pa t 0 = 0
            · rw [if_pos ⟨Or.inr hz.1, hz.2⟩]
              exact ps_fms ho h8
            · have hall : ∀ c ∈ ps t, c ≠ 0 := fun c hc => by
                rcases ho.n.2 with q | q | q | q | q | q | q | q | q | q | q | q | q | q <;> first | omega | skip
                · exact isTm_pos (q.2.2 c hc)
                · obtain ⟨_, _, y, e, hy⟩ := q
                  rw [e, List.mem_singleton] at hc
                  rw [hc]; exact fun z => by rw [z, kd0] at hy; omega
                · rw [q.2.2] at hc; cases hc
                · obtain ⟨_, _, a, b, e, ha, hb⟩ := q
                  rw [e] at hc
                  rcases List.mem_cons.mp hc with w | w
                  · rw [w]; exact isTm_pos ha
                  · rw [List.mem_singleton.mp w]; exact isTm_pos hb
                · exact isTm_pos (q.2.2 c hc)
                · obtain ⟨_, a, e, ha⟩ := q
                  rw [e, List.mem_singleton] at hc
                  rw [hc]; exact isTm_pos ha
                · obtain ⟨k14, a, b, e, ha, hb⟩ := q
                  rw [e] at hc
                  have ea : pa t 0 = a := by unfold pa; rw [e]; rfl
                  rcases List.mem_cons.mp hc with w | w
                  · rw [w, ← ea]; exact fun z => hz ⟨k14, z⟩
                  · rw [List.mem_singleton.mp w]; exact isTm_pos hb
                · obtain ⟨_, _, f, e, hf, _⟩ := q
                  rw [e, List.mem_singleton] at hc
                  rw [hc]; exact isFo_pos hf
                · exact isFo_pos (q.2.2.2 c hc).1
              have : fms t = ps t := by
                unfold fms
                rw [if_neg h8]
                exact List.filter_eq_self.mpr (fun c hc => by simpa using hall c hc)
              rw [this]; omega
          omega
