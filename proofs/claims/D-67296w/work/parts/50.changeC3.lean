theorem RowE.is {ν : Nat → Nat} {c : Nat} {u : Sg} {a k : Nat} {L : List Nat} (hs : SC ν c u) (h : RowE ν u a k L) (hk : k ≠ 8) (hp : ∀ t ∈ L, t ≠ 0) : RowIs ν u a L := by
  refine ⟨h.1, fun i t hi => ?_⟩
  obtain ⟨y, y1, -, y3⟩ := h.2 i t hi
  have := y3 (fun q => hk q.1)
  refine ⟨y, y1, ?_, this.1, this.2⟩
  rcases Nat.eq_zero_or_pos y with q | q
  · subst q
    exact absurd this.2.symm (hp t (List.mem_of_getElem? hi))
  · exact q
theorem andT_ok {t : Nat} (h : okN t) (h17 : kd t = 17) : andT (ps t) = t ∧ (ps t).flatMap flt = ps t := by
  rcases h.2 with q | q | q | q | q | q | q | q | q | q | q | q | q | q <;> try omega
  obtain ⟨q1, q2, q3, q4⟩ := q
  have hf : ∀ (l : List Nat), (∀ f ∈ l, isFo f ∧ kd f ≠ 17 ∧ f ≠ yesT ∧ f ≠ noT) → l.flatMap flt = l := by
    intro l
    induction l with
    | nil => exact fun _ => rfl
    | cons a l ih =>
      intro hl
      have ha := hl a List.mem_cons_self
      rw [List.flatMap_cons, ih (fun f hf => hl f (List.mem_cons_of_mem _ hf))]
      unfold flt
      rw [if_neg ha.2.2.2, if_neg ha.2.1, if_neg ha.2.2.1]; rfl
  have e := hf _ q4
  refine ⟨?_, e⟩
  unfold andT
  rw [if_neg (fun hm => (q4 noT hm).2.2.2 rfl), e]
  rw [h.1, q1, q2, ps_mk]
  match hps : ps t, q3 with
  | a :: b :: l, _ => rfl
theorem tX2_change {ν : Nat → Nat} {c : Nat} {g : Nat → Nat → Nat} {p : Prop} {M H : Nat → Nat} (hMs : Ms p M H) : ∀ (t : Nat), okT t → gOn g t → M t ≤ 900 → ChSp p M H ν c g t := by
  intro t
  induction t using Nat.strongRecOn with
  | ind t ih =>
    intro ho hg hsz
    have ihc : ∀ c1 ∈ fms t, (¬ kd t ≤ 3) → M c1 ≤ 900 → ChSp p M H ν c g c1 := fun c1 h1 hk hz => ih c1 (fms_lt h1) (ho.c h1) (hg.c hk h1) hz
    intro d u x dep X hd hw hs hyn hgm hp15 x0 hx ht hdep him hl hr
    have hb := hl.n hs
    have hn := nodeC hs x0 hx
    rw [ht] at hn
    have hlo := lo_C hs x x0 hx (by rw [ht]; exact ho)
    rw [ht] at hlo
    have hos := okT_sb t ho hg dep
    have ht0 : t ≠ 0 := by rw [← ht]; have : 0 < trC ν u x := tr_pos (okp_C hs.1) x0 (by show x ≤ nC u - 1; omega); omega
    have hX0 : (fun t => ndC ν u t ∨ X t) (sbT g dep t) := by rw [ImT_eq] at him; exact him.1
    have hlX : Lim ν u (fun t => ndC ν u t ∨ X t) := hl.mono (fun t h => h)
    obtain ⟨⟨q1, q2, q3⟩, ⟨q4, q5⟩, ⟨q6, q7⟩, ⟨l1, l2, l3, l4, l5, l6⟩, l8, l11, l0, l7⟩ := id hs.1.1
    obtain ⟨hhp, hms⟩ := hMs t ho ht0
    obtain ⟨d, rfl⟩ : ∃ d', d = d' + 1 := ⟨d - 1, by omega⟩
    rw [runC_eq (by omega)]
    show wp (bX2_change (runC d) x dep u) _
    unfold bX2_change
    -- an answer that stands already
    have old : ∀ (y : Nat), 0 < y → y < nC u → trC ν u y = sbT g dep t → RsT ν c DX2_change u (sbT g dep t) X (y : Int) u := fun y y0 hy ty => ⟨y, rfl, y0, hy, ty, Up.rf hs, hw, Gr.rf⟩
    refine wp_jnG (fun j => (p → ¬ loT t ≤ dep) → wp (j (x : Int) (dep : Int) (kd t : Int) u) (RsT ν c DX2_change u (sbT g dep t) X)) ?_ ?_
    · intro hE
      refine wp_ite (fun h2 => ?_) (fun h2 => ?_)
      · -- a bound variable
        have h2 : kd t = 2 := by omega
        have esb : sbT g dep t = g dep t := by rw [sbT_eq, if_pos (by omega)]
        rw [wp_jn, wp_un]
        refine wp_ite (fun hp => ?_) (fun hp => ?_)
        · rcases hgm with ⟨-, s, g2, g3, g4, g5⟩ | ⟨g1, -⟩ | ⟨g1, -⟩
          · rw [ld_nat (by omega), hn.2.1 (by omega)]
            refine wp_ite (fun hwd => ?_) (fun hwd => ?_)
            · rw [wp_un, g2, wp_some]
              refine old s g3 g4 ?_
              rw [esb, g5]; unfold putg; rw [if_pos ⟨h2, by omega⟩]
            · rw [wp_some]
              refine old x x0 hx ?_
              rw [esb, g5, ht]; unfold putg; rw [if_neg (fun q => hwd (by omega))]
          · omega
          · omega
        · rw [wp_some]
          refine old x x0 hx ?_
          rw [esb, ht]
          rcases hgm with ⟨g1, -⟩ | ⟨-, s, g2, g3, g4, g45, g5⟩ | ⟨-, a, b, g2, g3, g4, g5, g6⟩
          · exact absurd g1 hp
          · rw [g5]; unfold bindg; rw [if_neg (fun e => by rw [← e] at g45; omega)]
          · rw [g6]; unfold locg; rw [if_neg (by omega)]
      · refine wp_ite (fun h1 => ?_) (fun h1 => ?_)
        · -- a constant
          have h1 : kd t = 1 := by omega
          have esb : sbT g dep t = g dep t := by rw [sbT_eq, if_pos (by omega)]
          rw [wp_un]
          have stay : gI u 15 ≠ 1 → sbT g dep t = t := fun hne => by
            rw [esb]
            rcases hgm with ⟨-, s, g2, g3, g4, g5⟩ | ⟨g1, -⟩ | ⟨-, a, b, g2, g3, g4, g5, g6⟩
            · rw [g5]; unfold putg; rw [if_neg (fun q => by omega)]
            · exact absurd g1 hne
            · rw [g6]; unfold locg; rw [if_neg (by omega)]
          refine wp_ite (fun hxs => ?_) (fun hxs => ?_)
          · rw [wp_un]
            refine wp_ite (fun hh => ?_) (fun hh => ?_)
            · rcases hgm with ⟨g1, -⟩ | ⟨-, s, g2, g3, g4, g45, g5⟩ | ⟨g1, -⟩
              · omega
              · have hxe : x = s := by omega
                have et : sbT g dep t = mk 2 dep [] := by rw [esb, g5, ← hxe, ht]; unfold bindg; rw [if_pos rfl]
                rw [wp_un, q6]
                have erow : rowT ν u 2 (rC u) = [] := by unfold rowT pmp; rw [row_nil]; rfl
                refine wp_call (tX2_make (k := 2) (w := dep) (X := fun t => ndC ν u t ∨ X t) (by omega) hw hs (by omega) (by omega) (fun _ => by omega) (by omega) (Nat.le_refl _) (fun v hv => by rw [row_nil] at hv; cases hv) (fun p hp => by rw [row_nil] at hp; have := fptR_sub hp; cases this) (by omega) (by rw [erow, if_neg (by omega), ← et]; exact hX0) hlX) (fun r u2 ⟨y, e2, y0, hy, s2, t2, o2, n2, x2, nd2, rr2, row2, w2, g2'⟩ => ?_)
                rw [wp_some]
                refine RsT.x' ⟨y, e2, y0, hy, by rw [t2, erow, if_neg (by omega), et], ⟨s2.1, s2.2.1, s2.2.2, x2, nd2, rr2, row2⟩, w2, g2'.sub (by decide +kernel)⟩
              · omega
            · rw [wp_un]
              refine wp_ite (fun h3 => ?_) (fun h3 => ?_)
              · rcases hgm with ⟨g1, -⟩ | ⟨g1, -⟩ | ⟨g1, -⟩ <;> omega
              · rw [wp_some]; exact old x x0 hx (by rw [ht, stay hh])
          · rw [wp_some]
            refine old x x0 hx ?_
            rw [ht]
            by_cases hh : gI u 15 = 1
            · rcases hgm with ⟨g1, -⟩ | ⟨-, s, g2, g3, g4, g45, g5⟩ | ⟨g1, -⟩
              · omega
              · rw [esb, g5]; unfold bindg
                rw [if_neg (fun e => hxs ?_)]
                have := trC_inj hs hx g4 (by rw [ht]; exact e)
                omega
              · omega
            · exact (stay hh).symm
        · refine wp_ite (fun h3 => ?_) (fun h3 => ?_)
          · -- a locus
            have h3 : kd t = 3 := by omega
            have esb : sbT g dep t = g dep t := by rw [sbT_eq, if_pos (by omega)]
            have htm := (hg.l (by omega) dep).1
            have hw2 : wh t < 2 := by
              rcases ho.n.2 with q | q | q | q | q | q | q | q | q | q | q | q | q | q <;> try omega
            rw [wp_un]
            refine wp_ite (fun hh => ?_) (fun hh => ?_)
            · rcases hgm with ⟨g1, -⟩ | ⟨g1, -⟩ | ⟨-, a, b, g2, g3, g4, g5, g6⟩
              · omega
              · omega
              · rw [ld_nat (by omega), hn.2.1 (by omega)]
                refine wp_ite (fun h0 => ?_) (fun h0 => ?_)
                · have et : g dep t = trC ν u a := by rw [g6]; unfold locg; rw [if_pos h3, if_pos (by omega)]
                  rw [wp_un, g2, wp_some]
                  refine old a ?_ g4 (by rw [esb, et])
                  rcases Nat.eq_zero_or_pos a with q | q
                  · exact absurd (by rw [et, q]; rfl) (isTm_pos htm)
                  · exact q
                · have et : g dep t = trC ν u b := by rw [g6]; unfold locg; rw [if_pos h3, if_neg (by omega)]
                  rw [ld_nat (by omega), hn.2.1 (by omega)]
                  refine wp_ite (fun h1' => ?_) (fun h1' => by omega)
                  rw [wp_un, g3, wp_some]
                  refine old b ?_ g5 (by rw [esb, et])
                  rcases Nat.eq_zero_or_pos b with q | q
                  · exact absurd (by rw [et, q]; rfl) (isTm_pos htm)
                  · exact q
            · rw [wp_some]
              refine old x x0 hx ?_
              rw [esb, ht]
              rcases hgm with ⟨-, s, g2, g3, g4, g5⟩ | ⟨-, s, g2, g3, g4, g45, g5⟩ | ⟨g1, -⟩
              · rw [g5]; unfold putg; rw [if_neg (fun q => by omega)]
              · rw [g5]; unfold bindg; rw [if_neg (fun e => by rw [← e] at g45; omega)]
              · omega
          · -- a form with parts
            have hk : ¬ kd t ≤ 3 := by
              rcases okN_kd ho.n with q | q | q
              · unfold isTm at q; omega
              · omega
              · unfold isFo at q; omega
            obtain ⟨e1, e2, e3⟩ := sb_kd (g := g) (d := dep) hk
            rw [ld_nat (by omega), hn.2.2.1]
            refine wp_ite (fun hc0 => ?_) (fun hc0 => ?_)
            · rw [wp_some]
              refine old x x0 hx ?_
              have hnil : ps t = [] := List.eq_nil_of_length_eq_zero (by omega)
              rw [ht, sbT_eq, if_neg hk, hnil]
              have : chm (sbT g) (kd t) dep [] = [] := by unfold chm; simp
              rw [this, ← hnil]
              exact ho.n.1
            · obtain ⟨hls, hm2, hm3⟩ := hms dep hE
              refine wp_jnG (fun j => ∀ fm : Nat, fm = (if kd t = 8 then 1 else (ps t).length) → wp (j (x : Int) (dep : Int) (kd t : Int) ((ps t).length : Int) (fm : Int) u) (RsT ν c DX2_change u (sbT g dep t) X)) ?_ ?_
              · intro fm hfm
                rw [wp_un, q6, show (0 : Int) = ((0 : Nat) : Int) from rfl]
                refine change_L205 hMs ho (fun c1 h1 => ihc c1 h1 hk (by have := (hm2 c1 h1).1; omega)) (by omega) hs hyn hgm hp15 hE ht0 x0 hx ht hdep him hl hr hls hfm (ps t).length 0 KF u (by omega) (Nat.lt_of_le_of_lt (by omega : _ ≤ 65536) KF_gt) ⟨Ux.rf hs, hw, fun _ _ => rfl, ⟨by simp, fun i t h => by simp at h⟩, Gr.rf⟩ _ (fun u2 hM => ?_)
                obtain ⟨m1, m2, m3, m4, m5⟩ := hM
                have hlim2 := m1.lim hl
                have hX2 : (fun t => ndC ν u2 t ∨ X t) (sbT g dep t) := hX0.imp (m1.nd hs) id
                have hlX2 : Lim ν u2 (fun t => ndC ν u2 t ∨ X t) := hlim2.mono (fun t h => h)
                have hb2 := hlim2.n m1.1
                have hlen : (chm (sbT g) (kd t) dep (ps t)).length = (ps t).length := chm_len
                have hrow := m4.row
                have hr2 := m1.1.r
                have hrc := m4.1
                have hx2 : x < nC u2 := by have := m1.n hs; omega
                have ht2 : trC ν u2 x = t := by rw [m1.tr hs hx, ht]
                have hn2 := nodeC m1.1 x0 hx2
                rw [ht2] at hn2
                have hl0 : gL u2 1 = gL u2 0 := m1.1.1.1.2.2.2.1.1
                -- how an answer over u2 is one over u
                have back : ∀ (D : Nat) (r : Int) (u3 : Sg), D &&& DX2_change = D → RsA ν c D u2 (rC u) (sbT g dep t) (fun t => ndC ν u2 t ∨ X t) r u3 → RsT ν c DX2_change u (sbT g dep t) X r u3 := fun D r u3 hD ⟨y, b1, b2, b3, b4, b5, b6, b7, b8, b9, b10, b11⟩ => by
                  refine ⟨y, b1, b2, b3, b4, ⟨b5.1, b5.2.1, b5.2.2, m1.2.1.tr b6, fun t ht => ?_, b8, fun i hi => by rw [b9 i hi, m3 i hi]⟩, b10, m5.tr (b11.sub hD)⟩
                  rcases b7 t ht with q | q | q
                  · exact m1.2.2 t q
                  · exact m1.2.2 t q
                  · exact Or.inr q
                refine wp_ite (fun h16 => ?_) (fun h16 => ?_)
                · -- NOT
                  have h16 : kd t = 16 := by omega
                  obtain ⟨f, hpf, hff, hf16⟩ : ∃ f, ps t = [f] ∧ isFo f ∧ kd f ≠ 16 := by
                    rcases ho.n.2 with q | q | q | q | q | q | q | q | q | q | q | q | q | q <;> try omega
                    obtain ⟨q1, q2, f, q3, q4, q5⟩ := q
                    exact ⟨f, q3, q4, q5⟩
                  have hfm1 := fms_mem (t := t) (c := f) (by rw [hpf]; simp) (by omega) (isFo_pos hff)
                  have hL : chm (sbT g) (kd t) dep (ps t) = [sbT g dep f] := by rw [hpf]; unfold chm; rw [if_neg (by omega), if_neg (by omega)]; simp [zf, isFo_pos hff]
                  have hfo := okT_sb f (ho.c hfm1) (hg.c hk hfm1) dep
                  have hkf := (sb_fo (g := g) (d := dep) hff).2
                  have hwt : wh t = 0 := by
                    rcases ho.n.2 with q | q | q | q | q | q | q | q | q | q | q | q | q | q <;> try omega
                  have et : notT (sbT g dep f) = sbT g dep t := by
                    unfold notT
                    rw [if_neg (by omega), sbT_eq (t := t), if_neg hk, hL, h16, hwt]
                  obtain ⟨y, y1, -, y3⟩ := m4.2 0 (sbT g dep f) (by rw [hL]; rfl)
                  obtain ⟨y4, y5⟩ := y3 (by omega)
                  have y0 : 0 < y := by
                    rcases Nat.eq_zero_or_pos y with q | q
                    · subst q
                      exact absurd y5.symm (isFo_pos (sb_fo hff).1)
                    · exact q
                  rw [Nat.add_zero] at y1
                  rw [ld_nat (by rw [hrc, hL] at hr2; simp at hr2; omega), y1, wp_un]
                  have eqi : EqS u2 (sI u2 12 (rC u : Int)) := ⟨fun _ _ => rfl, fun k hk => by rw [gI_sI, if_neg (by omega)]⟩
                  have er : rC (sI u2 12 (rC u : Int)) = rC u := by show (gI (sI u2 12 (rC u : Int)) 12).toNat = rC u; rw [gI_sI, if_pos rfl]; omega
                  have s3 : SC ν c (sI u2 12 (rC u : Int)) := eqi.sc m1.1 ⟨by rw [gI_sI, if_pos rfl, er], by rw [er, gL_sI]; omega⟩ ⟨by rw [gL_sI]; omega, by rw [gL_sI]; omega⟩
                  refine wp_call (tX2_not (X := fun t => ndC ν u2 t ∨ X t) (by omega) (wfI m2 rfl ⟨by omega, by omega⟩) s3 y0 (by rw [eqi.n]; exact y4) (by omega) (fun h => ?_) (by rw [eqi.tr, y5, et]; exact hX2) (eqi.lim hlX2)) (fun r3 u3 ⟨z, b1, b2, b3, b4, b5, b6, b7⟩ => ?_)
                  · rw [eqi.tr, y5] at h; omega
                  · rw [wp_some]
                    rw [eqi.tr, y5, et] at b4
                    refine back DX2_change r3 u3 (by decide +kernel) ⟨z, b1, b2, b3, b4, b5.sc, by rw [← eqi.st ν]; exact b5.2.2.2.1, fun t ht => (b5.2.2.2.2.1 t ht).imp (eqi.nd t).mp id, by rw [b5.2.2.2.2.2.1, er], fun i hi => by rw [b5.2.2.2.2.2.2 i (by rw [er]; exact hi), gN_sI], b6, ?_⟩
                    exact (Gr_sI (by decide +kernel)).tr (b7.sub (by decide +kernel))
                · refine wp_ite (fun h17 => ?_) (fun h17 => ?_)
                  · -- AND
                    have h17 : kd t = 17 := by omega
                    have hsk : kd (sbT g dep t) = 17 := by rw [e1]; exact h17
                    obtain ⟨a1, a2⟩ := andT_ok hos.n hsk
                    rw [e3] at a1 a2
                    have hnz : ∀ f ∈ chm (sbT g) (kd t) dep (ps t), f ≠ 0 := fun f hf => by
                      rcases hos.n.2 with q | q | q | q | q | q | q | q | q | q | q | q | q | q <;> try omega
                      rw [e3] at q
                      exact isFo_pos (q.2.2.2 f hf).1
                    have hn17 : ∀ f ∈ chm (sbT g) (kd t) dep (ps t), kd f ≠ 17 := fun f hf => by
                      rcases hos.n.2 with q | q | q | q | q | q | q | q | q | q | q | q | q | q <;> try omega
                      rw [e3] at q
                      exact (q.2.2.2 f hf).2.1
                    refine wp_call (and_fin (L := chm (sbT g) (kd t) dep (ps t)) (X := fun t => ndC ν u2 t ∨ X t) (by omega) m2 m1.1 (m4.is m1.1 (by omega) hnz) (hyn.up hs m1 m5 (by decide +kernel) (by decide +kernel)) (fun f hf h => absurd h (hn17 f hf)) (by rw [a2, hrc, hlen]; omega) (by rw [a2, hlen]; omega) (by rw [a1]; exact hX2) hlX2) (fun r3 u3 hA => ?_)
                    rw [wp_some]
                    rw [a1] at hA
                    exact back DX2_and_2 r3 u3 (by decide +kernel) hA
                  · -- any other
                    have hn1 : kd t ≠ 1 := by omega
                    rw [ld_nat (by omega), hn2.2.1 hn1]
                    have et : mk (kd t) (if kd t = 1 then ν (wh t) else wh t) (rowT ν u2 (kd t) (rC u)) = sbT g dep t := by rw [hrow.2.1, if_neg hn1, sbT_eq (t := t), if_neg hk]
                    have hwr : inR (gN u2 1 x) := m2.2.2.2.1 1 x (by decide)
                    have hk30 : kd t ≤ 30 := by
                      rcases okN_kd ho.n with q | q | q
                      · unfold isTm at q; omega
                      · omega
                      · unfold isFo at q; omega
                    have hwl : wh t < 2147483648 := by have := hwr.2; rw [hn2.2.1 hn1] at this; omega
                    refine wp_call (tX2_make (k := kd t) (w := wh t) (X := fun t => ndC ν u2 t ∨ X t) (by omega) m2 m1.1 hk30 hwl (by omega) (fun h => absurd h hn1) (by rw [hrc]; omega) hrow.1 (hrow.2.2 (by omega) _) (by rw [hrc, hlen]; omega) (by rw [et]; exact hX2) hlX2) (fun r3 u3 ⟨y, c1, y0, hy, s3, t3, o3, n3, x3, nd3, rr3, row3, w3, g3⟩ => ?_)
                    rw [wp_some]
                    rw [et] at t3
                    exact back DX2_make r3 u3 (by decide +kernel) ⟨y, c1, y0, hy, t3, s3, x3, nd3, rr3, row3, w3, g3⟩
              · intro j hj
                refine wp_ite (fun h8 => ?_) (fun h8 => ?_)
                · exact hj 1 (by rw [if_pos (by omega)])
                · exact hj _ (by rw [if_neg (by omega)])
    · intro j hj
      rw [ld_nat (by omega), hn.1, wp_un]
      refine wp_ite (fun hp => ?_) (fun hq => hj (fun z => absurd (hp15 z) hq))
      rw [ld_nat (by omega), hlo]
      refine wp_ite (fun hle => ?_) (fun hq => hj (fun _ => by omega))
      rw [wp_some]
      refine old x x0 hx ?_
      rcases hgm with ⟨-, s, g2, g3, g4, g5⟩ | ⟨g1, -⟩ | ⟨g1, -⟩
      · rw [ht, g5, sb_id t ho dep (by omega)]
      · omega
      · omega
