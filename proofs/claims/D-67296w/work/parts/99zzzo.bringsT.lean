section MQ
variable {Mq : MqT}
/-- formulas that a round of the model may make -/
def mkF (F : Fs) (K T O : Nat → Prop) (g : Nat) : Prop := ∃ f, K f ∧ ((kd f = 18 ∧ ∃ t, T t ∧ fitS F t (pa f 0) ∧ g = sbT (putg t) 0 (pa f 1)) ∨ (kd f = 16 ∧ kd (pa f 0) = 18 ∧ ¬ O f ∧ g = notT (sbT (putg (mk 1 (2 * f + 1) [])) 0 (pa (pa f 0) 1))))
/-- in the midst of a round -/
def RLT (Mq : MqT) (ν : Nat → Nat) (c : Nat) (W : Wd) (S : Fs) (X : Nat → Prop) (Kl : List Nat) (l : Ls) (O0 N0 Cl Gl Bl Ol : List Nat) (c0 fi k : Nat) (ν0 : Nat → Nat) (cs : Nat) (u0 u : Sg) : Prop := RdT Mq ν c W S X Kl l (cmeS (FsQ l) (fun f => f ∈ Kl) (tT l fi) (fun f => f ∈ O0)) (mkF (FsQ l) (fun f => f ∈ Kl) (tT l fi) (fun f => f ∈ O0)) Cl Gl [] (N0 ++ Bl) Ol c0 fi ν0 u0 u ∧ NuX ν0 cs ν c ∧ (WOK W (NT ν c) ∧ WGK W (NT ν c) ∧ KlOK W (NT ν c) Kl) ∧ (c = c0 + Ol.length ∧ Bl.length ≤ k ∧ Ol.length = O0.length + Bl.length ∧ Ol.Nodup ∧ ∀ f ∈ Ol, NT ν c (2 * f + 1)) ∧ (∀ f, f ∈ Ol ↔ f ∈ O0 ∨ ∃ j : Nat, j < k ∧ Kl[j]? = some f ∧ kd f = 16 ∧ kd (pa f 0) = 18) ∧ (∀ b, b ∈ Bl ↔ ∃ f, f ∈ Ol ∧ f ∉ O0 ∧ b = mk 1 (2 * f + 1) [])
def RLdT (Kl : List Nat) (l : Ls) (O0 Cl : List Nat) (fi k : Nat) : Prop := ∀ (j f g : Nat), j < k → Kl[j]? = some f → cmF (FsQ l) (fun f => f ∈ Kl) (tT l fi) (fun f => f ∈ O0) f g → g ∈ Kl ∨ g ∈ Cl
theorem lo_const (n : Nat) : loT (mk 1 n []) = 0 := (lo_leaf (t := mk 1 n []) (okT_const n).1.n (by rw [kd_mk]; omega)).2
theorem isFo_hi {f : Nat} (h : isFo f) : tkT (kd f) = (kd f : Int) - 1 := tkT_hi (by unfold isFo at h; omega)
theorem brT_L2 {d : Nat} {W : Wd} {S : Fs} {X : Nat → Prop} {Kl : List Nat} {l : Ls} {O0 N0 : List Nat} {c0 fi cs : Nat} {ν0 : Nat → Nat} {u0 : Sg} {Q : Int → Sg → Prop} (hl : LimRT ν0 u0 X Kl (cmeS (FsQ l) (fun f => f ∈ Kl) (tT l fi) (fun f => f ∈ O0)) (mkF (FsQ l) (fun f => f ∈ Kl) (tT l fi) (fun f => f ∈ O0))) (hKX : ∀ f ∈ Kl, ∀ z, subT z f → ndT ν0 u0 z) (hr0 : hT u0 ≤ 20000) (hX : XRd X Kl O0) (hWc : ∀ f, wcT W (2 * f + 1) = pa (pa f 0) 0) (hf0 : ∀ f ∈ Kl, isFo f ∧ szQ f ≤ 900 ∧ 40 + 3 * htT f ≤ d ∧ 40 + htQ f ≤ d) (hc0 : c0 ≤ 3000) (hO0 : O0.length ≤ 2500) (hKn : Kl.Nodup) (hfi : fi ≤ l.1.length) (hfn : fi + N0.length ≤ 100) (hN0 : ∀ t, t ∈ N0 ↔ (t ∈ l.1 ∧ kd t = 1 ∧ wh t % 2 = 1)) (hd9 : 40 ≤ d) {x396 : Sg → Option (Int × Sg)} (hend : ∀ (ν : Nat → Nat) (c : Nat) (u : Sg) (Cl Gl Bl Ol : List Nat) (k : Nat), RLT Mq ν c W S X Kl l O0 N0 Cl Gl Bl Ol c0 fi k ν0 cs u0 u → k ≤ Kl.length → Cl.length ≤ 1400 → (k = Kl.length ∧ RLdT Kl l O0 Cl fi k) ∨ (Cl ≠ [] ∧ 400 < Kl.length + Cl.length) → wp (x396 u) Q) : ∀ (m k fu : Nat) (ν : Nat → Nat) (c : Nat) (u : Sg) (Cl Gl Bl Ol : List Nat), k + m = Kl.length → m < fu → RLT Mq ν c W S X Kl l O0 N0 Cl Gl Bl Ol c0 fi k ν0 cs u0 u → Cl.length ≤ 1400 → RLdT Kl l O0 Cl fi k → wp (bX3_bringsOf_L2 (runT d) fu (Kl.length : Int) (N0.length : Int) (k : Int) u x396) Q := by
  intro m
  induction m with
  | zero =>
    intro k fu ν c u Cl Gl Bl Ol hk hf hR hC14 hD
    obtain ⟨fu, rfl⟩ : ∃ f', fu = f' + 1 := ⟨fu - 1, by omega⟩
    rw [bX3_bringsOf_L2, if_neg (by omega)]
    exact hend ν c u Cl Gl Bl Ol k hR (by omega) hC14 (Or.inl ⟨by omega, hD⟩)
  | succ m ih =>
    intro k fu ν c u Cl Gl Bl Ol hk hf hR hC14 hD
    obtain ⟨fu, rfl⟩ : ∃ f', fu = f' + 1 := ⟨fu - 1, by omega⟩
    have hRk := hR
    obtain ⟨hI, hNu, ⟨hW, hG, hK⟩, ⟨ec, eB, eO, eN, eNm⟩, hOm, hBm⟩ := hR
    have hA := hI.1
    have hs := hA.1.1.1
    have hKl := hK.1
    have hkl : k < Kl.length := by omega
    have gk : Kl[k]? = some Kl[k] := List.getElem?_eq_getElem hkl
    generalize ef : Kl[k] = f at gk
    have hfK := List.mem_of_getElem? gk
    obtain ⟨hfo, hfz, hfd, hfq⟩ := hf0 f hfK
    obtain ⟨hfr, hfc⟩ := hK.2 f hfK
    obtain ⟨y, y1, y0, y2, y3, y4, y5⟩ := hA.2.2.2.2.1 k f gk
    have hn := nodeT hs y0 y2
    rw [y3] at hn
    have l49 := hA.2.1.2.1
    have h50 := hA.2.1.1
    have h75 : gI u 75 = (Cl.length : Int) := hI.2.1.1.1.1.1
    have f0 : f ≠ 0 := isFo_pos hfo
    have h5f : ¬ (kd f ≤ 5 ∧ loT f = 0) := fun q => by unfold isFo at hfo; omega
    have tk := isFo_hi hfo
    have hGC : Gl.length ≤ Cl.length := nd_lenL Gl Cl hI.2.2.2.2.1.1.1 (fun g hg => (hI.2.2.2.2.1.1.2 g hg).2.2)
    -- after one formula
    have nxt : ∀ (ν2 : Nat → Nat) (c2 : Nat) (u2 : Sg) (Cl2 Gl2 Bl2 Ol2 : List Nat), (∀ g ∈ Cl, g ∈ Cl2) → RLT Mq ν2 c2 W S X Kl l O0 N0 Cl2 Gl2 Bl2 Ol2 c0 fi (k + 1) ν0 cs u0 u2 → Cl2.length ≤ 1400 → (∀ g, cmF (FsQ l) (fun f => f ∈ Kl) (tT l fi) (fun f => f ∈ O0) f g → g ∈ Kl ∨ g ∈ Cl2) → wp (ar ((k : Int) + 1) fun v4 => bX3_bringsOf_L2 (runT d) fu (Kl.length : Int) (N0.length : Int) v4 u2 x396) Q := fun ν2 c2 u2 Cl2 Gl2 Bl2 Ol2 z1 z2 z0 z3 => by
      rw [wp_ar]
      refine ⟨⟨by omega, by omega⟩, ?_⟩
      rw [show (k : Int) + 1 = ((k + 1 : Nat) : Int) by omega]
      refine ih (k + 1) fu ν2 c2 u2 Cl2 Gl2 Bl2 Ol2 (by omega) (by omega) z2 z0 (fun j f' g q1 q2 q3 => ?_)
      by_cases hjk : j = k
      · rw [hjk, gk] at q2
        have e := Option.some.inj q2
        rw [← e] at q3
        exact z3 g q3
      · exact (hD j f' g (by omega) q2 q3).imp id (z1 g)
    have same : ∀ u2 Cl2 Gl2, ¬ (kd f = 16 ∧ kd (pa f 0) = 18) → RdT Mq ν c W S X Kl l (cmeS (FsQ l) (fun f => f ∈ Kl) (tT l fi) (fun f => f ∈ O0)) (mkF (FsQ l) (fun f => f ∈ Kl) (tT l fi) (fun f => f ∈ O0)) Cl2 Gl2 [] (N0 ++ Bl) Ol c0 fi ν0 u0 u2 → RLT Mq ν c W S X Kl l O0 N0 Cl2 Gl2 Bl Ol c0 fi (k + 1) ν0 cs u0 u2 := fun u2 Cl2 Gl2 z2 z3 => ⟨z3, hNu, ⟨hW, hG, hK⟩, ⟨ec, by omega, by omega, eN, eNm⟩, fun g => by
      rw [hOm g]
      refine or_congr Iff.rfl ⟨fun ⟨j, q1, q2⟩ => ⟨j, by omega, q2⟩, fun ⟨j, q1, q2, q3⟩ => ⟨j, ?_, q2, q3⟩⟩
      by_cases hjk : j = k
      · rw [hjk, gk] at q2
        rw [← Option.some.inj q2] at q3
        exact absurd q3 z2
      · omega, hBm⟩
    rw [bX3_bringsOf_L2, if_pos (by omega)]
    refine wp_jnG (fun j => (Cl.length ≤ 400 ∧ (Cl = [] ∨ Kl.length + Cl.length ≤ 400)) → wp (j (Kl.length : Int) (N0.length : Int) (k : Int) u) Q) (fun hsm => ?_) (fun j1 hj1 => ?_)
    · have hg500 : Kl.length + Gl.length + 100 ≤ 500 ∨ Gl.length + 100 ≤ 100 := by
        rcases hsm.2 with q | q
        · rw [q] at hGC
          have : ([] : List Nat).length = 0 := rfl
          exact Or.inr (by omega)
        · exact Or.inl (by omega)
      show wp (ld u 49 (k : Int) _) Q
      rw [ld_nat (by omega), y1, ld_nat (hs.k y2), hn.1, tk]
      by_cases h17 : kd f = 17
      · rw [if_pos (by omega)]
        have hall : ∀ p ∈ ps f, isFo p := by
          rcases hfr.1.n.2 with q | q | q | q | q | q | q | q | q | q | q | q | q | q <;> try omega
          exact fun p hp => (q.2.2.2 p hp).1
        have lenb := g_len hfr.1 (fun _ h => szQ_pos h) (szQ_ex f0 h5f)
        refine brT_L56 (n0 := 400) (by omega) hKX y0 h17 (fun p hp => ⟨hall p hp, f, hfK, Or.inl ⟨h17, hp⟩⟩) (by omega) (by omega) (ps f).length 0 KF u Cl Gl (by omega) (Nat.lt_of_le_of_lt (by omega : _ ≤ 300000) KF_300) hI y2 y3 (by omega) (fun j hj => by omega) _ (fun u2 Cl2 Gl2 z1 z2 z3 z4 => ?_)
        refine nxt ν c u2 Cl2 Gl2 Bl Ol z1 (same u2 Cl2 Gl2 (fun q => by omega) z2) (by omega) (fun g hg => ?_)
        rcases hg with q | q | q | q
        · exact z3 g q.2
        · omega
        · omega
        · omega
      · rw [if_neg (by omega)]
        by_cases h18 : kd f = 18
        · rw [if_pos (by omega)]
          obtain ⟨ty, bd, e, py, pb, k8, hbf, my, mb, _⟩ := all_parts hfr.1 h18
          have hz1 := g_c (szQ_ex f0 h5f) mb
          have hq1 := htQ_c h5f mb
          have hh1 := ht_c mb
          have hqz := htQ_sz bd (isFo_pos hbf)
          have hbase : ∀ T : Nat → Prop, (∀ t, T t → tT l fi t) → AlA d ν c W Kl l X (cmeS (FsQ l) (fun f => f ∈ Kl) (tT l fi) (fun f => f ∈ O0)) (mkF (FsQ l) (fun f => f ∈ Kl) (tT l fi) (fun f => f ∈ O0)) ν0 u0 y f T := fun T hT => ⟨⟨by rw [pb]; omega, by rw [pb]; omega⟩, ⟨hW, hK⟩, hl, hKX, hr0, ⟨y0, h18, hfr, hfc⟩, ⟨by rw [pb]; omega, by rw [pb]; omega⟩, fun t ht q => ⟨⟨f, hfK, Or.inl ⟨h18, t, hT t ht, q, rfl⟩⟩, fun q' => ⟨f, hfK, Or.inr (Or.inl ⟨h18, t, hT t ht, q, q', rfl⟩)⟩⟩⟩
          refine brT_L99 (n0 := 400) (g0 := Gl.length) (hbase _ (fun t ht => Or.inl ht)) hfi (by omega) (by omega) (hg500.imp (fun q => by omega) (fun q => by omega)) fi 0 KF u Cl Gl (by omega) (Nat.lt_of_le_of_lt (by omega : _ ≤ 300000) KF_300) hI y2 y3 (by omega) (by omega) (fun j t hj => by omega) _ (fun u2 Cl2 Gl2 z1 z2 z3 z4 z5 z6 z7 => ?_)
          refine brT_L130 (n0 := 500) (g0 := Gl.length + fi) (N0 := N0) (hbase _ (fun t ht => Or.inr ((hN0 t).mp ht))) ⟨Bl, rfl⟩ (fun t ht => ((hN0 t).mp ht).1) (by omega) (by omega) (hg500.imp (fun q => by omega) (fun q => by omega)) N0.length 0 KF u2 Cl2 Gl2 (by omega) (Nat.lt_of_le_of_lt (by omega : _ ≤ 300000) KF_300) z2 z3 z4 (by omega) (by omega) (fun j t hj => by omega) _ (fun u3 Cl3 Gl3 v1 v2 v3 v4 v5 v6 => ?_)
          refine nxt ν c u3 Cl3 Gl3 Bl Ol (fun g hg => v1 g (z1 g hg)) (same u3 Cl3 Gl3 (fun q => by omega) v2) (by omega) (fun g hg => ?_)
          rcases hg with q | ⟨_, t, q1, q2, q3, q4⟩ | q | q
          · omega
          · rw [q4]
            rcases q1 with q1 | q1
            · exact ((z7 t q1).mono v1) ⟨q2, q3⟩
            · exact v5 t ((hN0 t).mpr q1) ⟨q2, q3⟩
          · omega
          · omega
        · rw [if_neg (by omega)]
          -- neither AND nor ALL
          refine wp_jnG (fun j => ¬ (kd f = 16 ∧ kd (pa f 0) = 17) → wp (j (Kl.length : Int) (N0.length : Int) (k : Int) (y : Int) ((kd f : Int) - 1) u) Q) (fun hn17 => ?_) (fun j20 hj20 => ?_)
          · show wp (if (kd f : Int) - 1 = 15 then _ else _) Q
            by_cases h16 : kd f = 16
            · rw [if_pos (by omega)]
              obtain ⟨z, z1, z0, z2, z3, zf, r2, r3⟩ := notT_at (d := d) (by omega) hs y0 y2 y3 hfr h16
              have zc : closT (pa f 0) := hfc.part hfr.1.n (by omega) r2
              have hnz := nodeT hs z0 z2
              rw [z3] at hnz
              have hpf : isFo (pa f 0) := by
                rcases hfr.1.n.2 with q | q | q | q | q | q | q | q | q | q | q | q | q | q <;> try omega
                obtain ⟨_, _, g, e, hg', _⟩ := q
                rw [pa_at (show (ps f)[0]? = some g by rw [e]; rfl)]
                exact hg'
              have tk2 := isFo_hi hpf
              refine wp_eq z1 ?_
              rw [gd_pos (keeps_rf u _), ld_nat (hs.k z2), hnz.1, tk2]
              have none : kd (pa f 0) ≠ 18 → wp (ar ((k : Int) + 1) fun v4 => bX3_bringsOf_L2 (runT d) fu (Kl.length : Int) (N0.length : Int) v4 u x396) Q := fun q18 => nxt ν c u Cl Gl Bl Ol (fun _ q => q) (same u Cl Gl (fun q => q18 q.2) hI) hC14 (fun g hg => by
                rcases hg with q | q | q | q
                · omega
                · omega
                · exact absurd ⟨q.1, q.2.1⟩ hn17
                · exact absurd q.2.1 q18)
              by_cases g18 : kd (pa f 0) = 18
              · rw [if_pos (by omega)]
                have hh := ht_c r2
                have hz1 := g_c (szQ_ex f0 h5f) r2
                have hq1 := htQ_c h5f r2
                obtain ⟨d', rfl⟩ : ∃ d', d = d' + 1 := ⟨d - 1, by omega⟩
                obtain ⟨dn1, dn2⟩ := rX3_isDone (d := d') (by omega) hI.2.2.2.1.1 hs y2 y3
                have hfO : f ∈ Ol ↔ f ∈ O0 := by
                  rw [hOm f]
                  refine ⟨fun q => q.elim id (fun ⟨j, q1, q2, _⟩ => ?_), Or.inl⟩
                  have : j = k := (List.getElem?_inj (by have := (List.getElem?_eq_some_iff.mp q2).1; omega) hKn).mp (by rw [q2, gk])
                  omega
                by_cases hin : f ∈ Ol
                · refine wp_eq (dn1 hin) ?_
                  rw [if_neg (by decide)]
                  refine nxt ν c u Cl Gl Bl Ol (fun _ q => q) ⟨hI, hNu, ⟨hW, hG, hK⟩, ⟨ec, by omega, by omega, eN, eNm⟩, fun g => ?_, hBm⟩ hC14 (fun g hg => ?_)
                  · rw [hOm g]
                    constructor
                    · exact fun q => q.imp id (fun ⟨j, q1, q2⟩ => ⟨j, by omega, q2⟩)
                    · rintro (q | ⟨j, q1, q2, q3⟩)
                      · exact Or.inl q
                      · by_cases hjk : j = k
                        · rw [hjk, gk] at q2
                          rw [← Option.some.inj q2]
                          exact Or.inl (hfO.mp hin)
                        · exact Or.inr ⟨j, by omega, q2, q3⟩
                  · rcases hg with q | q | q | ⟨_, _, q, _⟩
                    · omega
                    · omega
                    · exact absurd ⟨q.1, q.2.1⟩ hn17
                    · exact absurd (hfO.mp hin) q
                · refine wp_eq (dn2 hin) ?_
                  rw [if_pos rfl]
                  refine wp_eq z1 ?_
                  have hn0 : f ∉ O0 := fun q => hin (hfO.mpr q)
                  obtain ⟨ty, bd, e, py, pb, k8, hbf, my, mb, _⟩ := all_parts zf.1 g18
                  obtain ⟨ct, cb, cf, cl'⟩ := all_clo zf zc g18
                  obtain ⟨X1, X2⟩ := hX.2 f hfK h16 g18 hn0
                  have g0 : pa f 0 ≠ 0 := (fms_ps r2).2
                  have hfg : ¬ (kd (pa f 0) ≤ 5 ∧ loT (pa f 0) = 0) := by omega
                  have hzb := g_c (szQ_ex g0 hfg) mb
                  have hqb := htQ_c hfg mb
                  have hqz := htQ_sz bd (isFo_pos hbf)
                  refine wp_call (rdT_done (d := d') (by omega) hI y0 y2 y3) (fun r2' u2 ⟨hI2, e2⟩ => ?_)
                  have hs2 := hI2.1.1.1.1
                  have z22 : z ≤ nT u2 := by rw [e2.1.n]; exact z2
                  have z32 : trT ν u2 z = pa f 0 := by rw [e2.1.tr]; exact z3
                  have nw0 : nw (kd (pa f 0)) = 0 := by rw [g18]; decide
                  obtain ⟨tn, t1, t2, t3⟩ := partNT (d := d' + 1) (i := 0) (by omega) hs2 z0 z22 (by rw [z32, e]; simp) (Or.inr rfl)
                  rw [z32, nw0] at t1
                  rw [z32] at t3
                  refine wp_eq t1 ?_
                  have hnm : ¬ NT ν c (2 * f + 1) := fun ⟨i, i0, i1, i2⟩ => by
                    by_cases q : i < c0
                    · have := (hI.2.2.2.1.2 i i0 i1).1 q
                      omega
                    · obtain ⟨g, g1, g2⟩ := (hI.2.2.2.1.2 i i0 i1).2 (by omega)
                      exact hin (by rw [show f = g by omega]; exact g1)
                  have hgl1 : Kl.length + Gl.length ≤ 501 ∨ Gl.length ≤ 101 := hg500.imp (fun q => by omega) (fun q => by omega)
                  have hgl0 : Kl.length + Gl.length ≤ 500 ∨ Gl.length ≤ 100 := hg500.imp (fun q => by omega) (fun q => by omega)
                  have hcc2 : 2 ≤ c := hI.1.1.1.2.2.1.2.1
                  refine rdT_new (f := f) (by omega) hI2 hl hgl1 hr0 (by omega) (by omega) hnm (List.mem_append_right _ List.mem_cons_self) (by omega) (by rw [t3, hWc]) X1 (fun u3 x a2 a3 a4 a5 a6 => ?_)
                  generalize eν : nuU ν c (2 * f + 1) = ν' at *
                  have hx' : NuX ν c ν' (c + 1) := by rw [← eν]; exact nuU_x ν c _
                  refine rdT_note a5 (by rw [List.length_append]; omega) a2 a3 a4 (fun u4 b1 b2 => ?_)
                  have hs4 := b1.1.1.1.1
                  have z24 : z ≤ nT u4 := by rw [b2.1.n]; exact Nat.le_trans z22 a6.1
                  have z34 : trT ν' u4 z = pa f 0 := by rw [b2.1.tr, a6.2.1 z z22]; exact z32
                  have x34 : trT ν' u4 x = mk 1 (2 * f + 1) [] := by rw [b2.1.tr]; exact a4
                  have xn4 : x ≤ nT u4 := by rw [b2.1.n]; exact a3
                  obtain ⟨bn, c1, c2, c3⟩ := partNT (d := d' + 1) (i := 1) (by omega) hs4 z0 z24 (by rw [z34, e]; simp) (Or.inl (by rw [z34]; omega))
                  rw [z34, nw0] at c1
                  rw [z34, pb] at c3
                  have bn0 : 0 < bn := Nat.pos_of_ne_zero (fun q => isFo_pos hbf (by rw [← c3, q]; rfl))
                  rw [pb] at X2 cf cb
                  obtain ⟨oc, tc⟩ := okT_const (2 * f + 1)
                  have lc : loT (mk 1 (2 * f + 1) []) = 0 := lo_const _
                  have hok : okT (sbT (putg (mk 1 (2 * f + 1) [])) 0 bd) := okT_sb bd cf.1 (gOn_put cf.1 oc tc) 0
                  have hof : isFo (sbT (putg (mk 1 (2 * f + 1) [])) 0 bd) := by
                    have := (sb_kd (g := putg (mk 1 (2 * f + 1) [])) (d := 0) (t := bd) (by unfold isFo at hbf; omega)).1
                    unfold isFo at hbf ⊢
                    rw [this]; exact hbf
                  have hFg : mkF (FsQ l) (fun f => f ∈ Kl) (tT l fi) (fun f => f ∈ O0) (notT (sbT (putg (mk 1 (2 * f + 1) [])) 0 bd)) := ⟨f, hfK, Or.inr ⟨h16, g18, hn0, by rw [pb]⟩⟩
                  have hFu : cmeS (FsQ l) (fun f => f ∈ Kl) (tT l fi) (fun f => f ∈ O0) (notT (sbT (putg (mk 1 (2 * f + 1) [])) 0 bd)) := ⟨f, hfK, Or.inr (Or.inr (Or.inr ⟨h16, g18, hn0, by rw [pb]⟩))⟩
                  have hlu4 := b1.limg hl hKX hgl0 hFg
                  have hh4 := b1.hh
                  refine wp_eq c1 ?_
                  refine wp_call (tX3_put oc tc lc bd cf.1 (d' + 1) u4 bn 0 x (fun z => X z ∨ subT z (notT (sbT (putg (mk 1 (2 * f + 1) [])) 0 bd))) (by omega) (by omega) b1.1.1.2.1 hs4 bn0 (by omega) c3 a2 xn4 x34 (by omega) (by omega) (ImT_put oc tc bd cf.1 0 (fun z hz => Or.inr ((sub_nn hok hof hz).imp (fun q => by rw [q]; exact X2) id))) hlu4 (by omega)) (fun r5 u5 ⟨p, p1, p2, p3, p4, p5, p6, p7⟩ => ?_)
                  rw [p1]
                  have hI5 := b1.frP (Or.inl rfl) p5 p6 p7 (by decide +kernel) (by decide +kernel) (by decide +kernel)
                  have hs5 := hI5.1.1.1.1
                  have hlu5 := p5.lim hlu4
                  have hh5 := hI5.hh
                  refine wp_call (tX3_not (X := fun z => X z ∨ subT z (notT (sbT (putg (mk 1 (2 * f + 1) [])) 0 bd))) (by omega) p6 hs5 p2 p3 (by omega) (by rw [p4]; exact not_wf hok) (by rw [p4]; exact Or.inr (sub_rf _)) hlu5) (fun r6 u6 ⟨v, v1, v2, v3, v4, v5, v6, v7⟩ => ?_)
                  rw [p4] at v4
                  rw [v1]
                  have hI6 := hI5.frP (Or.inr rfl) v5 v6 v7 (by decide +kernel) (by decide +kernel) (by decide +kernel)
                  refine wp_call (rdT_comes (d := d') (by omega) hKX hI6 (Or.inr ⟨rfl, hFg⟩) (by omega) v2 v3 v4 hFu) (fun r7 u7 ⟨Cl7, Gl7, w1, w2, w3, w4, w5, w6, _⟩ => ?_)
                  have hN : ∀ m, NT ν c m → NT ν' (c + 1) m := fun m hm => hx'.nt hm
                  have hnn : ∀ m, NT ν' (c + 1) m → NT ν c m ∨ m = 2 * f + 1 := fun m hm => by rw [← eν] at hm; exact (nuT_nt hcc2).mp hm
                  refine nxt ν' (c + 1) u7 Cl7 Gl7 (Bl ++ [mk 1 (2 * f + 1) []]) (Ol ++ [f]) w1 ⟨by rw [← List.append_assoc]; exact w2, hNu.tr hx', ⟨hW.mono hN (fun m hm => ?_), hG.mono hN, ⟨hKl, fun g hg => ⟨(hK.2 g hg).1.mono hN, (hK.2 g hg).2⟩⟩⟩, ⟨by rw [List.length_append, ec]; rfl, by rw [List.length_append]; show Bl.length + 1 ≤ k + 1; omega, by rw [List.length_append, List.length_append]; show Ol.length + 1 = O0.length + (Bl.length + 1); omega, List.nodup_append.mpr ⟨eN, by simp, fun a ha b hb e => hin (by rw [← List.mem_singleton.mp hb, ← e]; exact ha)⟩, fun g hg => (List.mem_append.mp hg).elim (fun z => hN _ (eNm g z)) (fun z => by rw [List.mem_singleton.mp z, ← eν]; exact (nuT_nt hcc2).mpr (Or.inr rfl))⟩, fun g => ?_, fun b => ?_⟩ (by omega) (fun g hg => ?_)
                  · rcases hnn m hm with q | q
                    · exact (hW.2.2.2 m q).mono hN
                    · rw [q, hWc]; exact ct.mono hN
                  · rw [List.mem_append, List.mem_singleton, hOm g]
                    constructor
                    · rintro ((q | ⟨j, q1, q2⟩) | q)
                      · exact Or.inl q
                      · exact Or.inr ⟨j, by omega, q2⟩
                      · rw [q]; exact Or.inr ⟨k, by omega, gk, h16, g18⟩
                    · rintro (q | ⟨j, q1, q2, q3⟩)
                      · exact Or.inl (Or.inl q)
                      · by_cases hjk : j = k
                        · rw [hjk, gk] at q2
                          exact Or.inr (Option.some.inj q2).symm
                        · exact Or.inl (Or.inr ⟨j, by omega, q2, q3⟩)
                  · rw [List.mem_append, List.mem_singleton, hBm b]
                    constructor
                    · rintro (⟨g, q1, q2, q3⟩ | q)
                      · exact ⟨g, List.mem_append_left _ q1, q2, q3⟩
                      · exact ⟨f, List.mem_append_right _ List.mem_cons_self, hn0, q⟩
                    · rintro ⟨g, q1, q2, q3⟩
                      rcases List.mem_append.mp q1 with q | q
                      · exact Or.inl ⟨g, q, q2, q3⟩
                      · rw [List.mem_singleton.mp q] at q3
                        exact Or.inr q3
                  · rcases hg with q | q | q | ⟨_, _, _, q⟩
                    · omega
                    · omega
                    · exact absurd ⟨q.1, q.2.1⟩ hn17
                    · rw [q, pb]; exact w4
              · rw [if_neg (by omega)]
                exact none g18
            · rw [if_neg (by omega)]
              refine nxt ν c u Cl Gl Bl Ol (fun _ q => q) (same u Cl Gl (fun q => h16 q.1) hI) hC14 (fun g hg => ?_)
              rcases hg with q | q | q | q <;> omega
          · by_cases h16 : kd f = 16
            · rw [if_pos (by omega)]
              obtain ⟨z, z1, z0, z2, z3, zf, r2, r3⟩ := notT_at (d := d) (by omega) hs y0 y2 y3 hfr h16
              have hnz := nodeT hs z0 z2
              rw [z3] at hnz
              have hpf : isFo (pa f 0) := by
                rcases hfr.1.n.2 with q | q | q | q | q | q | q | q | q | q | q | q | q | q <;> try omega
                obtain ⟨_, _, g, e, hg', _⟩ := q
                rw [pa_at (show (ps f)[0]? = some g by rw [e]; rfl)]
                exact hg'
              have tk2 := isFo_hi hpf
              refine wp_eq z1 ?_
              rw [gd_pos (keeps_rf u _), ld_nat (hs.k z2), hnz.1, tk2]
              by_cases g17 : kd (pa f 0) = 17
              · rw [if_pos (by omega)]
                refine wp_eq z1 ?_
                have hh := ht_c r2
                have hz1 := g_c (szQ_ex f0 h5f) r2
                have g0 : pa f 0 ≠ 0 := (fms_ps r2).2
                have hfg : ¬ (kd (pa f 0) ≤ 5 ∧ loT (pa f 0) = 0) := by omega
                have lenb := g_len zf.1 (fun _ h => szQ_pos h) (szQ_ex g0 hfg)
                have hgl1 : Kl.length + Gl.length ≤ 501 ∨ Gl.length ≤ 101 := hg500.imp (fun q => by omega) (fun q => by omega)
                refine brT_L200 hW hG hK (by omega) hl hgl1 hr0 z0 g17 zf (fun s q1 q2 => hX.1 f hfK s (subN_c (by omega) r2 q1) q2) (by omega) (ps (pa f 0)).length 0 KF 0 0 u (by omega) (Nat.lt_of_le_of_lt (by omega : _ ≤ 300000) KF_300) hI z2 z3 (by omega) (Or.inl ⟨rfl, fun j hj => by omega⟩) _ (fun u2 lf2 m2 v1 v2 => ?_)
                have hs2 := v1.1.1.1.1
                refine wp_ite (fun hm => ?_) (fun hm => ?_)
                · obtain ⟨_, k', k1, k2, k3, zz, b1, b2, b3, b4⟩ := (v2.resolve_left (fun q => by omega)).resolve_right (fun q => by omega)
                  have hpm := List.mem_of_getElem? (pa_get k1)
                  have hfm : pa (pa f 0) k' ∈ fms (pa f 0) := fms_at.mpr ⟨k', Or.inl (by omega), pa_get k1, by
                    rcases zf.1.n.2 with q | q | q | q | q | q | q | q | q | q | q | q | q | q <;> try omega
                    exact isFo_pos (q.2.2.2 _ hpm).1⟩
                  have hol : oL (FsQ l) (fun f => f ∈ Kl) (pa f 0) (pa (pa f 0) k') := ⟨k', k1, rfl, k2, k3⟩
                  have hlu := v1.lim hl hgl1
                  have hh2 := v1.hh
                  rw [b1]
                  refine wp_call (tX3_not (X := X) (by omega) v1.1.1.2.1 hs2 b2 b3 (by omega) (by rw [b4]; exact not_wf (zf.part hfm).1) (by rw [b4]; exact hX.1 f hfK (pa f 0) (subN_c (by omega) r2 (subN_rf _)) g17 _ hpm) hlu) (fun r3' u3 ⟨yy, c1, c2, c3, c4, c5, c6, c7⟩ => ?_)
                  rw [c1]
                  rw [b4] at c4
                  have hR3 := v1.fr c5 c6 c7 (by decide +kernel) (by decide +kernel) (by decide +kernel)
                  obtain ⟨d', rfl⟩ : ∃ d', d = d' + 1 := ⟨d - 1, by omega⟩
                  refine wp_call (rdT_comes (d := d') (by omega) hKX hR3 (Or.inl rfl) (by omega) c2 c3 c4 ⟨f, hfK, Or.inr (Or.inr (Or.inl ⟨h16, g17, _, hol, rfl⟩))⟩) (fun r4 u4 ⟨Cl4, Gl4, w1, w2, w3, w4, w5, w6, _⟩ => ?_)
                  refine nxt ν c u4 Cl4 Gl4 Bl Ol w1 (same u4 Cl4 Gl4 (fun q => by omega) w2) (by omega) (fun g hg => ?_)
                  rcases hg with q | q | ⟨_, _, p, ⟨i, i1, i2, i3, i4⟩, q2⟩ | q
                  · omega
                  · omega
                  · have : i = k' := Classical.byContradiction (fun q => i3 (by rw [i2]; exact k3 i i1 q))
                    rw [q2, i2, this]
                    exact w4
                  · omega
                · refine nxt ν c u2 Cl Gl Bl Ol (fun _ q => q) (same u2 Cl Gl (fun q => by omega) v1) hC14 (fun g hg => ?_)
                  rcases hg with q | q | ⟨_, _, p, ⟨i, i1, i2, i3, i4⟩, q2⟩ | q
                  · omega
                  · omega
                  · exfalso
                    rw [i2] at i3
                    rcases v2 with ⟨a, b⟩ | ⟨a, _⟩ | ⟨a, k1, k2, q1, q2, q3, q4⟩
                    · exact absurd (b i i1) i3
                    · omega
                    · by_cases h1 : k1 = i
                      · exact q4 (i4 k2 q2 (by omega))
                      · exact q3 (i4 k1 (by omega) h1)
                  · omega
              · rw [if_neg (by omega)]
                exact hj20 (fun q => g17 q.2)
            · rw [if_neg (by omega)]
              exact hj20 (fun q => h16 q.1)
    · rw [wp_un, h75]
      refine wp_ite (fun q0 => ?_) (fun q0 => ?_)
      · have : Cl = [] := List.eq_nil_of_length_eq_zero (by omega)
        exact hj1 ⟨by omega, Or.inl this⟩
      · rw [wp_un, h50, wp_un, wp_ar]
        refine ⟨⟨by omega, by omega⟩, ?_⟩
        refine wp_ite (fun q4 => hj1 ⟨by omega, Or.inr (by omega)⟩) (fun q4 => ?_)
        exact hend ν c u Cl Gl Bl Ol k hRk (by omega) hC14 (Or.inr ⟨fun q => by rw [q] at q0; exact q0 rfl, by omega⟩)
end MQ
