theorem CaP.ml {ν : Nat → Nat} {c : Nat} {W : Wd} {S : Fs} {Kl : List Nat} {u : Sg} {H : List Nat} {p : Nat → Nat} {M : List (Nat × Nat × Nat)} {J : List (Nat × Nat)} (h : CaP ν c W S Kl u H p M J) (hW : WOK W (Nm ν c)) (hK : ∀ f ∈ Kl, kd f = 14 → wh f < 20) (hKl : Kl.length ≤ 2500) : M.length ≤ 52000 ∧ J.length ≤ 3000 := by
  obtain ⟨h1, h2, ⟨h3, h3b⟩, h4, h5, h6, h7, ⟨h8, h9⟩, h10, h11⟩ := h
  have hl := h3.1.2.1
  have e1 : M.length ≤ (ALM W Kl H).length := nodup_sub h8 (fun q hq => (h9 q hq).2.2)
  have e2 := ALM_len hW h1.2.2.2.1.2.1.2 (fun t ht => (h6 t ht).1) hK
  refine ⟨by omega, ?_⟩
  have e3 : J.length ≤ (H.flatMap (fun t => (List.range 30).map (fun j => (t, j)))).length := nodup_sub h10 (fun q hq => by
    obtain ⟨z1, z2, _⟩ := h11 q hq
    exact List.mem_flatMap.mpr ⟨q.1, z1, List.mem_map.mpr ⟨q.2, List.mem_range.mpr z2, rfl⟩⟩)
  have e4 : (H.flatMap (fun t => (List.range 30).map (fun j => (t, j)))).length ≤ 30 * H.length := fM_len (fun t _ => by simp)
  omega
theorem CaP.h0 {ν : Nat → Nat} {c : Nat} {W : Wd} {S : Fs} {Kl : List Nat} {u : Sg} {H : List Nat} {p : Nat → Nat} {M : List (Nat × Nat × Nat)} {J : List (Nat × Nat)} (h : CaP ν c W S Kl u H p M J) : 0 ∉ H := fun q => isTm_pos (h.2.2.2.2.2.1 0 q).1.2.1 rfl
theorem AtZ.imp {ν : Nat → Nat} {c : Nat} {W : Wd} {S : Fs} {X : XFm} {Kl Q : List Nat} {u : Sg} {H : List Nat} {p : Nat → Nat} {M : List (Nat × Nat × Nat)} {J : List (Nat × Nat)} {Z : List Nat → Prop} {P P' : List Nat → List (Nat × Nat × Nat) → List (Nat × Nat) → Prop} {u' : Sg} (h : AtZ ν c W S X Kl Q u H p M J Z P u') (hp : ∀ H' M' J', (∃ p', ExC H p M J H' p' M' J') → P H' M' J' → P' H' M' J') : AtZ ν c W S X Kl Q u H p M J Z P' u' := by
  obtain ⟨H', p', M', J', h1, h2, h3, h4, h5⟩ := h
  exact ⟨H', p', M', J', h1, h2, h3, h4, h5.imp (fun q => ⟨q.1, q.2.1, q.2.2.1, hp H' M' J' ⟨p', h1⟩ q.2.2.2⟩) id⟩
theorem AtR.imp {ν : Nat → Nat} {c : Nat} {W : Wd} {S : Fs} {X : XFm} {Kl Q : List Nat} {u : Sg} {H : List Nat} {p : Nat → Nat} {M : List (Nat × Nat × Nat)} {J : List (Nat × Nat)} {P P' : List Nat → List (Nat × Nat × Nat) → List (Nat × Nat) → Prop} {u' : Sg} (h : AtR ν c W S X Kl Q u H p M J P u') (hp : ∀ H' M' J', (∃ p', ExC H p M J H' p' M' J') → P H' M' J' → P' H' M' J') : AtR ν c W S X Kl Q u H p M J P' u' := by
  obtain ⟨H', p', M', J', h1, h2, h3, h4, h5⟩ := h
  exact ⟨H', p', M', J', h1, h2, h3, h4, h5.imp (fun q => ⟨q.1, q.2.1, q.2.2.1, hp H' M' J' ⟨p', h1⟩ q.2.2.2⟩) id⟩
/-- one after another -/
theorem AtZ.seq {ν : Nat → Nat} {c : Nat} {W : Wd} {S : Fs} {X : XFm} {Kl Q : List Nat} {u u1 : Sg} {H H1 : List Nat} {p p1 : Nat → Nat} {M M1 : List (Nat × Nat × Nat)} {J J1 : List (Nat × Nat)} {Z : List Nat → Prop} {P : List Nat → List (Nat × Nat × Nat) → List (Nat × Nat) → Prop} {u' : Sg} (he : ExC H p M J H1 p1 M1 J1) (hU : Up ν c u u1 (xf X H1)) (hg : GrH u u1) (hb : gI u 45 = 0) (h : AtZ ν c W S X Kl Q u1 H1 p1 M1 J1 Z P u') : AtZ ν c W S X Kl Q u H p M J Z P u' := by
  obtain ⟨H', p', M', J', h1, h2, h3, h4, h5⟩ := h
  exact ⟨H', p', M', J', he.tr h1, h2, UpZ.pre hU hb h3 (fun t ht => h1.H ht), hg.tr h4, h5⟩
theorem AtR.seq {ν : Nat → Nat} {c : Nat} {W : Wd} {S : Fs} {X : XFm} {Kl Q : List Nat} {u u1 : Sg} {H H1 : List Nat} {p p1 : Nat → Nat} {M M1 : List (Nat × Nat × Nat)} {J J1 : List (Nat × Nat)} {P : List Nat → List (Nat × Nat × Nat) → List (Nat × Nat) → Prop} {u' : Sg} (he : ExC H p M J H1 p1 M1 J1) (hU : Up ν c u u1 (xf X H1)) (hg : GrH u u1) (hb : gI u 45 = 0) (h : AtR ν c W S X Kl Q u1 H1 p1 M1 J1 P u') : AtR ν c W S X Kl Q u H p M J P u' := by
  obtain ⟨H', p', M', J', h1, h2, h3, h4, h5⟩ := h
  exact ⟨H', p', M', J', he.tr h1, h2, UpZ.pre hU hb h3 (fun t ht => h1.H ht), hg.tr h4, h5⟩
theorem tX1_modeFact {d n : Nat} {ν : Nat → Nat} {c : Nat} {W : Wd} {S : Fs} {X : XFm} {Kl Q : List Nat} {u : Sg} {H : List Nat} {p : Nat → Nat} {M : List (Nat × Nat × Nat)} {J : List (Nat × Nat)} {x m a : Nat} (hW : WOK W (Nm ν c)) (hK : ∀ f ∈ Kl, kd f = 14 → wh f < 20) (hKl : Kl.length ≤ 2500) (hAt : AtSp ν c W S X Kl n) (hd : 321 + 6 * n ≤ d) (hn : 100 ≤ H.length + n) (hC : CaP ν c W S Kl u H p M J) (hb : gI u 45 = 0) (hA : ArgOK M H) (hG : ∀ y ∈ H, y ∉ Q → GoodC W H M J y) (hx : x < nC u) (hxH : trC ν u x ∈ H) (hm : m < 1000) (ha : a < nC u) (hf : fM S (trC ν u x) m (trC ν u a)) (hal : (trC ν u x, m, trC ν u a) ∈ ALM W Kl H) (hca : trC ν u a ≠ 0 → cltm W (Nm ν c) (trC ν u a) ∧ fH S (trC ν u a)) (hr : rC u ≤ 20000) (hl : LimH ν u S X H) :
    wp (runC d 49 [(x : Int), (m : Int), (a : Int)] u) (fun r u' => (r = 0 ∧ u' = u ∧ (trC ν u x, m, trC ν u a) ∈ M) ∨ (r = 1 ∧ (trC ν u x, m, trC ν u a) ∉ M ∧ AtZ ν c W S X Kl Q u H p M J (fun H' => trC ν u a ∈ H') (fun H' M' J' => (trC ν u x, m, trC ν u a) ∈ M' ∧ (trC ν u a ≠ 0 → trC ν u a ∈ H') ∧ M.length < M'.length) u')) := by
  obtain ⟨d, rfl⟩ : ∃ d', d = d' + 1 := ⟨d - 1, by omega⟩
  rw [runC_eq (by omega)]
  show wp (bX1_hasModeFact (runC d) x m a u) _
  unfold bX1_hasModeFact
  have hC' := hC
  obtain ⟨h1, h2, ⟨h3, h3b⟩, h4, h5, h6, h7, ⟨h8, h9⟩, h10, h11⟩ := hC
  have hs := h1.1
  have hbd := (hl.l hC').n hs
  have hml := hC'.ml hW hK hKl
  have hKF := KF_300
  by_cases hmem : (trC ν u x, m, trC ν u a) ∈ M
  · obtain ⟨k, hk⟩ := List.getElem?_of_mem hmem
    have e := (mf_L3 (d := d) (m := m) h4 hs hx ha (xx := fun v2 v3 v4 s1 => jn (fun (a1 a2 a3 : Int) (s6 : Sg) => un (gI s6 51) fun v7 => stA s6 46 v7 a1 fun s8 => un (gI s8 51) fun v9 => stA s8 47 v9 a2 fun s10 => un (gI s10 51) fun v11 => stA s10 48 v11 a3 fun s12 => un (gI s12 51) fun v13 => ar (v13 + 1) fun v14 => un (sI s12 51 v14) fun s15 => if a3 = 0 then (some (1, s15)) else (cl (runC d 45 [a3] s15) fun v16 s17 => some (1, s17))) fun j5 => un (gI s1 51) fun v18 => un (gL s1 46 : Int) fun v19 => if v18 = v19 then (un (gI s1 51) fun v20 => ar (2 * v20) fun v21 => cpy s1 46 v21 fun s22 => un (gI s22 51) fun v23 => ar (2 * v23) fun v24 => cpy s22 47 v24 fun s25 => un (gI s25 51) fun v26 => ar (2 * v26) fun v27 => cpy s25 48 v27 fun s28 => j5 v2 v3 v4 s28) else (j5 v2 v3 v4 s1)) (xy := fun s29 => some (0, s29)) M.length 0 KF (by omega) (by omega)).1 ⟨k, Nat.zero_le _, hk⟩
    exact ⟨0, u, e, Or.inl ⟨rfl, rfl, hmem⟩⟩
  · rw [show bX1_hasModeFact_L3 (runC d) KF (x : Int) (m : Int) (a : Int) 0 u _ _ = _ from (mf_L3 (d := d) (m := m) h4 hs hx ha M.length 0 KF (by omega) (by omega)).2 (fun ⟨k, _, hk⟩ => hmem (List.mem_of_getElem? hk))]
    refine mf_add (K := fun s15 => if (a : Int) = 0 then (some (1, s15)) else (cl (runC d 45 [(a : Int)] s15) fun v16 s17 => some (1, s17))) h2 h4 hs (by omega) hx ha (by omega) hm (fun s w g hM' => ?_)
    obtain ⟨e, hU⟩ := g.ux (X := xf X H) hs (by decide +kernel)
    have hg : GrH u s := g.gh (by decide +kernel)
    have hb' : gI s 45 = 0 := by rw [g.I 45 (by decide +kernel)]; exact hb
    have hex : ExC H p M J H p (M ++ [(trC ν u x, m, trC ν u a)]) J := ⟨⟨[], by simp⟩, fun _ _ => rfl, (fun i q1 q2 => by omega), ⟨_, rfl⟩, ⟨[], by simp⟩⟩
    have hCs : CaP ν c W S Kl s H p (M ++ [(trC ν u x, m, trC ν u a)]) J := by
      refine ⟨h1.up hU.ux g (by decide +kernel), w, ⟨h3.up hs hU.ux g (fun k q1 q2 => ?_), by rw [g.I 36 (by decide +kernel)]; exact h3b⟩, hM', h5.up hs hU.ux g (by decide +kernel) (by decide +kernel) (by decide +kernel), h6, h7, ⟨?_, fun q hq => ?_⟩, h10, h11⟩
      · exact (by decide +kernel : ∀ k, k ≤ 43 → 36 ≤ k → D0m.testBit k = false) k q2 q1
      · refine List.nodup_append.mpr ⟨h8, by simp, fun y hy z hz => ?_⟩
        rw [List.mem_singleton.mp hz]
        intro q; exact hmem (by rw [← q]; exact hy)
      · rcases List.mem_append.mp hq with z | z
        · exact h9 q z
        · rw [List.mem_singleton.mp z]
          exact ⟨hxH, hf, hal⟩
    refine wp_ite (fun hz => ?_) (fun hz => ?_)
    · have ea0 : trC ν u a = 0 := by rw [show a = 0 by omega]; rfl
      rw [wp_some]
      refine Or.inr ⟨rfl, hmem, H, p, _, J, hex, hCs, UpZ.of (OvL.rf hC') (fun q => by rw [hb] at q; cases q) hU, hg, Or.inl ⟨hb', fun q hq h0 => ?_, fun y hy hyQ => hex.good (hG y hy hyQ), by simp, fun h0 => absurd ea0 h0, by simp⟩⟩
      rcases List.mem_append.mp hq with z | z
      · exact hA q z h0
      · rw [List.mem_singleton.mp z] at h0
        exact absurd ea0 h0
    · have a0 : 0 < a := by omega
      have hta : trC ν u a ≠ 0 := by
        have : 0 < trC ν u a := tr_pos (okp_C (ν := ν) hs.1) a0 (by show a ≤ nC u - 1; omega)
        omega
      obtain ⟨c1, c2⟩ := hca hta
      have eta : trC ν s a = trC ν u a := e.tr a
      have hrs : rC s = rC u := hU.2.2.2.2.2.1
      refine wp_call (hAt d s a H p (M ++ [(trC ν u x, m, trC ν u a)]) J Q (by omega) hn hCs hb' (fun q hq h0 => ?_) (fun y hy hyQ => hex.good (hG y hy hyQ)) a0 (by rw [e.n]; exact ha) (by rw [eta]; exact c1) (by rw [eta]; exact c2) (by omega) (hl.eq e)) (fun _ u' h => ?_)
      · rw [eta]
        rcases List.mem_append.mp hq with z | z
        · exact Or.inl (hA q z h0)
        · exact Or.inr (by rw [List.mem_singleton.mp z])
      · rw [wp_some]
        rw [eta] at h
        refine Or.inr ⟨rfl, hmem, AtZ.seq hex hU hg hb (h.imp (fun H' M' J' ⟨p', hx'⟩ hp => ⟨hx'.M (by simp), fun _ => hp, ?_⟩))⟩
        obtain ⟨_, _, _, ⟨M2, hM2⟩, _⟩ := hx'
        rw [hM2, List.length_append, List.length_append]
        simp
        omega
/-- one adjective fact in a case -/
theorem tX1_adjF {d : Nat} (hd : 3 ≤ d) {ν : Nat → Nat} {c : Nat} {W : Wd} {S : Fs} {X : XFm} {Kl Q : List Nat} {u : Sg} {H : List Nat} {p : Nat → Nat} {M : List (Nat × Nat × Nat)} {J : List (Nat × Nat)} {x j : Nat} (hW : WOK W (Nm ν c)) (hK : ∀ f ∈ Kl, kd f = 14 → wh f < 20) (hKl : Kl.length ≤ 2500) (hC : CaP ν c W S Kl u H p M J) (hb : gI u 45 = 0) (hA : ArgOK M H) (hG : ∀ y ∈ H, y ∉ Q → GoodC W H M J y) (hx : x < nC u) (hxH : trC ν u x ∈ H) (hj : j < 30) (hf : fA S (trC ν u x) j) (hl : LimH ν u S X H) :
    wp (runC d 50 [(x : Int), (j : Int)] u) (fun r u' => (r = 0 ∧ u' = u ∧ (trC ν u x, j) ∈ J) ∨ (r = 1 ∧ (trC ν u x, j) ∉ J ∧ AtR ν c W S X Kl Q u H p M J (fun H' M' J' => H' = H ∧ M' = M ∧ (trC ν u x, j) ∈ J' ∧ J.length < J'.length) u')) := by
  have hml := hC.ml hW hK hKl
  have hlc := hl.l hC
  have ov := OvL.rf hC
  obtain ⟨h1, h2, ⟨h3, h3b⟩, h4, h5, h6, h7, ⟨h8, h9⟩, h10, h11⟩ := hC
  have hs := h1.1
  have hbd := hlc.n hs
  refine wp_mono (rX1_adjFact hd h2 h5 hs (by omega) hx (by omega) (by omega)) (fun r u' h => h.imp (fun q => ⟨q.1, q.2.2, q.2.1⟩) (fun q => ?_))
  obtain ⟨q1, q2, q3, w, g⟩ := q
  obtain ⟨e, hU⟩ := g.ux (X := xf X H) hs (by decide +kernel)
  have hex : ExC H p M J H p M (J ++ [(trC ν u x, j)]) := ⟨⟨[], by simp⟩, fun _ _ => rfl, (fun i a b => by omega), ⟨[], by simp⟩, ⟨_, rfl⟩⟩
  refine ⟨q1, q2, H, p, M, _, hex, ⟨h1.up hU.ux g (by decide +kernel), w, ⟨h3.up hs hU.ux g (fun k a b => ?_), by rw [g.I 36 (by decide +kernel)]; exact h3b⟩, h4.up hs hU.ux g (by decide +kernel) (by decide +kernel) (by decide +kernel) (by decide +kernel), q3, h6, h7, ⟨h8, h9⟩, ?_, fun q hq => ?_⟩, UpZ.of ov (fun q => by rw [hb] at q; cases q) hU, g.gh (by decide +kernel), Or.inl ⟨by rw [g.I 45 (by decide +kernel)]; exact hb, hA, fun y hy hyQ => hex.good (hG y hy hyQ), rfl, rfl, by simp, by simp⟩⟩
  · exact (by decide +kernel : ∀ k, k ≤ 43 → 36 ≤ k → DX1_adjectiveFact.testBit k = false) k b a
  · refine List.nodup_append.mpr ⟨h10, by simp, fun y hy z hz => ?_⟩
    rw [List.mem_singleton.mp hz]
    intro q; exact q2 (by rw [← q]; exact hy)
  · rcases List.mem_append.mp hq with z | z
    · exact h11 q z
    · rw [List.mem_singleton.mp z]
      exact ⟨hxH, hj, hf⟩
