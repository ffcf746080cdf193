/-- the other sign of an adjective -/
def jx (j : Nat) : Nat := if j % 2 = 0 then j + 1 else j - 1
theorem o_xor1 : ∀ j : Nat, j < 30 → o_xor (j : Int) 1 = ((jx j : Nat) : Int) := by decide +kernel
/-- a case that is closed and contradicts itself -/
def conS (F : Fs) (K : Nat → Prop) : Prop := (∃ t j, j < 30 ∧ fA F t j ∧ fA F t (jx j)) ∨ ∃ k, K k ∧ (k = noT ∨ (kd k = 16 ∧ kd (pa k 0) ≠ 13 ∧ hld F K (pa k 0)))
theorem contra_L2 {d : Nat} (hd : 6 ≤ d) {ν : Nat → Nat} {c : Nat} {u : Sg} {H : List Nat} {p : Nat → Nat} {M : List (Nat × Nat × Nat)} {J : List (Nat × Nat)} (h : HaC ν u H p) (hJ : FcJ ν u J) (hs : SC ν c u) (hj : ∀ q ∈ J, q.2 < 30) {xx xy : Sg → Option (Int × Sg)} : ∀ (m i f : Nat), i + m = J.length → m < f → ((∃ (k t j : Nat), i ≤ k ∧ J[k]? = some (t, j) ∧ fA (FsL H p M J) t (jx j)) → bX1_contradictory_L2 (runC d) f (i : Int) u xx xy = xy u) ∧ (¬ (∃ (k t j : Nat), i ≤ k ∧ J[k]? = some (t, j) ∧ fA (FsL H p M J) t (jx j)) → bX1_contradictory_L2 (runC d) f (i : Int) u xx xy = xx u) := by
  have hJ' := hJ
  obtain ⟨⟨j1, j2, j3, j4, j5⟩, j6⟩ := hJ'
  intro m
  induction m with
  | zero =>
    intro i f hi hf
    obtain ⟨f, rfl⟩ : ∃ f', f = f' + 1 := ⟨f - 1, by omega⟩
    rw [bX1_contradictory_L2, un_eq, j1, if_neg (by omega)]
    exact ⟨fun ⟨k, t, j, q1, q2, _⟩ => by have := (List.getElem?_eq_some_iff.mp q2).1; omega, fun _ => rfl⟩
  | succ m ih =>
    intro i f hi hf
    obtain ⟨f, rfl⟩ : ∃ f', f = f' + 1 := ⟨f - 1, by omega⟩
    have hil : i < J.length := by omega
    obtain ⟨t', j', hget⟩ : ∃ t' j', J[i]? = some (t', j') := ⟨_, _, List.getElem?_eq_getElem hil⟩
    obtain ⟨⟨y, y1, y2, y3⟩, e2⟩ := j6 i t' j' hget
    have hj30 := hj _ (List.mem_of_getElem? hget)
    obtain ⟨n1, n2⟩ := ih (i + 1) f (by omega) (by omega)
    obtain ⟨c1, c2⟩ := rX1_classHas (d := d) (j := jx j') (M := M) (by omega) h hJ hs y2
    rw [y3] at c1 c2
    rw [bX1_contradictory_L2, un_eq, j1, if_pos (by omega), ld_nat (by omega), y1, ld_nat (by omega), e2, un_eq, o_xor1 j' hj30]
    by_cases hc : fA (FsL H p M J) t' (jx j')
    · rw [cl_eq (c1 hc), if_neg (by decide)]
      exact ⟨fun _ => rfl, fun q => absurd ⟨i, t', j', Nat.le_refl _, hget, hc⟩ q⟩
    · rw [cl_eq (c2 hc), if_pos rfl, ar_pos ⟨by omega, by omega⟩, show (i : Int) + 1 = ((i + 1 : Nat) : Int) by omega]
      refine ⟨fun ⟨k, t, j, q1, q2, q3⟩ => n1 ⟨k, t, j, ?_, q2, q3⟩, fun q => n2 (fun ⟨k, t, j, q1, q2, q3⟩ => q ⟨k, t, j, by omega, q2, q3⟩)⟩
      by_cases hk : k = i
      · rw [hk, hget] at q2
        have e := Option.some.inj q2
        simp only [Prod.mk.injEq] at e
        rw [← e.1, ← e.2] at q3
        exact absurd q3 hc
      · omega
theorem contra_L41 {d : Nat} {ν : Nat → Nat} {c : Nat} {W : Wd} {S : Fs} {X : Nat → Prop} {Kl : List Nat} {l : Ls} {u0 : Sg} (hG : WGK W (Nm ν c)) (hK : KlOK W (Nm ν c) Kl) (hht : ∀ f ∈ Kl, 20 + 3 * htT f ≤ d) (hFo : ∀ f ∈ Kl, isFo f) (hs0 : SC ν c u0) (hr : rC u0 ≤ 20000) (hX : ∀ f ∈ Kl, ∀ s, subN s f → kd s = 17 → ∀ p ∈ ps s, X (notT p)) (hl : Lim ν u0 X) (hd3 : 20 ≤ d) : ∀ (m i fu : Nat) (u : Sg), i + m = Kl.length → m < fu → AsC ν c W S Kl l u → Up ν c u0 u X → Gr FC 8191 u0 u → (∀ j k, j < i → Kl[j]? = some k → ¬ (k = noT ∨ (kd k = 16 ∧ kd (pa k 0) ≠ 13 ∧ hld (FsO l) (fun f => f ∈ Kl) (pa k 0)))) → wp (bX1_contradictory_L41 (runC d) fu (i : Int) u (fun s2 => some (0, s2)) (fun s3 => some (1, s3)) (fun s4 => some (1, s4)) (fun s5 => some (1, s5))) (RbC ν c 8191 u0 X (∃ k, k ∈ Kl ∧ (k = noT ∨ (kd k = 16 ∧ kd (pa k 0) ≠ 13 ∧ hld (FsO l) (fun f => f ∈ Kl) (pa k 0))))) := by
  have hK500 := hK.1
  intro m
  induction m with
  | zero =>
    intro i fu u hi hf hA hU hg hno
    obtain ⟨fu, rfl⟩ : ∃ f', fu = f' + 1 := ⟨fu - 1, by omega⟩
    obtain ⟨n1, n2, n3⟩ := hA.2.kn
    rw [bX1_contradictory_L41, wp_un, n1, if_neg (by omega), wp_some]
    refine ⟨Or.inr ⟨rfl, fun ⟨k, q1, q2⟩ => ?_⟩, hU, hA.1.2.1, hg⟩
    obtain ⟨j, hj⟩ := List.getElem?_of_mem q1
    exact hno j k (by have := (List.getElem?_eq_some_iff.mp hj).1; omega) hj q2
  | succ m ih =>
    intro i fu u hi hf hA hU hg hno
    obtain ⟨fu, rfl⟩ : ∃ f', fu = f' + 1 := ⟨fu - 1, by omega⟩
    have hkn := hA.2.kn
    have hkn' := hkn
    obtain ⟨n1, n2, n3⟩ := hkn'
    have hs := hA.1.1.1
    have hil : i < Kl.length := by omega
    have gi : Kl[i]? = some Kl[i] := List.getElem?_eq_getElem hil
    generalize ef : Kl[i] = k at gi
    have hkK := List.mem_of_getElem? gi
    obtain ⟨y, y1, y0, y2, y3⟩ := hkn.at hK gi
    have hn := nodeC hs y0 y2
    rw [y3] at hn
    obtain ⟨ye, no, _, e14, _, no0, no1, no2⟩ := hA.1.1.2.1
    have nxt : ∀ u2, AsC ν c W S Kl l u2 → Up ν c u u2 X → Gr FC 8191 u u2 → ¬ (k = noT ∨ (kd k = 16 ∧ kd (pa k 0) ≠ 13 ∧ hld (FsO l) (fun f => f ∈ Kl) (pa k 0))) → wp (ar ((i : Int) + 1) fun v10 => bX1_contradictory_L41 (runC d) fu v10 u2 (fun s2 => some (0, s2)) (fun s3 => some (1, s3)) (fun s4 => some (1, s4)) (fun s5 => some (1, s5))) (RbC ν c 8191 u0 X (∃ k, k ∈ Kl ∧ (k = noT ∨ (kd k = 16 ∧ kd (pa k 0) ≠ 13 ∧ hld (FsO l) (fun f => f ∈ Kl) (pa k 0))))) := fun u2 z1 z2 z3 z4 => by
      rw [wp_ar]
      refine ⟨⟨by omega, by omega⟩, ?_⟩
      rw [show (i : Int) + 1 = ((i + 1 : Nat) : Int) by omega]
      refine ih (i + 1) fu u2 (by omega) (by omega) z1 (hU.join z2) (hg.tr z3) (fun j k' q1 q2 => ?_)
      by_cases hji : j = i
      · rw [hji, gi] at q2
        rw [← Option.some.inj q2]; exact z4
      · exact hno j k' (by omega) q2
    rw [bX1_contradictory_L41, wp_un, n1, if_pos (by omega), ld_nat (by omega), y1, wp_un, e14]
    refine wp_ite (fun hye => ?_) (fun hye => ?_)
    · rw [wp_some]
      have : k = noT := by rw [← y3, ← no2, show y = no by omega]
      exact ⟨Or.inl ⟨rfl, k, hkK, Or.inl this⟩, hU, hA.1.2.1, hg⟩
    · have hkn0 : k ≠ noT := fun q => hye (by rw [trC_inj hs y2 no1 (by rw [y3, no2]; exact q)])
      rw [ld_nat (by omega), hn.1]
      refine wp_ite (fun h16 => ?_) (fun h16 => nxt u hA (Up.rf hs) Gr.rf (fun q => q.elim hkn0 (fun z => h16 (by omega))))
      have h16 : kd k = 16 := by omega
      obtain ⟨hfr, hfc⟩ := hK.2 k hkK
      obtain ⟨r1, r2, r3⟩ := (eq_len hfr).2.2 h16
      obtain ⟨z, z1, z0, z2, z3, z4, z5⟩ := hK.not (d := d) (by omega) hs hkK h16 y0 y2 y3
      have hnz := nodeC hs z0 z2
      rw [z3] at hnz
      have hh := ht_c r2
      have hdk := hht k hkK
      have hpf : isFo (pa k 0) := by
        rcases hfr.1.n.2 with q | q | q | q | q | q | q | q | q | q | q | q | q | q <;> try omega
        obtain ⟨_, _, g, e, hg', _⟩ := q
        rw [pa_at (show (ps k)[0]? = some g by rw [e]; rfl)]
        exact hg'
      refine wp_eq z1 ?_
      rw [ld_nat (by omega), hnz.1]
      obtain ⟨d', rfl⟩ : ∃ d', d = d' + 1 := ⟨d - 1, by omega⟩
      refine wp_ite (fun h18 => ?_) (fun h18 => ?_)
      · have h18 : kd (pa k 0) = 18 := by omega
        have hhl : hld (FsO l) (fun f => f ∈ Kl) (pa k 0) ↔ pa k 0 ∈ Kl := by
          unfold hld
          rw [hldN, if_neg (by omega), if_neg (by omega), if_neg (by omega), if_neg (by omega), if_neg (by omega), if_neg (by omega), if_pos h18]
        obtain ⟨c1, c2⟩ := rX1_isKnownHere (d := d') (by omega) hA.2 hs z2
        rw [z3] at c1 c2
        by_cases hin : pa k 0 ∈ Kl
        · refine wp_eq (c1 hin) ?_
          rw [if_neg (by decide), wp_some]
          exact ⟨Or.inl ⟨rfl, k, hkK, Or.inr ⟨h16, by omega, hhl.mpr hin⟩⟩, hU, hA.1.2.1, hg⟩
        · refine wp_eq (c2 hin) ?_
          rw [if_pos rfl]
          exact nxt u hA (Up.rf hs) Gr.rf (fun q => q.elim hkn0 (fun z => hin (hhl.mp z.2.2)))
      · refine wp_ite (fun h13 => nxt u hA (Up.rf hs) Gr.rf (fun q => q.elim hkn0 (fun z => z.2.1 (by omega)))) (fun h13 => ?_)
        have hrr : rC u = rC u0 := hU.2.2.2.2.2.1
        refine wp_call (tX1_holds (X := X) hG hK (htT (pa k 0) + 1) (d' + 1) u z (pa k 0) (by omega) hA z0 z2 z3 (by omega) hpf z4 (by omega) (fun s q1 q2 => hX k hkK s (subN_c (by omega) r2 q1) q2) (hU.ux.lim hl)) (fun r u1 ⟨w1, w2, w3, w4⟩ => ?_)
        have hA1 := hA.up w2 w3 w4 (by decide +kernel) (by decide +kernel)
        rcases w1 with ⟨e1, e2⟩ | ⟨e1, e2⟩
        · rw [e1, if_neg (by decide), wp_some]
          exact ⟨Or.inl ⟨rfl, k, hkK, Or.inr ⟨h16, by omega, e2⟩⟩, hU.join w2, w3, hg.tr w4⟩
        · rw [e1, if_pos rfl]
          exact nxt u1 hA1 w2 w4 (fun q => q.elim hkn0 (fun z => e2 z.2.2))
theorem tX1_contra {d : Nat} {ν : Nat → Nat} {c : Nat} {W : Wd} {S : Fs} {X : Nat → Prop} {Kl : List Nat} {l : Ls} {u : Sg} (hG : WGK W (Nm ν c)) (hK : KlOK W (Nm ν c) Kl) (hht : ∀ f ∈ Kl, 21 + 3 * htT f ≤ d) (hFo : ∀ f ∈ Kl, isFo f) (hA : AsC ν c W S Kl l u) (hr : rC u ≤ 20000) (hX : ∀ f ∈ Kl, ∀ s, subN s f → kd s = 17 → ∀ p ∈ ps s, X (notT p)) (hl : Lim ν u X) (hd3 : 21 ≤ d) : wp (runC d 65 [] u) (RbC ν c 8191 u X (conS (FsO l) (fun f => f ∈ Kl))) := by
  obtain ⟨d, rfl⟩ : ∃ d', d = d' + 1 := ⟨d - 1, by omega⟩
  rw [runC_eq (by omega)]
  show wp (bX1_contradictory (runC d) u) _
  unfold bX1_contradictory
  have hC := hA.1
  have hs := hC.1.1
  have hH3 : HaC ν u l.1 l.2.1 := hC.2.2.1.1
  have hJ : FcJ ν u l.2.2.2 := hC.2.2.2.2.1
  have hj30 : ∀ q ∈ l.2.2.2, q.2 < 30 := fun q hq => (hC.2.2.2.2.2.2.2.2.2 q hq).2.1
  have hK500 := hK.1
  have hJl := hJ.1
  have key := @contra_L2 d (by omega) ν c u l.1 l.2.1 l.2.2.1 l.2.2.2 hH3 hJ hs hj30
  have p1 : (∃ (k t j : Nat), 0 ≤ k ∧ l.2.2.2[k]? = some (t, j) ∧ fA (FsL l.1 l.2.1 l.2.2.1 l.2.2.2) t (jx j)) ↔ ∃ t j, j < 30 ∧ fA (FsO l) t j ∧ fA (FsO l) t (jx j) := by
    constructor
    · rintro ⟨k, t, j, _, q1, q2⟩
      have := List.mem_of_getElem? q1
      exact ⟨t, j, hj30 _ this, ⟨t, this, Or.inl rfl⟩, q2⟩
    · rintro ⟨t, j, _, ⟨t', q1, q2⟩, ⟨t2, q3, q4⟩⟩
      obtain ⟨k, hk⟩ := List.getElem?_of_mem q1
      exact ⟨k, t', j, Nat.zero_le _, hk, t2, q3, q4.trn hH3.2.2.1 q2.sy⟩
  by_cases hq : ∃ t j, j < 30 ∧ fA (FsO l) t j ∧ fA (FsO l) t (jx j)
  · rw [show bX1_contradictory_L2 (runC d) KF 0 u _ _ = _ from (key l.2.2.2.length 0 KF (by omega) (Nat.lt_of_le_of_lt (by omega : _ ≤ 300000) KF_300)).1 (p1.mpr hq), wp_some]
    exact ⟨Or.inl ⟨rfl, Or.inl hq⟩, Up.rf hs, hC.2.1, Gr.rf⟩
  · rw [show bX1_contradictory_L2 (runC d) KF 0 u _ _ = _ from (key l.2.2.2.length 0 KF (by omega) (Nat.lt_of_le_of_lt (by omega : _ ≤ 300000) KF_300)).2 (fun z => hq (p1.mp z))]
    refine wp_mono (contra_L41 (X := X) (l := l) hG hK (fun f hf => by have := hht f hf; omega) hFo hs hr hX hl (by omega) Kl.length 0 KF u (by omega) (Nat.lt_of_le_of_lt (by omega : _ ≤ 65536) KF_gt) hA (Up.rf hs) Gr.rf (fun j k hj => by omega)) (fun r u' h => h.iff ⟨fun q => Or.inr q, fun q => q.resolve_left hq⟩)
