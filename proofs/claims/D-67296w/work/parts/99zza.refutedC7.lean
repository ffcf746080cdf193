theorem lv_in : ∀ (t : Nat) {s l : Nat}, okT t → subT s t → l ∈ lvT s → l ∈ lvT t := by
  intro t
  induction t using Nat.strongRecOn with
  | ind t ih =>
    intro s l ho h hl
    rw [subT_eq] at h
    rcases h with e | ⟨c, c1, c2⟩
    · rw [← e]; exact hl
    · exact lv_part ho.n c1 l (ih c (fms_lt c1) (ho.c c1) c2 hl)
/-- a case -/
theorem LimB.eqs {ν : Nat → Nat} {u s : Sg} {S : Fs} {X : XFm} {K Cm : Nat → Prop} (h : LimB ν u S X K Cm) (e : EqS u s) : LimB ν s S X K Cm := fun H a b c C x y w v => e.lim (h H a b c C x y w v)
theorem RfX.eqs {W : Wd} {A : Nat → Prop} {X : XFm} {ν : Nat → Nat} {u s : Sg} (e : EqS u s) : ∀ (n : Nat) (K O : Nat → Prop), RfX W A X ν u n K O → RfX W A X ν s n K O
  | 0, _, _, h => ⟨h.1, h.2.1.eqs e, fun _ _ _ _ => trivial⟩
  | n + 1, _, _, h => ⟨h.1, h.2.1.eqs e, fun a b c d => RfX.eqs e n _ _ (h.2.2 a b c d)⟩
/-- what is so after a case -/
def EndR (W : Wd) (ν : Nat → Nat) (c : Nat) (u u' : Sg) : Prop := ∃ ν' c', CW ν' c' W u' ∧ WF FC u' ∧ ArrC u' ∧ (nC u ≤ nC u' ∧ (∀ x, x < nC u → trC ν' u' x = trC ν u x) ∧ rC u' = rC u ∧ ∀ i, i < rC u → gN u' 11 i = gN u 11 i) ∧ NuX ν c ν' c' ∧ gI u' 36 = gI u 36 + 1 ∧ ∀ t, ndC ν' u' t → ndC ν u t ∨ P5 t
theorem tX1_refuted {d : Nat} {W : Wd} {A : Nat → Prop} {X : XFm} {B c : Nat} {ν : Nat → Nat} {u : Sg} {L : List Nat} (hd : 1650 ≤ d) (hp5 : ∀ H z, xf X H z → P5 z) (hB : B ≤ 300) (hr : rC u ≤ 20000) (hWc : ∀ f, wcT W (2 * f + 1) = pa (pa f 0) 0) (hc : c ≤ 3000) (hCW : CW ν c W u) (hw : WF FC u) (hArr : ArrC u) (hrun : 0 ≤ gI u 36 ∧ gI u 36 ≤ 1000000) (hNe : ∀ i, i < c → ν i % 2 = 0) (hW : WOK W (Nm ν c)) (hG : WGK W (Nm ν c)) (hCr : CrC ν u L) (hL6 : L.length ≤ 60000) (hlen : ∀ l' : List Nat, l'.Nodup → (∀ f ∈ l', f ∈ L) → l'.length ≤ 2500) (hA : ∀ t, A t ↔ ∃ f, f ∈ L ∧ subT t f ∧ isTm t ∧ loT t = 0) (hK : KOK W (Nm ν c) B (fun f => f ∈ L) (fun _ => False)) (hht : ∀ f ∈ L, htT f ≤ 300) (hX : RfX W A X ν u 16 (fun f => f ∈ L) (fun _ => False)) : wp (runC d 41 [0, (L.length : Int)] u) (fun r u' => RefS W A 16 (fun f => f ∈ L) (fun _ => False) r ∧ EndR W ν c u u') := by
  obtain ⟨d, rfl⟩ : ∃ d', d = d' + 1 := ⟨d - 1, by omega⟩
  rw [runC_eq (by omega)]
  show wp (bX1_refuted (runC d) 0 (L.length : Int) u) _
  unfold bX1_refuted
  rw [wp_un, wp_ar]
  refine ⟨⟨by omega, by omega⟩, ?_⟩
  rw [wp_un, wp_un, wp_un, wp_un, wp_un, wp_un]
  generalize es : sI (sI (sI (sI (sI (sI u 36 (gI u 36 + 1)) 35 0) 43 0) 51 0) 52 0) 45 0 = s
  have w : WF FC s := by
    rw [← es]
    exact (wfI (wfI (wfI (wfI (wfI hw rfl ⟨by omega, by omega⟩) rfl ⟨by omega, by omega⟩) rfl ⟨by omega, by omega⟩) rfl ⟨by omega, by omega⟩) rfl ⟨by omega, by omega⟩).sI ⟨by omega, by omega⟩ (fun _ => Or.inl rfl)
  have g : Gr FC Dst u s := by
    rw [← es]
    exact (Gr_sI (by decide +kernel)).tr ((Gr_sI (by decide +kernel)).tr ((Gr_sI (by decide +kernel)).tr ((Gr_sI (by decide +kernel)).tr ((Gr_sI (by decide +kernel)).tr (Gr_sI (by decide +kernel))))))
  have hcase := fun S Kl => case_st (ν := ν) (c := c) (W := W) (s := s) hCW hArr hrun.1 w g (fun k => by rw [← es]; rfl) (fun k i => by rw [← es]; rfl) (by rw [← es]; rfl) (by rw [← es]; rfl) (by rw [← es]; rfl) (by rw [← es]; rfl) (by rw [← es]; rfl) S Kl
  have b0 : gI s 45 = 0 := by rw [← es]; rfl
  have L0 : ∀ k, gL s k = gL u k := fun k => by rw [← es]; rfl
  have N0 : ∀ k i, gN s k i = gN u k i := fun k i => by rw [← es]; rfl
  have hs := hCW.1
  obtain ⟨e, hU⟩ := g.ux (X := xf X []) hs (by decide +kernel)
  have hX := RfX.eqs e _ _ _ hX
  have hr : rC s ≤ 20000 := by rw [show rC s = rC u from hU.2.2.2.2.2.1]; exact hr
  obtain ⟨xs, lim, _⟩ := RfX.eq _ _ _ _ _ _ _ _ hX
  obtain ⟨_, _, _, _, _, aK, aT, a53, a55⟩ := hArr
  have hR0 : ∀ S, RkI ν c W S (xf X []) [] ([], fun i => i, [], []) [] [0] [0] [] c 0 ν s s := fun S => ⟨(hcase S []).1, (hcase S []).2.1, ⟨by rw [L0]; exact a53, Or.inl rfl⟩, ⟨by rw [L0]; exact a55, Or.inl rfl⟩, ⟨(hcase S []).2.2.1, fun i hi => ⟨fun _ => hNe i hi, fun q => by omega⟩⟩, UN.rf, Or.inl rfl, by unfold KnL; rw [L0]; exact aK, by unfold CtL; rw [L0]; exact aT⟩
  have hCr' : CrC ν s L := ⟨by rw [L0]; exact hCr.1, fun i f hi => by
    obtain ⟨x, x1, x2, x3, x4⟩ := hCr.2 i f hi
    exact ⟨x, by rw [N0]; exact x1, x2, by rw [e.n]; exact x3, by rw [e.tr]; exact x4⟩⟩
  have lim0 : Lim ν s (xf X []) := lim [] List.nodup_nil (by simp) (fun t ht => absurd ht List.not_mem_nil)
  refine refuted_L37 (by omega) lim0 hlen hL6 L.length 0 KF s [] (by omega) (Nat.lt_of_le_of_lt (by omega : _ ≤ 65536) KF_gt) (hR0 (facS W (fun f => f ∈ L) (fun _ => False))) hCr' b0 (fun f => ⟨fun q => absurd q List.not_mem_nil, fun ⟨j, hj, _⟩ => by omega⟩) _ (fun u2 Kn r1 b2 hm => ?_)
  have eK : (fun f => f ∈ Kn) = (fun f => f ∈ L) := by funext f; exact propext (hm f)
  have eO : (fun (f : Nat) => f ∈ ([] : List Nat)) = (fun _ => False) := by funext f; exact propext ⟨fun q => absurd q List.not_mem_nil, False.elim⟩
  rw [← eK, ← eO] at hK hX xs lim r1 ⊢
  have hKn : Kn.length ≤ 2500 := hlen Kn r1.2.1.2.1 (fun f hf => (hm f).mp hf)
  obtain ⟨hKO, hKf⟩ := hK.kl (NuX.rf ν c) (fun f hf => absurd hf List.not_mem_nil) hKn
  have hClo : Clo W (fun f => f ∈ Kn) (newc (fun f => f ∈ ([] : List Nat))) (facS W (fun f => f ∈ Kn) (fun f => f ∈ ([] : List Nat))) := Der_clo _ _ _
  have h20 := r1.1.1.2.2.2.1.2.1.2
  have hAt := tX1_atHand (X := X) hW hG (hKO.wh h20) hKn xs.1 hClo
  have hR2 : RkI ν c W (facS W (fun f => f ∈ Kn) (fun f => f ∈ ([] : List Nat))) (xf X []) Kn ([], fun i => i, [], []) Kn [0] [0] [] c 0 ν s u2 := ⟨CaP.mono r1.1 ⟨fun _ q => q, fun _ _ q => q, fun _ _ _ q => q, fun _ _ q => q⟩ (fun f hf => absurd hf List.not_mem_nil), r1.2⟩
  refine refuted_L60 hAt lim hr hKn (fun f hf => ⟨by have := hht f ((hm f).mp hf); omega, (hKO.2 f hf).1, (hKO.2 f hf).2.2, fun s' q1 q2 q3 => hClo.1.1 f hf s' q1 q2 q3⟩) Kn.length 0 KF u2 ([], fun i => i, [], []) (by omega) (Nat.lt_of_le_of_lt (by omega : _ ≤ 65536) KF_gt) (RkO.of hR2) (Or.inl ⟨b2, fun q hq => absurd hq List.not_mem_nil, fun x hx => absurd hx List.not_mem_nil⟩) (fun i hi => absurd hi (Nat.not_lt_zero i)) (fun _ j f hj => by omega) _ (fun u3 l3 s1 s2 s3 s4 => ?_)
  obtain ⟨G3, gv3, ge3, s1⟩ := s1
  have hs3 := s1.1.1.1
  have hbd3 := (s1.2.2.2.2.2.1.lim (lim G3 gv3.2.1 gv3.2.2.1 gv3.2.2.2)).n hs3
  have hk35 := s1.2.1.1.1
  rw [wp_un, hk35]
  refine wp_call (tX1_firstsOf (d := d) (by omega) s1.1 (by omega) s1.2.1 hKn (fun f hf => ⟨(hKO.2 f hf).1.1, by have := hht f ((hm f).mp hf); omega⟩) s3) (fun r4 u4 ⟨H', n, t1, t2, t3, t4, t5, t6, t7⟩ => ?_)
  have hmem : ∀ t, t ∈ l3.1 → t ∈ H' := fun t ht => (t5 t).mpr ht
  have key : ∃ G', OvL (facS W (fun f => f ∈ Kn) (fun f => f ∈ ([] : List Nat))) H' G' ∧ (gI u3 45 = 0 → G' = H') ∧ ∀ t ∈ G3, t ∈ G' := by
    by_cases q : gI u3 45 = 0
    · exact ⟨H', OvL.rf t2, fun _ => rfl, by rw [ge3 q]; exact hmem⟩
    · exact ⟨G3, ⟨fun t ht => gv3.1 t ((t5 t).mp ht), gv3.2⟩, fun w => absurd w q, fun _ w => w⟩
  obtain ⟨G', gq1, gq2, gq3⟩ := key
  obtain ⟨e4, hU4⟩ := t3.ux (X := xf X G') hs3 (by decide +kernel)
  have w4 : WF FC u4 := t2.2.1
  rw [t1, wp_un, wp_un]
  have i86 : gI (sI u4 44 (n : Int)) 86 = (c : Int) := t2.1.2.2.1.1
  rw [i86, wp_un, wp_un]
  generalize es5 : sI (sI (sI u4 44 (n : Int)) 57 (c : Int)) 56 0 = u5
  have hnl : n ≤ 100 := by have := s1.1.2.2.1.1.1.2.1; omega
  have g5 : Gr FC (2 ^ 44 + 2 ^ 56 + 2 ^ 57) u4 u5 := by
    rw [← es5]
    exact (Gr_sI (by decide +kernel)).tr ((Gr_sI (by decide +kernel)).tr (Gr_sI (by decide +kernel)))
  have w5 : WF FC u5 := by
    rw [← es5]
    exact wfI (wfI (wfI w4 rfl ⟨by omega, by omega⟩) rfl ⟨by omega, by omega⟩) rfl ⟨by omega, by omega⟩
  have hs4 := t2.1.1
  obtain ⟨e5, hU5⟩ := g5.ux (X := xf X G') hs4 (by decide +kernel)
  obtain ⟨h1, h2, h3, h4, ⟨h5, h6⟩, h7, h8, h10, h11⟩ := s1
  have hR5 : RkI ν c W (facS W (fun f => f ∈ Kn) (fun f => f ∈ ([] : List Nat))) (xf X G') Kn (H', l3.2.1, l3.2.2.1, l3.2.2.2) Kn [0] [] [] c n ν s u5 := by
    refine ⟨CaP.up t2 hU5.ux w5 g5 (by decide +kernel), (h2.fr hs3 hU4.ux t3 (by decide +kernel) (by decide +kernel) (by decide +kernel) (by decide +kernel)).fr hs4 hU5.ux g5 (by decide +kernel) (by decide +kernel) (by decide +kernel) (by decide +kernel), (h3.fr hs3 hU4.ux t3 (by decide +kernel) (by decide +kernel)).fr hs4 hU5.ux g5 (by decide +kernel) (by decide +kernel), ArC.ar ⟨by rw [← es5]; rfl, ⟨Nat.zero_le _, ?_⟩, fun i f hi => by simp at hi⟩, ⟨(h5.fr hs3 hU4.ux t3 (by decide +kernel) (by decide +kernel)).fr hs4 hU5.ux g5 (by decide +kernel) (by decide +kernel), h6⟩, ((h7.mono (xf_mono gq3)).tr (hU4.un hs3 (t3.I 36 (by decide +kernel)))).tr (hU5.un hs4 (g5.I 36 (by decide +kernel))), Or.inr ⟨by rw [← es5]; rfl, by rw [← es5]; rfl⟩, ?_, ?_⟩
    · rw [g5.Ln 55 (by decide +kernel), t3.Ln 55 (by decide +kernel)]; exact h4.1
    · unfold KnL; rw [g5.Ln 34 (by decide +kernel), t3.Ln 34 (by decide +kernel)]; exact h10
    · unfold CtL; rw [g5.Ln 85 (by decide +kernel), t3.Ln 85 (by decide +kernel)]; exact h11
  have b5 : gI u5 45 = gI u3 45 := by rw [g5.I 45 (by decide +kernel), t3.I 45 (by decide +kernel)]
  have hst5 : SgL W (facS W (fun f => f ∈ Kn) (fun f => f ∈ ([] : List Nat))) u5 (H', l3.2.1, l3.2.2.1, l3.2.2.2) := by
    rcases s2 with ⟨z1, z2, z3⟩ | ⟨z1, z2, z, z3, z4⟩
    · refine Or.inl ⟨by rw [b5]; exact z1, fun q hq h0 => hmem _ (z2 q hq h0), fun x hx => ?_⟩
      obtain ⟨y1, y2, y3⟩ := z3 x ((t5 x).mp hx)
      exact ⟨fun k i hi => hmem _ (y1 k i hi), fun k q => hmem _ (y2 k q), fun z hz => ⟨(y3 z hz).1, (y3 z hz).2.1, fun q => hmem _ ((y3 z hz).2.2 q)⟩⟩
    · exact Or.inr ⟨by rw [b5]; exact z1, by show H'.length = 100; omega, z, fun q => z3 ((t5 z).mp q), z4⟩
  have hA0 : ∀ t, A t → cltm W (Nm ν c) t := fun t ht => by
    obtain ⟨f, f1, f2, f3, f4⟩ := (hA t).mp ht
    obtain ⟨a, b⟩ := hKO.2 f ((hm f).mpr f1)
    refine ⟨a.sub f2, f3, f4, fun l hl h3' => ?_⟩
    exact b.2 l (lv_in f a.1 f2 hl) h3'
  refine wp_mono (refuted_L120 (fi := n) (by omega) hp5 hB hr hWc hc hA0 16 (Nat.le_refl _) 0 Kn.length KF ν c u5 Kn [0] [] [] (H', l3.2.1, l3.2.2.1, l3.2.2.2) (by omega) (Nat.lt_of_le_of_lt (by omega : _ ≤ 65536) KF_gt) ⟨⟨G', gq1, fun q => gq2 (by rw [← b5]; exact q), hR5⟩, hst5, ⟨hW, hG, NuX.rf _ _⟩, ⟨by simp, List.nodup_nil, fun f hf => absurd hf List.not_mem_nil, fun f hf => absurd hf List.not_mem_nil⟩, ⟨hKn, by simp, fun f hf => by have := hht f ((hm f).mp hf); omega⟩, fun b hb => absurd hb List.not_mem_nil, fun q => ⟨fun j f hj hf s' q1 q2 q3 => hmem _ (s4 (by rw [← b5]; exact q) f (List.mem_of_getElem? hf) s' q1 q2 q3), fun b ⟨f, f1, _⟩ => absurd f1 List.not_mem_nil, fun t => ⟨fun ⟨i, i1, i2⟩ => ?_, fun ht => ?_⟩, by show n ≤ H'.length; omega⟩⟩ hK hX) (fun r u' ⟨h, ν', c', z1, z2, z3, ⟨y1, y2, y6, y3, y4, y5⟩, z5⟩ => ⟨h, ν', c', z1, z2, z3, ⟨by rw [← e.n]; exact y1, fun x hx => by rw [y2 x (by rw [e.n]; exact hx), e.tr], by rw [y3]; exact hU.2.2.2.2.2.1, fun i hi => by rw [y4 i (by rw [show rC s = rC u from hU.2.2.2.2.2.1]; exact hi)]; exact hU.2.2.2.2.2.2 i hi⟩, z5, by rw [y5, ← es]; rfl, fun t ht => (y6 t ht).imp (e.nd t).mp id⟩)
  · have hst := (t7 i t i2).mp i1
    obtain ⟨f, f1, f2⟩ := hst
    have hcl := (t2.2.2.2.2.2.1 t (List.mem_of_getElem? i2)).1
    exact (hA t).mpr ⟨f, (hm f).mp f1, f2, hcl.2.1, hcl.2.2.1⟩
  · obtain ⟨f, f1, f2, f3, f4⟩ := (hA t).mp ht
    have hin : t ∈ H' := hmem t (s4 (by rw [← b5]; exact q) f ((hm f).mpr f1) t f2 f3 f4)
    obtain ⟨i, hi⟩ := List.getElem?_of_mem hin
    exact ⟨i, (t7 i t hi).mpr ⟨f, (hm f).mpr f1, f2⟩, hi⟩
