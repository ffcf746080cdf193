section MQ
variable {Mq : MqT}
/-- the marks of what comes: none of a round to be -/
def CoM (u : Sg) : Prop := 16 ≤ gL u 73 ∧ (16 ≤ gL u 74 ∧ gL u 74 ≤ 300000) ∧ (0 ≤ gI u 76 ∧ gI u 76 ≤ 2000000000) ∧ ∀ x, x < gL u 74 → gN u 74 x ≤ gI u 76
theorem CoT.com {ν : Nat → Nat} {u : Sg} {Cl : List Nat} (h : CoT ν u Cl) (h1 : 0 ≤ gI u 76 ∧ gI u 76 ≤ 2000000000) : CoM u := ⟨h.1.2.2, h.2.1, h1, fun x hx => (h.2.2.2.2 x hx).1⟩
/-- what has come becomes known -/
def RkT (Mq : MqT) (ν : Nat → Nat) (c : Nat) (W : Wd) (S : Fs) (X : Nat → Prop) (Kl : List Nat) (l : Ls) (Kn Cl Gl Nl Ol : List Nat) (c0 fi : Nat) (ν0 : Nat → Nat) (u0 u : Sg) : Prop := CaT ν c W S Kl u l ∧ KnT ν u Kn ∧ CoT ν u Cl ∧ ArT ν u 69 70 Nl ∧ (OpT ν u Ol ∧ NmOT ν c c0 Ol) ∧ UNT ν0 u0 ν u (Xc X Gl) ∧ gI u 58 = (fi : Int) ∧ MaT Mq u ∧ CtT u
theorem RdT.rk {ν : Nat → Nat} {c : Nat} {W : Wd} {S : Fs} {X : Nat → Prop} {Kl : List Nat} {l : Ls} {Fu Fi : Nat → Prop} {Cl Gl Nl Ol : List Nat} {c0 fi : Nat} {ν0 : Nat → Nat} {u0 u : Sg} (h : RdT Mq ν c W S X Kl l Fu Fi Cl Gl [] Nl Ol c0 fi ν0 u0 u) : RkT Mq ν c W S X Kl l Kl Cl Gl Nl Ol c0 fi ν0 u0 u := by
  have h7 := h.2.2.2.2.1.2
  rw [List.append_nil] at h7
  exact ⟨h.1.1, h.1.2, h.2.1.1.1, h.2.2.1, h.2.2.2.1, h7, h.2.2.2.2.2⟩
theorem rkT_knows {d : Nat} (hd : 2 ≤ d) {ν : Nat → Nat} {c : Nat} {W : Wd} {S : Fs} {X : Nat → Prop} {Kl : List Nat} {l : Ls} {Kn Cl Gl Nl Ol : List Nat} {c0 fi x f : Nat} {ν0 : Nat → Nat} {u0 u : Sg} (h : RkT Mq ν c W S X Kl l Kn Cl Gl Nl Ol c0 fi ν0 u0 u) (hKn : Kn.length ≤ 5000) (x0 : 0 < x) (hx : x ≤ nT u) (ef : trT ν u x = f) : wp (runT (d + 1) 63 [(x : Int)] u) (fun _ u' => RkT Mq ν c W S X Kl l (if f ∈ Kn then Kn else Kn ++ [f]) Cl Gl Nl Ol c0 fi ν0 u0 u' ∧ EqH u u' ∧ gI u' 76 = gI u 76) := by
  obtain ⟨h1, h2, h3, h4, ⟨h5, h6⟩, h7, h8, h9, h10⟩ := h
  have hs := h1.1.1
  refine wp_mono (tX3_knows hd h1.2.1 hs h2 h1.2.2.1.2 hKn x0 hx ef) (fun r u' ⟨w, e, g, kn, iI, aA⟩ => ?_)
  have hU : UpT ν c u u' X := e.up hs
  exact ⟨⟨h1.upD hU.ux w g (by decide +kernel), kn, MkL.up h3 hs hU.ux g (by decide +kernel) (by decide +kernel) (by decide +kernel) (by decide +kernel), h4.fr hs hU.ux g (by decide +kernel) (by decide +kernel), ⟨h5.fr hs hU.ux g (by decide +kernel) (by decide +kernel), h6⟩, h7.tr ((hU.un hs (iI 54 (by omega))).mon (fun _ q => Or.inr (Or.inl q))), by rw [iI 58 (by omega)]; exact h8, h9.fr g (by decide +kernel) (by decide +kernel), ⟨by rw [(aA 17 (by omega) (by omega)).1]; exact h10.1, by rw [(aA 18 (by omega) (by omega)).1]; exact h10.2⟩⟩, e, iI 76 (by omega)⟩
theorem brings_L23 {d : Nat} (hd : 3 ≤ d) {ν : Nat → Nat} {c : Nat} {W : Wd} {S : Fs} {X : Nat → Prop} {Kl : List Nat} {l : Ls} {Cl Gl Nl Ol : List Nat} {c0 fi : Nat} {ν0 : Nat → Nat} {u0 : Sg} {b76 : Int} {Q : Int → Sg → Prop} (hdj : ∀ f ∈ Cl, f ∉ Kl) (hlen : Kl.length + Cl.length ≤ 5000) : ∀ (m i fu : Nat) (u : Sg), i + m = Cl.length → m < fu → RkT Mq ν c W S X Kl l (Kl ++ Cl.take i) Cl Gl Nl Ol c0 fi ν0 u0 u → gI u 76 = b76 → ∀ xx : Sg → Option (Int × Sg), (∀ u2 : Sg, RkT Mq ν c W S X Kl l (Kl ++ Cl) Cl Gl Nl Ol c0 fi ν0 u0 u2 → gI u2 76 = b76 → wp (xx u2) Q) → wp (bX3_brings_L23 (runT d) fu (i : Int) u xx) Q := by
  intro m
  induction m with
  | zero =>
    intro i fu u hi hf hR hb xx k
    obtain ⟨fu, rfl⟩ : ∃ f', fu = f' + 1 := ⟨fu - 1, by omega⟩
    rw [bX3_brings_L23, wp_un, hR.2.2.1.1.1, if_neg (by omega)]
    rw [List.take_of_length_le (by omega)] at hR
    exact k u hR hb
  | succ m ih =>
    intro i fu u hi hf hR hb xx k
    obtain ⟨fu, rfl⟩ : ∃ f', fu = f' + 1 := ⟨fu - 1, by omega⟩
    have hil : i < Cl.length := by omega
    have gi : Cl[i]? = some Cl[i] := List.getElem?_eq_getElem hil
    generalize ef : Cl[i] = f at gi
    have hc := hR.2.2.1
    have hn := hc.2.2.1
    obtain ⟨x, x1, x2, x3, x4, _⟩ := hc.2.2.2.1 i f gi
    have hc21 := hc.1.2.1
    rw [bX3_brings_L23, wp_un, hc.1.1, if_pos (by omega), ld_nat (by omega), x1]
    obtain ⟨d', rfl⟩ : ∃ d', d = d' + 1 := ⟨d - 1, by omega⟩
    refine wp_call (rkT_knows (d := d') (by omega) hR (by rw [List.length_append, List.length_take]; omega) x2 x3 x4) (fun r u1 ⟨a1, a2, a3⟩ => ?_)
    have hni : f ∉ Kl ++ Cl.take i := fun q => by
      rcases List.mem_append.mp q with z | z
      · exact hdj f (List.mem_of_getElem? gi) z
      · obtain ⟨j, hj⟩ := List.getElem?_of_mem z
        rw [List.getElem?_take] at hj
        by_cases hji : j < i
        · rw [if_pos hji] at hj
          have := (List.getElem?_inj (by omega) hn).mp (hj.trans gi.symm)
          omega
        · rw [if_neg hji] at hj; cases hj
    rw [if_neg hni, List.append_assoc] at a1
    have et : Cl.take i ++ [f] = Cl.take (i + 1) := by rw [List.take_add_one, gi]; rfl
    rw [et] at a1
    rw [wp_ar]
    refine ⟨⟨by omega, by omega⟩, ?_⟩
    rw [show (i : Int) + 1 = ((i + 1 : Nat) : Int) by omega]
    exact ih (i + 1) fu u1 (by omega) (by omega) a1 (by rw [a3]; exact hb) xx k
/-- what a round comes to -/
def BrE (Mq : MqT) (W : Wd) (S : Fs) (X : Nat → Prop) (Kl : List Nat) (l : Ls) (O0 N0 : List Nat) (c0 fi : Nat) (ν0 : Nat → Nat) (cs : Nat) (u0 u' : Sg) : Prop :=
  ∃ ν c Cl Gl Bl Ol, RkT Mq ν c W S X Kl l (Kl ++ Cl) Cl Gl (N0 ++ Bl) Ol c0 fi ν0 u0 u' ∧ gI u' 76 = gI u0 76 + 1 ∧ NuX ν0 cs ν c ∧ (WOK W (NT ν c) ∧ WGK W (NT ν c)) ∧ (c = c0 + Ol.length ∧ Ol.Nodup ∧ (∀ f ∈ Ol, NT ν c (2 * f + 1)) ∧ Bl.length ≤ Kl.length ∧ Ol.length = O0.length + Bl.length) ∧ (Cl.Nodup ∧ Cl.length ≤ 1400 ∧ (∀ g ∈ Cl, cmeS (FsQ l) (fun f => f ∈ Kl) (tT l fi) (fun f => f ∈ O0) g ∧ g ∉ Kl) ∧ ∀ g ∈ Gl, g ∈ Cl) ∧ (∀ b, b ∈ Bl ↔ ∃ f, f ∈ Ol ∧ f ∉ O0 ∧ b = mk 1 (2 * f + 1) []) ∧ (∀ f, f ∈ Ol → f ∈ O0 ∨ (f ∈ Kl ∧ kd f = 16 ∧ kd (pa f 0) = 18)) ∧ (∀ f, f ∈ O0 → f ∈ Ol) ∧ (((∀ g, cmeS (FsQ l) (fun f => f ∈ Kl) (tT l fi) (fun f => f ∈ O0) g → g ∈ Kl ∨ g ∈ Cl) ∧ ∀ f, f ∈ Kl → kd f = 16 → kd (pa f 0) = 18 → f ∈ Ol) ∨ (Cl ≠ [] ∧ 400 < Kl.length + Cl.length))
theorem tX3_brings {d : Nat} {ν : Nat → Nat} {c : Nat} {W : Wd} {S : Fs} {X : Nat → Prop} {Kl : List Nat} {l : Ls} {O0 N0 : List Nat} {c0 fi : Nat} {u : Sg} (hl : LimRT ν u X Kl (cmeS (FsQ l) (fun f => f ∈ Kl) (tT l fi) (fun f => f ∈ O0)) (mkF (FsQ l) (fun f => f ∈ Kl) (tT l fi) (fun f => f ∈ O0))) (hr0 : hT u ≤ 20000) (hX : XRd X Kl O0) (hWc : ∀ f, wcT W (2 * f + 1) = pa (pa f 0) 0) (hf0 : ∀ f ∈ Kl, isFo f ∧ szQ f ≤ 900 ∧ 42 + 3 * htT f ≤ d ∧ 42 + htQ f ≤ d) (hd : 42 ≤ d) (hc0 : c0 ≤ 3000) (hO0 : O0.length ≤ 2500) (hfi : fi ≤ l.1.length) (hfn : fi + N0.length ≤ 100) (hN0 : ∀ t, t ∈ N0 ↔ (t ∈ l.1 ∧ kd t = 1 ∧ wh t % 2 = 1)) (hA : AsT ν c W S Kl l u) (hAr : ArT ν u 69 70 N0) (hOp : OpT ν u O0) (hNo : NmOT ν c c0 O0) (h58 : gI u 58 = (fi : Int)) (hMa : MaT Mq u) (hCt : CtT u) (hCo : CoM u) (h76 : gI u 76 < 2000000000) (hW : WOK W (NT ν c)) (hG : WGK W (NT ν c)) (hK : KlOK W (NT ν c) Kl) (ec : c = c0 + O0.length) (hON : O0.Nodup) (hOm : ∀ f ∈ O0, NT ν c (2 * f + 1)) : wp (runT d 104 [(Kl.length : Int), (N0.length : Int)] u) (fun _ u' => BrE Mq W S X Kl l O0 N0 c0 fi ν c u u') := by
  obtain ⟨d, rfl⟩ : ∃ d', d = d' + 2 := ⟨d - 2, by omega⟩
  rw [runT_eq (by omega)]
  show wp (bX3_brings (runT (d + 1)) (Kl.length : Int) (N0.length : Int) u) _
  unfold bX3_brings
  obtain ⟨o1, ⟨o2, o3⟩, ⟨o4, o5⟩, o6⟩ := hCo
  have e76 : gI (sI u 75 0) 76 = gI u 76 := by rw [gI_sI, if_neg (by decide)]
  rw [wp_un, wp_un, e76, wp_ar]
  refine ⟨⟨by omega, by omega⟩, ?_⟩
  rw [wp_un]
  have hs := hA.1.1.1
  generalize es : sI (sI u 75 0) 76 (gI u 76 + 1) = s
  have ws : WF FT s := by rw [← es]; exact wfIT (wfIT hA.1.2.1 rfl ⟨by omega, by omega⟩) rfl ⟨by omega, by omega⟩
  have gs : Gr FT (2 ^ 75 + 2 ^ 76) u s := by rw [← es]; exact (Gr_sI (by decide +kernel)).tr (Gr_sI (by decide +kernel))
  have qs : EqH u s := by rw [← es]; exact (EqH.sI (by omega)).trn (EqH.sI (by omega))
  have i75 : gI s 75 = 0 := by rw [← es, gI_sI, if_neg (by decide), gI_sI, if_pos rfl]
  have i76 : gI s 76 = gI u 76 + 1 := by rw [← es, gI_sI, if_pos rfl]
  have hU : UpT ν c u s X := qs.up hs
  have Ls : ∀ k, gL s k = gL u k := fun k => by rw [← es]; rfl
  have Ns : ∀ k i, gN s k i = gN u k i := fun k i => by rw [← es]; rfl
  have hco : CoT ν s [] := ⟨⟨by rw [i75]; rfl, by rw [Ls]; exact Nat.zero_le _, by rw [Ls]; exact o1⟩, ⟨by rw [Ls]; exact o2, by rw [Ls]; exact o3⟩, List.nodup_nil, fun i f hi => (by simp at hi), fun x hx => by
    rw [Ls] at hx
    have := o6 x hx
    rw [Ns, i76]
    exact ⟨by omega, fun q => by omega⟩⟩
  have hun : UNT ν u ν s X := hU.un hs (gs.I 54 (by decide +kernel))
  have hI : RdT Mq ν c W S X Kl l (cmeS (FsQ l) (fun f => f ∈ Kl) (tT l fi) (fun f => f ∈ O0)) (mkF (FsQ l) (fun f => f ∈ Kl) (tT l fi) (fun f => f ∈ O0)) [] [] [] N0 O0 c0 fi ν u s := by
    refine ⟨hA.fr hU.ux ws gs (by decide +kernel) (fun k a b => (by decide +kernel : ∀ k, k ≤ 51 → 49 ≤ k → Nat.testBit (2 ^ 75 + 2 ^ 76) k = false) k b a) (by decide +kernel), ⟨⟨hco, by omega⟩, fun g hg => (by cases hg)⟩, hAr.fr hs hU.ux gs (by decide +kernel) (by decide +kernel), ⟨hOp.fr hs hU.ux gs (by decide +kernel) (by decide +kernel), hNo⟩, ⟨⟨List.nodup_nil, fun g hg => (by cases hg)⟩, hun.mon (fun _ q => Or.inr (Or.inl q))⟩, by rw [gs.I 58 (by decide +kernel)]; exact h58, hMa.fr gs (by decide +kernel) (by decide +kernel), ⟨by rw [Ls]; exact hCt.1, by rw [Ls]; exact hCt.2⟩⟩
  have hKX : ∀ f ∈ Kl, ∀ z, subT z f → ndT ν u z := fun f hf z hz => by
    obtain ⟨j, hj⟩ := List.getElem?_of_mem hf
    obtain ⟨y, _, y0, y2, y3, _⟩ := hA.2.2.2.2.1 j f hj
    rw [← y3] at hz
    exact ndT_sub hs y y0 y2 z hz
  have hKl := hK.1
  refine wp_call (P := fun _ u2 => gI u2 76 = gI u 76 + 1 ∧ ∃ ν' c' Cl Gl Bl Ol k, RLT Mq ν' c' W S X Kl l O0 N0 Cl Gl Bl Ol c0 fi k ν c u u2 ∧ k ≤ Kl.length ∧ Cl.length ≤ 1400 ∧ ((k = Kl.length ∧ RLdT Kl l O0 Cl fi k) ∨ (Cl ≠ [] ∧ 400 < Kl.length + Cl.length))) ?_ (fun r u2 ⟨j76, ν', c', Cl, Gl, Bl, Ol, k, hR, hk, hC14, hcase⟩ => ?_)
  · have run : wp (runT (d + 1) 105 [(Kl.length : Int), (N0.length : Int)] s) (fun _ u2 => ∃ ν' c' Cl Gl Bl Ol k, RLT Mq ν' c' W S X Kl l O0 N0 Cl Gl Bl Ol c0 fi k ν c u u2 ∧ k ≤ Kl.length ∧ Cl.length ≤ 1400 ∧ ((k = Kl.length ∧ RLdT Kl l O0 Cl fi k) ∨ (Cl ≠ [] ∧ 400 < Kl.length + Cl.length))) := by
      rw [runT_eq (by omega)]
      show wp (bX3_bringsOf (runT d) (Kl.length : Int) (N0.length : Int) s) _
      unfold bX3_bringsOf
      refine brT_L2 (d := d) (u0 := u) (ν0 := ν) (cs := c) hl hKX hr0 hX hWc (fun f hf => by obtain ⟨a, b, c1, c2⟩ := hf0 f hf; exact ⟨a, b, by omega, by omega⟩) hc0 hO0 hA.2.2.2.1 hfi hfn hN0 (by omega) (fun ν' c' u' Cl Gl Bl Ol k q1 q2 q3 q4 => ?_) Kl.length 0 KF ν c s [] [] [] O0 (by omega) (Nat.lt_of_le_of_lt (by omega : _ ≤ 300000) KF_300) ⟨by rw [List.append_nil]; exact hI, NuX.rf _ _, ⟨hW, hG, hK⟩, ⟨ec, by simp, by simp, hON, hOm⟩, fun f => ⟨Or.inl, fun q => q.elim id (fun ⟨j, hj, _⟩ => by omega)⟩, fun b => ⟨fun q => absurd q (List.not_mem_nil), fun ⟨f, q1, q2, _⟩ => absurd q1 q2⟩⟩ (by simp) (fun j f g hj => by omega)
      rw [wp_some]
      exact ⟨ν', c', Cl, Gl, Bl, Ol, k, q1, q2, q3, q4⟩
    refine wp_mono (gX3_bringsOf ws ⟨by omega, by omega⟩ ⟨by omega, by omega⟩ run) (fun r u2 ⟨q, g, _, _⟩ => ⟨by rw [g.I 76 (by decide +kernel)]; exact i76, q⟩)
  · obtain ⟨p1, p2, ⟨p3, p4, p5⟩, ⟨p6, p7, p8, p8', p8n⟩, p9, p10⟩ := hR
    have hCf := p1.2.1.2
    have hcn : Cl.Nodup := p1.2.1.1.1.2.2.1
    show wp (bX3_brings_L23 (runT (d + 1)) KF 0 u2 _) _
    refine brings_L23 (by omega) (fun f hf => (hCf f hf).2) (by omega) Cl.length 0 KF u2 (by omega) (Nat.lt_of_le_of_lt (by omega : _ ≤ 300000) KF_300) (by rw [List.take_zero, List.append_nil]; exact p1.rk) j76 _ (fun u3 r1 r2 => ?_)
    rw [wp_some]
    refine ⟨ν', c', Cl, Gl, Bl, Ol, r1, r2, p2, ⟨p3, p4⟩, ⟨p6, p8', p8n, by omega, by omega⟩, ⟨hcn, hC14, hCf, fun g hg => (p1.2.2.2.2.1.1.2 g hg).2.2⟩, p10, fun f hf => ?_, fun f hf => (p9 f).mpr (Or.inl hf), hcase.imp (fun ⟨q1, q2⟩ => ⟨fun g ⟨f, f1, f2⟩ => ?_, fun f f1 f2 f3 => ?_⟩) id⟩
    · exact ((p9 f).mp hf).imp id (fun ⟨j, _, j2, j3⟩ => ⟨List.mem_of_getElem? j2, j3⟩)
    · obtain ⟨j, hj⟩ := List.getElem?_of_mem f1
      exact q2 j f g (by rw [q1]; exact (List.getElem?_eq_some_iff.mp hj).1) hj f2
    · obtain ⟨j, hj⟩ := List.getElem?_of_mem f1
      exact (p9 f).mpr (Or.inr ⟨j, by rw [q1]; exact (List.getElem?_eq_some_iff.mp hj).1, hj, f2, f3⟩)
end MQ
