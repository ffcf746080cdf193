/-! a case is closed in the model -/
theorem regs_L2 {d : Nat} (hd : 902 ≤ d) {ν : Nat → Nat} {c : Nat} {W : Wd} {S : Fs} {X : XFm} {K B : Nat → Prop} {Kl : List Nat} {u0 : Sg} {l0 : Ls} {Q : Int → Sg → Prop} {xx : Sg → Option (Int × Sg)} (hE : EnT ν c W S X Kl K B) (hs0 : ST ν c u0) (hl : LimTH ν u0 S X l0.1) (hr : hT u0 ≤ 26000) (hle0 : l0.1.length ≤ 100) (k : ∀ (u2 : Sg) (l2 : Ls), TwR ν c W S X Kl u0 l0 (∀ g, g < wnG W → ∀ t ∈ l0.1, RgC W l0 g t) u2 l2 → wp (xx u2) Q) : ∀ (m g f : Nat) (u1 : Sg) (l1 : Ls), g + m = wnG W → m < f → TwR ν c W S X Kl u0 l0 (∀ g', g' < g → ∀ t ∈ l0.1, RgC W l0 g' t) u1 l1 → wp (bX3_byRegistrations_L2 (runT d) f (g : Int) u1 xx) Q := by
  intro m
  induction m with
  | zero =>
    intro g f u1 l1 hg hf hw
    obtain ⟨f, rfl⟩ : ∃ f', f = f' + 1 := ⟨f - 1, by omega⟩
    obtain ⟨gg1, gg2, gg3, gg8⟩ := hw.2.1.1.2.2.2.2.2.2
    rw [bX3_byRegistrations_L2, wp_un, gg1, if_neg (by omega)]
    exact k u1 l1 (hw.mono (fun _ q g' hg' => q g' (by omega)))
  | succ m ih =>
    intro g f u1 l1 hg hf hw
    obtain ⟨f, rfl⟩ : ∃ f', f = f' + 1 := ⟨f - 1, by omega⟩
    have hC := hw.2.1
    obtain ⟨gg1, gg2, gg3, gg8⟩ := hC.1.2.2.2.2.2.2
    have hHa := hC.2.2.1.1
    have h1000 := hHa.1.2.1
    rw [bX3_byRegistrations_L2, wp_un, gg1, if_pos (by omega), wp_un, hHa.1.1]
    refine regs_L17 (X := X) (l0 := l0) (C0 := ∀ g', g' < g → ∀ t ∈ l0.1, RgC W l0 g' t) (by omega) hE hs0 hl hr hle0 (by omega) l1.1.length 0 KF u1 l1 (by omega) (Nat.lt_of_le_of_lt (by omega : _ ≤ 300000) KF_300) (Nat.le_refl _) (fun e => by rw [e]) (hw.mono (fun _ q => ⟨q, fun i' t h => by omega⟩)) _ (fun u2 l2 w2 => ?_)
    rw [wp_ar]
    refine ⟨⟨by omega, by omega⟩, ?_⟩
    rw [show (g : Int) + 1 = ((g + 1 : Nat) : Int) by omega]
    refine ih (g + 1) f u2 l2 (by omega) (by omega) (w2.mono (fun _ q g' hg' t ht => ?_))
    by_cases hgg : g' = g
    · rw [hgg]; exact q.2 t ht
    · exact q.1 g' (by omega) t ht
theorem tX3_regs {d : Nat} (hd : 903 ≤ d) {ν : Nat → Nat} {c : Nat} {W : Wd} {S : Fs} {X : XFm} {K B : Nat → Prop} {Kl : List Nat} {u : Sg} {l : Ls} (hE : EnT ν c W S X Kl K B) (hC : CaT ν c W S Kl u l) (hl : LimTH ν u S X l.1) (hr : hT u ≤ 26000) (hle : l.1.length ≤ 100) : wp (runT d 83 [] u) (fun _ u' => ∃ l1, TwR ν c W S X Kl u l (∀ g, g < wnG W → ∀ t ∈ l.1, RgC W l g t) u' l1) := by
  obtain ⟨d, rfl⟩ : ∃ d', d = d' + 1 := ⟨d - 1, by omega⟩
  rw [runT_eq (by omega)]
  show wp (bX3_byRegistrations (runT d) u) _
  unfold bX3_byRegistrations
  have gg2 := hC.1.2.2.2.2.2.2.2.1
  refine regs_L2 (X := X) (l0 := l) (by omega) hE hC.1.1 hl hr hle (fun u2 l2 w2 => ?_) (wnG W) 0 KF u l (by omega) (Nat.lt_of_le_of_lt (by omega : _ ≤ 300000) KF_300) (TwR.rf hC (fun g' h => by omega))
  rw [wp_some]
  exact ⟨l2, w2⟩
/-- nothing more comes -/
def AllT (W : Wd) (Kl : List Nat) (l : Ls) : Prop := (∀ f ∈ Kl, KPT W l f) ∧ (∀ t ∈ l.1, tyF W (FsQ l) t (tyT W t)) ∧ (∀ i j, j < i → i < l.1.length → AkQ l i j) ∧ ∀ g, g < wnG W → ∀ t ∈ l.1, RgC W l g t
def ClTE (ν : Nat → Nat) (c : Nat) (W : Wd) (S : Fs) (X : XFm) (Kl : List Nat) (u : Sg) (l : Ls) (u' : Sg) : Prop := ∃ l' ks' ts', exL l l' ∧ CaT ν c W S Kl u' l' ∧ UpT ν c u u' (xt X l'.1) ∧ Gr FT DX3_takeIn u u' ∧ SnT W Kl u' l' ks' ts' ∧ (100 < l'.1.length ∨ (l'.1.length ≤ 100 ∧ AllT W Kl l'))
theorem closing_L0 {d : Nat} (hd : 903 ≤ d) {ν : Nat → Nat} {c : Nat} {W : Wd} {S : Fs} {X : XFm} {K B : Nat → Prop} {Kl : List Nat} {u0 : Sg} {l0 : Ls} {Q : Int → Sg → Prop} {xx xy : Sg → Option (Int × Sg)} (hE : EnT ν c W S X Kl K B) (hKh : ∀ f ∈ Kl, htT f ≤ 800) (hs0 : ST ν c u0) (hkn : KnT ν u0 Kl) (hr : hT u0 ≤ 26000) (hl : LimTH ν u0 S X l0.1) (k : ∀ (u2 : Sg), ClTE ν c W S X Kl u0 l0 u2 → wp (xx u2) Q ∧ wp (xy u2) Q) : ∀ (n f : Nat) (u1 : Sg) (l1 : Ls) (ks ts : Nat), 200000 < n + (msL l1 + ks + ts) → n < f → exL l0 l1 → CaT ν c W S Kl u1 l1 → UpT ν c u0 u1 (xt X l1.1) → Gr FT DX3_takeIn u0 u1 → SnT W Kl u1 l1 ks ts → wp (bX3_closing_L0 (runT d) f u1 xx xy) Q := by
  intro n
  have bound : ∀ (u1 : Sg) (l1 : Ls) (ks ts : Nat), CaT ν c W S Kl u1 l1 → SnT W Kl u1 l1 ks ts → msL l1 + ks + ts < 150000 := fun u1 l1 ks ts hC hn => by
    have hml := hC.ml hE.1 (hE.2.2.1.wh hC.1.2.2.2.1.2.1.2) hE.2.2.1.1
    have h1 := hC.2.2.1.1.1.2.1
    have h2 := hn.2.2.1
    have h3 := hn.2.2.2.1
    have h4 := hE.2.2.1.1
    have h5 := ctP_le l1.2.1 l1.1.length
    unfold msL
    omega
  induction n with
  | zero =>
    intro f u1 l1 ks ts h1 h2 h3 h4 h5 h6 h7
    have := bound u1 l1 ks ts h4 h7
    omega
  | succ n ih =>
    intro f u1 l1 ks ts hn hf hex hC hU hg hsn
    obtain ⟨f, rfl⟩ : ∃ f', f = f' + 1 := ⟨f - 1, by omega⟩
    have hs := hC.1.1
    rw [bX3_closing_L0, wp_un]
    generalize hs1 : sI u1 66 0 = s1
    have G1 : Gr FT DX3_takeIn u1 s1 := by rw [← hs1]; exact Gr_sI (by decide +kernel)
    have G1b : Gr FT (2 ^ 66) u1 s1 := by rw [← hs1]; exact Gr_sI (by decide +kernel)
    have w1 : WF FT s1 := by rw [← hs1]; exact wfBT hC.2.1 (Or.inl rfl)
    have e1 := G1b.eqH (by decide +kernel)
    have U1 : UpT ν c u1 s1 (xt X l1.1) := e1.up hs
    have C1 := hC.upD U1.ux w1 G1b (by decide +kernel)
    have I66 : gI s1 66 = 0 := by rw [← hs1, gI_sI, if_pos rfl]
    have sn1 : SnT W Kl s1 l1 ks ts := ⟨by rw [G1b.I 67 (by decide +kernel)]; exact hsn.1, by rw [G1b.I 68 (by decide +kernel)]; exact hsn.2.1, hsn.2.2⟩
    have UU : UpT ν c u0 s1 (xt X l1.1) := hU.join U1
    have GG := hg.tr G1
    have hl1 : LimTH ν s1 S X l1.1 := by
      obtain ⟨⟨a, ha⟩, _⟩ := hex
      rw [ha] at UU ⊢
      exact hl.up UU.ux
    have hkn1 := hkn.up hs0 UU.ux GG (bitsOff (by decide +kernel)) (by decide +kernel)
    have hr1 : hT s1 = hT u0 := UU.2.2.2.1
    refine wp_call (tX3_takeIn (X := X) (by omega) hE hKh hkn1 (by omega) hl1 C1 sn1) (fun _ u3 ⟨l3, ks3, ts3, c3, d3⟩ => ?_)
    have hC3 := c3.2.1
    have fin : ∀ (C' : Prop) (u2 : Sg) (l2 : Ls) (k2 t2 : Nat), ClT ν c W S X Kl s1 l1 ks ts C' u2 l2 k2 t2 → exL l0 l2 ∧ CaT ν c W S Kl u2 l2 ∧ UpT ν c u0 u2 (xt X l2.1) ∧ Gr FT DX3_takeIn u0 u2 ∧ SnT W Kl u2 l2 k2 t2 := fun C' u2 l2 k2 t2 q => by
      obtain ⟨q1, q2, q3, q4, q5, _⟩ := q
      refine ⟨hex.tr q1, q2, ?_, GG.tr q4, q5⟩
      obtain ⟨⟨a, ha⟩, _⟩ := q1
      rw [ha] at q3 ⊢
      exact UU.jnx q3
    rw [wp_un, hC3.2.2.1.1.1.1]
    refine wp_ite (fun h100 => ?_) (fun h100 => ?_)
    · have h100 : l3.1.length ≤ 100 := by omega
      obtain ⟨dk, dt⟩ := d3 h100
      have h1000 := hC3.2.2.1.1.1.2.1
      refine closing_L21 (X := X) (l0 := l3) (by omega) hE.2.2.2.1 l3.1.length 0 KF u3 l3 (by omega) (Nat.lt_of_le_of_lt (by omega : _ ≤ 300000) KF_300) (TwR.rf hC3 (fun i' j' _ h => by omega)) rfl _ (fun u5 l5 w5 e5 => ?_)
      have c5 := c3.tw (C'' := ∀ i' j', j' < i' → i' < l1.1.length → AkQ l1 i' j') w5 (fun e _ q => by rw [e] at q; exact q)
      have hC5 := c5.2.1
      have hl5 := c5.lm hl1
      have hr5 : hT u5 = hT s1 := c5.2.2.1.2.2.2.1
      refine wp_call (tX3_regs (X := X) (by omega) hE hC5 hl5 (by omega) (by rw [e5]; exact h100)) (fun _ u7 ⟨l7, w7⟩ => ?_)
      have c7 := c5.tw (C'' := (∀ i' j', j' < i' → i' < l1.1.length → AkQ l1 i' j') ∧ ∀ g, g < wnG W → ∀ t ∈ l1.1, RgC W l1 g t) w7 (fun e q1 q2 => ⟨q1, by rw [e] at q2; exact q2⟩)
      have hC7 := c7.2.1
      obtain ⟨f1, f2, f3, f4, f5⟩ := fin _ u7 l7 ks3 ts3 c7
      rw [wp_un]
      refine wp_ite (fun hz => ?_) (fun hz => ?_)
      · obtain ⟨z1, z2, z3, z4, z5⟩ := c7.2.2.2.2.2.resolve_right (fun q => by rw [q.1] at hz; cases hz)
        have hsn7 := c7.2.2.2.2.1
        rw [z1] at hsn7 f1 f2 f3
        have hlen : l1.1.length ≤ 100 := by
          have a := c5.1.len
          have b := w5.1.len
          have := e5
          have e : l5.1.length = l3.1.length := by rw [e5]
          have := c3.1.len
          omega
        have htl : ts3 = l1.1.length := by
          have a := c3.1.len
          have b := w7.1.len
          have e : l5.1.length = l3.1.length := by rw [e5]
          rw [z1] at b
          omega
        obtain ⟨s1', s2'⟩ := hsn7.2.2.2.2 hlen
        refine (k u7 ⟨l1, ks3, ts3, f1, f2, f3, f4, hsn7, Or.inr ⟨hlen, fun f hf => ?_, fun t ht => ?_, z5.1, z5.2⟩⟩).2
        · obtain ⟨i, hi⟩ := List.getElem?_of_mem hf
          exact s1' i f (by rw [dk]; exact (List.getElem?_eq_some_iff.mp hi).1) hi
        · obtain ⟨i, hi⟩ := List.getElem?_of_mem ht
          exact s2' i t (by rw [htl]; exact (List.getElem?_eq_some_iff.mp hi).1) hi
      · rw [wp_un, hC7.2.2.1.1.1.1]
        refine wp_ite (fun h7 => ?_) (fun h7 => (k u7 ⟨l7, ks3, ts3, f1, f2, f3, f4, f5, Or.inl (by omega)⟩).2)
        have gr : msL l1 + ks + ts < msL l7 + ks3 + ts3 := by
          rcases c7.2.2.2.2.2 with q | q
          · exact absurd (q.2.2.2.1.trans I66) hz
          · exact q.2
        exact ih f u7 l7 ks3 ts3 (by omega) (by omega) f1 f2 f3 f4 f5
    · obtain ⟨f1, f2, f3, f4, f5⟩ := fin _ u3 l3 ks3 ts3 c3
      exact (k u3 ⟨l3, ks3, ts3, f1, f2, f3, f4, f5, Or.inl (by omega)⟩).1
theorem tX3_closing {d : Nat} (hd : 904 ≤ d) {ν : Nat → Nat} {c : Nat} {W : Wd} {S : Fs} {X : XFm} {K B : Nat → Prop} {Kl : List Nat} {u : Sg} {l : Ls} {ks ts : Nat} (hE : EnT ν c W S X Kl K B) (hKh : ∀ f ∈ Kl, htT f ≤ 800) (hkn : KnT ν u Kl) (hr : hT u ≤ 26000) (hl : LimTH ν u S X l.1) (hC : CaT ν c W S Kl u l) (hn : SnT W Kl u l ks ts) : wp (runT d 67 [] u) (fun _ u' => ClTE ν c W S X Kl u l u') := by
  obtain ⟨d, rfl⟩ : ∃ d', d = d' + 1 := ⟨d - 1, by omega⟩
  rw [runT_eq (by omega)]
  show wp (bX3_closing (runT d) u) _
  unfold bX3_closing
  refine closing_L0 (by omega) hE hKh hC.1.1 hkn hr hl (fun u2 q => ?_) 200001 KF u l ks ts (by omega) (Nat.lt_of_le_of_lt (by omega : _ ≤ 300000) KF_300) (exL.rf _) hC (UpT.rf hC.1.1) Gr.rf hn
  rw [wp_some]
  exact ⟨q, q⟩
/-- when nothing new comes, what the model's lists say is closed -/
theorem AllT.clo {ν : Nat → Nat} {c : Nat} {W : Wd} {S : Fs} {Kl : List Nat} {u : Sg} {l : Ls} {B : Nat → Prop} (hC : CaT ν c W S Kl u l) (hle : l.1.length ≤ 100) (hB : ∀ b, B b → b ∈ l.1) (h : AllT W Kl l) : Clo W (fun f => f ∈ Kl) B (FsQ l) := by
  obtain ⟨h1, h2, h3, h4⟩ := h
  have hn := hC.2.2.1.1.2.2.1
  have hsy : ∀ s t, fE (FsQ l) s t → fE (FsQ l) t s := fun s t q => eqL.sy q
  have exx : ∀ {s t}, eqA (FsQ l) s t → eqX l.1 l.2.1 s t := fun q => q
  refine ⟨⟨fun f hf s q1 q2 q3 => (h1 f hf).1 s q1 q2 q3, hB, fun t ht s q1 q2 => hC.2.2.2.2.2.2.2.2.2 hle t ht s q1 q2 (cl_sub (htT t + 1) t (by omega) (Or.inl (hC.2.2.2.2.2.1 t ht).1) s q1), fun t ht => h2 t ht, fun f hf h14 => (h1 f hf).2.2.2.2 h14⟩, ⟨fun t ht => eqL.rf ht, hsy, fun s t r q1 q2 => eqL.trn hn q1 q2, fun f hf q => (h1 f hf).2.1 q, fun f hf q => (h1 f hf).2.2.1 q, fun f hf q1 q2 => (h1 f hf).2.2.2.1 q1 q2, ?_, ?_⟩, ⟨fun s t hs ht ha => ?_, fun t g ht k4 hg s1 hO ha => (((h4 g hg t ht).2 (by omega) k4) hO ha).1 s1, fun t g ht k4 hg s2 hO ha => (((h4 g hg t ht).2 (by omega) k4) hO ha).2 s2, fun t g ht hg s0 hadj hof => (h4 g hg t ht).1 s0 hadj hof⟩⟩
  · rintro t t' m a a' ⟨t2, a2, q1, q2, q3⟩ e1 e2
    exact ⟨t2, a2, q1, q2.trn hn (exx e1), q3.trn hn (exx e2)⟩
  · rintro t t' j ⟨t2, q1, q2⟩ e1
    exact ⟨t2, q1, q2.trn hn (exx e1)⟩
  · obtain ⟨i, hi⟩ := List.getElem?_of_mem (show s ∈ l.1 from hs)
    obtain ⟨j, hj⟩ := List.getElem?_of_mem (show t ∈ l.1 from ht)
    have hil := (List.getElem?_eq_some_iff.mp hi).1
    have hjl := (List.getElem?_eq_some_iff.mp hj).1
    rcases Nat.lt_trichotomy i j with q | q | q
    · exact hsy _ _ (h3 j i q hjl t s hj hi (ha.sy hsy))
    · rw [q, hj] at hi
      rw [← Option.some.inj hi]
      exact eqL.rf ht
    · exact h3 i j q hil s t hi hj ha
/-- a closed case in the model says what follows, no more -/
theorem ClTE.eq {ν : Nat → Nat} {c : Nat} {W : Wd} {B : Nat → Prop} {Kl : List Nat} {u : Sg} {l : Ls} (hW : WOK W (NT ν c)) (hC : CaT ν c W (DerF W (fun f => f ∈ Kl) B) Kl u l) (hle : l.1.length ≤ 100) (hB : ∀ b, B b → b ∈ l.1) (h : AllT W Kl l) : FsQ l = DerF W (fun f => f ∈ Kl) B :=
  Der_eq (AllT.clo hC hle hB h) (hC.sub hW (Der_clo _ _ _))
