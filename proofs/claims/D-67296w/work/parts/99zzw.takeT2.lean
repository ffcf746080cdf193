/-- how far what is known and the terms have been taken in -/
def SnT (W : Wd) (Kl : List Nat) (u : Sg) (l : Ls) (ks ts : Nat) : Prop := gI u 67 = (ks : Int) ∧ gI u 68 = (ts : Int) ∧ ks ≤ Kl.length ∧ ts ≤ l.1.length ∧ (l.1.length ≤ 100 → (∀ i f, i < ks → Kl[i]? = some f → KPT W l f) ∧ ∀ i t, i < ts → l.1[i]? = some t → tyF W (FsQ l) t (tyT W t))
/-- a stretch of the model's closing -/
def ClT (ν : Nat → Nat) (c : Nat) (W : Wd) (S : Fs) (X : XFm) (Kl : List Nat) (u0 : Sg) (l0 : Ls) (k0 t0 : Nat) (C : Prop) (u1 : Sg) (l1 : Ls) (ks ts : Nat) : Prop := exL l0 l1 ∧ CaT ν c W S Kl u1 l1 ∧ UpT ν c u0 u1 (xt X l1.1) ∧ Gr FT DX3_takeIn u0 u1 ∧ SnT W Kl u1 l1 ks ts ∧ ((l1 = l0 ∧ ks = k0 ∧ ts = t0 ∧ gI u1 66 = gI u0 66 ∧ C) ∨ (gI u1 66 = 1 ∧ msL l0 + k0 + t0 < msL l1 + ks + ts))
theorem SnT.tw {ν : Nat → Nat} {c : Nat} {W : Wd} {S : Fs} {X : XFm} {Kl : List Nat} {u1 u2 : Sg} {l1 l2 : Ls} {C : Prop} {ks ts : Nat} (h : SnT W Kl u1 l1 ks ts) (h' : TwR ν c W S X Kl u1 l1 C u2 l2) : SnT W Kl u2 l2 ks ts := by
  obtain ⟨a1, a2, a3, a4, a5⟩ := h
  have hl := h'.len
  refine ⟨by rw [h'.2.2.2.1.I 67 (by decide +kernel)]; exact a1, by rw [h'.2.2.2.1.I 68 (by decide +kernel)]; exact a2, a3, by omega, fun q => ?_⟩
  obtain ⟨b1, b2⟩ := a5 (by omega)
  refine ⟨fun i f hi hf => (b1 i f hi hf).mono h'.1, fun i t hi ht => ?_⟩
  have gi : l1.1[i]? = some l1.1[i] := List.getElem?_eq_getElem (by omega)
  have e := h'.1.at gi
  rw [ht] at e
  rw [← Option.some.inj e] at gi
  exact (b2 i t hi gi).mono h'.1.fs
theorem ms_le {l l' : Ls} {ν : Nat → Nat} {c : Nat} {W : Wd} {S : Fs} {X : XFm} {Kl : List Nat} {u u' : Sg} {C : Prop} (h : TwR ν c W S X Kl u l C u' l') : msL l ≤ msL l' := by
  rcases h.2.2.2.2 with q | q
  · rw [q.1]; exact Nat.le_refl _
  · omega
theorem ClT.tw {ν : Nat → Nat} {c : Nat} {W : Wd} {S : Fs} {X : XFm} {Kl : List Nat} {u0 u1 u2 : Sg} {l0 l1 l2 : Ls} {C C' C'' : Prop} {k0 t0 ks ts : Nat} (h : ClT ν c W S X Kl u0 l0 k0 t0 C u1 l1 ks ts) (h' : TwR ν c W S X Kl u1 l1 C' u2 l2) (k : l1 = l0 → C → C' → C'') : ClT ν c W S X Kl u0 l0 k0 t0 C'' u2 l2 ks ts := by
  obtain ⟨h1, h2, h3, h4, h5, h6⟩ := h
  refine ⟨h1.tr h'.1, h'.2.1, ?_, h4.tr (h'.2.2.2.1.sub (by decide +kernel)), h5.tw h', ?_⟩
  · have g3 := h'.2.2.1
    obtain ⟨⟨a, ha⟩, _⟩ := h'.1
    rw [ha] at g3 ⊢
    exact h3.jnx g3
  · have hm := ms_le h'
    rcases h6 with ⟨e1, e2, e3, e4, e5⟩ | ⟨e1, e2⟩
    · rcases h'.2.2.2.2 with ⟨f1, f2, f3⟩ | ⟨f1, f2⟩
      · exact Or.inl ⟨by rw [f1]; exact e1, e2, e3, by rw [f2]; exact e4, k e1 e5 f3⟩
      · refine Or.inr ⟨f1, ?_⟩
        rw [e1] at f2
        omega
    · rcases h'.2.2.2.2 with ⟨f1, f2, f3⟩ | ⟨f1, f2⟩
      · exact Or.inr ⟨by rw [f2]; exact e1, by omega⟩
      · exact Or.inr ⟨f1, by omega⟩
theorem ClT.lm {ν : Nat → Nat} {c : Nat} {W : Wd} {S : Fs} {X : XFm} {Kl : List Nat} {u0 u1 : Sg} {l0 l1 : Ls} {C : Prop} {k0 t0 ks ts : Nat} (h : ClT ν c W S X Kl u0 l0 k0 t0 C u1 l1 ks ts) (hl : LimTH ν u0 S X l0.1) : LimTH ν u1 S X l1.1 := by
  obtain ⟨⟨⟨a, ha⟩, _⟩, _, h3, _⟩ := h
  rw [ha] at h3 ⊢
  exact hl.up h3.ux
theorem ClT.rf {ν : Nat → Nat} {c : Nat} {W : Wd} {S : Fs} {X : XFm} {Kl : List Nat} {u : Sg} {l : Ls} {C : Prop} {ks ts : Nat} (h : CaT ν c W S Kl u l) (hn : SnT W Kl u l ks ts) (hC : C) : ClT ν c W S X Kl u l ks ts C u l ks ts := ⟨exL.rf l, h, UpT.rf h.1.1, Gr.rf, hn, Or.inl ⟨rfl, rfl, rfl, rfl, hC⟩⟩
theorem takeIn_L0 {d : Nat} (hd : 902 ≤ d) {ν : Nat → Nat} {c : Nat} {W : Wd} {S : Fs} {X : XFm} {K B : Nat → Prop} {Kl : List Nat} {u0 : Sg} {l0 : Ls} {k0 t0 : Nat} {Q : Int → Sg → Prop} {xx xy : Sg → Option (Int × Sg)} (hE : EnT ν c W S X Kl K B) (hKh : ∀ f ∈ Kl, htT f ≤ 800) (hs0 : ST ν c u0) (hkn : KnT ν u0 Kl) (hr : hT u0 ≤ 26000) (hl : LimTH ν u0 S X l0.1) (k : ∀ (u2 : Sg) (l2 : Ls) (ks ts : Nat), ClT ν c W S X Kl u0 l0 k0 t0 True u2 l2 ks ts → (l2.1.length ≤ 100 → ks = Kl.length ∧ ts = l2.1.length) → wp (xx u2) Q ∧ wp (xy u2) Q) : ∀ (n f : Nat) (u1 : Sg) (l1 : Ls) (ks ts : Nat), (Kl.length - ks) + (101 - ts) < n → n < f → ClT ν c W S X Kl u0 l0 k0 t0 True u1 l1 ks ts → wp (bX3_takeIn_L0 (runT d) f u1 xx xy) Q := by
  intro n
  induction n with
  | zero => intro f u1 l1 ks ts h; omega
  | succ n ih =>
    intro f u1 l1 ks ts hms hf hw
    obtain ⟨f, rfl⟩ : ∃ f', f = f' + 1 := ⟨f - 1, by omega⟩
    have hC := hw.2.1
    have hs := hC.1.1
    have hk1 := hkn.up hs0 hw.2.2.1.ux hw.2.2.2.1 (bitsOff (by decide +kernel)) (by decide +kernel)
    obtain ⟨n1, n2, n3, n4, n5⟩ := hw.2.2.2.2.1
    have hH := hC.2.2.1.1
    have hl1 := hw.lm hl
    have hbd := (hl1.l hC).n hs
    have hr1 : hT u1 = hT u0 := hw.2.2.1.2.2.2.1
    -- one more
    have go : (ks < Kl.length ∨ ts < l1.1.length) → wp (un (gI u1 57) fun v3 => if v3 ≤ 100 then (un (sI u1 66 1) fun s4 => un (gI s4 67) fun v5 => un (gI s4 50) fun v6 => if v5 < v6 then (un (gI s4 67) fun v7 => ar (v7 + 1) fun v8 => un (sI s4 67 v8) fun s9 => ld s9 49 v7 fun v10 => cl (runT d 64 [v10] s9) fun v11 s12 => un (gI s12 57) fun v13 => if v13 ≤ 100 then (jn (fun (a1 t0 : Int) (s15 : Sg) => jn (fun (a2 t0 : Int) (s17 : Sg) => jn (fun (a2 a3 : Int) (s19 : Sg) => jn (fun (a2 a3 : Int) (s21 : Sg) => ld s21 1 a3 fun v22 => if v22 = 13 then (if a2 = 0 then (cl (runT d 7 [a3, 2] s21) fun v23 s24 => cl (runT d 66 [v23] s24) fun v25 s26 => cl (runT d 7 [a3, 0] s26) fun v27 s28 => cl (runT d 7 [a3, 1] s28) fun v29 s30 => cl (runT d 1 [v27, v29] s30) fun v31 s32 => cl (runT d 73 [v25, v31] s32) fun v33 s34 => bX3_takeIn_L0 (runT d) f s34 xx xy) else (bX3_takeIn_L0 (runT d) f s21 xx xy)) else (bX3_takeIn_L0 (runT d) f s21 xx xy)) fun j20 => ld s19 1 a3 fun v35 => if v35 = 12 then (jn (fun (a2 a3 t1 t2 t3 : Int) (s37 : Sg) => ar (t2 + t3) fun v38 => cl (runT d 71 [t1, v38] s37) fun v39 s40 => j20 a2 a3 s40) fun j36 => cl (runT d 7 [a3, 1] s19) fun v41 s42 => cl (runT d 66 [v41] s42) fun v43 s44 => cl (runT d 7 [a3, 0] s44) fun v45 s46 => ar (2 * v45) fun v47 => if a2 = 0 then (j36 a2 a3 v43 v47 0 s46) else (j36 a2 a3 v43 v47 1 s46)) else (j20 a2 a3 s19)) fun j18 => ld s17 1 t0 fun v48 => if v48 = 9 then (if a2 = 0 then (cl (runT d 7 [t0, 0] s17) fun v49 s50 => cl (runT d 66 [v49] s50) fun v51 s52 => cl (runT d 7 [t0, 1] s52) fun v53 s54 => cl (runT d 66 [v53] s54) fun v55 s56 => cl (runT d 69 [v51, v55] s56) fun v57 s58 => j18 a2 t0 s58) else (j18 a2 t0 s17)) else (j18 a2 t0 s17)) fun j16 => if t0 = 0 then (j16 t0 a1 s15) else (cl (runT d 7 [a1, 0] s15) fun v59 s60 => j16 t0 v59 s60)) fun j14 => ld s12 1 v10 fun v61 => if v61 = 15 then (j14 v10 1 s12) else (j14 v10 0 s12)) else (xy s12)) else (un (gI s4 68) fun v62 => ar (v62 + 1) fun v63 => un (sI s4 68 v63) fun s64 => ld s64 55 v62 fun v65 => cl (runT d 80 [v65] s64) fun v66 s67 => cl (runT d 73 [v62, v66] s67) fun v68 s69 => bX3_takeIn_L0 (runT d) f s69 xx xy)) else (xx u1)) Q := fun hsome => by
      rw [wp_un, hH.1.1]
      refine wp_ite (fun h100 => ?_) (fun h100 => (k u1 l1 ks ts hw (fun q => by omega)).1)
      have h100 : l1.1.length ≤ 100 := by omega
      obtain ⟨s1, s2⟩ := n5 h100
      have E67 : gI (sI u1 66 1) 67 = (ks : Int) := by rw [gI_sI, if_neg (by omega)]; exact n1
      have E68 : gI (sI u1 66 1) 68 = (ts : Int) := by rw [gI_sI, if_neg (by omega)]; exact n2
      have E50 : gI (sI u1 66 1) 50 = (Kl.length : Int) := by rw [gI_sI, if_neg (by omega)]; exact hk1.1.1
      rw [wp_un, wp_un, E67, wp_un, E50]
      refine wp_ite (fun hlt => ?_) (fun hge => ?_)
      · have hlt : ks < Kl.length := by omega
        have gi : Kl[ks]? = some Kl[ks] := List.getElem?_eq_getElem hlt
        generalize Kl[ks] = f0 at gi
        have hf0 : f0 ∈ Kl := List.mem_of_getElem? gi
        obtain ⟨x, x1, x2, x3, x4, x5, x6⟩ := hk1.2.2.2.1 ks f0 gi
        have h25 := hE.2.2.1.1
        have h49 := hk1.1.2.1
        rw [wp_un, wp_ar]
        refine ⟨⟨by omega, by omega⟩, ?_⟩
        rw [wp_un]
        generalize hs9 : sI (sI u1 66 1) 67 ((ks : Int) + 1) = s9
        have G9 : Gr FT DX3_takeIn u1 s9 := by rw [← hs9]; exact (Gr_sI (by decide +kernel)).tr (Gr_sI (by decide +kernel))
        have G9b : Gr FT (2 ^ 66 + 2 ^ 67) u1 s9 := by rw [← hs9]; exact (Gr_sI (by decide +kernel)).tr (Gr_sI (by decide +kernel))
        have w9 : WF FT s9 := by rw [← hs9]; exact wfIT (wfBT hC.2.1 (Or.inr rfl)) rfl ⟨by omega, by omega⟩
        have e9 := G9b.eqH (by decide +kernel)
        have U9 : UpT ν c u1 s9 (xt X l1.1) := e9.up hs
        have C9 := hC.upD U9.ux w9 G9b (by decide +kernel)
        have L49 : gL s9 49 = gL u1 49 := by rw [← hs9, gL_sI, gL_sI]
        have N49 : gN s9 49 ks = (x : Int) := by rw [← hs9, gN_sI, gN_sI]; exact x1
        have I66 : gI s9 66 = 1 := by rw [← hs9, gI_sI, if_neg (by omega), gI_sI, if_pos rfl]
        have I67 : gI s9 67 = ((ks + 1 : Nat) : Int) := by rw [← hs9, gI_sI, if_pos rfl]; omega
        have I68 : gI s9 68 = (ts : Int) := by rw [← hs9, gI_sI, if_neg (by omega), gI_sI, if_neg (by omega)]; exact n2
        obtain ⟨hfr, hfc⟩ := hE.2.2.1.2 f0 hf0
        have hS := hE.2.2.2.1
        have hKf := hE.2.2.2.2.2.2.2.2 f0 hf0
        have hht := hKh f0 hf0
        rw [ld_nat (by omega), N49]
        refine wp_call (tX3_terms (X := X) (Kl := Kl) hS.2.1.1 (htT f0 + 1) f0 (Nat.lt_succ_self _) d s9 x l1 (by omega) hht C9 x2 (by rw [e9.1.n]; exact x3) (by rw [e9.1.tr]; exact x4) hfr hfc.2 (fun s q1 q2 q3 => hS.1.1 f0 hKf s q1 q2 q3) (by rw [e9.1.n]; omega)) (fun _ u2 ⟨l2, t1, t2, t3, t4, t5, t6⟩ => ?_)
        have hC2 := t1.2.1
        -- from there on
        have nx : ∀ (u3 : Sg) (l3 : Ls), TwR ν c W S X Kl s9 l1 True u3 l3 → (l3.1.length ≤ 100 → KPT W l3 f0) → ClT ν c W S X Kl u0 l0 k0 t0 True u3 l3 (ks + 1) ts := fun u3 l3 q1 q2 => by
          obtain ⟨a1, a2, a3, a4, a5, a6⟩ := hw
          have hm := ms_le q1
          have hlen := q1.len
          refine ⟨a1.tr q1.1, q1.2.1, ?_, (a4.tr G9).tr (q1.2.2.2.1.sub (by decide +kernel)), ⟨by rw [q1.2.2.2.1.I 67 (by decide +kernel)]; exact I67, by rw [q1.2.2.2.1.I 68 (by decide +kernel)]; exact I68, hlt, by omega, fun q => ⟨fun i f hi hf => ?_, fun i t hi ht => ?_⟩⟩, Or.inr ⟨?_, ?_⟩⟩
          · have g3 := q1.2.2.1
            obtain ⟨⟨a, ha⟩, _⟩ := q1.1
            rw [ha] at g3 ⊢
            exact (a3.join U9).jnx g3
          · by_cases hik : i = ks
            · rw [hik, gi] at hf
              rw [← Option.some.inj hf]
              exact q2 q
            · exact (s1 i f (by omega) hf).mono q1.1
          · have gi2 : l1.1[i]? = some l1.1[i] := List.getElem?_eq_getElem (by omega)
            have e := q1.1.at gi2
            rw [ht] at e
            rw [← Option.some.inj e] at gi2
            exact (s2 i t hi gi2).mono q1.1.fs
          · rcases q1.2.2.2.2 with ⟨_, z, _⟩ | ⟨z, _⟩
            · rw [z]; exact I66
            · exact z
          · rcases a6 with ⟨z1, z2, z3, _⟩ | ⟨_, z⟩
            · rw [← z1]; omega
            · omega
        rw [wp_un, hC2.2.2.1.1.1.1]
        refine wp_ite (fun h100' => ?_) (fun h100' => (k u2 l2 (ks + 1) ts (nx u2 l2 t1 (fun q => by omega)) (fun q => by omega)).2)
        have hx2 : x ≤ nT u2 := by have := t1.2.2.1.n; rw [e9.1.n] at this; omega
        have ex2 : trT ν u2 x = f0 := by rw [t1.2.2.1.tr C9.1.1 (by rw [e9.1.n]; exact x3), e9.1.tr]; exact x4
        have hr2 : hT u2 = hT s9 := t1.2.2.1.2.2.2.1
        have hr9 : hT s9 = hT u1 := U9.2.2.2.1
        refine takeK (Kx := fun s => bX3_takeIn_L0 (runT d) f s xx xy) (f := f0) (by omega) hE hC2 (by omega) hf0 x2 hx2 ex2 (t4 (by omega)) (by omega) (t1.lm (LimTH.up (H2 := []) (by exact hl1) (by rw [List.append_nil]; exact U9.ux) |> fun q => by rw [List.append_nil] at q; exact q)) (fun u3 l3 q1 q2 => ?_)
        exact ih f u3 l3 (ks + 1) ts (by omega) (by omega) (nx u3 l3 (t1.seq q1 (fun _ _ _ => trivial)) q2)
      · have hts : ts < l1.1.length := by omega
        have hks : ks = Kl.length := by omega
        have gi : l1.1[ts]? = some l1.1[ts] := List.getElem?_eq_getElem hts
        generalize l1.1[ts] = t at gi
        have htH : t ∈ l1.1 := List.mem_of_getElem? gi
        obtain ⟨x, x1, x2, x3, x4, x5, x6, x7, x8⟩ := hH.2.2.2.1 ts t gi
        have h55 := hH.1.2.2.1
        rw [wp_un, E68, wp_ar]
        refine ⟨⟨by omega, by omega⟩, ?_⟩
        rw [wp_un]
        generalize hs9 : sI (sI u1 66 1) 68 ((ts : Int) + 1) = s9
        have G9 : Gr FT DX3_takeIn u1 s9 := by rw [← hs9]; exact (Gr_sI (by decide +kernel)).tr (Gr_sI (by decide +kernel))
        have G9b : Gr FT (2 ^ 66 + 2 ^ 68) u1 s9 := by rw [← hs9]; exact (Gr_sI (by decide +kernel)).tr (Gr_sI (by decide +kernel))
        have w9 : WF FT s9 := by rw [← hs9]; exact wfIT (wfBT hC.2.1 (Or.inr rfl)) rfl ⟨by omega, by omega⟩
        have e9 := G9b.eqH (by decide +kernel)
        have U9 : UpT ν c u1 s9 (xt X l1.1) := e9.up hs
        have C9 := hC.upD U9.ux w9 G9b (by decide +kernel)
        have L55 : gL s9 55 = gL u1 55 := by rw [← hs9, gL_sI, gL_sI]
        have N55 : gN s9 55 ts = (x : Int) := by rw [← hs9, gN_sI, gN_sI]; exact x1
        have I66 : gI s9 66 = 1 := by rw [← hs9, gI_sI, if_neg (by omega), gI_sI, if_pos rfl]
        have I67 : gI s9 67 = (ks : Int) := by rw [← hs9, gI_sI, if_neg (by omega), gI_sI, if_neg (by omega)]; exact n1
        have I68 : gI s9 68 = ((ts + 1 : Nat) : Int) := by rw [← hs9, gI_sI, if_pos rfl]; omega
        obtain ⟨hW, hG, hK, hS, hcn, hXS, hXT, hXK, hKK⟩ := hE
        obtain ⟨f1, f2⟩ := hC.2.2.2.2.2.1 t htH
        obtain ⟨X1, X2⟩ := hXS t f2
        have hx9 : x ≤ nT s9 := by rw [e9.1.n]; exact x3
        have ex9 : trT ν s9 x = t := by rw [e9.1.tr]; exact x4
        have hl9 : LimTH ν s9 S X l1.1 := LimTH.up (H2 := []) hl1 (by rw [List.append_nil]; exact U9.ux) |> fun q => by rw [List.append_nil] at q; exact q
        have hr9 : hT s9 = hT u1 := U9.2.2.2.1
        rw [ld_nat (by omega), N55]
        refine wp_call (tX3_typeOf (X := xt X l1.1) (by omega) w9 C9.1 hW x2 hx9 (by rw [ex9]; exact f1) (by omega) (by rw [ex9]; exact X1.mono (xt_at h100 htH)) (hl9.l C9)) (fun v u2 ⟨y, v1, v2, v3, v4, v5, v6, v7⟩ => ?_)
        rw [v1]
        rw [ex9] at v4
        have hw2 := (TwR.rf (X := X) C9 trivial).st v5 v6 v7 (by decide +kernel) (by decide +kernel) (by decide +kernel)
        have hr2 : hT u2 = hT s9 := v5.2.2.2.1
        refine wp_call (tX3_hasType (X := X) (i0 := ts) (y := y) (K := K) (B := B) (by omega) ⟨hW, hG, hK, hS, hcn, hXS, hXT, hXK, hKK⟩ hw2.2.1 h100 gi v2 v3 (by rw [v4]; exact ty_ok hW f1) (by rw [v4]; exact ht_ty hW hcn f1 (hC.ht h100 htH)) (by rw [v4]; exact hS.1.2.2.2.1 t f2) (by rw [v4]; exact X2) (by rw [v4]; exact ALM_self htH) (by omega) (hw2.lm hl9)) (fun _ u3 ⟨l3, q1, q2⟩ => ?_)
        rw [v4] at q2
        have q1 := hw2.seq q1 (fun _ _ _ => (trivial : True))
        refine ih f u3 l3 ks (ts + 1) (by omega) (by omega) ?_
        obtain ⟨a1, a2, a3, a4, a5, a6⟩ := hw
        have hm := ms_le q1
        have hlen := q1.len
        refine ⟨a1.tr q1.1, q1.2.1, ?_, (a4.tr G9).tr (q1.2.2.2.1.sub (by decide +kernel)), ⟨by rw [q1.2.2.2.1.I 67 (by decide +kernel)]; exact I67, by rw [q1.2.2.2.1.I 68 (by decide +kernel)]; exact I68, n3, by omega, fun q => ⟨fun i f hi hf => (s1 i f hi hf).mono q1.1, fun i t' hi ht => ?_⟩⟩, Or.inr ⟨?_, ?_⟩⟩
        · have g3 := q1.2.2.1
          obtain ⟨⟨a, ha⟩, _⟩ := q1.1
          rw [ha] at g3 ⊢
          exact (a3.join U9).jnx g3
        · have gi2 : l1.1[i]? = some l1.1[i] := List.getElem?_eq_getElem (by omega)
          have e := q1.1.at gi2
          rw [ht] at e
          rw [← Option.some.inj e] at gi2
          by_cases hik : i = ts
          · rw [hik, gi] at gi2
            rw [← Option.some.inj gi2]
            exact q2 q
          · exact (s2 i t' (by omega) gi2).mono q1.1.fs
        · rcases q1.2.2.2.2 with ⟨_, z, _⟩ | ⟨z, _⟩
          · rw [z]; exact I66
          · exact z
        · rcases a6 with ⟨z1, z2, z3, _⟩ | ⟨_, z⟩
          · rw [← z1]; omega
          · omega
    rw [bX3_takeIn_L0, wp_jn, wp_un, n1, wp_un, hk1.1.1]
    refine wp_ite (fun h1 => go (Or.inl (by omega))) (fun h1 => ?_)
    rw [wp_un, n2, wp_un, hH.1.1]
    refine wp_ite (fun h2 => go (Or.inr (by omega))) (fun h2 => (k u1 l1 ks ts hw (fun _ => ⟨by omega, by omega⟩)).1)
theorem tX3_takeIn {d : Nat} (hd : 903 ≤ d) {ν : Nat → Nat} {c : Nat} {W : Wd} {S : Fs} {X : XFm} {K B : Nat → Prop} {Kl : List Nat} {u : Sg} {l : Ls} {ks ts : Nat} (hE : EnT ν c W S X Kl K B) (hKh : ∀ f ∈ Kl, htT f ≤ 800) (hkn : KnT ν u Kl) (hr : hT u ≤ 26000) (hl : LimTH ν u S X l.1) (hC : CaT ν c W S Kl u l) (hn : SnT W Kl u l ks ts) :
    wp (runT d 68 [] u) (fun _ u' => ∃ l1 ks' ts', ClT ν c W S X Kl u l ks ts True u' l1 ks' ts' ∧ (l1.1.length ≤ 100 → ks' = Kl.length ∧ ts' = l1.1.length)) := by
  obtain ⟨d, rfl⟩ : ∃ d', d = d' + 1 := ⟨d - 1, by omega⟩
  rw [runT_eq (by omega)]
  show wp (bX3_takeIn (runT d) u) _
  unfold bX3_takeIn
  have h25 := hE.2.2.1.1
  refine takeIn_L0 (by omega) hE hKh hC.1.1 hkn hr hl (fun u2 l2 ks' ts' q1 q2 => ?_) 3000 KF u l ks ts (by omega) (Nat.lt_of_le_of_lt (by omega : _ ≤ 300000) KF_300) (ClT.rf hC hn trivial)
  rw [wp_some]
  exact ⟨⟨l2, ks', ts', q1, q2⟩, l2, ks', ts', q1, q2⟩
