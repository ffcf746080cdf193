section MQ
variable {Mq : MqT}
/-- the arrays of a case are in order -/
def ArrT (Mq : MqT) (u : Sg) : Prop := (∀ k, k = 17 ∨ k = 18 ∨ k = 49 ∨ k = 51 ∨ k = 52 ∨ k = 53 ∨ k = 55 ∨ k = 56 ∨ k = 59 ∨ k = 60 ∨ k = 61 ∨ k = 63 ∨ k = 64 ∨ k = 69 ∨ k = 73 ∨ k = 74 ∨ k = 77 → 16 ≤ gL u k) ∧ (∀ k, k = 51 ∨ k = 52 ∨ k = 53 ∨ k = 74 ∨ k = 77 → gL u k ≤ 300000) ∧ (∀ k, k = 51 ∨ k = 52 ∨ k = 77 → ∀ i, i < gL u k → gN u k i ≤ gI u 54) ∧ (0 ≤ gI u 76 ∧ gI u 76 ≤ 2000000000 ∧ ∀ i, i < gL u 74 → gN u 74 i ≤ gI u 76) ∧ MaT Mq u
def EndT (Mq : MqT) (W : Wd) (ν0 : Nat → Nat) (c0 : Nat) (u0 u : Sg) : Prop := ∃ ν c, TW ν c W u ∧ WF FT u ∧ ArrT Mq u ∧ UNT ν0 u0 ν u (fun _ => True) ∧ NuX ν0 c0 ν c ∧ gI u 76 ≤ gI u0 76 + 17
theorem arr_ofT {ν : Nat → Nat} {c c0 : Nat} {W : Wd} {S : Fs} {Kl Kn Nl Ol : List Nat} {l : Ls} {b58 : Int} {u : Sg} (hC : CaT ν c W S Kl u l) (hR : KsT Mq ν c c0 Kn Nl Ol b58 u) : ArrT Mq u := by
  obtain ⟨h1, h2, ⟨⟨⟨a1, a2, a3, a4, a5, a6⟩, ⟨b1, b2, b3, b4⟩, c3, c4, c5, c6⟩, h3b⟩, ⟨⟨m1, m2, m3, m4, m5, m6, m7⟩, m8⟩, ⟨⟨j1, j2, j3, j4, j5⟩, j6⟩, h6⟩ := hC
  obtain ⟨⟨⟨k1, k2, k3⟩, ⟨k4, k5⟩, k6, k7, k8⟩, ⟨r1, ⟨r2, r3⟩, r4⟩, ⟨⟨⟨o1, o2⟩, o3, o4⟩, o5⟩, q1, q2, ⟨q3, q4⟩, ⟨p1, ⟨p2, p3⟩, ⟨p4, p5⟩, p6⟩⟩ := hR
  refine ⟨fun k hk => ?_, fun k hk => ?_, fun k hk i hi => ?_, ⟨p4, p5, p6⟩, q2⟩
  · rcases hk with q | q | q | q | q | q | q | q | q | q | q | q | q | q | q | q | q <;> (subst q; assumption)
  · rcases hk with q | q | q | q | q <;> (subst q; assumption)
  · rcases hk with q | q | q
    · subst q; exact (k8 i hi).1
    · subst q; exact (c5 i hi).1
    · subst q; exact (o3 i hi).1
theorem RkT.ks {ν : Nat → Nat} {c : Nat} {W : Wd} {S : Fs} {X : Nat → Prop} {Kl : List Nat} {l : Ls} {Kn Cl Gl Nl Ol : List Nat} {c0 fi : Nat} {ν0 : Nat → Nat} {u0 u : Sg} (h : RkT Mq ν c W S X Kl l Kn Cl Gl Nl Ol c0 fi ν0 u0 u) (h76 : 0 ≤ gI u 76 ∧ gI u 76 ≤ 2000000000) : KsT Mq ν c c0 Kn Nl Ol (fi : Int) u := ⟨h.2.1, h.2.2.2.1, h.2.2.2.2.1, h.2.2.2.2.2.2.1, h.2.2.2.2.2.2.2.1, h.2.2.2.2.2.2.2.2, h.2.2.1.com h76⟩
def RfQT (Mq : MqT) (W : Wd) (A : Nat → Prop) (n : Nat) (Kn Ol : List Nat) (ν0 : Nat → Nat) (c0 : Nat) (u0 : Sg) (r : Int) (u' : Sg) : Prop := RefS W A n (fun f => f ∈ Kn) (fun f => f ∈ Ol) r ∧ EndT Mq W ν0 c0 u0 u'
/-- at the head of a round -/
def LpT (Mq : MqT) (W : Wd) (A : Nat → Prop) (X : XFm) (c0 fi : Nat) (ν0 : Nat → Nat) (u0 : Sg) (ν : Nat → Nat) (c : Nat) (Kn Nl Ol : List Nat) (l : Ls) (ks ts : Nat) (u : Sg) : Prop :=
  CaT ν c W (facS W (fun f => f ∈ Kn) (fun f => f ∈ Ol)) Kn u l ∧ KsT Mq ν c c0 Kn Nl Ol (fi : Int) u ∧ SnT W Kn u l ks ts ∧ UNT ν0 u0 ν u (xt X l.1) ∧ (WOK W (NT ν c) ∧ WGK W (NT ν c) ∧ NuX ν0 c0 ν c ∧ ∀ n, NT ν c n → htT (wcT W n) ≤ 700) ∧ (c = c0 + Ol.length ∧ Ol.Nodup ∧ (∀ f ∈ Ol, NT ν c (2 * f + 1)) ∧ ∀ f ∈ Ol, f ∈ Kn) ∧ (Kn.length ≤ 2500 ∧ ∀ f ∈ Kn, htT f ≤ 701) ∧ (Nl.length = Ol.length ∧ ∀ b, b ∈ Nl ↔ newc (fun f => f ∈ Ol) b) ∧ (l.1.length ≤ 100 → fi ≤ l.1.length ∧ (∀ t, (∃ i, i < fi ∧ l.1[i]? = some t) ↔ A t) ∧ ∀ b ∈ Nl, b ∈ l.1)
/-- how many terms an ALL is put to -/
theorem few_terms {ν ν0 : Nat → Nat} {c c0 fi : Nat} {W : Wd} {A : Nat → Prop} {Nl Ol : List Nat} {l : Ls} (hnd : l.1.Nodup) (hle : l.1.length ≤ 100) (hfi : fi ≤ l.1.length) (hA : ∀ t, (∃ i, i < fi ∧ l.1[i]? = some t) ↔ A t) (hA0 : ∀ t, A t → cltm W (NT ν0 c0) t) (hN : NuX ν0 c0 ν c) (hNo : NmOT ν c c0 Ol) (hOn : Ol.Nodup) (hNl : Nl.length = Ol.length) (hNm : ∀ b, b ∈ Nl ↔ newc (fun f => f ∈ Ol) b) (hin : ∀ b ∈ Nl, b ∈ l.1) : fi + Nl.length ≤ 100 := by
  have hnd2 : (l.1.take fi ++ Ol.map (fun f => mk 1 (2 * f + 1) [])).Nodup := by
    refine List.nodup_append.mpr ⟨hnd.sublist (List.take_sublist _ _), ?_, fun a ha b hb e => ?_⟩
    · refine List.Pairwise.map _ (fun a b hab => ?_) hOn
      intro e
      have := congrArg wh e
      rw [wh_mk, wh_mk] at this
      exact hab (by omega)
    · obtain ⟨f, f1, f2⟩ := List.mem_map.mp hb
      obtain ⟨j, hj⟩ := List.getElem?_of_mem ha
      rw [List.getElem?_take] at hj
      by_cases hjf : j < fi
      · rw [if_pos hjf] at hj
        have hAa := (hA a).mp ⟨j, hjf, hj⟩
        have hc := hA0 a hAa
        have hk : kd a = 1 := by rw [e, ← f2, kd_mk]
        obtain ⟨i, i0, i1, i2⟩ := (hc.1.2 a (sub_rf a)).1 hk
        have hw : wh a = 2 * f + 1 := by rw [e, ← f2, wh_mk]
        have h1 := (hNo i i0 (Nat.lt_of_lt_of_le i1 hN.1)).1 i1
        rw [hN.2 i i1] at h1
        omega
      · rw [if_neg hjf] at hj; cases hj
  have := nd_lenL _ l.1 hnd2 (fun t ht => by
    rcases List.mem_append.mp ht with z | z
    · exact List.mem_of_mem_take z
    · obtain ⟨f, f1, f2⟩ := List.mem_map.mp z
      exact hin t ((hNm t).mpr ⟨f, f1, f2.symm⟩))
  rw [List.length_append, List.length_take, List.length_map] at this
  omega
theorem case_step {d : Nat} {W : Wd} {A : Nat → Prop} {X : XFm} {B c0 fi n fu : Nat} {ν0 : Nat → Nat} {u0 : Sg} {ν : Nat → Nat} {c : Nat} {u : Sg} {Kn Nl Ol : List Nat} {l : Ls} {ks ts : Nat} (hd : 1700 ≤ d) (hB : B ≤ 300) (hr0 : hT u0 ≤ 20000) (hWc : ∀ f, wcT W (2 * f + 1) = pa (pa f 0) 0) (hc0 : c0 ≤ 3000) (hA0 : ∀ t, A t → cltm W (NT ν0 c0) t) (h76 : 0 ≤ gI u0 76 ∧ gI u0 76 ≤ 1900000000) (hn : n ≤ 16) (hfu : n < fu) (hL : LpT Mq W A X c0 fi ν0 u0 ν c Kn Nl Ol l ks ts u) (hK : KOK W (NT ν0 c0) B (fun f => f ∈ Kn) (fun f => f ∈ Ol)) (hX : RfTX W A X ν0 u0 n (fun f => f ∈ Kn) (fun f => f ∈ Ol)) (h7 : gI u 76 + (n : Int) + 1 ≤ gI u0 76 + 17) (hrec : ∀ n', n = n' + 1 → ∀ (fu : Nat) (ν : Nat → Nat) (c : Nat) (u : Sg) (Kn Nl Ol : List Nat) (l : Ls) (ks ts : Nat), n' < fu → LpT Mq W A X c0 fi ν0 u0 ν c Kn Nl Ol l ks ts u → KOK W (NT ν0 c0) B (fun f => f ∈ Kn) (fun f => f ∈ Ol) → RfTX W A X ν0 u0 n' (fun f => f ∈ Kn) (fun f => f ∈ Ol) → gI u 76 + (n' : Int) + 1 ≤ gI u0 76 + 17 → wp (bX3_caseOf_L100 (runT d) fu ((17 - n' : Nat) : Int) u (fun s => some (2, s)) (fun s => some (1, s)) (fun s => some (0, s)) (fun s => some (2, s))) (RfQT Mq W A n' Kn Ol ν0 c0 u0)) : wp (bX3_caseOf_L100 (runT d) fu ((17 - n : Nat) : Int) u (fun s => some (2, s)) (fun s => some (1, s)) (fun s => some (0, s)) (fun s => some (2, s))) (RfQT Mq W A n Kn Ol ν0 c0 u0) := by
  obtain ⟨fu, rfl⟩ : ∃ f', fu = f' + 1 := ⟨fu - 1, by omega⟩
  obtain ⟨hC, hR, hsn, hU, ⟨hW, hG, hN, hct⟩, ⟨ec, hOn, hOm, hOK⟩, ⟨hKl, hht⟩, ⟨hNl, hNm⟩, hfirst⟩ := hL
  obtain ⟨xs, lim, xn⟩ := RfTX.eq _ _ _ _ _ _ _ _ hX
  obtain ⟨hKO, hKf⟩ := hK.klT hN hOm hKl
  have hClo : Clo W (fun f => f ∈ Kn) (newc (fun f => f ∈ Ol)) (facS W (fun f => f ∈ Kn) (fun f => f ∈ Ol)) := Der_clo _ _ _
  have hE : EnT ν c W (facS W (fun f => f ∈ Kn) (fun f => f ∈ Ol)) X Kn (fun f => f ∈ Kn) (newc (fun f => f ∈ Ol)) := ⟨hW, hG, hKO, hClo, hct, xs.1, xs.2.1, fun f hf h14 => xs.2.2.1 f hf h14, fun f hf => hf⟩
  have hs := hC.1.1
  have hhu : hT u = hT u0 := hU.2.2.2.1
  have h76u := hR.2.2.2.2.2.2.2.2.1
  rw [bX3_caseOf_L100]
  refine wp_call (tX3_closing (X := X) (by omega) hE (fun f hf => by have := hht f hf; omega) hR.1 (by omega) (lim.h hU) hC hsn) (fun r u1 ⟨l1, ks1, ts1, e1, C1, U1, g1, n1, hcase⟩ => ?_)
  have hR1 := hR.fr hs U1.ux g1 (by decide +kernel)
  have i76 : gI u1 76 = gI u 76 := g1.I 76 (by decide +kernel)
  obtain ⟨H2, eH⟩ := e1.1
  have hU1 : UNT ν0 u0 ν u1 (xt X l1.1) := (hU.mon (fun z hz => Or.inr (by rw [eH]; exact xt_mono z hz))).tr (U1.un hs (g1.I 54 (by decide +kernel)))
  have hH1 : HaT ν u1 l1.1 l1.2.1 := C1.2.2.1.1
  have endT : ∀ (u' : Sg) (ν' : Nat → Nat) (c' : Nat) (S' : Fs) (Kl' Kn' Nl' Ol' : List Nat) (l' : Ls) (Y : Nat → Prop) (b58 : Int), CaT ν' c' W S' Kl' u' l' → KsT Mq ν' c' c0 Kn' Nl' Ol' b58 u' → UNT ν0 u0 ν' u' Y → NuX ν0 c0 ν' c' → gI u' 76 ≤ gI u0 76 + 17 → EndT Mq W ν0 c0 u0 u' := fun u' ν' c' S' Kl' Kn' Nl' Ol' l' Y b58 q1 q2 q3 q4 q5 => ⟨ν', c', q1.1, q1.2.1, arr_ofT q1 q2, q3.mon (fun _ _ => Or.inr trivial), q4, q5⟩
  rw [wp_un, hH1.1.1]
  by_cases hle : l1.1.length ≤ 100
  · rw [if_pos (by omega)]
    have hall := (hcase.resolve_left (fun q => by omega)).2
    obtain ⟨f1, f2, f3⟩ := hfirst (by have := e1.len; omega)
    have hBin : ∀ b, newc (fun f => f ∈ Ol) b → b ∈ l1.1 := fun b hb => e1.H (f3 b ((hNm b).mpr hb))
    have eF : FsQ l1 = facS W (fun f => f ∈ Kn) (fun f => f ∈ Ol) := ClTE.eq hW C1 hle hBin hall
    have hHc : ∀ t ∈ l1.1, cltm W (NT ν c) t := fun t ht => (C1.2.2.2.2.2.1 t ht).1
    have fA : ∀ t, (∃ i, i < fi ∧ l1.1[i]? = some t) ↔ A t := ExC.pre (l := l) ⟨H2, eH⟩ f1 f2
    have ffi : fi ≤ l1.1.length := by have := e1.len; omega
    have eT : tT l1 fi = Tof A (fun f => f ∈ Ol) := tTT_of hHc hR1.2.2.1.2 fA hBin
    have hnm : ¬ manyS (facS W (fun f => f ∈ Kn) (fun f => f ∈ Ol)) := fun ⟨L, q1, q2, q3⟩ => by
      have := nd_lenL L l1.1 q1 (fun t ht => by have := q3 t ht; rw [← eF] at this; exact this)
      omega
    obtain ⟨xA, xB⟩ := xs.2.2.2 hnm
    have hinH : ∀ f ∈ Kn, inHd f l1.1 := fun f hf => (hall.1 f hf).1
    have hht5 : ∀ f ∈ Kn, htT f ≤ 500 := fun f hf => by
      have := form_ht (m := 200) f (hKO.2 f hf).1.1 (fun s q1 q2 q3 => C1.ht hle (hinH f hf s q1 q2 q3))
      have h1 := htQ_sz f (isFo_pos (hKf f hf).1)
      have h2 := (hKf f hf).2
      omega
    have hh1 : hT u1 = hT u0 := hU1.2.2.2.1
    have hl1 : LimT ν u1 (xt X l1.1) := (lim.h hU1).l C1
    refine wp_call (tX3_contra (X := xt X l1.1) hW hG hKO (fun f hf => by have := hht5 f hf; omega) hinH ⟨C1, hR1.1⟩ (by omega) (fun f hf s q1 q2 p hp => xt_1 (xA f hf s q1 q2 p hp)) hl1 (by omega)) (fun r2 u2 ⟨w1, w2, w3, w4⟩ => ?_)
    rw [eF] at w1
    have hs1 := C1.1.1
    have C2 : CaT ν c W (facS W (fun f => f ∈ Kn) (fun f => f ∈ Ol)) Kn u2 l1 := C1.upD w2.ux w3 w4 (by decide +kernel)
    have hR2 := hR1.fr hs1 w2.ux w4 (by decide +kernel)
    have i76' : gI u2 76 = gI u 76 := by rw [w4.I 76 (by decide +kernel)]; exact i76
    have hU2 : UNT ν0 u0 ν u2 (xt X l1.1) := hU1.tr (w2.un hs1 (w4.I 54 (by decide +kernel)))
    have n2 : SnT W Kn u2 l1 ks1 ts1 := n1.up (exL.rf l1) (w4.I 67 (by decide +kernel)) (w4.I 68 (by decide +kernel))
    rcases w1 with ⟨v1, v2⟩ | ⟨v1, v2⟩
    · rw [v1, if_neg (by decide), wp_some]
      refine ⟨?_, endT u2 ν c _ _ _ _ _ _ _ _ C2 hR2 hU2 hN (by omega)⟩
      rw [RefS.eq]
      exact Or.inr ⟨hnm, Or.inl ⟨v2, rfl⟩⟩
    · rw [v1, if_pos rfl, wp_un, hR2.1.1.1, wp_un, hR2.2.1.1]
      obtain ⟨xB1, xB2⟩ := xB v2
      have hH2 : HaT ν u2 l1.1 l1.2.1 := C2.2.2.1.1
      have hh2 : hT u2 = hT u0 := hU2.2.2.2.1
      have hOl : Ol.length ≤ 2500 := by have := nd_lenL Ol Kn hOn hOK; omega
      have ecm : ∀ g, cmeS (FsQ l1) (fun f => f ∈ Kn) (tT l1 fi) (fun f => f ∈ Ol) g ↔ comS W A (fun f => f ∈ Kn) (fun f => f ∈ Ol) g := fun g => by
        rw [eF, eT]; exact Iff.rfl
      have emk : mkF (FsQ l1) (fun f => f ∈ Kn) (tT l1 fi) (fun f => f ∈ Ol) = mkF (facS W (fun f => f ∈ Kn) (fun f => f ∈ Ol)) (fun f => f ∈ Kn) (Tof A (fun f => f ∈ Ol)) (fun f => f ∈ Ol) := by rw [eF, eT]
      have hlR : LimRT ν u2 (xt X l1.1) Kn (cmeS (FsQ l1) (fun f => f ∈ Kn) (tT l1 fi) (fun f => f ∈ Ol)) (mkF (FsQ l1) (fun f => f ∈ Kn) (tT l1 fi) (fun f => f ∈ Ol)) := fun C y1 y2 y4 y3 => by
        rw [emk] at y2
        have := lim l1.1 hH2.2.2.1 hle (fun t ht => (C2.2.2.2.2.2.1 t ht).2) C y1 y2 (y4.imp (fun g0 q g hg => (q g hg).imp (ecm g).mp id)) (y3.imp (fun q L z1 z2 => by have := nd_lenL L Kn z1 z2; omega) id) (Or.inr ⟨hnm, v2⟩)
        have exx : xt X l1.1 = xf X l1.1 := by unfold xt; rw [List.take_of_length_le hle]
        rw [exx] at hU2 ⊢
        exact fun l' hn' hm => this l' hn' (fun t ht => (hm t ht).elim (fun z => (hU2.2.2.1 t z).imp id Or.inl) Or.inr)
      have hXR : XRd (xt X l1.1) Kn Ol := ⟨fun f hf s q1 q2 p hp => xt_1 (xA f hf s q1 q2 p hp), fun f hf k k2 q => ⟨xt_1 (xB1 f hf k k2 q).1, xt_1 (xB1 f hf k k2 q).2⟩⟩
      have hfn := few_terms hH2.2.2.1 hle ffi fA hA0 hN hR2.2.2.1.2 hOn hNl hNm (fun b hb => e1.H (f3 b hb))
      have hN0 : ∀ t, t ∈ Nl ↔ (t ∈ l1.1 ∧ kd t = 1 ∧ wh t % 2 = 1) := fun t => by
        rw [hNm t]
        constructor
        · intro q
          have hm := hBin t q
          obtain ⟨f, _, f2'⟩ := q
          exact ⟨hm, by rw [f2', kd_mk], by rw [f2', wh_mk]; omega⟩
        · intro q
          have h1 : tT l1 fi t := Or.inr q
          rw [eT] at h1
          rcases h1 with h1 | h1
          · exfalso
            have hc := hA0 t h1
            obtain ⟨i, i0, i1, i2⟩ := (hc.1.2 t (sub_rf t)).1 q.2.1
            have h3 := (hR2.2.2.1.2 i i0 (Nat.lt_of_lt_of_le i1 hN.1)).1 i1
            rw [hN.2 i i1] at h3
            omega
          · exact h1
      refine wp_call (gX3_brings w3 ⟨by omega, by omega⟩ ⟨by omega, by omega⟩ (tX3_brings (X := xt X l1.1) (fi := fi) (c0 := c0) (O0 := Ol) (N0 := Nl) hlR (by omega) hXR hWc (fun f hf => ⟨(hKf f hf).1, by have := (hKf f hf).2; omega, by have := hht5 f hf; omega, by have h1 := htQ_sz f (isFo_pos (hKf f hf).1); have h2 := (hKf f hf).2; omega⟩) (by omega) hc0 hOl ffi hfn hN0 ⟨C2, hR2.1⟩ hR2.2.1 hR2.2.2.1.1 hR2.2.2.1.2 hR2.2.2.2.1 hR2.2.2.2.2.1 hR2.2.2.2.2.2.1 hR2.2.2.2.2.2.2 (by omega) hW hG hKO ec hOn hOm)) (fun r3 u3 ⟨h3, gB, _, _⟩ => ?_)
      obtain ⟨ν', c', C, Gl, Bl, Ol', q1, q2, q3, ⟨q4, q5⟩, ⟨q6, q7, q8, q9, q10⟩, ⟨q11, q12, q13, q14⟩, q15, q16, q17, q18⟩ := h3
      have b76 : 0 ≤ gI u3 76 ∧ gI u3 76 ≤ 2000000000 := by omega
      have hR3 := q1.ks b76
      have hC3 := q1.1
      have hU3 := q1.2.2.2.2.2.1
      have hN' : NuX ν0 c0 ν' c' := hN.tr q3
      have hU3' : ∀ Y : Nat → Prop, (∀ z, xt X l1.1 z → Y z) → (∀ z, Xc (xt X l1.1) Gl z → Y z) → UNT ν0 u0 ν' u3 Y := fun Y y1 y2 => (hU2.mon (fun z hz => Or.inr (y1 z hz))).tr (hU3.mon (fun z hz => Or.inr (y2 z hz)))
      rw [wp_un, hR3.1.1.1, List.length_append]
      by_cases hC0 : C = []
      · rw [if_pos (by rw [hC0]; simp), wp_some]
        refine ⟨?_, endT u3 ν' c' _ _ _ _ _ _ _ _ hC3 hR3 (hU3' (fun _ => True) (fun _ _ => trivial) (fun _ _ => trivial)) hN' (by omega)⟩
        rw [RefS.eq]
        refine Or.inr ⟨hnm, Or.inr ⟨v2, Or.inl ⟨fun g hg => ?_, rfl⟩⟩⟩
        have := (q18.resolve_right (fun q => q.1 hC0)).1 g ((ecm g).mpr hg)
        rw [hC0] at this
        exact this.resolve_right (fun q => by cases q)
      · have hCpos : 0 < C.length := List.length_pos_iff.mpr hC0
        rw [if_neg (by omega)]
        have hnew1 : ∃ g, comS W A (fun f => f ∈ Kn) (fun f => f ∈ Ol) g ∧ ¬ g ∈ Kn := by
          obtain ⟨g, hg'⟩ := List.exists_mem_of_ne_nil C hC0
          exact ⟨g, (ecm g).mp (q13 g hg').1, (q13 g hg').2⟩
        have hndK : Kn.Nodup := hR2.1.2.2.1
        have hndKC : (Kn ++ C).Nodup := List.nodup_append.mpr ⟨hndK, q11, fun a ha b hb e => (q13 b hb).2 (by rw [← e]; exact ha)⟩
        have hKCnx : ∀ f ∈ Kn ++ C, nxK W A (fun f => f ∈ Kn) (fun f => f ∈ Ol) f := fun f hf => (List.mem_append.mp hf).elim Or.inl (fun z => Or.inr ((ecm f).mp (q13 f z).1))
        have hover : 400 < Kn.length + C.length → overS (nxK W A (fun f => f ∈ Kn) (fun f => f ∈ Ol)) := fun hgt => ⟨(Kn ++ C).take 401, hndKC.sublist (List.take_sublist _ _), by rw [List.length_take, List.length_append]; omega, fun t ht => hKCnx t (List.mem_of_mem_take ht)⟩
        have hsubF : subF (facS W (fun f => f ∈ Kn) (fun f => f ∈ Ol)) (facS W (fun f => f ∈ Kn ++ C) (fun f => f ∈ Ol')) := Der_mono (fun f hf => List.mem_append_left _ hf) (fun b ⟨f, f1', f2'⟩ => ⟨f, q17 f f1', f2'⟩)
        have hClo' : Clo W (fun f => f ∈ Kn ++ C) (newc (fun f => f ∈ Ol')) (facS W (fun f => f ∈ Kn ++ C) (fun f => f ∈ Ol')) := Der_clo _ _ _
        have hC4 := CaT.mono hC3 hsubF (fun f hf => List.mem_append_left C hf)
        have hNm' : ∀ b, b ∈ Nl ++ Bl ↔ newc (fun f => f ∈ Ol') b := fun b => by
          rw [List.mem_append, hNm b, q15 b]
          constructor
          · rintro (⟨f, a1, a2⟩ | ⟨f, a1, _, a3⟩)
            · exact ⟨f, q17 f a1, a2⟩
            · exact ⟨f, a1, a3⟩
          · rintro ⟨f, a1, a2⟩
            by_cases z : f ∈ Ol
            · exact Or.inl ⟨f, z, a2⟩
            · exact Or.inr ⟨f, a1, z, a2⟩
        have n3 : SnT W (Kn ++ C) u3 l1 ks1 ts1 := (n2.up (exL.rf l1) (gB.I 67 (by decide +kernel)) (gB.I 68 (by decide +kernel))).kl
        have hEE' : ∀ s, fH (facS W (fun f => f ∈ Kn ++ C) (fun f => f ∈ Ol')) s → fE (facS W (fun f => f ∈ Kn ++ C) (fun f => f ∈ Ol')) s s := hClo'.2.1.1
        have hNc : ∀ b ∈ Nl ++ Bl, cltm W (NT ν' c') b ∧ kd b = 1 ∧ fH (facS W (fun f => f ∈ Kn ++ C) (fun f => f ∈ Ol')) b := fun b hb => by
          have hnb := (hNm' b).mp hb
          obtain ⟨f, a1, a2⟩ := id hnb
          rw [a2]
          exact ⟨const_ok (q8 f a1), kd_mk _ _ _, hClo'.1.2.1 _ (by rw [← a2]; exact hnb)⟩
        have hNbl : (Nl ++ Bl).length ≤ 20000 := by rw [List.length_append]; omega
        have hpre : ∀ j b, j < Nl.length → (Nl ++ Bl)[j]? = some b → l1.1.length ≤ 100 → b ∈ l1.1 ∨ b ∈ l1.1 := fun j b hj hb _ => by
          rw [List.getElem?_append_left hj] at hb
          exact Or.inl (e1.H (f3 b (List.mem_of_getElem? hb)))
        by_cases hgt : 400 < Kn.length + C.length
        · -- more than 400
          refine case_L159 (X := (fun _ => True, fun _ _ => True)) (b76 := gI u3 76) (ν0 := ν0) (u0 := u0) (l0 := l1) (by omega) hEE' hNc hNbl Bl.length Nl.length KF u3 l1 (by rw [List.length_append]) (Nat.lt_of_le_of_lt (by omega : _ ≤ 300000) KF_300) (exL.rf l1) hC4 hR3 n3 (hU3' _ (fun _ _ => Or.inl trivial) (fun _ _ => Or.inl trivial)) rfl hpre _ (fun u4 l4 y1 y2 y3 y4 y5 y6 y7 => ?_)
          have hres : RfQT Mq W A n Kn Ol ν0 c0 u0 2 u4 := by
            refine ⟨?_, endT u4 ν' c' _ _ _ _ _ _ _ _ y2 y3 y5 hN' (by omega)⟩
            rw [RefS.eq]
            exact Or.inr ⟨hnm, Or.inr ⟨v2, Or.inr ⟨hnew1, Or.inl ⟨hover hgt, rfl⟩⟩⟩⟩
          refine wp_ite (fun _ => by rw [wp_some]; exact hres) (fun _ => ?_)
          rw [wp_un, y3.1.1.1, List.length_append]
          rw [if_neg (by omega), wp_some]
          exact hres
        · obtain ⟨p1, p2⟩ := q18.resolve_right (fun q => hgt q.2)
          have eK : (fun f => f ∈ Kn ++ C) = nxK W A (fun f => f ∈ Kn) (fun f => f ∈ Ol) := by
            funext g
            refine propext ⟨hKCnx g, fun z => ?_⟩
            by_cases y : g ∈ Kn
            · exact List.mem_append_left _ y
            · exact List.mem_append_right _ ((p1 g ((ecm g).mpr (z.resolve_left y))).resolve_left y)
          have eO : (fun f => f ∈ Ol') = nxO (fun f => f ∈ Kn) (fun f => f ∈ Ol) := by
            funext g
            exact propext ⟨q16 g, fun z => z.elim (q17 g) (fun w => p2 g w.1 w.2.1 w.2.2)⟩
          have hno : ¬ overS (nxK W A (fun f => f ∈ Kn) (fun f => f ∈ Ol)) := fun ⟨L, z1, z2, z3⟩ => by
            have := nd_lenL L (Kn ++ C) z1 (fun t ht => by have := z3 t ht; rw [← eK] at this; exact this)
            rw [List.length_append] at this
            omega
          have hres : ∀ r, ((n = 0 ∧ r = 2) ∨ ∃ n', n = n' + 1 ∧ RefS W A n' (fun f => f ∈ Kn ++ C) (fun f => f ∈ Ol') r) → RefS W A n (fun f => f ∈ Kn) (fun f => f ∈ Ol) r := fun r z => by
            rw [RefS.eq]
            rw [eK, eO] at z
            exact Or.inr ⟨hnm, Or.inr ⟨v2, Or.inr ⟨hnew1, Or.inr ⟨hno, z⟩⟩⟩⟩
          have hU4 : UNT ν0 u0 ν' u3 (xt X l1.1) := hU3' _ (fun _ q => q) (fun z hz => hz.elim id (fun ⟨g, y1, y2⟩ => xt_1 (xB2 hno g ((ecm g).mp (q13 g (q14 g y1)).1) (q13 g (q14 g y1)).2 z y2)))
          refine case_L159 (X := X) (b76 := gI u3 76) (ν0 := ν0) (u0 := u0) (l0 := l1) (by omega) hEE' hNc hNbl Bl.length Nl.length KF u3 l1 (by rw [List.length_append]) (Nat.lt_of_le_of_lt (by omega : _ ≤ 300000) KF_300) (exL.rf l1) hC4 hR3 n3 hU4 rfl hpre _ (fun u4 l4 y1 y2 y3 y4 y5 y6 y7 => ?_)
          refine wp_ite (fun h17 => ?_) (fun h17 => ?_)
          · rw [wp_some]
            exact ⟨hres 2 (Or.inl ⟨by omega, rfl⟩), endT u4 ν' c' _ _ _ _ _ _ _ _ y2 y3 y5 hN' (by omega)⟩
          · rw [wp_un, y3.1.1.1, List.length_append, if_pos (by omega), wp_ar]
            refine ⟨⟨by omega, by omega⟩, ?_⟩
            obtain ⟨n', en⟩ : ∃ n', n = n' + 1 := ⟨n - 1, by omega⟩
            rw [show ((17 - n : Nat) : Int) + 1 = ((17 - n' : Nat) : Int) by omega]
            have hK' : KOK W (NT ν0 c0) B (fun f => f ∈ Kn ++ C) (fun f => f ∈ Ol') := by
              rw [eK, eO]
              exact hK.step (fun t ht => (hA0 t ht).mono (fun m hm => Or.inl hm))
            have hX' : RfTX W A X ν0 u0 n' (fun f => f ∈ Kn ++ C) (fun f => f ∈ Ol') := by
              rw [eK, eO]
              exact xn hnm v2 hnew1 hno n' en
            have hOK' : ∀ f ∈ Ol', f ∈ Kn ++ C := fun f hf => List.mem_append_left _ ((q16 f hf).elim (hOK f) (fun z => z.1))
            have hlen' : (Kn ++ C).length ≤ 2500 := by rw [List.length_append]; omega
            have hct' : ∀ m, NT ν' c' m → htT (wcT W m) ≤ 700 := fun m ⟨i, i0, i1, i2⟩ => by
              by_cases hic : i < c
              · exact hct m ⟨i, i0, hic, by rw [← q3.2 i hic]; exact i2⟩
              · obtain ⟨f, z1, z2⟩ := (hR3.2.2.1.2 i i0 i1).2 (by omega)
                rw [← i2, z2]
                rcases q16 f z1 with w | w
                · exact hct _ (hOm f w)
                · rw [hWc]
                  have hfr := (hKO.2 f w.1).1
                  obtain ⟨_, r2', _⟩ := (eq_len hfr).2.2 w.2.1
                  obtain ⟨ty, bd, _, py, _, _, _, my, _, _⟩ := all_parts (hfr.part r2').1 w.2.2
                  have h1 := ht_c r2'
                  have h2 := ht_c my
                  have h3' := hht5 f w.1
                  rw [py]
                  omega
            have hhtC : ∀ f ∈ Kn ++ C, htT f ≤ 701 := fun f hf => by
              rcases List.mem_append.mp hf with z | z
              · have := hht5 f z; omega
              · obtain ⟨f', g1', g2'⟩ := (q13 f z).1
                refine com_ht (m := 500) (n := 200) (hKO.2 f' g1').1 (hKf f' g1').1 (hht5 f' g1') (fun t ht => ?_) (by omega) g2'
                have htm : t ∈ l1.1 := ht.elim (fun ⟨j, _, hj⟩ => List.mem_of_getElem? hj) (fun z => z.1)
                exact C1.ht hle htm
            have hl4 := y1.len
            have := hrec n' en fu ν' c' u4 (Kn ++ C) (Nl ++ Bl) Ol' l4 ks1 ts1 (by omega) ⟨y2, y3, y4, y5, ⟨q4, q5, hN', hct'⟩, ⟨q6, q7, q8, hOK'⟩, ⟨hlen', hhtC⟩, ⟨by rw [List.length_append, q10, hNl], hNm'⟩, fun hle4 => ⟨by omega, ExC.pre (l := l1) y1.1 ffi fA, fun b hb => (y7 b hb hle4).elim (fun z => y1.H z) id⟩⟩ hK' hX' (by omega)
            exact wp_mono this (fun r u' ⟨z1, z2⟩ => ⟨hres r (Or.inr ⟨n', en, z1⟩), z2⟩)
  · rw [if_neg (by omega), wp_some]
    refine ⟨?_, endT u1 ν c _ _ _ _ _ _ _ _ C1 hR1 hU1 hN (by omega)⟩
    rw [RefS.eq]
    refine Or.inl ⟨⟨l1.1.take 101, hH1.2.2.1.sublist (List.take_sublist _ _), by rw [List.length_take]; omega, fun t ht => (C1.2.2.2.2.2.1 t (List.mem_of_mem_take ht)).2⟩, rfl⟩
theorem case_L100 {d : Nat} {W : Wd} {A : Nat → Prop} {X : XFm} {B c0 fi : Nat} {ν0 : Nat → Nat} {u0 : Sg} (hd : 1700 ≤ d) (hB : B ≤ 300) (hr0 : hT u0 ≤ 20000) (hWc : ∀ f, wcT W (2 * f + 1) = pa (pa f 0) 0) (hc0 : c0 ≤ 3000) (hA0 : ∀ t, A t → cltm W (NT ν0 c0) t) (h76 : 0 ≤ gI u0 76 ∧ gI u0 76 ≤ 1900000000) : ∀ (n : Nat), n ≤ 16 → ∀ (fu : Nat) (ν : Nat → Nat) (c : Nat) (u : Sg) (Kn Nl Ol : List Nat) (l : Ls) (ks ts : Nat), n < fu → LpT Mq W A X c0 fi ν0 u0 ν c Kn Nl Ol l ks ts u → KOK W (NT ν0 c0) B (fun f => f ∈ Kn) (fun f => f ∈ Ol) → RfTX W A X ν0 u0 n (fun f => f ∈ Kn) (fun f => f ∈ Ol) → gI u 76 + (n : Int) + 1 ≤ gI u0 76 + 17 → wp (bX3_caseOf_L100 (runT d) fu ((17 - n : Nat) : Int) u (fun s => some (2, s)) (fun s => some (1, s)) (fun s => some (0, s)) (fun s => some (2, s))) (RfQT Mq W A n Kn Ol ν0 c0 u0) := by
  intro n
  induction n with
  | zero => ?_
  | succ n ih => ?_
  all_goals
    intro hn fu ν c u Kn Nl Ol l ks ts hfu hL hK hX h7
  · exact case_step hd hB hr0 hWc hc0 hA0 h76 hn hfu hL hK hX h7 (fun n' e => by omega)
  · refine case_step hd hB hr0 hWc hc0 hA0 h76 hn hfu hL hK hX h7 (fun n' e fu' ν' c' u' Kn' Nl' Ol' l' ks' ts' q1 q2 q3 q4 q5 => ?_)
    have e' : n' = n := by omega
    rw [e'] at q1 q4 q5 ⊢
    exact ih (by omega) fu' ν' c' u' Kn' Nl' Ol' l' ks' ts' q1 q2 q3 q4 q5
end MQ
