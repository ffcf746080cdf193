/-- the arrays of a case are in order -/
def ArrC (u : Sg) : Prop := (gL u 40 = 101 ∧ gL u 41 = 101) ∧ (gL u 39 = gL u 42 ∧ gL u 37 = gL u 42 ∧ gL u 38 = gL u 42 ∧ (gL u 42 = 60000 ∨ gL u 42 = 90000)) ∧ (∀ k, k = 37 ∨ k = 38 ∨ k = 42 → ∀ i, i < gL u k → gN u k i ≤ gI u 36) ∧ (gL u 47 = gL u 46 ∧ gL u 48 = gL u 46 ∧ 512 ≤ gL u 46 ∧ gL u 46 ≤ 131072) ∧ (gL u 50 = gL u 49 ∧ 512 ≤ gL u 49 ∧ gL u 49 ≤ 131072) ∧ KnL u ∧ CtL u ∧ (16 ≤ gL u 53 ∧ gL u 53 ≤ 16384) ∧ (16 ≤ gL u 55 ∧ gL u 55 ≤ 16384)
def EndS (W : Wd) (X : Nat → Prop) (ν0 : Nat → Nat) (cs : Nat) (u0 u : Sg) : Prop := ∃ ν c, CW ν c W u ∧ WF FC u ∧ ArrC u ∧ UN ν0 u0 ν u X ∧ NuX ν0 cs ν c
/-- a row of nodes; [0]: not known which -/
def ArO (ν : Nat → Nat) (u : Sg) (id cn : Nat) (L : List Nat) : Prop := (16 ≤ gL u id ∧ gL u id ≤ 16384) ∧ (L = [0] ∨ ArC ν u id cn L)
theorem ArC.ar {ν : Nat → Nat} {u : Sg} {id cn : Nat} {L : List Nat} (h : ArC ν u id cn L) : ArO ν u id cn L := ⟨h.2.1.2, Or.inr h⟩
theorem ArO.c {ν : Nat → Nat} {u : Sg} {id cn : Nat} {L : List Nat} (h : ArO ν u id cn L) (hne : L ≠ [0]) : ArC ν u id cn L := h.2.resolve_left hne
theorem ArO.fr {ν : Nat → Nat} {c D id cn : Nat} {u u' : Sg} {X : Nat → Prop} {L : List Nat} (h : ArO ν u id cn L) (hs : SC ν c u) (hx : Ux ν c u u' X) (hg : Gr FC D u u') (h1 : D.testBit id = false) (h2 : D.testBit cn = false) : ArO ν u' id cn L := ⟨by rw [hg.Ln id h1]; exact h.1, h.2.imp (fun q => q) (fun q => q.fr hs hx hg h1 h2)⟩
theorem ArC.ne {ν : Nat → Nat} {c : Nat} {u : Sg} {id cn : Nat} {L : List Nat} (h : ArC ν u id cn L) (hs : SC ν c u) : L ≠ [0] := fun e => by
  obtain ⟨x, _, x2, x3, x4⟩ := h.2.2 0 0 (by rw [e]; rfl)
  have := tr_pos (okp_C (ν := ν) hs.1) x2 (by show x ≤ nC u - 1; omega)
  rw [show tr (stC ν u) x = trC ν u x from rfl, x4] at this
  omega
theorem arr_of {ν : Nat → Nat} {c : Nat} {W : Wd} {S : Fs} {Kl Kn Cl Bl Ol : List Nat} {l : Ls} {u : Sg} (hC : CaL ν c W S Kl u l) (hk : KnS ν u Kn) (hc : ArO ν u 53 54 Cl) (hb : ArO ν u 55 56 Bl) (ho : OpC ν u Ol) (hL : KnL u) (hT : CtL u) : ArrC u := by
  obtain ⟨h1, h2, ⟨⟨⟨a1, a2, a3, a4⟩, ⟨b1, b2, b3, b4, b5⟩, c3, c4, c5, c6, c7⟩, h3b⟩, ⟨⟨m1, m2, m3, m4, m5, m6⟩, m7⟩, ⟨⟨j1, j2, j3, j4, j5⟩, j6⟩, h6⟩ := hC
  refine ⟨⟨a3, a4⟩, ⟨b1, b2, b3, b4⟩, fun k hk' i hi => ?_, ⟨m3, m4, m5, m6⟩, ⟨j3, j4, j5⟩, hL, hT, hc.1, hb.1⟩
  rcases hk' with q | q | q
  · subst q; exact (hk.2.2.2 i hi).1
  · subst q; exact (ho.1 i hi).1
  · subst q; exact (c5 i hi).1
theorem EndS.mon {W : Wd} {X Y : Nat → Prop} {ν0 : Nat → Nat} {cs : Nat} {u0 u : Sg} (h : EndS W X ν0 cs u0 u) (k : ∀ z, X z → ndC ν0 u0 z ∨ Y z) : EndS W Y ν0 cs u0 u := by
  obtain ⟨ν, c, h1, h2, h3, h4, h5⟩ := h
  exact ⟨ν, c, h1, h2, h3, h4.mon k, h5⟩
/-- X, and what anything that may come is made of -/
def Xa (X Fu : Nat → Prop) (z : Nat) : Prop := X z ∨ ∃ g, Fu g ∧ subT z g
theorem RdI.arr {ν : Nat → Nat} {c : Nat} {W : Wd} {S : Fs} {X : Nat → Prop} {Kl : List Nat} {l : Ls} {Fu : Nat → Prop} {Cl Bl Ol : List Nat} {c0 fi : Nat} {ν0 : Nat → Nat} {u0 u : Sg} (h : RdI ν c W S X Kl l Fu Cl Bl Ol c0 fi ν0 u0 u) {cs : Nat} (hN : NuX ν0 cs ν c) : EndS W (Xa X Fu) ν0 cs u0 u := by
  obtain ⟨G, g1, g2⟩ := h.2.2.2.2.1
  refine ⟨ν, c, h.1.1.1, h.1.1.2.1, arr_of h.1.1 h.1.2 h.2.1.1.ar h.2.2.1.ar h.2.2.2.1.1 h.2.2.2.2.2.2.1 h.2.2.2.2.2.2.2, g2.mon (fun z hz => Or.inr (hz.imp id (fun ⟨g, q1, q2⟩ => ⟨g, ?_, q2⟩))), hN⟩
  rcases List.mem_append.mp q1 with y | y
  · exact (h.2.1.2.2.1 g y).2
  · rcases g1 with e | ⟨_, g', e, e2, _⟩
    · rw [e] at y; cases y
    · rw [e] at y; rw [List.mem_singleton.mp y]; exact e2
/-- what has come becomes known -/
def RkI (ν : Nat → Nat) (c : Nat) (W : Wd) (S : Fs) (X : Nat → Prop) (Kl : List Nat) (l : Ls) (Kn Cl Bl Ol : List Nat) (c0 fi : Nat) (ν0 : Nat → Nat) (u0 u : Sg) : Prop := CaL ν c W S Kl u l ∧ KnS ν u Kn ∧ ArO ν u 53 54 Cl ∧ ArO ν u 55 56 Bl ∧ (OpC ν u Ol ∧ NmO ν c c0 Ol) ∧ UN ν0 u0 ν u X ∧ (Bl = [0] ∨ (gI u 44 = (fi : Int) ∧ gI u 57 = (c0 : Int))) ∧ KnL u ∧ CtL u
theorem RkI.arr {ν : Nat → Nat} {c : Nat} {W : Wd} {S : Fs} {X : Nat → Prop} {Kl : List Nat} {l : Ls} {Kn Cl Bl Ol : List Nat} {c0 fi : Nat} {ν0 : Nat → Nat} {u0 u : Sg} (h : RkI ν c W S X Kl l Kn Cl Bl Ol c0 fi ν0 u0 u) {cs : Nat} (hN : NuX ν0 cs ν c) : EndS W X ν0 cs u0 u :=
  ⟨ν, c, h.1.1, h.1.2.1, arr_of h.1 h.2.1 h.2.2.1 h.2.2.2.1 h.2.2.2.2.1.1 h.2.2.2.2.2.2.2.1 h.2.2.2.2.2.2.2.2, h.2.2.2.2.2.1, hN⟩
theorem RdI.rk {ν : Nat → Nat} {c : Nat} {W : Wd} {S : Fs} {X : Nat → Prop} {Kl : List Nat} {l : Ls} {Fu : Nat → Prop} {Cl Bl Ol : List Nat} {c0 fi : Nat} {ν0 : Nat → Nat} {u0 u : Sg} (h : RdI ν c W S X Kl l Fu Cl Bl Ol c0 fi ν0 u0 u) (hb : gI u 45 = 0) : RkI ν c W S (Xc X Cl) Kl l Kl Cl Bl Ol c0 fi ν0 u0 u := by
  obtain ⟨G, g1, g2⟩ := h.2.2.2.2.1
  have e : G = [] := g1.resolve_right (fun q => by omega)
  rw [e, List.append_nil] at g2
  exact ⟨h.1.1, h.1.2, h.2.1.1.ar, h.2.2.1.ar, h.2.2.2.1, g2, Or.inr h.2.2.2.2.2.1, h.2.2.2.2.2.2⟩
theorem rk_know {d : Nat} (hd : 4 ≤ d) {ν : Nat → Nat} {c : Nat} {W : Wd} {S : Fs} {X : Nat → Prop} {Kl : List Nat} {l : Ls} {Kn Cl Bl Ol : List Nat} {c0 fi x : Nat} {ν0 : Nat → Nat} {u0 u : Sg} (h : RkI ν c W S X Kl l Kn Cl Bl Ol c0 fi ν0 u0 u) (hKn : Kn.length ≤ 2500) (x0 : 0 < x) (hx : x < nC u) (hx9 : x < 90000) : wp (runC d 42 [(x : Int)] u) (fun _ u' => RkI ν c W S X Kl l (if trC ν u x ∈ Kn then Kn else Kn ++ [trC ν u x]) Cl Bl Ol c0 fi ν0 u0 u' ∧ EqS u u' ∧ gI u' 45 = gI u 45 ∧ ∀ k, Nat.testBit Dkn k = false → gI u' k = gI u k ∧ gL u' k = gL u k ∧ ∀ i, gN u' k i = gN u k i) := by
  obtain ⟨h1, h2, h3, h4, ⟨h5, h6⟩, h7, h8, h10, h11⟩ := h
  have hs := h1.1.1
  refine wp_mono (tX1_know (X := X) hd h1 h2 h10 hKn x0 hx hx9) (fun r u' ⟨a1, a2, a3, a4, a5, a6, a7, a8, a9⟩ => ?_)
  have hrun := h1.2.2.1.2
  have e36 : gI u' 36 = gI u 36 := a4.I 36 (by decide +kernel)
  refine ⟨⟨a1, a6, h3.fr hs a2.ux a4 (by decide +kernel) (by decide +kernel), h4.fr hs a2.ux a4 (by decide +kernel) (by decide +kernel), ⟨⟨fun y q1 => ⟨?_, fun q2 => ?_⟩, fun f hf => ?_⟩, h6⟩, h7.tr (a2.un hs e36), by rw [a4.I 44 (by decide +kernel), a4.I 57 (by decide +kernel)]; exact h8, a5, by unfold CtL; rw [a4.Ln 85 (by decide +kernel)]; exact h11⟩, a3, a4.I 45 (by decide +kernel), fun k hk => ⟨a4.I k hk, a4.Ln k hk, a4.N k hk⟩⟩
  · rw [e36]
    by_cases hl : y < gL u 38
    · rw [a8 y hl]; exact (h5.1 y hl).1
    · rw [a9 y (by omega) q1]; omega
  · rw [e36] at q2
    by_cases hl : y < gL u 38
    · rw [a8 y hl] at q2
      obtain ⟨b1, b2, b3⟩ := (h5.1 y hl).2 q2
      exact ⟨b1, by rw [a3.n]; exact b2, by rw [a3.tr]; exact b3⟩
    · rw [a9 y (by omega) q1] at q2
      omega
  · obtain ⟨y, b1, b2, b3, b4, b5⟩ := h5.2 f hf
    exact ⟨y, b1, by omega, by rw [a8 y b2, e36]; exact b3, by rw [a3.n]; exact b4, by rw [a3.tr]; exact b5⟩
theorem round_L404 {d : Nat} (hd : 4 ≤ d) {ν : Nat → Nat} {c : Nat} {W : Wd} {S : Fs} {X : Nat → Prop} {Kl : List Nat} {l : Ls} {Cl Bl Ol : List Nat} {c0 fi : Nat} {ν0 : Nat → Nat} {u0 : Sg} {n : Int} {Q : Int → Sg → Prop} (hl : Lim ν0 u0 X) (hn : Cl.Nodup) (hdj : ∀ f ∈ Cl, f ∉ Kl) (hlen : Kl.length + Cl.length ≤ 2500) (hne : Cl ≠ [0]) : ∀ (m i fu : Nat) (u : Sg), i + m = Cl.length → m < fu → RkI ν c W S X Kl l (Kl ++ Cl.take i) Cl Bl Ol c0 fi ν0 u0 u → gI u 45 = 0 → ∀ xx : Int → Sg → Option (Int × Sg), (∀ u2 : Sg, RkI ν c W S X Kl l (Kl ++ Cl) Cl Bl Ol c0 fi ν0 u0 u2 → gI u2 45 = 0 → wp (xx n u2) Q) → wp (bX1_round_L404 (runC d) fu n (i : Int) u xx) Q := by
  intro m
  induction m with
  | zero =>
    intro i fu u hi hf hR hb xx k
    obtain ⟨fu, rfl⟩ : ∃ f', fu = f' + 1 := ⟨fu - 1, by omega⟩
    rw [bX1_round_L404, wp_un, (hR.2.2.1.c hne).1, if_neg (by omega)]
    rw [List.take_of_length_le (by omega)] at hR
    exact k u hR hb
  | succ m ih =>
    intro i fu u hi hf hR hb xx k
    obtain ⟨fu, rfl⟩ : ∃ f', fu = f' + 1 := ⟨fu - 1, by omega⟩
    have hil : i < Cl.length := by omega
    have gi : Cl[i]? = some Cl[i] := List.getElem?_eq_getElem hil
    generalize ef : Cl[i] = f at gi
    have hs := hR.1.1.1
    have hc := hR.2.2.1.c hne
    obtain ⟨x, x1, x2, x3, x4⟩ := hc.2.2 i f gi
    have hbd := (hR.2.2.2.2.2.1.lim hl).n hs
    have hc21 := hc.2.1
    rw [bX1_round_L404, wp_un, hc.1, if_pos (by omega), ld_nat (by omega), x1]
    refine wp_call (rk_know hd hR (by rw [List.length_append, List.length_take]; omega) x2 x3 (by omega)) (fun r u1 ⟨a1, a2, a3, a4⟩ => ?_)
    have hni : f ∉ Kl ++ Cl.take i := fun q => by
      rcases List.mem_append.mp q with z | z
      · exact hdj f (List.mem_of_getElem? gi) z
      · obtain ⟨j, hj⟩ := List.getElem?_of_mem z
        rw [List.getElem?_take] at hj
        by_cases hji : j < i
        · rw [if_pos hji] at hj
          have := (List.getElem?_inj (by omega) hn).mp (hj.trans gi.symm)
          omega
        · rw [if_neg hji] at hj; cases hj
    rw [x4, if_neg hni, List.append_assoc] at a1
    have et : Cl.take i ++ [f] = Cl.take (i + 1) := by rw [List.take_add_one, gi]; rfl
    rw [et] at a1
    rw [wp_ar]
    refine ⟨⟨by omega, by omega⟩, ?_⟩
    rw [show (i : Int) + 1 = ((i + 1 : Nat) : Int) by omega]
    exact ih (i + 1) fu u1 (by omega) (by omega) a1 (by rw [a3]; exact hb) xx k
/-- what a round comes to -/
def RdE (W : Wd) (S : Fs) (X : Nat → Prop) (Kl : List Nat) (l : Ls) (O0 : List Nat) (c0 fi : Nat) (ν0 : Nat → Nat) (cs : Nat) (u0 : Sg) (r : Int) (u' : Sg) : Prop :=
  (r = 0 ∧ (∀ g, cmeS (FsO l) (fun f => f ∈ Kl) (tT l fi) (fun f => f ∈ O0) g → g ∈ Kl) ∧ EndS W X ν0 cs u0 u') ∨
  (r = 1 ∧ gI u' 45 = 1 ∧ (∃ Cl f, (Kl ++ Cl).Nodup ∧ 400 ≤ Kl.length + Cl.length ∧ (∀ g ∈ f :: Cl, cmeS (FsO l) (fun f => f ∈ Kl) (tT l fi) (fun f => f ∈ O0) g) ∧ f ∉ Kl ++ Cl) ∧ EndS W (Xa X (cmeS (FsO l) (fun f => f ∈ Kl) (tT l fi) (fun f => f ∈ O0))) ν0 cs u0 u') ∨
  (r = 1 ∧ gI u' 45 = 0 ∧ ∃ ν c Cl Bl Ol, RkI ν c W S (Xc X Cl) Kl l (Kl ++ Cl) Cl Bl Ol c0 fi ν0 u0 u' ∧ NuX ν0 cs ν c ∧ (WOK W (Nm ν c) ∧ WGK W (Nm ν c)) ∧ (c = c0 + Ol.length ∧ Ol.Nodup ∧ ∀ f ∈ Ol, Nm ν c (2 * f + 1)) ∧ (Cl ≠ [] ∧ Kl.length + Cl.length ≤ 400 ∧ ∀ g, g ∈ Cl ↔ cmeS (FsO l) (fun f => f ∈ Kl) (tT l fi) (fun f => f ∈ O0) g ∧ g ∉ Kl) ∧ (∀ f, f ∈ Ol ↔ f ∈ O0 ∨ (f ∈ Kl ∧ kd f = 16 ∧ kd (pa f 0) = 18)) ∧ (∀ b, b ∈ Bl ↔ ∃ f, f ∈ Ol ∧ f ∉ O0 ∧ b = mk 1 (2 * f + 1) []))
theorem tX1_round {d : Nat} {ν : Nat → Nat} {c : Nat} {W : Wd} {S : Fs} {X : Nat → Prop} {Kl : List Nat} {l : Ls} {O0 : List Nat} {c0 fi : Nat} {u : Sg} (hl : LimR ν u X Kl (cmeS (FsO l) (fun f => f ∈ Kl) (tT l fi) (fun f => f ∈ O0))) (hr0 : rC u ≤ 20000) (hX : XRd X Kl O0) (hWc : ∀ f, wcT W (2 * f + 1) = pa (pa f 0) 0) (hf0 : ∀ f ∈ Kl, isFo f ∧ szQ f ≤ 900 ∧ 41 + 3 * htT f ≤ d ∧ 41 + htQ f ≤ d) (hd : 41 ≤ d) (hc0 : c0 ≤ 3000) (hO0 : O0.length ≤ 2500) (hR : RkI ν c W S X Kl l Kl [] [] O0 c0 fi ν u u) (h45 : gI u 45 = 0) (hW : WOK W (Nm ν c)) (hG : WGK W (Nm ν c)) (hK : KlOK W (Nm ν c) Kl) (ec : c = c0 + O0.length) (hON : O0.Nodup) (hOm : ∀ f ∈ O0, Nm ν c (2 * f + 1)) : wp (runC d 71 [] u) (RdE W S X Kl l O0 c0 fi ν c u) := by
  obtain ⟨d, rfl⟩ : ∃ d', d = d' + 1 := ⟨d - 1, by omega⟩
  rw [runC_eq (by omega)]
  show wp (bX1_round (runC d) u) _
  unfold bX1_round
  obtain ⟨h1, h2, h3, h4, h5, h6⟩ := hR
  have h3 := h3.c (by simp)
  have h4 := h4.c (by simp)
  have h6 : UN ν u ν u X ∧ (gI u 44 = (fi : Int) ∧ gI u 57 = (c0 : Int)) ∧ KnL u ∧ CtL u := ⟨h6.1, h6.2.1.resolve_left (by simp), h6.2.2⟩
  have hKl := hK.1
  have hKX : ∀ f ∈ Kl, ∀ z, subT z f → ndC ν u z := fun f hf z hz => by
    obtain ⟨j, hj⟩ := List.getElem?_of_mem hf
    obtain ⟨y, _, y0, y2, y3, _⟩ := h2.2.2.1 j f hj
    rw [← y3] at hz
    exact nd_sub h1.1.1 y y0 y2 z hz
  have hI : RdI ν c W S X Kl l (cmeS (FsO l) (fun f => f ∈ Kl) (tT l fi) (fun f => f ∈ O0)) [] [] O0 c0 fi ν u u := ⟨⟨h1, h2⟩, ⟨h3, List.nodup_nil, (fun f hf => by cases hf), Or.inr rfl, Or.inl h45⟩, h4, h5, ⟨[], Or.inl rfl, h6.1.mon (fun z q => Or.inr (Or.inl q))⟩, h6.2⟩
  rw [wp_un, h2.1.1]
  refine round_L7 (cs := c) (u0 := u) (ν0 := ν) hl hKX hr0 hX hWc (fun f hf => by obtain ⟨a, b, c1, c2⟩ := hf0 f hf; exact ⟨a, b, by omega, by omega⟩) hc0 hO0 h2.2.1 (fun ν' c' u' Cl Bl Ol q1 q2 q3 => ?_) (fun ν' c' u' Cl Bl Ol k q1 q2 q3 => ?_) Kl.length 0 KF ν c u [] [] O0 (by omega) (Nat.lt_of_le_of_lt (by omega : _ ≤ 65536) KF_gt) ⟨hI, NuX.rf _ _, ⟨hW, hG, hK⟩, ⟨ec, by simp, by omega, hON, hOm⟩, fun f => ⟨Or.inl, fun q => q.elim id (fun ⟨j, hj, _⟩ => by omega)⟩, fun b => ⟨fun q => absurd q (List.not_mem_nil), fun ⟨f, q1, q2, _⟩ => absurd q1 q2⟩⟩ h45 (fun j f g hj => by omega)
  · obtain ⟨p1, p2, ⟨p3, p4, p5⟩, ⟨p6, p7, p8, p8', p8n⟩, p9, p10⟩ := q1
    have hcs := p1.2.1.2
    have h54 := p1.2.1.1.1
    have hall : ∀ g, cmeS (FsO l) (fun f => f ∈ Kl) (tT l fi) (fun f => f ∈ O0) g → g ∈ Kl ∨ g ∈ Cl := fun g ⟨f, f1, f2⟩ => by
      obtain ⟨j, hj⟩ := List.getElem?_of_mem f1
      exact q3 j f g (List.getElem?_eq_some_iff.mp hj).1 hj f2
    have hlen2 : Kl.length + Cl.length ≤ 2500 := by
      rcases hcs.2.2.1 with z | z
      · omega
      · rw [z]; simpa using hKl
    refine wp_jnG (fun j => ∀ r : Int, (r = 0 ∧ Cl = []) ∨ (r = 1 ∧ Cl ≠ []) → wp (j r u') (RdE W S X Kl l O0 c0 fi ν c u)) (fun r hr => ?_) (fun j3 hj3 => ?_)
    · show wp (bX1_round_L404 (runC d) KF r 0 u' _) _
      refine round_L404 (X := Xc X Cl) (by omega) (hl Cl hcs.1 (fun g hg => ⟨(hcs.2.1 g hg).2, (hcs.2.1 g hg).1⟩) (hcs.2.2.1.imp (fun q => by omega) (fun q => by rw [q]; simp))) hcs.1 (fun f hf => (hcs.2.1 f hf).1) hlen2 (p1.2.1.1.ne p1.1.1.1.1) Cl.length 0 KF u' (by omega) (Nat.lt_of_le_of_lt (by omega : _ ≤ 65536) KF_gt) (by rw [List.take_zero, List.append_nil]; exact p1.rk q2) q2 _ (fun u2 r1 r2 => ?_)
      rw [wp_some]
      rcases hr with ⟨e1, e2⟩ | ⟨e1, e2⟩
      · refine Or.inl ⟨e1, fun g hg => ?_, (r1.arr p2).mon (fun z hz => Or.inr (hz.elim id (fun ⟨g, q, _⟩ => by rw [e2] at q; cases q)))⟩
        have := hall g hg
        rw [e2] at this
        exact this.resolve_right (fun q => by cases q)
      · refine Or.inr (Or.inr ⟨e1, r2, ν', c', Cl, Bl, Ol, r1, p2, ⟨p3, p4⟩, ⟨p6, p8', p8n⟩, ⟨e2, (hcs.2.2.1).resolve_right e2, fun g => ⟨fun q => ⟨(hcs.2.1 g q).2, (hcs.2.1 g q).1⟩, fun q => (hall g q.1).resolve_left q.2⟩⟩, fun f => ?_, p10⟩)
        rw [p9 f]
        refine or_congr Iff.rfl ⟨fun ⟨j, j1, j2, j3⟩ => ⟨List.mem_of_getElem? j2, j3⟩, fun ⟨j1, j2⟩ => ?_⟩
        obtain ⟨j, hj⟩ := List.getElem?_of_mem j1
        exact ⟨j, (List.getElem?_eq_some_iff.mp hj).1, hj, j2⟩
    · rw [wp_un, h54]
      refine wp_ite (fun h0 => hj3 0 (Or.inl ⟨rfl, ?_⟩)) (fun h0 => hj3 1 (Or.inr ⟨rfl, ?_⟩))
      · exact List.eq_nil_of_length_eq_zero (by omega)
      · intro q; rw [q] at h0; exact h0 (by simp)
  · rw [wp_some]
    obtain ⟨p1, p2, _⟩ := q1
    obtain ⟨c1, c2, c3, c4⟩ := p1.2.1.2
    obtain ⟨_, b2, f, b3, b4, b5⟩ := c4.resolve_left (fun q => by omega)
    refine Or.inr (Or.inl ⟨rfl, q3, ⟨Cl, f, List.nodup_append.mpr ⟨h2.2.1, c1, fun a ha b hb e => ?_⟩, b2, fun g hg => ?_, fun q => ?_⟩, p1.arr p2⟩)
    · exact (c2 b hb).1 (by rw [← e]; exact ha)
    · rcases List.mem_cons.mp hg with z | z
      · rw [z]; exact b3
      · exact (c2 g z).2
    · rcases List.mem_append.mp q with z | z
      · exact b4 z
      · exact b5 z
