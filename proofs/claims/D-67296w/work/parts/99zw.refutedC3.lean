/-! the rounds of a case in the class -/
theorem refuted_L154 {d : Nat} {ν : Nat → Nat} {c : Nat} {W : Wd} {S : Fs} {X : XFm} {Kl : List Nat} {Kn Cl Bl Ol : List Nat} {c0 fi : Nat} {ν0 : Nat → Nat} {u0 : Sg} {a3 a4 : Int} {Q : Int → Sg → Prop} (hAt : ∀ n, AtSp ν c W S X Kl n) (hd : 920 ≤ d) (hl : LimA ν0 u0 S X) (hr0 : rC u0 ≤ 20000) (hB : Bl.length ≤ 16384) (hne : Bl ≠ [0]) (hb : ∀ b ∈ Bl, cltm W (Nm ν c) b ∧ fH S b) {l0 : Ls} : ∀ (m i fu : Nat) (u : Sg) (l : Ls), i + m = Bl.length → m < fu → RkO ν c W S X Kl l Kn Cl Bl Ol c0 fi ν0 u0 u → SgL W S u l → (∃ H2, l.1 = l0.1 ++ H2) → (gI u 45 = 0 → ∀ (j b : Nat), j < i → Bl[j]? = some b → b ∈ l.1) → ∀ xx : Int → Int → Sg → Option (Int × Sg), (∀ (u2 : Sg) (l2 : Ls), RkO ν c W S X Kl l2 Kn Cl Bl Ol c0 fi ν0 u0 u2 → SgL W S u2 l2 → (∃ H2, l2.1 = l0.1 ++ H2) → (gI u2 45 = 0 → gI u 45 = 0 ∧ ∀ b ∈ Bl, b ∈ l2.1) → wp (xx a3 a4 u2) Q) → wp (bX1_refuted_L154 (runC d) fu a3 a4 (i : Int) u xx) Q := by
  intro m
  induction m with
  | zero =>
    intro i fu u l hi hfu hRO hst hpre hdn xx k
    obtain ⟨G, gv, ge, hR⟩ := id hRO
    obtain ⟨fu, rfl⟩ : ∃ f', fu = f' + 1 := ⟨fu - 1, by omega⟩
    rw [bX1_refuted_L154, wp_un, (hR.2.2.2.1.c hne).1, if_neg (by omega)]
    refine k u l hRO hst hpre (fun q => ⟨q, fun b hb' => ?_⟩)
    obtain ⟨j, hj⟩ := List.getElem?_of_mem hb'
    exact hdn q j b (by have := (List.getElem?_eq_some_iff.mp hj).1; omega) hj
  | succ m ih =>
    intro i fu u l hi hfu hRO hst hpre hdn xx k
    obtain ⟨G, gv, ge, hR⟩ := id hRO
    obtain ⟨fu, rfl⟩ : ∃ f', fu = f' + 1 := ⟨fu - 1, by omega⟩
    have hil : i < Bl.length := by omega
    have gi : Bl[i]? = some Bl[i] := List.getElem?_eq_getElem hil
    generalize ef : Bl[i] = b at gi
    obtain ⟨x, x1, x2, x3, x4⟩ := (hR.2.2.2.1.c hne).2.2 i b gi
    obtain ⟨b1, b2⟩ := hb b (List.mem_of_getElem? gi)
    have l55 := (hR.2.2.2.1.c hne).2.1
    rw [bX1_refuted_L154, wp_un, (hR.2.2.2.1.c hne).1, if_pos (by omega), wp_un]
    refine wp_ite (fun h45 => ?_) (fun h45 => ?_)
    · have hg : GdL W u l := hst.resolve_right (fun q => by rw [q.1] at h45; cases h45)
      rw [ld_nat (by omega), x1]
      refine wp_call (rk_at hAt hd (hRO.z h45) hl hr0 hg x2 x3 (by rw [x4]; exact b1) (by rw [x4]; exact b2)) (fun r u1 ⟨l1, a1, a2, a3', a4', a5, a6⟩ => ?_)
      rw [x4] at a6
      rw [wp_ar]
      refine ⟨⟨by omega, by omega⟩, ?_⟩
      rw [show (i : Int) + 1 = ((i + 1 : Nat) : Int) by omega]
      refine ih (i + 1) fu u1 l1 (by omega) (by omega) a1 a5 ?_ (fun q j g hj hg' => ?_) xx (fun u2 l2 z1 z2 z3 z4 => k u2 l2 z1 z2 z3 (fun q => ⟨h45, (z4 q).2⟩))
      · obtain ⟨H2, e⟩ := hpre
        obtain ⟨⟨H3, e3⟩, _⟩ := a2
        exact ⟨H2 ++ H3, by rw [e3, e, List.append_assoc]⟩
      · by_cases hji : j = i
        · rw [hji, gi] at hg'
          rw [← Option.some.inj hg']
          exact a6 q
        · exact a2.H (hdn h45 j g (by omega) hg')
    · exact k u l hRO hst hpre (fun q => absurd q h45)
/-- what may be made in a case, at known and opened formulas -/
def XSt (W : Wd) (A : Nat → Prop) (X : XFm) (K O : Nat → Prop) : Prop :=
  XSp W (facS W K O) X ∧ XTm W (facS W K O) X ∧ (∀ f, K f → kd f = 14 → X.1 (mk 8 (wh f) [pa f 0]) ∧ ∀ z ∈ upT W (mk 8 (wh f) [pa f 0]), (pa z 0 = 0 → paX W X.1 z) ∧ (pa z 0 ≠ 0 → paX W (X.2 (pa z 0)) z)) ∧ (¬ manyS (facS W K O) → (∀ f, K f → ∀ s, subN s f → kd s = 17 → ∀ p ∈ ps s, X.1 (notT p)) ∧ (¬ conS (facS W K O) K → (∀ f, K f → kd f = 16 → kd (pa f 0) = 18 → ¬ O f → X.1 (mk 1 (2 * f + 1) []) ∧ X.1 (sbT (putg (mk 1 (2 * f + 1) [])) 0 (pa (pa f 0) 1))) ∧ (¬ overS (nxK W A K O) → ∀ g, comS W A K O g → ¬ K g → ∀ z, subT z g → X.1 z)))
/-- the same for the model -/
def XSo (W : Wd) (A : Nat → Prop) (X : XFm) (K O : Nat → Prop) : Prop := XSt W A X K O
/-- few trees, whatever comes up to 400 -/
def LimB (ν0 : Nat → Nat) (u0 : Sg) (S : Fs) (X : XFm) (K Cm : Nat → Prop) : Prop := ∀ H : List Nat, H.Nodup → H.length ≤ 101 → (∀ t ∈ H, fH S t) → ∀ C : List Nat, C.Nodup → (∀ g ∈ C, Cm g ∧ ¬ K g) → ((∀ L : List Nat, L.Nodup → (∀ f ∈ L, K f) → L.length + C.length ≤ 401) ∨ C.length ≤ 1) → (C = [] ∨ (¬ manyS S ∧ ¬ conS S K)) → Lim ν0 u0 (Xc (xf X H) C)
theorem LimB.a {ν0 : Nat → Nat} {u0 : Sg} {S : Fs} {X : XFm} {K Cm : Nat → Prop} (h : LimB ν0 u0 S X K Cm) : LimA ν0 u0 S X := fun H a b c l hn hm => h H a b c [] List.nodup_nil (fun g hg => absurd hg List.not_mem_nil) (Or.inr (by simp)) (Or.inl rfl) l hn (fun t ht => (hm t ht).imp id Or.inl)
def RfXB (W : Wd) (A : Nat → Prop) (X : XFm) (ν0 : Nat → Nat) (u0 : Sg) (nx : (Nat → Prop) → (Nat → Prop) → Prop) (K O : Nat → Prop) : Prop := XSt W A X K O ∧ LimB ν0 u0 (facS W K O) X K (comS W A K O) ∧ (¬ manyS (facS W K O) → ¬ conS (facS W K O) K → (∃ g, comS W A K O g ∧ ¬ K g) → ¬ overS (nxK W A K O) → nx (nxK W A K O) (nxO K O))
def RfX (W : Wd) (A : Nat → Prop) (X : XFm) (ν0 : Nat → Nat) (u0 : Sg) : Nat → (Nat → Prop) → (Nat → Prop) → Prop
  | 0 => RfXB W A X ν0 u0 (fun _ _ => True)
  | n + 1 => RfXB W A X ν0 u0 (RfX W A X ν0 u0 n)
/-- at the head of a round -/
def LpS (W : Wd) (A : Nat → Prop) (X : XFm) (c0 fi : Nat) (ν0 : Nat → Nat) (u0 : Sg) (ν : Nat → Nat) (c : Nat) (Kn Cl Bl Ol : List Nat) (l : Ls) (dn : Nat) (u : Sg) : Prop :=
  RkO ν c W (facS W (fun f => f ∈ Kn) (fun f => f ∈ Ol)) X Kn l Kn Cl Bl Ol c0 fi ν0 u0 u ∧ SgL W (facS W (fun f => f ∈ Kn) (fun f => f ∈ Ol)) u l ∧ (WOK W (Nm ν c) ∧ WGK W (Nm ν c) ∧ NuX ν0 c0 ν c) ∧ (c = c0 + Ol.length ∧ Ol.Nodup ∧ (∀ f ∈ Ol, Nm ν c (2 * f + 1)) ∧ ∀ f ∈ Ol, f ∈ Kn) ∧ (Kn.length ≤ 2500 ∧ Bl.length ≤ 16384 ∧ ∀ f ∈ Kn, htT f ≤ 701) ∧ (∀ b ∈ Bl, newc (fun f => f ∈ Ol) b) ∧ (gI u 45 = 0 → (∀ (j f : Nat), j < dn → Kn[j]? = some f → inHd f l.1) ∧ (∀ b, newc (fun f => f ∈ Ol) b → b ∈ l.1 ∨ b ∈ Bl) ∧ (∀ t, (∃ i, i < fi ∧ l.1[i]? = some t) ↔ A t) ∧ fi ≤ l.1.length)
theorem KOK.kl {W : Wd} {ν0 ν : Nat → Nat} {c0 c B : Nat} {Kn Ol : List Nat} (h : KOK W (Nm ν0 c0) B (fun f => f ∈ Kn) (fun f => f ∈ Ol)) (hN : NuX ν0 c0 ν c) (hO : ∀ f ∈ Ol, Nm ν c (2 * f + 1)) (hl : Kn.length ≤ 2500) : KlOK W (Nm ν c) Kn ∧ ∀ f ∈ Kn, isFo f ∧ szQ f ≤ B := by
  refine ⟨⟨hl, fun f hf => ?_⟩, fun f hf => (h f hf).2.2⟩
  obtain ⟨a, b, _⟩ := h f hf
  exact ⟨a.mono (fun n hn => hn.elim hN.nm (fun ⟨g, g1, g2⟩ => by rw [g2]; exact hO g g1)), b⟩
def P5 (t : Nat) : Prop := (ps t).length ≤ 5000
theorem UN.tru {ν0 ν : Nat → Nat} {u0 u : Sg} {X : Nat → Prop} (h : UN ν0 u0 ν u X) (h5 : ∀ t, X t → P5 t) : UN ν0 u0 ν u P5 := h.mono h5
theorem EndS.bs {W : Wd} {X Y : Nat → Prop} {ν0 ν : Nat → Nat} {c c0 : Nat} {u0 u u' : Sg} (h : EndS W X ν c u u') (h5 : ∀ t, X t → P5 t) (h5' : ∀ t, Y t → P5 t) (hU : UN ν0 u0 ν u Y) (hN : NuX ν0 c0 ν c) : EndS W P5 ν0 c0 u0 u' := by
  obtain ⟨ν1, c1, a, b, e, f, g⟩ := h
  exact ⟨ν1, c1, a, b, e, (hU.tru h5').tr (f.tru h5), hN.tr g⟩
/-- small formulas have few parts -/
theorem p5_sub : ∀ (g : Nat), okT g → (isFo g → szQ g ≤ 300) → ∀ z, subT z g → P5 z := by
  intro g
  induction g using Nat.strongRecOn with
  | ind g ih =>
    intro ho hz z hs
    have g0 : g ≠ 0 := fun q => by
      have := okN_kd ho.n
      unfold isTm isFo at this
      rw [q, kd0] at this
      omega
    rw [subT_eq] at hs
    rcases hs with e | ⟨c, c1, c2⟩
    · rw [e]
      unfold P5
      by_cases hf : isFo g
      · have := g_len ho (fun _ h => szQ_pos h) (szQ_ex g0 (fun q => by unfold isFo at hf; omega))
        have := hz hf
        omega
      · unfold isFo at hf
        rcases ho.n.2 with q | q | q | q | q | q | q | q | q | q | q | q | q | q <;> try omega
        · rw [q.2]; simp
        · rw [q.2]; simp
        · rw [q.2.1]; simp
        · obtain ⟨_, _, y, e, _⟩ := q
          rw [e]; simp
        · obtain ⟨_, a, js, e, _, h30, _⟩ := q
          rw [e]; simp; omega
    · refine ih c (fms_lt c1) (ho.c c1) (fun hfc => ?_) z c2
      by_cases hf : isFo g
      · have := g_c (szQ_ex g0 (fun q => by unfold isFo at hf; omega)) c1
        have := hz hf
        omega
      · exfalso
        have hk := okN_kd ho.n
        have := tt_part ho (by unfold isTm isFo at *; omega) c1
        unfold isTm isFo at *
        omega
