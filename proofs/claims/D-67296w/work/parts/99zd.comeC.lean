/-! what comes in a round; what is known -/
def mkAs : Nat := mkCa + 2 ^ 34 + 2 ^ 35
theorem mkAs_bits {D : Nat} (h : D &&& mkAs = 0) : D &&& mkCa = 0 ∧ D.testBit 34 = false ∧ D.testBit 35 = false ∧ D.testBit 36 = false ∧ D.testBit 37 = false := by
  have hb : ∀ k, Nat.testBit mkAs k = true → D.testBit k = false := fun k hk => by
    have h1 := congrArg (fun z => Nat.testBit z k) h
    simp only [Nat.testBit_and, Nat.zero_testBit] at h1
    rw [hk, Bool.and_true] at h1
    exact h1
  refine ⟨?_, hb 34 (by decide +kernel), hb 35 (by decide +kernel), hb 36 (by decide +kernel), hb 37 (by decide +kernel)⟩
  refine Nat.eq_of_testBit_eq (fun k => ?_)
  rw [Nat.testBit_and, Nat.zero_testBit]
  by_cases hk : k ≤ 90
  · by_cases q : Nat.testBit mkCa k = true
    · rw [hb k ((by decide +kernel : ∀ k, k ≤ 90 → Nat.testBit mkCa k = true → Nat.testBit mkAs k = true) k hk q), Bool.false_and]
    · rw [Bool.eq_false_iff.mpr q, Bool.and_false]
  · have : Nat.testBit mkCa k = false := Nat.testBit_lt_two_pow (Nat.lt_of_lt_of_le (by decide +kernel : mkCa < 2 ^ 90) (Nat.pow_le_pow_right (by decide) (by omega)))
    rw [this, Bool.and_false]
theorem KnS.fr {ν : Nat → Nat} {c D : Nat} {u u' : Sg} {X : Nat → Prop} {Kl : List Nat} (h : KnS ν u Kl) (hs : SC ν c u) (hx : Ux ν c u u' X) (hg : Gr FC D u u') (h34 : D.testBit 34 = false) (h35 : D.testBit 35 = false) (h36 : D.testBit 36 = false) (h37 : D.testBit 37 = false) : KnS ν u' Kl := by
  obtain ⟨⟨a, b⟩, e, h1, h2⟩ := h
  have hn := hx.n hs
  refine ⟨⟨by rw [hg.I 35 h35]; exact a, by rw [hg.Ln 34 h34]; exact b⟩, e, fun i f hi => ?_, fun x hx' => ⟨?_, fun he => ?_⟩⟩
  · obtain ⟨x, x1, x2, x3, x4, x5, x6⟩ := h1 i f hi
    exact ⟨x, by rw [hg.N 34 h34]; exact x1, x2, by omega, by rw [hx.tr hs x3]; exact x4, by rw [hg.Ln 37 h37]; exact x5, by rw [hg.N 37 h37, hg.I 36 h36]; exact x6⟩
  · rw [hg.I 36 h36, hg.N 37 h37]
    rw [hg.Ln 37 h37] at hx'
    exact (h2 x hx').1
  · rw [hg.I 36 h36, hg.N 37 h37] at he
    rw [hg.Ln 37 h37] at hx'
    obtain ⟨i, i1, i2⟩ := (h2 x hx').2 he
    exact ⟨i, i1, by rw [hg.N 34 h34]; exact i2⟩
theorem AsC.fr {ν : Nat → Nat} {c D : Nat} {W : Wd} {S : Fs} {Kl : List Nat} {l : Ls} {u u' : Sg} {X : Nat → Prop} (h : AsC ν c W S Kl l u) (hU : Ux ν c u u' X) (hw : WF FC u') (hg : Gr FC D u u') (hD : D &&& mkAs = 0) : AsC ν c W S Kl l u' := by
  obtain ⟨b0, b1, b2, b3, b4⟩ := mkAs_bits hD
  exact ⟨CaP.up h.1 hU hw hg b0, h.2.fr h.1.1.1 hU hg b1 b2 b3 b4⟩
/-- one more number at the end of an array, which may grow -/
theorem push_wp {u : Sg} {id cn D n hi : Nat} {a : Int} {K : Sg → Option (Int × Sg)} {Q : Int → Sg → Prop} (hw : WF FC u) (hk : kdC id = 1) (hin : id ∈ FC.2.2) (hDi : D.testBit id = true) (hDc : D.testBit cn = true) (hkc : kdC cn = 0) (ha : inR a) (hn : gI u cn = (n : Int)) (hnl : n ≤ gL u id) (hlo : 16 ≤ gL u id) (hhi : gL u id ≤ hi) (hgrow : n = gL u id → 2 * n ≤ hi) (hhi2 : hi ≤ 1000000) (k : ∀ s, WF FC s → Gr FC D u s → gI s cn = ((n + 1 : Nat) : Int) → (∀ j, j ≠ cn → gI s j = gI u j) → (∀ j, j ≠ id → gL s j = gL u j ∧ ∀ i, gN s j i = gN u j i) → n + 1 ≤ gL s id → gL u id ≤ gL s id → gL s id ≤ hi → gN s id n = a → (∀ i, i < n → gN s id i = gN u id i) → wp (K s) Q) :
    wp (jn (fun (a1 : Int) (s2 : Sg) => un (gI s2 cn) fun v3 => stA s2 id v3 a1 fun s4 => un (gI s4 cn) fun v5 => ar (v5 + 1) fun v6 => un (sI s4 cn v6) fun s7 => K s7) fun j1 => un (gI u cn) fun v8 => un (gL u id : Int) fun v9 => if v8 = v9 then (un (gI u cn) fun v10 => ar (2 * v10) fun v11 => cpy u id v11 fun s12 => j1 a s12) else (j1 a u)) Q := by
  have put : ∀ s : Sg, WF FC s → Gr FC D u s → (∀ j, gI s j = gI u j) → (∀ j, j ≠ id → gL s j = gL u j ∧ ∀ i, gN s j i = gN u j i) → n + 1 ≤ gL s id → gL u id ≤ gL s id → gL s id ≤ hi → (∀ i, i < n → gN s id i = gN u id i) → wp (un (gI s cn) fun v3 => stA s id v3 a fun s4 => un (gI s4 cn) fun v5 => ar (v5 + 1) fun v6 => un (sI s4 cn v6) fun s7 => K s7) Q := fun s w g i1 l1 l2 l3 l4 i2 => by
    rw [wp_un, i1, hn, stA_pos ⟨by omega, by omega⟩, wp_un, gI_sA, i1, hn, wp_ar]
    refine ⟨⟨by omega, by omega⟩, ?_⟩
    rw [wp_un]
    refine k _ (wfI (wfA w hk ha) hkc ⟨by omega, by omega⟩) (g.tr ((Gr_sA hDi).tr (Gr_sI hDc))) (by rw [gI_sI, if_pos rfl]; omega) (fun j hj => by rw [gI_sI, if_neg hj, gI_sA]; exact i1 j) (fun j hj => ⟨by rw [gL_sI, gL_sA]; exact (l1 j hj).1, fun i => ?_⟩) (by rw [gL_sI, gL_sA]; exact l2) (by rw [gL_sI, gL_sA]; exact l3) (by rw [gL_sI, gL_sA]; exact l4) (by rw [gN_sI, gN_sAn, if_pos ⟨rfl, rfl⟩]) (fun i hi => ?_)
    · rw [gN_sI, gN_sAn, if_neg (fun z => hj z.1)]; exact (l1 j hj).2 i
    · rw [gN_sI, gN_sAn, if_neg (by omega)]; exact i2 i hi
  rw [wp_jn, wp_un, wp_un]
  refine wp_ite (fun he => ?_) (fun he => ?_)
  · rw [wp_un, wp_ar]
    have hng : n = gL u id := by omega
    have := hgrow hng
    refine ⟨⟨by omega, by omega⟩, ?_⟩
    refine wp_cpyC hw hk hin hDi (by omega) (by omega) (by omega) (fun s w g a1 a2 a3 a4 => ?_)
    exact put s w g a1 a2 (by omega) (by omega) (by omega) (fun i hi => a4 i (by omega))
  · exact put u hw Gr.rf (fun _ => rfl) (fun _ _ => ⟨rfl, fun _ => rfl⟩) (by omega) (Nat.le_refl _) hhi (fun _ _ => rfl)
/-- a row of nodes with the trees L, in the array id -/
def ArC (ν : Nat → Nat) (u : Sg) (id cn : Nat) (L : List Nat) : Prop := gI u cn = (L.length : Int) ∧ (L.length ≤ gL u id ∧ 16 ≤ gL u id ∧ gL u id ≤ 16384) ∧ ∀ (i f : Nat), L[i]? = some f → ∃ x : Nat, gN u id i = (x : Int) ∧ 0 < x ∧ x < nC u ∧ trC ν u x = f
theorem ArC.fr {ν : Nat → Nat} {c D id cn : Nat} {u u' : Sg} {X : Nat → Prop} {L : List Nat} (h : ArC ν u id cn L) (hs : SC ν c u) (hx : Ux ν c u u' X) (hg : Gr FC D u u') (h1 : D.testBit id = false) (h2 : D.testBit cn = false) : ArC ν u' id cn L := by
  obtain ⟨a, b, e⟩ := h
  have hn := hx.n hs
  refine ⟨by rw [hg.I cn h2]; exact a, by rw [hg.Ln id h1]; exact b, fun i f hi => ?_⟩
  obtain ⟨x, x1, x2, x3, x4⟩ := e i f hi
  exact ⟨x, by rw [hg.N id h1]; exact x1, x2, by omega, by rw [hx.tr hs x3]; exact x4⟩
theorem ArC.push {ν : Nat → Nat} {id cn x : Nat} {u s : Sg} {L : List Nat} (h : ArC ν u id cn L) (e : EqS u s) (x0 : 0 < x) (hx : x < nC u) (k1 : gI s cn = ((L.length + 1 : Nat) : Int)) (k2 : L.length + 1 ≤ gL s id) (k3 : 16 ≤ gL s id ∧ gL s id ≤ 16384) (k4 : gN s id L.length = (x : Int)) (k5 : ∀ i, i < L.length → gN s id i = gN u id i) : ArC ν s id cn (L ++ [trC ν u x]) := by
  obtain ⟨a, b, f⟩ := h
  refine ⟨by rw [k1, List.length_append]; rfl, ⟨by rw [List.length_append]; exact k2, k3⟩, fun i t hi => ?_⟩
  by_cases hil : i < L.length
  · rw [List.getElem?_append_left hil] at hi
    obtain ⟨y, y1, y2, y3, y4⟩ := f i t hi
    exact ⟨y, by rw [k5 i hil]; exact y1, y2, by rw [e.n]; exact y3, by rw [e.tr]; exact y4⟩
  · rw [List.getElem?_append_right (by omega)] at hi
    have h0 : i - L.length = 0 := by have := (List.getElem?_eq_some_iff.mp hi).1; simp at this; omega
    rw [h0] at hi
    simp at hi
    have ei : i = L.length := by omega
    exact ⟨x, by rw [ei]; exact k4, x0, by rw [e.n]; exact hx, by rw [e.tr]; exact hi⟩
def Dco : Nat := 2 ^ 45 + 2 ^ 53 + 2 ^ 54
theorem come_L11 {d : Nat} {ν : Nat → Nat} {c : Nat} {u : Sg} {Cl : List Nat} (h : ArC ν u 53 54 Cl) (hs : SC ν c u) {x : Nat} (hx : x < nC u) {xx : Int → Sg → Option (Int × Sg)} {xy : Sg → Option (Int × Sg)} : ∀ (m i f : Nat), i + m = Cl.length → m < f → ((∃ k : Nat, i ≤ k ∧ Cl[k]? = some (trC ν u x)) → bX1_come_L11 (runC d) f (x : Int) (i : Int) u xx xy = xy u) ∧ (¬ (∃ k : Nat, i ≤ k ∧ Cl[k]? = some (trC ν u x)) → bX1_come_L11 (runC d) f (x : Int) (i : Int) u xx xy = xx (x : Int) u) := by
  obtain ⟨a, b, e⟩ := h
  intro m
  induction m with
  | zero =>
    intro i f hi hf
    obtain ⟨f, rfl⟩ : ∃ f', f = f' + 1 := ⟨f - 1, by omega⟩
    rw [bX1_come_L11, un_eq, a, if_neg (by omega)]
    exact ⟨fun ⟨k, q1, q2⟩ => by have := (List.getElem?_eq_some_iff.mp q2).1; omega, fun _ => rfl⟩
  | succ m ih =>
    intro i f hi hf
    obtain ⟨f, rfl⟩ : ∃ f', f = f' + 1 := ⟨f - 1, by omega⟩
    have hil : i < Cl.length := by omega
    obtain ⟨y, y1, y0, y2, y3⟩ := e i _ (List.getElem?_eq_getElem hil)
    obtain ⟨n1, n2⟩ := ih (i + 1) f (by omega) (by omega)
    rw [bX1_come_L11, un_eq, a, if_pos (by omega), ld_nat (by omega), y1]
    by_cases hyx : y = x
    · rw [if_pos (by omega)]
      refine ⟨fun _ => rfl, fun q => absurd ⟨i, Nat.le_refl _, ?_⟩ q⟩
      rw [List.getElem?_eq_getElem hil, ← y3, hyx]
    · rw [if_neg (by omega), ar_pos ⟨by omega, by omega⟩, show (i : Int) + 1 = ((i + 1 : Nat) : Int) by omega]
      refine ⟨fun ⟨k, q1, q2⟩ => n1 ⟨k, ?_, q2⟩, fun q => n2 (fun ⟨k, q1, q2⟩ => q ⟨k, by omega, q2⟩)⟩
      by_cases hk : k = i
      · rw [hk, List.getElem?_eq_getElem hil, ← y3] at q2
        exact absurd (trC_inj hs y2 hx (Option.some.inj q2)) hyx
      · omega
/-- what coming comes to -/
def ComR (ν : Nat → Nat) (Kl Cl : List Nat) (u : Sg) (t : Nat) (u' : Sg) : Prop := ∃ Cl', ArC ν u' 53 54 Cl' ∧ ((gI u' 45 = gI u 45 ∧ (t ∈ Kl ∨ t ∈ Cl) ∧ Cl' = Cl) ∨ (gI u' 45 = gI u 45 ∧ t ∉ Kl ∧ t ∉ Cl ∧ Kl.length + Cl.length < 400 ∧ Cl' = Cl ++ [t]) ∨ (gI u' 45 = 1 ∧ t ∉ Kl ∧ t ∉ Cl ∧ 400 ≤ Kl.length + Cl.length ∧ Cl' = Cl))
theorem tX1_come {d : Nat} (hd : 4 ≤ d) {ν : Nat → Nat} {c : Nat} {u : Sg} {Kl Cl : List Nat} (hw : WF FC u) (hk : KnS ν u Kl) (hc : ArC ν u 53 54 Cl) (hs : SC ν c u) (hKl : Kl.length ≤ 2500) {x : Nat} (x0 : 0 < x) (hx : x < nC u) (hxl : x < 1000000) : wp (runC d 72 [(x : Int)] u) (fun _ u' => WF FC u' ∧ Gr FC Dco u u' ∧ ComR ν Kl Cl u (trC ν u x) u') := by
  obtain ⟨d, rfl⟩ : ∃ d', d = d' + 2 := ⟨d - 2, by omega⟩
  rw [runC_eq (by omega)]
  show wp (bX1_come (runC (d + 1)) x u) _
  unfold bX1_come
  obtain ⟨k1, k2⟩ := rX1_isKnownHere (d := d) (by omega) hk hs hx
  have hcL := hc.2.1
  by_cases hin : trC ν u x ∈ Kl
  · refine wp_eq (k1 hin) ?_
    rw [if_neg (by decide), wp_some]
    exact ⟨hw, Gr.rf, Cl, hc, Or.inl ⟨rfl, Or.inl hin, rfl⟩⟩
  · refine wp_eq (k2 hin) ?_
    rw [if_pos rfl]
    by_cases hic : trC ν u x ∈ Cl
    · obtain ⟨k, hk'⟩ := List.getElem?_of_mem hic
      rw [show bX1_come_L11 (runC (d + 1)) KF (x : Int) 0 u _ _ = _ from (come_L11 (d := d + 1) hc hs hx Cl.length 0 KF (by omega) (Nat.lt_of_le_of_lt (by omega : _ ≤ 65536) KF_gt)).1 ⟨k, Nat.zero_le _, hk'⟩, wp_some]
      exact ⟨hw, Gr.rf, Cl, hc, Or.inl ⟨rfl, Or.inr hic, rfl⟩⟩
    · rw [show bX1_come_L11 (runC (d + 1)) KF (x : Int) 0 u _ _ = _ from (come_L11 (d := d + 1) hc hs hx Cl.length 0 KF (by omega) (Nat.lt_of_le_of_lt (by omega : _ ≤ 65536) KF_gt)).2 (fun ⟨k, _, hk'⟩ => hic (List.mem_of_getElem? hk')), wp_un, wp_un, wp_ar]
      have k35 := hk.1.1
      have k54 := hc.1
      refine ⟨⟨by omega, by omega⟩, ?_⟩
      refine wp_ite (fun h4 => ?_) (fun h4 => ?_)
      · refine push_wp (D := Dco) (hi := 16384) (a := (x : Int)) hw rfl (by decide) (by decide +kernel) (by decide +kernel) rfl ⟨by omega, by omega⟩ hc.1 hcL.1 hcL.2.1 hcL.2.2 (by omega) (by omega) (fun s w g i1 i2 l1 l2 l3 l4 n1 n2 => ?_)
        rw [wp_some]
        obtain ⟨e, hU⟩ := g.ux (X := fun _ => False) hs (by decide +kernel)
        exact ⟨w, g, _, hc.push e x0 hx i1 l2 ⟨by omega, l4⟩ n1 n2, Or.inr (Or.inl ⟨i2 45 (by omega), hin, hic, by omega, rfl⟩)⟩
      · rw [wp_un, wp_some]
        have g : Gr FC Dco u (sI u 45 1) := Gr_sI (by decide +kernel)
        obtain ⟨e, hU⟩ := g.ux (X := fun _ => False) hs (by decide +kernel)
        refine ⟨hw.sI ⟨by omega, by omega⟩ (fun _ => Or.inr rfl), g, Cl, ⟨hc.1, hc.2.1, fun i f hi => ?_⟩, Or.inr (Or.inr ⟨rfl, hin, hic, by omega, rfl⟩)⟩
        obtain ⟨y, y1, y2, y3, y4⟩ := hc.2.2 i f hi
        exact ⟨y, y1, y2, by rw [e.n]; exact y3, by rw [e.tr]; exact y4⟩
theorem rX1_isNew {d : Nat} (hd : 2 ≤ d) {ν : Nat → Nat} {c : Nat} {u : Sg} (hs : SC ν c u) {x c0 : Nat} (x0 : 0 < x) (hx : x < nC u) (h57 : gI u 57 = (c0 : Int)) : Yq (runC (d + 1) 73 [(x : Int)] u) u (kd (trC ν u x) = 1 ∧ ∃ i, c0 ≤ i ∧ i < c ∧ wh (trC ν u x) = ν i) := by
  rw [runC_eq (by omega)]
  show Yq (bX1_isNew (runC d) x u) u _
  unfold bX1_isNew
  have hn := nodeC hs x0 hx
  have l1 : gL u 1 = gL u 0 := hs.1.1.2.2.2.1.1
  rw [jn_eq, ld_nat (by omega), hn.1]
  by_cases h1 : kd (trC ν u x) = 1
  · obtain ⟨i, i1, i2, i3⟩ := nodeC1 hs x0 hx h1
    rw [if_pos (by omega), ld_nat (by omega), i1, un_eq, h57]
    by_cases hi : i < c0
    · rw [if_pos (by omega)]
      refine ⟨fun ⟨_, j, j1, j2, j3⟩ => ?_, fun _ => rfl⟩
      rw [i3] at j3
      have := hs.2.2.2 i j i2 j2 j3
      omega
    · rw [if_neg (by omega)]
      exact ⟨fun _ => rfl, fun q => absurd ⟨h1, i, by omega, i2, i3⟩ q⟩
  · rw [if_neg (by omega)]
    exact ⟨fun q => absurd q.1 h1, fun _ => rfl⟩
