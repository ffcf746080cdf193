/-! a formula opened: new constants for all that is said to be there -/
def nu2 : Nat → Nat := fun i => 2 * i
theorem nuU_2 (c : Nat) : nuU nu2 c (2 * c) = nu2 := by
  funext i
  unfold nuU nu2
  by_cases h : i = c
  · rw [if_pos h, h]
  · rw [if_neg h]
theorem SC.le {c c' : Nat} {u : Sg} (h : SC nu2 c u) (hc : c ≤ c') : SC nu2 c' u := ⟨h.1, h.2.1, fun x x0 hx k => by have := h.2.2.1 x x0 hx k; omega, fun i j _ _ e => by unfold nu2 at e; omega⟩
def opL (F : Nat → Nat → Nat × Nat) : List Nat → Nat → List Nat × Nat
  | [], c => ([], c)
  | p :: l, c => ((F p c).1 :: (opL F l (F p c).2).1, (opL F l (F p c).2).2)
def opF : Nat → Nat → Nat → Nat × Nat
  | 0, f, c => (f, c)
  | n + 1, f, c => if kd f = 17 then (andT (opL (opF n) (ps f) c).1, (opL (opF n) (ps f) c).2) else if kd f = 16 then (if kd (pa f 0) = 17 then (mk 30 0 (opL (opF n) ((ps (pa f 0)).map notT) c).1, (opL (opF n) ((ps (pa f 0)).map notT) c).2) else if kd (pa f 0) = 18 then opF n (notT (sbT (putg (mk 1 (2 * c) [])) 0 (pa (pa f 0) 1))) (c + 1) else (f, c)) else (f, c)
def opRL (G : Nat → Nat → Prop) (F : Nat → Nat → Nat × Nat) : List Nat → Nat → Prop
  | [], _ => True
  | p :: l, c => G p c ∧ opRL G F l (F p c).2
/-- what opening asks for -/
def opR (W : Wd) (X : Nat → Prop) : Nat → Nat → Nat → Prop
  | 0, f, _ => kd f ≠ 17 ∧ ¬ (kd f = 16 ∧ (kd (pa f 0) = 17 ∨ kd (pa f 0) = 18))
  | n + 1, f, c => (kd f = 17 → opRL (opR W X n) (opF n) (ps f) c ∧ X (andT (opL (opF n) (ps f) c).1) ∧ ((opL (opF n) (ps f) c).1.flatMap flt).length ≤ 5000 ∧ ∀ h ∈ (opL (opF n) (ps f) c).1, kd h = 17 → ∀ t ∈ ps h, 0 < t) ∧ (kd f = 16 → kd (pa f 0) = 17 → (∀ p ∈ ps (pa f 0), X (notT p)) ∧ opRL (opR W X n) (opF n) ((ps (pa f 0)).map notT) c ∧ X (mk 30 0 (opL (opF n) ((ps (pa f 0)).map notT) c).1)) ∧ (kd f = 16 → kd (pa f 0) = 18 → (wcT W (2 * c) = pa (pa f 0) 0 ∧ X (mk 1 (2 * c) []) ∧ ImT X (putg (mk 1 (2 * c) [])) (pa (pa f 0) 1) 0 ∧ X (notT (sbT (putg (mk 1 (2 * c) [])) 0 (pa (pa f 0) 1)))) ∧ opR W X n (notT (sbT (putg (mk 1 (2 * c) [])) 0 (pa (pa f 0) 1))) (c + 1))
theorem opL_le {F : Nat → Nat → Nat × Nat} (hF : ∀ p c, c ≤ (F p c).2) : ∀ (l : List Nat) (c : Nat), c ≤ (opL F l c).2
  | [], _ => Nat.le_refl _
  | p :: l, c => Nat.le_trans (hF p c) (opL_le hF l _)
theorem opF_le : ∀ (n f c : Nat), c ≤ (opF n f c).2
  | 0, _, _ => Nat.le_refl _
  | n + 1, f, c => by
    rw [opF]
    split
    · exact opL_le (opF_le n) _ _
    · split
      · split
        · exact opL_le (opF_le n) _ _
        · split
          · exact Nat.le_trans (Nat.le_succ c) (opF_le n _ _)
          · exact Nat.le_refl _
      · exact Nat.le_refl _
theorem opL_len {F : Nat → Nat → Nat × Nat} : ∀ (l : List Nat) (c : Nat), (opL F l c).1.length = l.length
  | [], _ => rfl
  | p :: l, c => by rw [opL]; simp [opL_len l]
/-- from u on formulas have been opened -/
def OpI (W : Wd) (X : Nat → Prop) (c : Nat) (u u1 : Sg) : Prop := CW nu2 c W u1 ∧ WF FC u1 ∧ CtL u1 ∧ (nC u ≤ nC u1 ∧ (∀ x, x < nC u → trC nu2 u1 x = trC nu2 u x) ∧ ∀ t, ndC nu2 u1 t → ndC nu2 u t ∨ X t) ∧ ∀ i, i < rC u → gN u1 11 i = gN u 11 i
theorem OpI.tr {W : Wd} {X : Nat → Prop} {c c' : Nat} {u u1 u2 : Sg} (h : OpI W X c u u1) (h' : OpI W X c' u1 u2) (hr : rC u ≤ rC u1) : OpI W X c' u u2 :=
  ⟨h'.1, h'.2.1, h'.2.2.1, ⟨Nat.le_trans h.2.2.2.1.1 h'.2.2.2.1.1, fun x hx => by rw [h'.2.2.2.1.2.1 x (Nat.lt_of_lt_of_le hx h.2.2.2.1.1), h.2.2.2.1.2.1 x hx], fun t ht => (h'.2.2.2.1.2.2 t ht).elim (h.2.2.2.1.2.2 t) Or.inr⟩, fun i hi => by rw [h'.2.2.2.2 i (by omega), h.2.2.2.2 i hi]⟩
theorem OpI.rf {W : Wd} {X : Nat → Prop} {c : Nat} {u : Sg} (h1 : CW nu2 c W u) (h2 : WF FC u) (h3 : CtL u) : OpI W X c u u := ⟨h1, h2, h3, ⟨Nat.le_refl _, fun _ _ => rfl, fun _ q => Or.inl q⟩, fun _ _ => rfl⟩
theorem OpI.lim {W : Wd} {X : Nat → Prop} {c : Nat} {u u1 : Sg} (h : OpI W X c u u1) (hl : Lim nu2 u X) : Lim nu2 u1 X := fun l hn hm => hl l hn (fun t ht => (hm t ht).elim (h.2.2.2.1.2.2 t) Or.inr)
theorem OpI.st {W : Wd} {X : Nat → Prop} {c D : Nat} {u u1 : Sg} (h1 : CW nu2 c W u) (h3 : CtL u) (hU : Up nu2 c u u1 X) (hw : WF FC u1) (g : Gr FC D u u1) (hD : D &&& mkW = 0) (h85 : D.testBit 85 = false) : OpI W X c u u1 :=
  ⟨h1.up hU.ux g hD, hw, by unfold CtL; rw [g.Ln 85 h85]; exact h3, ⟨hU.n h1.1, fun x hx => hU.tr h1.1 hx, hU.2.2.2.2.1⟩, hU.2.2.2.2.2.2⟩
theorem tX1_newOneW {d : Nat} (hd : 7 ≤ d) {c : Nat} {W : Wd} {u : Sg} {X : Nat → Prop} {y : Nat} (h1 : CW nu2 c W u) (h2 : WF FC u) (hL : CtL u) (hc : c ≤ 8000) (hy : y < nC u) (ey : trC nu2 u y = wcT W (2 * c)) (hy9 : y < 1000000) (hX : X (mk 1 (2 * c) [])) (hl : Lim nu2 u X) : wp (runC d 19 [(y : Int)] u) (fun r u' => ∃ x : Nat, r = (x : Int) ∧ 0 < x ∧ x < nC u' ∧ trC nu2 u' x = mk 1 (2 * c) [] ∧ OpI W X (c + 1) u u' ∧ rC u' = rC u) := by
  obtain ⟨d, rfl⟩ : ∃ d', d = d' + 1 := ⟨d - 1, by omega⟩
  rw [runC_eq (by omega)]
  show wp (bX1_newOne (runC d) y u) _
  unfold bX1_newOne
  have hs := h1.1
  obtain ⟨c1, c2, c3⟩ := h1.2.2.1
  have hn : ¬ Nm nu2 c (2 * c) := fun ⟨i, i1, i2⟩ => by unfold nu2 at i2; omega
  refine push_wp (id := 85) (cn := 86) (D := Dct) (n := c) (hi := 16384) (a := (y : Int)) h2 rfl (by decide) (by decide +kernel) (by decide +kernel) rfl ⟨by omega, by omega⟩ c1 c2 hL.1 hL.2 (by omega) (by omega) (fun s w g i1 i2 a1 a2 a3 a4 n1 n2 => ?_)
  obtain ⟨e, hU⟩ := g.ux (X := X) hs (by decide +kernel)
  have hs' := hU.sc
  have hCW := CW_ne (n := 2 * c) h1 hn hy ey e hs' i1 i2 a1 a2 n1 n2
  rw [nuU_2] at hCW
  have hsN := hCW.1
  have hr := hs'.r
  rw [wp_un, i1, wp_ar]
  refine ⟨⟨by omega, by omega⟩, ?_⟩
  rw [wp_un, hr.1, show (((c + 1 : Nat) : Int) - 1) = (c : Int) by omega]
  have er : rowC s (rC s) = [] := List.eq_nil_of_length_eq_zero (by rw [row_len]; omega)
  have erT : rowT nu2 s 1 (rC s) = [] := by
    unfold rowT
    rw [er]
    rfl
  have hl' : Lim nu2 s X := hU.ux.lim hl
  have eN : nu2 c = 2 * c := rfl
  refine wp_call (tX2_make (d := d) (k := 1) (w := c) (a := rC s) (X := X) (by omega) w hsN (by decide) (by omega) (fun q => by omega) (fun _ => by omega) (Nat.le_refl _) (by rw [er]; intro v hv; cases hv) (by rw [er]; intro p hp; cases hp) (by omega) (by rw [if_pos rfl, erT, eN]; exact hX) hl') (fun r u' ⟨x, b1, b2, b3, b4, b5, b6, b7, b8, b9, b10, b11, b12, b13⟩ => ?_)
  rw [if_pos rfl, erT, eN] at b5
  rw [wp_some]
  have hU2 : Up nu2 (c + 1) s u' X := ⟨b4.1, b4.2.1, b4.2.2, b8, b9, b10, b11⟩
  have hrs : rC s = rC u := hU.2.2.2.2.2.1
  refine ⟨x, b1, b2, b3, b5, ⟨hCW.up hU2.ux b13 (by decide +kernel), b12, ⟨by rw [b13.Ln 85 (by decide +kernel)]; have := hL.1; omega, by rw [b13.Ln 85 (by decide +kernel)]; exact a4⟩, ⟨by rw [← e.n]; exact b7, fun z hz => by rw [b6 z (by rw [e.n]; exact hz), e.tr], fun t ht => (b9 t ht).imp (e.nd t).mp id⟩, fun i hi => by rw [b11 i (by omega)]; exact hU.2.2.2.2.2.2 i hi⟩, by rw [b10]; exact hrs⟩
theorem szT_put {s : Nat} (hs : szT s = 1) : ∀ (t : Nat), okT t → ∀ e, szT (sbT (putg s) e t) ≤ szT t := by
  intro t
  induction t using Nat.strongRecOn with
  | ind t ih =>
    intro ho e
    have t0 : t ≠ 0 := fun q => by
      have := okN_kd ho.n
      rw [q] at this
      unfold isTm isFo at this
      rw [kd0] at this
      omega
    have hp := sz_pos t0
    by_cases h3 : kd t ≤ 3
    · rw [sbT_eq, if_pos h3]
      unfold putg
      split
      · omega
      · exact Nat.le_refl _
    · obtain ⟨k1, k2, k3⟩ := sb_kd (g := putg s) (d := e) h3
      have s0 : sbT (putg s) e t ≠ 0 := fun q => by rw [q, kd0] at k1; omega
      rw [szT_ex s0, szT_ex t0]
      have key : ∀ (d : Nat) (l : List Nat), (∀ c ∈ l, c ≠ 0 → c ∈ fms t) → ((l.map (zf (sbT (putg s) d))).map szT).sum ≤ (l.map szT).sum := by
        intro d l
        induction l with
        | nil => exact fun _ => Nat.le_refl _
        | cons c l ihl =>
          intro h
          simp only [List.map_cons, List.sum_cons]
          have h1 := ihl (fun x hx => h x (List.mem_cons_of_mem _ hx))
          have h2 : szT (zf (sbT (putg s) d) c) ≤ szT c := by
            unfold zf
            by_cases q : c = 0
            · rw [if_pos q, q]; exact Nat.le_refl _
            · rw [if_neg q]
              have hm := h c List.mem_cons_self q
              exact ih c (fms_lt hm) (ho.c hm) d
          omega
      have tk : ∀ c ∈ (ps t).take 1, c ≠ 0 → c ∈ fms t := fun c hc h0 => by
        obtain ⟨i, hi⟩ := List.getElem?_of_mem hc
        rw [List.getElem?_take] at hi
        by_cases q : i < 1
        · rw [if_pos q] at hi
          exact fms_at.mpr ⟨i, Or.inr (by omega), hi, h0⟩
        · rw [if_neg q] at hi; cases hi
      unfold exp1
      rw [k1, k3]
      unfold chm
      by_cases k8 : kd t = 8
      · rw [if_pos k8, if_pos k8, if_pos k8]
        have l1 : (((ps t).take 1).map (zf (sbT (putg s) e)) ++ (ps t).drop 1).take 1 = ((ps t).take 1).map (zf (sbT (putg s) e)) ∧ (((ps t).take 1).map (zf (sbT (putg s) e)) ++ (ps t).drop 1).drop 1 = (ps t).drop 1 := by
          cases hps : ps t with
          | nil => exact ⟨rfl, rfl⟩
          | cons a l => exact ⟨rfl, rfl⟩
        rw [l1.1, l1.2]
        have := key e _ tk
        omega
      · rw [if_neg k8, if_neg k8, if_neg k8]
        by_cases k18 : kd t = 18
        · rw [if_pos k18, List.map_append, List.sum_append]
          have a := key e _ tk
          have b := key (e + 1) ((ps t).drop 1) (fun c hc h0 => fms_mem (List.mem_of_mem_drop hc) k8 h0)
          have d : ((ps t).map szT).sum = (((ps t).take 1).map szT).sum + (((ps t).drop 1).map szT).sum := by
            rw [← List.sum_append, ← List.map_append, List.take_append_drop]
          omega
        · rw [if_neg k18]
          have := key e (ps t) (fun c hc h0 => fms_mem hc k8 h0)
          omega
theorem szT_not {f : Nat} (ho : okT f) : szT (notT f) ≤ szT f + 1 := by
  unfold notT
  by_cases h : kd f = 16
  · rw [if_pos h]
    obtain ⟨g, e, hg⟩ := not_wf ho h
    rw [e]
    have hm : g ∈ fms f := fms_at.mpr ⟨0, Or.inr rfl, by rw [e]; rfl, by omega⟩
    have := sz_c hm
    show szT g ≤ _
    omega
  · rw [if_neg h, szT_ex (Nat.pos_iff_ne_zero.mp (mk_pos _ _ _))]
    unfold exp1
    rw [kd_mk, if_neg (by decide), ps_mk]
    simp
    omega
