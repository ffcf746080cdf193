/-! terms that lose their last bound variable -/
/-- no bound variable but the one of a depth -/
def onlyB (t e : Nat) : Prop := ∀ s, subT s t → kd s = 2 → wh s = e
theorem tt_part {t c : Nat} (ho : okT t) (h : isTm t ∨ kd t = 8) (hc : c ∈ fms t) : isTm c ∨ kd c = 8 := by
  obtain ⟨i, i1, i2, i3⟩ := fms_at.mp hc
  have hm := (fms_ps hc).1
  unfold isTm at h
  rcases ho.n.2 with z | z | z | z | z | z | z | z | z | z | z | z | z | z <;> try omega
  · rw [z.2] at hm; cases hm
  · rw [z.2] at hm; cases hm
  · rw [z.2.1] at hm; cases hm
  · exact Or.inl (z.2.2 c hm)
  · obtain ⟨_, _, y, e, hy⟩ := z
    rw [e] at hm
    rw [List.mem_singleton.mp hm]; exact Or.inr hy
  · obtain ⟨h8, a, js, e, ha, _⟩ := z
    rw [e] at i2
    have : i = 0 := i1.resolve_left (fun q => q h8)
    rw [this] at i2
    simp at i2
    rw [i2] at ha
    exact Or.inl (ha.resolve_left i3)
theorem tm_bd : ∀ (t : Nat), okT t → (isTm t ∨ kd t = 8) → ∀ s, subT s t → kd s = 2 → wh s < loT t := by
  intro t
  induction t using Nat.strongRecOn with
  | ind t ih =>
    intro ho ht s hs h2
    rw [subT_eq] at hs
    rcases hs with e | ⟨c, c1, c2⟩
    · rw [e] at h2 ⊢
      rw [loT_eq]
      unfold loS
      rw [if_pos h2]
      omega
    · have := ih c (fms_lt c1) (ho.c c1) (tt_part ho ht c1) s c2 h2
      have := lo_part ho.n (by unfold isTm at ht; omega) c1
      omega
theorem onlyB_eq {t e : Nat} (h2 : kd t ≠ 2) : onlyB t e ↔ ∀ c ∈ fms t, onlyB c e := by
  constructor
  · intro h c hc s hs q
    exact h s (sub_c hc hs) q
  · intro h s hs q
    rw [subT_eq] at hs
    rcases hs with z | ⟨c, c1, c2⟩
    · rw [z] at q; exact absurd q h2
    · exact h c c1 s c2 q
theorem onlyB_cl {t e : Nat} (ho : okT t) (h : isTm t ∨ kd t = 8) (h0 : loT t = 0) : onlyB t e := fun s hs q => by
  have := tm_bd t ho h s hs q
  omega
theorem isWithin_L77 {d : Nat} (hd : 3 ≤ d) {ν : Nat → Nat} {c : Nat} {u : Sg} (hs : SC ν c u) {x t e lim : Nat} (x0 : 0 < x) (hx : x < nC u) (et : trC ν u x = t) (ih : ∀ c1 ∈ fms t, ∀ y, 0 < y → y < nC u → trC ν u y = c1 → Yq (runC d 75 [(y : Int), (e : Int)] u) u (¬ onlyB c1 e)) (hl : lim ≤ (ps t).length) (hl8 : kd t = 8 → lim ≤ 1) (hl3 : lim ≤ 300000) : ∀ (m i f : Nat), i + m = lim → m < f → Yq (bX1_isWithin_L77 (runC d) f (x : Int) (e : Int) (lim : Int) (i : Int) u (fun s6 => some (0, s6)) (fun s7 => some (1, s7))) u (∃ j, i ≤ j ∧ j < lim ∧ pa t j ≠ 0 ∧ ¬ onlyB (pa t j) e) := by
  intro m
  induction m with
  | zero =>
    intro i f hi hf
    obtain ⟨f, rfl⟩ : ∃ f', f = f' + 1 := ⟨f - 1, by omega⟩
    rw [bX1_isWithin_L77, if_neg (by omega)]
    exact ⟨fun ⟨j, q1, q2, _⟩ => by omega, fun _ => rfl⟩
  | succ m ihm =>
    intro i f hi hf
    obtain ⟨f, rfl⟩ : ∃ f', f = f' + 1 := ⟨f - 1, by omega⟩
    have hil : i < (ps t).length := by omega
    have h8 : kd t ≠ 8 ∨ i = 0 := by
      by_cases q : kd t = 8
      · have := hl8 q; exact Or.inr (by omega)
      · exact Or.inl q
    obtain ⟨y, y1, y2, y3⟩ := partN (d := d) hd hs x0 hx (by rw [et]; exact hil) (by rw [et]; exact h8)
    rw [et] at y3
    obtain ⟨n1, n2⟩ := ihm (i + 1) f (by omega) (by omega)
    have nxt : (pa t i = 0 ∨ onlyB (pa t i) e) → Yq (ar ((i : Int) + 1) fun v3 => bX1_isWithin_L77 (runC d) f (x : Int) (e : Int) (lim : Int) v3 u (fun s6 => some (0, s6)) (fun s7 => some (1, s7))) u (∃ j, i ≤ j ∧ j < lim ∧ pa t j ≠ 0 ∧ ¬ onlyB (pa t j) e) := fun hno => by
      rw [ar_pos ⟨by omega, by omega⟩, show (i : Int) + 1 = ((i + 1 : Nat) : Int) by omega]
      refine ⟨fun ⟨j, q1, q2, q3, q4⟩ => n1 ⟨j, ?_, q2, q3, q4⟩, fun q => n2 (fun ⟨j, q1, q2⟩ => q ⟨j, by omega, q2⟩)⟩
      by_cases hji : j = i
      · rw [hji] at q3 q4
        rcases hno with z | z
        · exact absurd z q3
        · exact absurd z q4
      · omega
    rw [bX1_isWithin_L77, if_pos (by omega), cl_eq y1]
    by_cases hy0 : y = 0
    · rw [if_pos (by omega)]
      exact nxt (Or.inl (by rw [← y3, hy0]; rfl))
    · have hp0 : pa t i ≠ 0 := fun q => by
        have := tr_pos (okp_C (ν := ν) hs.1) (x := y) (by omega) (by show y ≤ nC u - 1; omega)
        rw [show tr (stC ν u) y = trC ν u y from rfl, y3, q] at this
        omega
      have hfm : pa t i ∈ fms t := fms_at.mpr ⟨i, h8, pa_get hil, hp0⟩
      obtain ⟨k1, k2⟩ := ih _ hfm y (by omega) (by omega) y3
      rw [if_neg (by omega), cl_eq y1]
      by_cases hb : onlyB (pa t i) e
      · rw [cl_eq (k2 (fun q => q hb)), if_pos rfl]
        exact nxt (Or.inr hb)
      · rw [cl_eq (k1 hb), if_neg (by decide)]
        exact ⟨fun _ => rfl, fun q => absurd ⟨i, Nat.le_refl _, by omega, hp0, hb⟩ q⟩
theorem rX1_isWithin {ν : Nat → Nat} {c : Nat} {u : Sg} (hs : SC ν c u) (hn9 : nC u ≤ 90000) {e : Nat} : ∀ (t : Nat), okT t → (isTm t ∨ kd t = 8) → ∀ (d x : Nat), 4 + htQ t ≤ d → 0 < x → x < nC u → trC ν u x = t → Yq (runC d 75 [(x : Int), (e : Int)] u) u (¬ onlyB t e) := by
  intro t
  induction t using Nat.strongRecOn with
  | ind t ih =>
    intro ho htt d x hd x0 hx et
    obtain ⟨d, rfl⟩ : ∃ d', d = d' + 1 := ⟨d - 1, by omega⟩
    rw [runC_eq (by omega)]
    show Yq (bX1_isWithin (runC d) x e u) u _
    unfold bX1_isWithin
    have hn := nodeC hs x0 hx
    rw [et] at hn
    have hlo := lo_C hs x x0 hx (by rw [et]; exact ho)
    rw [et] at hlo
    obtain ⟨⟨q1, q2, q3⟩, ⟨q4, q5⟩, ⟨q6, q7⟩, ⟨l1, l2, l3, l4, l5, l6⟩, l8, l11, l0, l7⟩ := id hs.1.1
    have t0 : t ≠ 0 := fun q => by rw [q] at htt; unfold isTm at htt; rw [kd0] at htt; omega
    rw [ld_nat (by omega), hlo]
    by_cases h0 : loT t = 0
    · rw [if_pos (by omega)]
      exact ⟨fun q => absurd (onlyB_cl ho htt h0) q, fun _ => rfl⟩
    · rw [if_neg (by omega), ld_nat (by omega), hn.1]
      by_cases h2 : kd t = 2
      · rw [if_pos (by omega), ld_nat (by omega), hn.2.1 (by omega)]
        have ps0 : ps t = [] := by
          rcases ho.n.2 with z | z | z | z | z | z | z | z | z | z | z | z | z | z <;> first | omega | exact z.2
        have hob : onlyB t e ↔ wh t = e := by
          constructor
          · exact fun q => q t (sub_rf t) h2
          · intro q s hs' _
            rw [subT_eq] at hs'
            rcases hs' with z | ⟨c1, z, _⟩
            · rw [z]; exact q
            · have := (fms_ps z).1
              rw [ps0] at this; cases this
        by_cases hw : wh t = e
        · rw [if_pos (by omega)]
          exact ⟨fun q => absurd (hob.mpr hw) q, fun _ => rfl⟩
        · rw [if_neg (by omega)]
          exact ⟨fun _ => rfl, fun q => absurd (fun z => hw (hob.mp z)) q⟩
      · rw [if_neg (by omega), jn_eq, ld_nat (by omega), hn.1]
        have hms := (Ms_Q t ho t0).2 0 (fun _ => by omega)
        have lenb : (ps t).length ≤ 300000 := by have := hn.2.2.2.1.2; have := hn.2.2.2.2.2; omega
        have ihc : ∀ c1 ∈ fms t, ∀ y, 0 < y → y < nC u → trC ν u y = c1 → Yq (runC d 75 [(y : Int), (e : Int)] u) u (¬ onlyB c1 e) := fun c1 h1 y y0 hy ey => ih c1 (fms_lt h1) (ho.c h1) (tt_part ho htt h1) d y (by have := (hms.2.1 c1 h1).2; omega) y0 hy ey
        have fin : ∀ lim : Nat, lim ≤ (ps t).length → (kd t = 8 → lim = 1) → (kd t ≠ 8 → lim = (ps t).length) → Yq (bX1_isWithin_L77 (runC d) KF (x : Int) (e : Int) (lim : Int) ((0 : Nat) : Int) u (fun s6 => some (0, s6)) (fun s7 => some (1, s7))) u (¬ onlyB t e) := fun lim a1 a2 a3 => by
          obtain ⟨k1, k2⟩ := isWithin_L77 (d := d) (e := e) (by omega) hs x0 hx et ihc a1 (fun q => by rw [a2 q]; omega) (by omega) lim 0 KF (by omega) (Nat.lt_of_le_of_lt (by omega : _ ≤ 300000) KF_300)
          have key : (∃ j, 0 ≤ j ∧ j < lim ∧ pa t j ≠ 0 ∧ ¬ onlyB (pa t j) e) ↔ ¬ onlyB t e := by
            rw [onlyB_eq h2]
            constructor
            · rintro ⟨j, _, j1, j2, j3⟩ q
              refine j3 (q _ (fms_at.mpr ⟨j, ?_, pa_get (by omega), j2⟩))
              by_cases h8 : kd t = 8
              · exact Or.inr (by have := a2 h8; omega)
              · exact Or.inl h8
            · intro q
              refine Classical.byContradiction (fun z => q (fun c1 h1 => Classical.byContradiction (fun w => z ?_)))
              obtain ⟨i, i1, i2, i3⟩ := fms_at.mp h1
              have hil := (List.getElem?_eq_some_iff.mp i2).1
              refine ⟨i, Nat.zero_le _, ?_, by rw [pa_at i2]; exact i3, by rw [pa_at i2]; exact w⟩
              by_cases h8 : kd t = 8
              · have := i1.resolve_left (fun q => q h8)
                have := a2 h8; omega
              · rw [a3 h8]; exact hil
          exact ⟨fun q => k1 (key.mpr q), fun q => k2 (fun z => q (key.mp z))⟩
        by_cases h8 : kd t = 8
        · rw [if_pos (by omega)]
          refine fin 1 ?_ (fun _ => rfl) (fun q => absurd h8 q)
          rcases ho.n.2 with z | z | z | z | z | z | z | z | z | z | z | z | z | z <;> try omega
          obtain ⟨_, a, js, ee, _⟩ := z
          rw [ee]; simp
        · rw [if_neg (by omega), ld_nat (by omega), hn.2.2.1]
          exact fin _ (Nat.le_refl _) (fun q => absurd q h8) (fun _ => rfl)
/-- some whole term within, with what is said of it -/
def exS (A : Nat → Nat → Prop) (f : Nat → Nat → Prop) (t : Nat) : Nat → Prop := fun e => kd t ≠ 2 ∧ e < loT t ∧ ((isTm t ∧ onlyB t e ∧ A t e) ∨ ∃ i c, (kd t ≠ 8 ∨ i = 0) ∧ (ps t)[i]? = some c ∧ c ≠ 0 ∧ f c (dpT t e i))
def exW (A : Nat → Nat → Prop) (t e : Nat) : Prop := rcT (exS A) (fun _ => False) t e
theorem exW_eq (A : Nat → Nat → Prop) (t e : Nat) : exW A t e = (kd t ≠ 2 ∧ e < loT t ∧ ((isTm t ∧ onlyB t e ∧ A t e) ∨ ∃ i c, (kd t ≠ 8 ∨ i = 0) ∧ (ps t)[i]? = some c ∧ c ≠ 0 ∧ exW A c (dpT t e i))) := by
  unfold exW
  rw [rc_eq (fun f f' t h => by
    unfold exS
    funext d
    refine propext ⟨fun ⟨a, b, c⟩ => ⟨a, b, c.imp id (fun ⟨i, c, c1, c2, c3, c4⟩ => ⟨i, c, c1, c2, c3, by rw [← h c (List.mem_of_getElem? c2)]; exact c4⟩)⟩, fun ⟨a, b, c⟩ => ⟨a, b, c.imp id (fun ⟨i, c, c1, c2, c3, c4⟩ => ⟨i, c, c1, c2, c3, by rw [h c (List.mem_of_getElem? c2)]; exact c4⟩)⟩⟩) t]
  rfl
theorem counted_C {d : Nat} (hd : 3 ≤ d) {ν : Nat → Nat} {c : Nat} {u : Sg} {H : List Nat} {p : Nat → Nat} (h : HaC ν u H p) (hs : SC ν c u) {x : Nat} (hx : x < nC u) {Q : Int → Sg → Prop} {K : Int → Sg → Option (Int × Sg)} (k1 : 0 < x → trC ν u x ∈ H → wp (K (x : Int) (sI u 58 1)) Q) (k2 : (x = 0 ∨ trC ν u x ∉ H) → wp (K (x : Int) (sI u 59 1)) Q) : wp (cl (runC (d + 1) 76 [(x : Int)] u) K) Q := by
  rw [runC_eq (by omega)]
  show wp (cl (bX1_counted (runC d) x u) K) Q
  unfold bX1_counted
  obtain ⟨d, rfl⟩ : ∃ d', d = d' + 1 := ⟨d - 1, by omega⟩
  obtain ⟨a1, a2⟩ := rX1_isAtHand (d := d) (by omega) h hs hx
  rw [jn_eq]
  by_cases h0 : x = 0
  · rw [if_pos (by omega)]
    exact k2 (Or.inl h0)
  · rw [if_neg (by omega)]
    by_cases hm : trC ν u x ∈ H
    · rw [cl_eq (a1 hm), if_neg (by decide), un_eq, cl_some_eq]
      exact k1 (by omega) hm
    · rw [cl_eq (a2 hm), if_pos rfl]
      exact k2 (Or.inr hm)
