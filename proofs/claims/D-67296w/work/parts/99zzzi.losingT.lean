/-! terms that lose their last bound variable, in the model -/
/-- a number of a node: a part, or none -/
theorem partJ {d : Nat} (hd : 4 ≤ d) {ν : Nat → Nat} {c : Nat} {u : Sg} (hs : ST ν c u) {x t j : Nat} (x0 : 0 < x) (hx : x ≤ nT u) (et : trT ν u x = t) (ho : okT t) (hj : j < (ps t).length + nw (kd t)) : (runT d 16 [(x : Int), (j : Int)] u = some (0, u) ∧ ∀ i, j = i + nw (kd t) → (kd t ≠ 8 ∨ i = 0) → pa t i = 0) ∨ ∃ i y : Nat, j = i + nw (kd t) ∧ (kd t ≠ 8 ∨ i = 0) ∧ i < (ps t).length ∧ runT d 16 [(x : Int), (j : Int)] u = some (1, u) ∧ runT d 7 [(x : Int), (j : Int)] u = some ((y : Int), u) ∧ 0 < y ∧ y < x ∧ trT ν u y = pa t i ∧ pa t i ∈ fms t := by
  have hpart := isPartT (d := d) hd hs x0 hx (by rw [et]; exact ho) (j := j) (by rw [et]; exact hj)
  rw [et] at hpart
  by_cases hp : isPt (kd t) j (dt u x j)
  · rw [if_pos hp] at hpart
    have hgt := getT (d := d) (by omega) hs x0 hx (i := j) (by rw [et]; exact hj)
    obtain ⟨p1, p2, p3, p4⟩ := hp
    obtain ⟨i', hi'⟩ : ∃ i', j = i' + nw (kd t) := ⟨j - nw (kd t), by omega⟩
    have hil' : i' < (ps t).length := by omega
    have h8 : kd t ≠ 8 ∨ i' = 0 := by
      by_cases q : kd t = 8
      · have := p3 q
        rw [q] at hi'
        have : nw 8 = 1 := by decide
        exact Or.inr (by omega)
      · exact Or.inl q
    have hpc := partT hs x0 hx (i := i') (t := pa t i') (by rw [et]; exact pa_get hil')
    rw [et, ← hi'] at hpc
    obtain ⟨b1, b2⟩ := hpc.2.1 h8
    have hy0 : 0 < (dt u x j).toNat := by omega
    have hc0 : pa t i' ≠ 0 := by
      have : 0 < trT ν u (dt u x j).toNat := tr_pos (okp_T (ν := ν) hs.1) hy0 (by show (dt u x j).toNat ≤ nT u; omega)
      omega
    refine Or.inr ⟨i', (dt u x j).toNat, hi', h8, hil', hpart, ?_, hy0, b1, b2, fms_at.mpr ⟨i', h8, pa_get hil', hc0⟩⟩
    rw [hgt, Int.toNat_of_nonneg hpc.1]
  · rw [if_neg hp] at hpart
    refine Or.inl ⟨hpart, fun i hi h8 => ?_⟩
    refine Classical.byContradiction (fun hne => hp ?_)
    have hil' : i < (ps t).length := by omega
    have hpc := partT hs x0 hx (i := i) (t := pa t i) (by rw [et]; exact pa_get hil')
    rw [et, ← hi] at hpc
    obtain ⟨b1, b2⟩ := hpc.2.1 h8
    have hpos : 0 < dt u x j := by
      rcases Int.lt_or_le 0 (dt u x j) with q | q
      · exact q
      · have : (dt u x j).toNat = 0 := by omega
        rw [this] at b2
        exact absurd b2.symm hne
    have k3 : 3 < kd t := by
      refine Nat.lt_of_not_le (fun q => ?_)
      have : ps t = [] := by
        rcases ho.n.2 with z | z | z | z | z | z | z | z | z | z | z | z | z | z <;> first | omega | exact z.2 | exact z.2.1
      rw [this] at hil'
      exact absurd hil' (by simp)
    refine ⟨k3, by omega, fun q => ?_, hpos⟩
    have : nw 8 = 1 := by decide
    rcases h8 with w | w
    · exact absurd q w
    · rw [hi, q]; omega
theorem tm_len {t : Nat} (ho : okT t) (h : isTm t ∨ kd t = 8) : (ps t).length ≤ 31 := by
  unfold isTm at h
  rcases ho.n.2 with q | q | q | q | q | q | q | q | q | q | q | q | q | q <;> try omega
  · rw [q.2]; simp
  · rw [q.2]; simp
  · rw [q.2.1]; simp
  · obtain ⟨_, _, y, e, _⟩ := q
    rw [e]; simp
  · obtain ⟨_, a, js, e, _, h30, _⟩ := q
    rw [e]; simp; omega
theorem rX3_isOnly {ν : Nat → Nat} {c : Nat} {u : Sg} (hs : ST ν c u) {e : Nat} : ∀ (t : Nat), okT t → (isTm t ∨ kd t = 8) → ∀ (d x : Nat), 6 + htT t ≤ d → 0 < x → x ≤ nT u → trT ν u x = t → Yq (runT d 109 [(x : Int), (e : Int)] u) u (onlyB t e) := by
  intro t
  induction t using Nat.strongRecOn with
  | ind t ih =>
    intro ho htt d x hd x0 hx et
    have hhp : 1 ≤ htT t := by rw [htT_eq]; omega
    obtain ⟨d, rfl⟩ : ∃ d', d = d' + 1 := ⟨d - 1, by omega⟩
    rw [runT_eq (by omega)]
    show Yq (bX3_isOnly (runT d) x e u) u _
    unfold bX3_isOnly
    have hn := nodeT hs x0 hx
    rw [et] at hn
    have hin := okT_kin ho
    have hl3 : x < gL u 3 := by rw [hs.1.1.2.2.2.1.2.1]; exact hs.k hx
    have hlen := tm_len ho htt
    have hnw := nw_le (kd t)
    rw [ld_nat (hs.k hx), hn.1]
    by_cases h2 : kd t = 2
    · have nw1 : nw (kd t) = 1 := by rw [h2]; decide
      have hg : runT d 7 [(x : Int), 0] u = some (dt u x 0, u) := getT (by omega) (i := 0) hs x0 hx (by rw [et]; omega)
      have hwh := hn.2.2.2.1 nw1 (by omega)
      have ps0 : ps t = [] := by
        rcases ho.n.2 with z | z | z | z | z | z | z | z | z | z | z | z | z | z <;> first | omega | exact z.2
      have hob : onlyB t e ↔ wh t = e := by
        constructor
        · exact fun q => q t (sub_rf t) h2
        · intro q s hs' _
          rw [subT_eq] at hs'
          rcases hs' with z | ⟨c1, z, _⟩
          · rw [z]; exact q
          · have := (fms_ps z).1
            rw [ps0] at this; cases this
      rw [if_pos ((tkT_in hin).2.1.mpr h2), cl_eq hg, hwh]
      by_cases hw : wh t = e
      · rw [if_pos (by omega)]
        exact ⟨fun _ => rfl, fun q => absurd (hob.mpr hw) q⟩
      · rw [if_neg (by omega)]
        exact ⟨fun q => absurd (hob.mp q) hw, fun _ => rfl⟩
    · rw [if_neg (fun q => h2 ((tkT_in hin).2.1.mp q))]
      have hKF := KF_big
      have loop : ∀ (m i f : Nat), i + m = (ps t).length + nw (kd t) → m < f → Yq (bX3_isOnly_L28 (runT d) f (x : Int) (e : Int) (i : Int) u (fun s4 => some (1, s4)) (fun s5 => some (0, s5))) u (∀ i', i ≤ i' + nw (kd t) → (kd t ≠ 8 ∨ i' = 0) → i' < (ps t).length → pa t i' ≠ 0 → onlyB (pa t i') e) := by
        intro m
        induction m with
        | zero =>
          intro i f hi hf
          obtain ⟨f, rfl⟩ : ∃ f', f = f' + 1 := ⟨f - 1, by omega⟩
          rw [bX3_isOnly_L28, ld_nat hl3, hn.2.1, if_neg (by omega)]
          exact ⟨fun _ => rfl, fun q => absurd (fun i' a b c1 => by omega) q⟩
        | succ m ihm =>
          intro i f hi hf
          obtain ⟨f, rfl⟩ : ∃ f', f = f' + 1 := ⟨f - 1, by omega⟩
          have nxt := ihm (i + 1) f (by omega) (by omega)
          have cont : (∀ i', i = i' + nw (kd t) → (kd t ≠ 8 ∨ i' = 0) → i' < (ps t).length → pa t i' ≠ 0 → onlyB (pa t i') e) → Yq (ar ((i : Int) + 1) fun v4 => bX3_isOnly_L28 (runT d) f (x : Int) (e : Int) v4 u (fun s4 => some (1, s4)) (fun s5 => some (0, s5))) u (∀ i', i ≤ i' + nw (kd t) → (kd t ≠ 8 ∨ i' = 0) → i' < (ps t).length → pa t i' ≠ 0 → onlyB (pa t i') e) := fun hc => by
            rw [ar_pos ⟨by omega, by omega⟩, show (i : Int) + 1 = ((i + 1 : Nat) : Int) by omega]
            refine nxt.iff ⟨fun q i' a b c1 d1 => ?_, fun q i' a b c1 d1 => q i' (by omega) b c1 d1⟩
            by_cases hji : i = i' + nw (kd t)
            · exact hc i' hji b c1 d1
            · exact q i' (by omega) b c1 d1
          rw [bX3_isOnly_L28, ld_nat hl3, hn.2.1, if_pos (by omega)]
          rcases partJ (d := d) (by omega) hs x0 hx et ho (j := i) (by omega) with ⟨q1, q2⟩ | ⟨i', y, q1, q2, q3, q4, q5, q6, q7, q8, q9⟩
          · rw [cl_eq q1, if_pos rfl]
            exact cont (fun i' a b c1 d1 => absurd (q2 i' a b) d1)
          · rw [cl_eq q4, if_neg (by decide), cl_eq q5]
            have hh := ht_c q9
            obtain ⟨r1, r2⟩ := ih (pa t i') (fms_lt q9) (ho.c q9) (tt_part ho htt q9) d y (by omega) q6 (by omega) q8
            by_cases hb : onlyB (pa t i') e
            · rw [cl_eq (r1 hb), if_neg (by decide)]
              refine cont (fun i2 a b c1 d1 => ?_)
              rw [show i2 = i' by omega]; exact hb
            · rw [cl_eq (r2 hb), if_pos rfl]
              exact ⟨fun q => absurd (q i' (by omega) q2 q3 (fms_ps q9).2) hb, fun _ => rfl⟩
      have key := loop ((ps t).length + nw (kd t)) 0 KF (by omega) (by omega)
      refine key.iff ?_
      rw [onlyB_eq h2]
      constructor
      · intro q c1 hc1
        obtain ⟨i', h8, hi', hc0⟩ := fms_at.mp hc1
        have := q i' (by omega) h8 (List.getElem?_eq_some_iff.mp hi').1 (by rw [pa_at hi']; exact hc0)
        rw [pa_at hi'] at this
        exact this
      · intro q i' _ h8 hl h0
        exact q _ (fms_at.mpr ⟨i', h8, pa_get hl, h0⟩)
/-- the two flags -/
def FlT (u u' : Sg) (F M : Prop) : Prop := ((F → gI u' 71 = 1) ∧ (¬ F → gI u' 71 = gI u 71)) ∧ (M → gI u' 72 = 1) ∧ (¬ M → gI u' 72 = gI u 72)
theorem FlT.rf {u u' : Sg} {F M : Prop} (h1 : gI u' 71 = gI u 71) (h2 : gI u' 72 = gI u 72) (hF : ¬ F) (hM : ¬ M) : FlT u u' F M := ⟨⟨fun q => absurd q hF, fun _ => h1⟩, fun q => absurd q hM, fun _ => h2⟩
theorem FlT.seq {u u1 u2 : Sg} {F M F' M' : Prop} (h : FlT u u1 F M) (h' : FlT u1 u2 F' M') : FlT u u2 (F ∨ F') (M ∨ M') := by
  refine ⟨⟨fun q => ?_, fun q => ?_⟩, fun q => ?_, fun q => ?_⟩
  · by_cases z : F'
    · exact h'.1.1 z
    · rw [h'.1.2 z]; exact h.1.1 (q.resolve_right z)
  · rw [h'.1.2 (fun z => q (Or.inr z)), h.1.2 (fun z => q (Or.inl z))]
  · by_cases z : M'
    · exact h'.2.1 z
    · rw [h'.2.2 z]; exact h.2.1 (q.resolve_right z)
  · rw [h'.2.2 (fun z => q (Or.inr z)), h.2.2 (fun z => q (Or.inl z))]
theorem FlT.iff {u u' : Sg} {F M F' M' : Prop} (h : FlT u u' F M) (e1 : F ↔ F') (e2 : M ↔ M') : FlT u u' F' M' := ⟨⟨fun q => h.1.1 (e1.mpr q), fun q => h.1.2 (fun z => q (e1.mp z))⟩, fun q => h.2.1 (e2.mpr q), fun q => h.2.2 (fun z => q (e2.mp z))⟩
def anyW : Nat → Nat → Prop := fun _ _ => True
def LoE (ν : Nat → Nat) (c : Nat) (u : Sg) (X : Nat → Prop) (F M : Prop) (u' : Sg) : Prop := UpT ν c u u' X ∧ WF FT u' ∧ Gr FT DX3_losing u u' ∧ FlT u u' F M
def LoSp (ν : Nat → Nat) (c : Nat) (H : List Nat) (p : Nat → Nat) (s ts t : Nat) : Prop := ∀ (d : Nat) (u : Sg) (x e : Nat) (X : Nat → Prop), 20 + htT t ≤ d → 20 + htQ t ≤ d → szQ t ≤ 900 → WF FT u → ST ν c u → HaT ν u H p → 0 < s → s ≤ nT u → trT ν u s = ts → 0 < x → x ≤ nT u → trT ν u x = t → loT t ≤ e + 1 → e + htQ t ≤ 1000 → (∀ z, subT z (sbT (putg ts) e t) → X z) → LimT ν u X → hT u + 2 * szQ t ≤ 27000 → wp (runT d 108 [(x : Int), (e : Int), (s : Int)] u) (fun _ u' => LoE ν c u X (exW anyW t e) (exW (atI H ts) t e) u')
theorem losing_L69 {ν : Nat → Nat} {c : Nat} {H : List Nat} {p : Nat → Nat} {s ts t e x d : Nat} {X : Nat → Prop} {u0 : Sg} (hots : okT ts) (htts : isTm ts) (ho : okT t) (ihc : ∀ c1 ∈ fms t, LoSp ν c H p s ts c1) (hd : 19 + htT t ≤ d) (hd2 : 19 + htQ t ≤ d) (hz : szQ t ≤ 900) (hlo : ¬ loT t ≤ e) (h2 : kd t ≠ 2) (hs0 : ST ν c u0) (hH : HaT ν u0 H p) (s0 : 0 < s) (hsn : s ≤ nT u0) (es : trT ν u0 s = ts) (x0 : 0 < x) (hx : x ≤ nT u0) (et : trT ν u0 x = t) (hl1 : loT t ≤ e + 1) (he : e + htQ t ≤ 1000) (hX : ∀ z, subT z (sbT (putg ts) e t) → X z) (hl : LimT ν u0 X) (hr : hT u0 + 2 * szQ t ≤ 27000) {F0 M0 : Prop} : ∀ (m i f : Nat) (u : Sg), i + m = (ps t).length + nw (kd t) → m < f → LoE ν c u0 X (F0 ∨ ∃ i', i' + nw (kd t) < i ∧ (kd t ≠ 8 ∨ i' = 0) ∧ i' < (ps t).length ∧ pa t i' ≠ 0 ∧ exW anyW (pa t i') (dpT t e i')) (M0 ∨ ∃ i', i' + nw (kd t) < i ∧ (kd t ≠ 8 ∨ i' = 0) ∧ i' < (ps t).length ∧ pa t i' ≠ 0 ∧ exW (atI H ts) (pa t i') (dpT t e i')) u → wp (bX3_losing_L69 (runT d) f (x : Int) (e : Int) (s : Int) (i : Int) u (fun s5 => some (0, s5))) (fun _ u' => LoE ν c u0 X (F0 ∨ ∃ i', (kd t ≠ 8 ∨ i' = 0) ∧ i' < (ps t).length ∧ pa t i' ≠ 0 ∧ exW anyW (pa t i') (dpT t e i')) (M0 ∨ ∃ i', (kd t ≠ 8 ∨ i' = 0) ∧ i' < (ps t).length ∧ pa t i' ≠ 0 ∧ exW (atI H ts) (pa t i') (dpT t e i')) u') := by
  have hin := okT_kin ho
  have hnw := nw_le (kd t)
  have t0 : t ≠ 0 := fun q => by rw [q, loT0] at hlo; omega
  have hnc : ¬ (kd t ≤ 5 ∧ loT t = 0) := fun q => by omega
  have hk3 : ¬ kd t ≤ 3 := fun q => by
    have := (lo_leaf ho.n (by omega)).2
    omega
  have hlen := hl.len x0 hx et
  intro m
  induction m with
  | zero =>
    intro i f u hi hf ⟨hU, hw, hg, hF⟩
    obtain ⟨f, rfl⟩ : ∃ f', f = f' + 1 := ⟨f - 1, by omega⟩
    have hs := hU.1
    have hx1 : x ≤ nT u := Nat.le_trans hx hU.n
    have et1 : trT ν u x = t := by rw [hU.tr hs0 hx]; exact et
    have hn := nodeT hs x0 hx1
    rw [et1] at hn
    have hl3 : x < gL u 3 := by rw [hs.1.1.2.2.2.1.2.1]; exact hs.k hx1
    rw [bX3_losing_L69, ld_nat hl3, hn.2.1, if_neg (by omega), wp_some]
    refine ⟨hU, hw, hg, hF.iff ?_ ?_⟩
    · exact or_congr Iff.rfl ⟨fun ⟨i', a, b⟩ => ⟨i', b⟩, fun ⟨i', b⟩ => ⟨i', by have := b.2.1; omega, b⟩⟩
    · exact or_congr Iff.rfl ⟨fun ⟨i', a, b⟩ => ⟨i', b⟩, fun ⟨i', b⟩ => ⟨i', by have := b.2.1; omega, b⟩⟩
  | succ m ihm =>
    intro i f u hi hf ⟨hU, hw, hg, hF⟩
    obtain ⟨f, rfl⟩ : ∃ f', f = f' + 1 := ⟨f - 1, by omega⟩
    have hs := hU.1
    have hx1 : x ≤ nT u := Nat.le_trans hx hU.n
    have et1 : trT ν u x = t := by rw [hU.tr hs0 hx]; exact et
    have hn := nodeT hs x0 hx1
    rw [et1] at hn
    have hl3 : x < gL u 3 := by rw [hs.1.1.2.2.2.1.2.1]; exact hs.k hx1
    have hbd := (hU.lim hl).n hs
    rw [bX3_losing_L69, ld_nat hl3, hn.2.1, if_pos (by omega)]
    rcases partJ (d := d) (by omega) hs x0 hx1 et1 ho (j := i) (by omega) with ⟨q1, q2⟩ | ⟨i', y, q1, q2, q3, q4, q5, q6, q7, q8, q9⟩
    · refine wp_eq q1 ?_
      rw [if_pos rfl, wp_ar]
      refine ⟨⟨by omega, by omega⟩, ?_⟩
      rw [show (i : Int) + 1 = ((i + 1 : Nat) : Int) by omega]
      refine ihm (i + 1) f u (by omega) (by omega) ⟨hU, hw, hg, hF.iff ?_ ?_⟩
      · refine or_congr Iff.rfl ⟨fun ⟨i', a, b⟩ => ⟨i', by omega, b⟩, fun ⟨i', a, b⟩ => ⟨i', ?_, b⟩⟩
        by_cases z : i = i' + nw (kd t)
        · exact absurd (q2 i' z b.1) b.2.2.1
        · omega
      · refine or_congr Iff.rfl ⟨fun ⟨i', a, b⟩ => ⟨i', by omega, b⟩, fun ⟨i', a, b⟩ => ⟨i', ?_, b⟩⟩
        by_cases z : i = i' + nw (kd t)
        · exact absurd (q2 i' z b.1) b.2.2.1
        · omega
    · refine wp_eq q4 ?_
      rw [if_neg (by decide)]
      have hget := pa_get q3
      have hh := ht_c q9
      have hh2 := htQ_c hnc q9
      have hz2 := g_c (szQ_ex t0 hnc) q9
      have hsub : ∀ z, subT z (sbT (putg ts) (dpT t e i') (pa t i')) → X z := fun z hz' => by
        refine hX z (sub_c ?_ hz')
        obtain ⟨k1, _, k3⟩ := sb_kd (g := putg ts) (d := e) hk3
        refine fms_at.mpr ⟨i', by rw [k1]; exact q2, ?_, ?_⟩
        · rw [k3, chm_at' hget, if_neg (fun q => by omega), zf_pos (fms_ps q9).2]
        · have := okT_sb (pa t i') (ho.c q9) (gOn_put (ho.c q9) hots htts) (dpT t e i')
          intro q
          rw [q] at this
          have := okN_kd this.n
          unfold isTm isFo at this
          rw [kd0] at this
          omega
      have hH1 := hH.up hs0 hU.ux hg (fun k a b => (by decide +kernel : ∀ k, k ≤ 57 → 52 ≤ k → Nat.testBit DX3_losing k = false) k b a)
      have hlo1 := lo_c (dep := e) (e := 1) hk3 hget q9 q2 hl1
      have go : ∀ e' : Nat, e' = dpT t e i' → wp (cl (runT d 108 [(y : Int), (e' : Int), (s : Int)] u) fun v7 s8 => ar ((i : Int) + 1) fun v9 => bX3_losing_L69 (runT d) f (x : Int) (e : Int) (s : Int) v9 s8 (fun s5 => some (0, s5))) (fun _ u' => LoE ν c u0 X (F0 ∨ ∃ i', (kd t ≠ 8 ∨ i' = 0) ∧ i' < (ps t).length ∧ pa t i' ≠ 0 ∧ exW anyW (pa t i') (dpT t e i')) (M0 ∨ ∃ i', (kd t ≠ 8 ∨ i' = 0) ∧ i' < (ps t).length ∧ pa t i' ≠ 0 ∧ exW (atI H ts) (pa t i') (dpT t e i')) u') := fun e' he' => by
        subst he'
        have hde : dpT t e i' ≤ e + 1 := by unfold dpT; split <;> omega
        have hhu : hT u = hT u0 := hU.2.2.2.1
        refine wp_call (ihc _ q9 d u y (dpT t e i') X (by omega) (by omega) (by omega) hw hs hH1 s0 (Nat.le_trans hsn hU.n) (by rw [hU.tr hs0 hsn]; exact es) q6 (by omega) q8 (by omega) (by omega) hsub (hU.lim hl) (by omega)) (fun r u1 ⟨a1, a2, a3, a4⟩ => ?_)
        rw [wp_ar]
        refine ⟨⟨by omega, by omega⟩, ?_⟩
        rw [show (i : Int) + 1 = ((i + 1 : Nat) : Int) by omega]
        refine ihm (i + 1) f u1 (by omega) (by omega) ⟨hU.join a1, a2, hg.tr a3, (hF.seq a4).iff ?_ ?_⟩
        · constructor
          · rintro ((q | ⟨i2, b1, b2⟩) | q)
            · exact Or.inl q
            · exact Or.inr ⟨i2, by omega, b2⟩
            · exact Or.inr ⟨i', by omega, q2, q3, (fms_ps q9).2, q⟩
          · rintro (q | ⟨i2, b1, b2⟩)
            · exact Or.inl (Or.inl q)
            · by_cases z : i2 = i'
              · rw [z] at b2; exact Or.inr b2.2.2.2
              · exact Or.inl (Or.inr ⟨i2, by omega, b2⟩)
        · constructor
          · rintro ((q | ⟨i2, b1, b2⟩) | q)
            · exact Or.inl q
            · exact Or.inr ⟨i2, by omega, b2⟩
            · exact Or.inr ⟨i', by omega, q2, q3, (fms_ps q9).2, q⟩
          · rintro (q | ⟨i2, b1, b2⟩)
            · exact Or.inl (Or.inl q)
            · by_cases z : i2 = i'
              · rw [z] at b2; exact Or.inr b2.2.2.2
              · exact Or.inl (Or.inr ⟨i2, by omega, b2⟩)
      rw [wp_jn, wp_jn]
      refine wp_eq q5 ?_
      rw [ld_nat (hs.k hx1), hn.1]
      have hk18 : tkT (kd t) = 17 ↔ kd t = 18 := (tkT_in hin).2.2.2.2.2.2.2
      by_cases h18 : kd t = 18
      · rw [if_pos (hk18.mpr h18)]
        have nw0 : nw (kd t) = 0 := by rw [h18]; decide
        have hl18 : (ps t).length = 2 := by
          rcases ho.n.2 with z | z | z | z | z | z | z | z | z | z | z | z | z | z <;> try omega
          obtain ⟨_, _, y', b', e', _⟩ := z
          rw [e']; rfl
        by_cases hi1 : i = 1
        · rw [if_pos (by omega), wp_ar]
          refine ⟨⟨by omega, by omega⟩, ?_⟩
          rw [show (e : Int) + 1 = ((e + 1 : Nat) : Int) by omega]
          exact go (e + 1) (by unfold dpT; rw [if_pos ⟨h18, by omega⟩])
        · rw [if_neg (by omega)]
          exact go e (by unfold dpT; rw [if_neg (fun q => by omega)])
      · rw [if_neg (fun q => h18 (hk18.mp q))]
        exact go e (by unfold dpT; rw [if_neg (fun q => h18 q.1)])
theorem tk_tm {t : Nat} (h : kd t = 1 ∨ kd t = 2 ∨ kd t = 3 ∨ kd t = 4 ∨ kd t = 5 ∨ (8 ≤ kd t ∧ kd t ≤ 18 ∧ kd t ≠ 15)) (h2 : kd t ≠ 2) : (tkT (kd t) = 2 ∨ tkT (kd t) = 4 ∨ tkT (kd t) = 5) ↔ isTm t := by
  unfold isTm
  rcases h with q | q | q | q | q | q
  · have : tkT (kd t) = 2 := by rw [q]; decide
    omega
  · exact absurd q h2
  · have : tkT (kd t) = 2 := by rw [q]; decide
    omega
  · have : tkT (kd t) = 4 := by rw [q]; decide
    omega
  · have : tkT (kd t) = 5 := by rw [q]; decide
    omega
  · have := tkT_hi q.1
    omega
theorem exW_i {A : Nat → Nat → Prop} {t e : Nat} (h2 : kd t ≠ 2) (he : e < loT t) : ((isTm t ∧ onlyB t e ∧ A t e) ∨ ∃ i', (kd t ≠ 8 ∨ i' = 0) ∧ i' < (ps t).length ∧ pa t i' ≠ 0 ∧ exW A (pa t i') (dpT t e i')) ↔ exW A t e := by
  rw [exW_eq]
  constructor
  · intro q
    refine ⟨h2, he, q.imp id (fun ⟨i, a, b, c, d⟩ => ⟨i, pa t i, a, pa_get b, c, d⟩)⟩
  · rintro ⟨_, _, q⟩
    refine q.imp id (fun ⟨i, c, a, b, c0, d⟩ => ⟨i, a, (List.getElem?_eq_some_iff.mp b).1, ?_, ?_⟩)
    · rw [pa_at b]; exact c0
    · rw [pa_at b]; exact d
theorem tX3_losing {ν : Nat → Nat} {c : Nat} {H : List Nat} {p : Nat → Nat} {s ts : Nat} (hots : okT ts) (htts : isTm ts) (hlts : loT ts = 0) : ∀ (t : Nat), okT t → LoSp ν c H p s ts t := by
  intro t
  induction t using Nat.strongRecOn with
  | ind t ih =>
    intro ho d u x e X hd hd2 hz hw hs hH s0 hsn es x0 hx et hl1 he hX hl hr
    obtain ⟨d, rfl⟩ : ∃ d', d = d' + 1 := ⟨d - 1, by omega⟩
    rw [runT_eq (by omega)]
    show wp (bX3_losing (runT d) x e s u) _
    unfold bX3_losing
    have hn := nodeT hs x0 hx
    rw [et] at hn
    have hin := okT_kin ho
    have hl5 : x < gL u 5 := by rw [hs.1.1.2.2.2.1.2.2.2.1]; exact hs.k hx
    have hlo := lo_T hs hw x x0 hx (by rw [et]; exact ho)
    rw [et] at hlo
    have hlen := hl.len x0 hx et
    have hnw := nw_le (kd t)
    rw [ld_nat hl5, hlo]
    by_cases hle : loT t ≤ e
    · rw [if_pos (by omega), wp_some]
      refine ⟨UpT.rf hs, hw, Gr.rf, FlT.rf rfl rfl (fun q => ?_) (fun q => ?_)⟩
      · rw [exW_eq] at q; omega
      · rw [exW_eq] at q; omega
    rw [if_neg (by omega), ld_nat (hs.k hx), hn.1]
    by_cases h2 : kd t = 2
    · rw [if_pos ((tkT_in hin).2.1.mpr h2), wp_some]
      refine ⟨UpT.rf hs, hw, Gr.rf, FlT.rf rfl rfl (fun q => ?_) (fun q => ?_)⟩
      · rw [exW_eq] at q; exact q.1 h2
      · rw [exW_eq] at q; exact q.1 h2
    rw [if_neg (fun q => h2 ((tkT_in hin).2.1.mp q))]
    have h523 := KF_523
    -- what is within
    have rest : ∀ u1 : Sg, LoE ν c u X (isTm t ∧ onlyB t e ∧ anyW t e) (isTm t ∧ onlyB t e ∧ atI H ts t e) u1 → wp (bX3_losing_L69 (runT d) KF (x : Int) (e : Int) (s : Int) 0 u1 (fun s5 => some (0, s5))) (fun _ u' => LoE ν c u X (exW anyW t e) (exW (atI H ts) t e) u') := fun u1 ⟨a1, a2, a3, a4⟩ => by
      have := losing_L69 (d := d) (X := X) (F0 := isTm t ∧ onlyB t e ∧ anyW t e) (M0 := isTm t ∧ onlyB t e ∧ atI H ts t e) hots htts ho (fun c1 h1 => ih c1 (fms_lt h1) (ho.c h1)) (by omega) (by omega) hz hle h2 hs hH s0 hsn es x0 hx et hl1 he hX hl hr ((ps t).length + nw (kd t)) 0 KF u1 (by omega) (Nat.lt_of_le_of_lt (by omega : _ ≤ 600000) (by decide)) ⟨a1, a2, a3, a4.iff ⟨Or.inl, fun q => q.elim id (fun ⟨i', b1, _⟩ => by omega)⟩ ⟨Or.inl, fun q => q.elim id (fun ⟨i', b1, _⟩ => by omega)⟩⟩
      refine wp_mono this (fun r u' ⟨b1, b2, b3, b4⟩ => ⟨b1, b2, b3, b4.iff (exW_i h2 (by omega)) (exW_i h2 (by omega))⟩)
    rw [wp_jn, ld_nat (hs.k hx), hn.1]
    have hit := rX3_isTerm (d := d - 3) (u := u) (v := tkT (kd t))
    rw [show d - 3 + 3 = d by omega] at hit
    have hiff := tk_tm hin h2
    have it1 : isTm t → runT d 65 [tkT (kd t)] u = some (1, u) := fun q => by rw [hit, if_pos (hiff.mpr q)]
    have it2 : ¬ isTm t → runT d 65 [tkT (kd t)] u = some (0, u) := fun q => by rw [hit, if_neg (fun z => q (hiff.mp z))]
    by_cases htm : isTm t
    · refine wp_eq (it1 htm) ?_
      rw [if_neg (by decide)]
      obtain ⟨o1, o2⟩ := rX3_isOnly hs (e := e) t ho (Or.inl htm) d x (by omega) x0 hx et
      by_cases hob : onlyB t e
      · refine wp_eq (o1 hob) ?_
        rw [if_neg (by decide), wp_un]
        have q1 : EqH u (sI u 71 1) := EqH.sI (by omega)
        have w1 : WF FT (sI u 71 1) := wfBT hw (Or.inr rfl)
        have g1 : Gr FT DX3_losing u (sI u 71 1) := Gr_sI (by decide +kernel)
        have i71 : gI (sI u 71 1) 71 = 1 := by rw [gI_sI, if_pos rfl]
        have i72 : gI (sI u 71 1) 72 = gI u 72 := by rw [gI_sI, if_neg (by decide)]
        have hs1 := q1.st hs
        have ht1 : ∀ y, trT ν (sI u 71 1) y = trT ν u y := fun y => q1.1.tr
        have n1 : nT (sI u 71 1) = nT u := q1.1.n
        have hh1 : hT (sI u 71 1) = hT u := q1.hh
        have hl2 := q1.lim hl
        generalize sI u 71 1 = u1 at *
        refine wp_call (tX3_put hots htts hlts t ho d u1 x e s X (by omega) hz w1 hs1 x0 (by omega) (by rw [ht1]; exact et) s0 (by omega) (by rw [ht1]; exact es) hl1 he (ImT_put hots htts t ho e (fun z hz' => Or.inr (hX z hz'))) hl2 (by omega)) (fun r u2 ⟨z, z1, z2, z3, z4, z5, z6, z7⟩ => ?_)
        rw [z1]
        have g2 : Gr FT DX3_losing u1 u2 := Gr.sub (by decide +kernel) z7
        have g02 := g1.tr g2
        have hU2 : UpT ν c u u2 X := (q1.up hs).join z5
        have hH2 := hH.up hs hU2.ux g02 (fun k a b => (by decide +kernel : ∀ k, k ≤ 57 → 52 ≤ k → Nat.testBit DX3_losing k = false) k b a)
        have j71 : gI u2 71 = 1 := by rw [z7.I 71 (by decide +kernel)]; exact i71
        have j72 : gI u2 72 = gI u 72 := by rw [z7.I 72 (by decide +kernel)]; exact i72
        have hix := rX3_indexOf (d := d - 1) (by omega) hH2 z5.1 z3
        rw [z4, show d - 1 + 1 = d by omega] at hix
        by_cases hat : sbT (putg ts) e t ∈ H
        · obtain ⟨i, _, i2⟩ := hix.1 hat
          refine wp_eq i2 ?_
          rw [if_neg (by omega), wp_un]
          have q3 : EqH u2 (sI u2 72 1) := EqH.sI (by omega)
          refine rest (sI u2 72 1) ⟨hU2.join (q3.up z5.1), wfBT z6 (Or.inr rfl), g02.tr (Gr_sI (by decide +kernel)), ⟨⟨fun _ => ?_, fun q => absurd ⟨htm, hob, trivial⟩ q⟩, fun _ => ?_, fun q => absurd ⟨htm, hob, hat⟩ q⟩⟩
          · rw [gI_sI, if_neg (by decide)]; exact j71
          · rw [gI_sI, if_pos rfl]
        · refine wp_eq (hix.2 hat) ?_
          rw [if_pos (by omega)]
          exact rest u2 ⟨hU2, z6, g02, ⟨⟨fun _ => j71, fun q => absurd ⟨htm, hob, trivial⟩ q⟩, fun q => absurd q.2.2 hat, fun _ => j72⟩⟩
      · refine wp_eq (o2 hob) ?_
        rw [if_pos rfl]
        exact rest u ⟨UpT.rf hs, hw, Gr.rf, FlT.rf rfl rfl (fun q => hob q.2.1) (fun q => hob q.2.1)⟩
    · refine wp_eq (it2 htm) ?_
      rw [if_pos rfl]
      exact rest u ⟨UpT.rf hs, hw, Gr.rf, FlT.rf rfl rfl (fun q => htm q.1) (fun q => htm q.1)⟩
theorem exW_or {A B : Nat → Nat → Prop} : ∀ (t e : Nat), exW (fun s e => A s e ∨ B s e) t e ↔ exW A t e ∨ exW B t e := by
  intro t
  induction t using Nat.strongRecOn with
  | ind t ih =>
    intro e
    rw [exW_eq, exW_eq A, exW_eq B]
    constructor
    · rintro ⟨a, b, q⟩
      rcases q with ⟨q1, q2, q3⟩ | ⟨i, c, c1, c2, c3, c4⟩
      · exact q3.imp (fun z => ⟨a, b, Or.inl ⟨q1, q2, z⟩⟩) (fun z => ⟨a, b, Or.inl ⟨q1, q2, z⟩⟩)
      · exact ((ih c (ps_lt (List.mem_of_getElem? c2)) _).mp c4).imp (fun z => ⟨a, b, Or.inr ⟨i, c, c1, c2, c3, z⟩⟩) (fun z => ⟨a, b, Or.inr ⟨i, c, c1, c2, c3, z⟩⟩)
    · rintro (⟨a, b, q⟩ | ⟨a, b, q⟩)
      · exact ⟨a, b, q.imp (fun z => ⟨z.1, z.2.1, Or.inl z.2.2⟩) (fun ⟨i, c, c1, c2, c3, c4⟩ => ⟨i, c, c1, c2, c3, (ih c (ps_lt (List.mem_of_getElem? c2)) _).mpr (Or.inl c4)⟩)⟩
      · exact ⟨a, b, q.imp (fun z => ⟨z.1, z.2.1, Or.inr z.2.2⟩) (fun ⟨i, c, c1, c2, c3, c4⟩ => ⟨i, c, c1, c2, c3, (ih c (ps_lt (List.mem_of_getElem? c2)) _).mpr (Or.inr c4)⟩)⟩
/-- the model's test is the class's -/
theorem inst_iff {l : Ls} {t b : Nat} : (¬ exW anyW b 0 ∨ exW (atI l.1 t) b 0) ↔ instOK (FsQ l) t b := by
  have e1 : anyW = fun s e => atI l.1 t s e ∨ ¬ atI l.1 t s e := by
    funext s e
    exact propext ⟨fun _ => Classical.em _, fun _ => trivial⟩
  have e2 : exW anyW b 0 ↔ exW (atI l.1 t) b 0 ∨ exW (fun s e => ¬ atI l.1 t s e) b 0 := by
    rw [e1]; exact exW_or b 0
  unfold instOK
  have e3 : (fun s e => fH (FsQ l) (sbT (putg t) e s)) = atI l.1 t := rfl
  have e4 : (fun s e => ¬ fH (FsQ l) (sbT (putg t) e s)) = fun s e => ¬ atI l.1 t s e := rfl
  rw [e3, e4, e2]
  constructor
  · rintro (q | q)
    · exact Or.inl (fun z => q (Or.inr z))
    · exact Or.inr q
  · rintro (q | q)
    · by_cases z : exW (atI l.1 t) b 0
      · exact Or.inr z
      · exact Or.inl (fun w => w.elim z q)
    · exact Or.inr q
