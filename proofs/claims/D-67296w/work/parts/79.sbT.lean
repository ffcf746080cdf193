/-! one thing in the place of another, in the model -/
def UxT (ν : Nat → Nat) (c : Nat) (u u' : Sg) (X : Nat → Prop) : Prop := ST ν c u' ∧ Ext (stT ν u) (stT ν u') ∧ ∀ t, ndT ν u' t → ndT ν u t ∨ X t
theorem UpT.ux {ν : Nat → Nat} {c : Nat} {u u' : Sg} {X : Nat → Prop} (h : UpT ν c u u' X) : UxT ν c u u' X := ⟨h.1, h.2.1, h.2.2.1⟩
theorem UxT.n {ν : Nat → Nat} {c : Nat} {u u1 : Sg} {X : Nat → Prop} (h : UxT ν c u u1 X) : nT u ≤ nT u1 := h.2.1.1
theorem UxT.tr {ν : Nat → Nat} {c : Nat} {u u1 : Sg} {X : Nat → Prop} (hs : ST ν c u) (h : UxT ν c u u1 X) {x : Nat} (hx : x ≤ nT u) : trT ν u1 x = trT ν u x :=
  tr_ext (okp_T hs.1) (okp_T h.1.1) h.2.1 x hx
theorem UxT.nd {ν : Nat → Nat} {c : Nat} {u u1 : Sg} {X : Nat → Prop} (hs : ST ν c u) (h : UxT ν c u u1 X) {t : Nat} (ht : ndT ν u t) : ndT ν u1 t := by
  obtain ⟨x, x0, hx, e⟩ := ht
  exact ⟨x, x0, Nat.le_trans hx h.n, by rw [h.tr hs hx, e]⟩
theorem UxT.rf {ν : Nat → Nat} {c : Nat} {u : Sg} {X : Nat → Prop} (h : ST ν c u) : UxT ν c u u X := ⟨h, Ext.rf, fun _ ht => Or.inl ht⟩
theorem UxT.trn {ν : Nat → Nat} {c : Nat} {u u1 u2 : Sg} {X : Nat → Prop} (h : UxT ν c u u1 X) (h' : UxT ν c u1 u2 X) : UxT ν c u u2 X :=
  ⟨h'.1, h.2.1.tr h'.2.1, fun t ht => (h'.2.2 t ht).elim (h.2.2 t) Or.inr⟩
theorem EqT.nd {u u' : Sg} (h : EqT u u') {ν : Nat → Nat} {t : Nat} : ndT ν u' t ↔ ndT ν u t :=
  ⟨fun ⟨y, y0, hy, et⟩ => ⟨y, y0, by rw [← h.n]; exact hy, by rw [← h.tr]; exact et⟩, fun ⟨y, y0, hy, et⟩ => ⟨y, y0, by rw [h.n]; exact hy, by rw [h.tr]; exact et⟩⟩
theorem UxT.eqT {ν : Nat → Nat} {c : Nat} {u u' : Sg} {X : Nat → Prop} (h : EqT u u') (hs : ST ν c u') : UxT ν c u u' X := ⟨hs, by rw [h.st]; exact Ext.rf, fun _ ht => Or.inl (h.nd.mp ht)⟩
theorem UxT.lim {ν : Nat → Nat} {c : Nat} {u u1 : Sg} {X : Nat → Prop} (h : UxT ν c u u1 X) (hl : LimT ν u X) : LimT ν u1 X := fun l hn hm => hl l hn (fun t ht => (hm t ht).elim (h.2.2 t) Or.inr)
theorem RvT.x' {ν : Nat → Nat} {c D : Nat} {u : Sg} {t : Nat} {X : Nat → Prop} {r : Int} {u' : Sg} (h : RvT ν c D u t (fun t => ndT ν u t ∨ X t) r u') : RvT ν c D u t X r u' := by
  obtain ⟨x, h1, h2, h3, h4, h5, h6, h7⟩ := h
  exact ⟨x, h1, h2, h3, h4, h5.mono (fun t h => h), h6, h7⟩
theorem RvT.sub {ν : Nat → Nat} {c D D' : Nat} {u : Sg} {t : Nat} {X : Nat → Prop} {r : Int} {u' : Sg} (hD : D &&& D' = D) (h : RvT ν c D u t X r u') : RvT ν c D' u t X r u' := by
  obtain ⟨x, h1, h2, h3, h4, h5, h6, h7⟩ := h
  exact ⟨x, h1, h2, h3, h4, h5, h6, Gr.sub hD h7⟩
/-- the hand from h holds the first j numbers of a tree -/
def PreT (ν : Nat → Nat) (u : Sg) (h s j : Nat) : Prop := hT u = h + j ∧ (0 < j → nw (kd s) = 1 → gN u 12 h = (wh s : Int)) ∧ ∀ (i t : Nat), i + nw (kd s) < j → (ps s)[i]? = some t → ∃ y : Nat, gN u 12 (h + (i + nw (kd s))) = (y : Int) ∧ ((kd s = 8 ∧ 0 < i) → y = t) ∧ (¬ (kd s = 8 ∧ 0 < i) → y ≤ nT u ∧ trT ν u y = t)
theorem PreT.up {ν : Nat → Nat} {c : Nat} {u u' : Sg} {X : Nat → Prop} {h s j : Nat} (hp : PreT ν u h s j) (hs : ST ν c u) (hx : UxT ν c u u' X) (hh : hT u' = hT u) (hr : ∀ i, i < hT u → gN u' 12 i = gN u 12 i) : PreT ν u' h s j := by
  obtain ⟨p1, p2, p3⟩ := hp
  refine ⟨by rw [hh, p1], fun q1 q2 => by rw [hr h (by omega)]; exact p2 q1 q2, fun i t hi ht => ?_⟩
  obtain ⟨y, y1, y2, y3⟩ := p3 i t hi ht
  refine ⟨y, by rw [hr _ (by omega)]; exact y1, y2, fun q => ?_⟩
  have := y3 q
  exact ⟨Nat.le_trans this.1 hx.n, by rw [hx.tr hs this.1]; exact this.2⟩
theorem PreT.push {ν : Nat → Nat} {u u' : Sg} {h s j y : Nat} (hp : PreT ν u h s j) (he : EqT u u') (h1 : hT u' = hT u + 1) (h2 : ∀ i, i < hT u → gN u' 12 i = gN u 12 i) (h3 : gN u' 12 (hT u) = (y : Int)) (h4 : j = 0 → nw (kd s) = 1 → y = wh s) (h5 : ∀ i t, i + nw (kd s) = j → (ps s)[i]? = some t → ((kd s = 8 ∧ 0 < i) → y = t) ∧ (¬ (kd s = 8 ∧ 0 < i) → y ≤ nT u ∧ trT ν u y = t)) : PreT ν u' h s (j + 1) := by
  obtain ⟨p1, p2, p3⟩ := hp
  refine ⟨by rw [h1, p1]; omega, fun _ q2 => ?_, fun i t hi ht => ?_⟩
  · by_cases hj : j = 0
    · have e : hT u = h := by omega
      rw [← e, h3, h4 hj q2]
    · rw [h2 h (by omega)]; exact p2 (by omega) q2
  · by_cases hj : i + nw (kd s) = j
    · obtain ⟨a1, a2⟩ := h5 i t hj ht
      refine ⟨y, by rw [hj, ← p1]; exact h3, a1, fun q => ?_⟩
      rw [he.n, he.tr]; exact a2 q
    · obtain ⟨z, z1, z2, z3⟩ := p3 i t (by omega) ht
      refine ⟨z, by rw [h2 _ (by omega)]; exact z1, z2, fun q => ?_⟩
      rw [he.n, he.tr]; exact z3 q
theorem PreT.dat {ν : Nat → Nat} {u : Sg} {h s : Nat} (hp : PreT ν u h s ((ps s).length + nw (kd s))) : DatIs ν u h s := by
  obtain ⟨p1, p2, p3⟩ := hp
  exact ⟨p1.symm, fun q => p2 (by omega) q, fun i t ht => p3 i t (by have := (List.getElem?_eq_some_iff.mp ht).1; omega) ht⟩
def MidT (ν : Nat → Nat) (c D : Nat) (u : Sg) (X : Nat → Prop) (s j : Nat) (u' : Sg) : Prop := UxT ν c u u' X ∧ WF FT u' ∧ (∀ i, i < hT u → gN u' 12 i = gN u 12 i) ∧ PreT ν u' (hT u) s j ∧ Gr FT D u u'
theorem MidT.rf {ν : Nat → Nat} {c D : Nat} {u : Sg} {X : Nat → Prop} {s : Nat} (hs : ST ν c u) (hw : WF FT u) : MidT ν c D u X s 0 u := ⟨UxT.rf hs, hw, fun _ _ => rfl, ⟨rfl, (fun q => by omega), (fun i t q => by omega)⟩, Gr.rf⟩
theorem rowH_one {u : Sg} {h : Nat} {a : Int} (he : rowH u h = [a]) : gN u 12 h = a := by
  have hl : (rowH u h).length = 1 := by rw [he]; rfl
  rw [rowH_len] at hl
  have := rowH_at u (a := h) (i := 0) (by omega)
  rw [he] at this
  simp at this
  exact this.symm
theorem MidT.give {ν : Nat → Nat} {c D : Nat} {u u' : Sg} {X : Nat → Prop} {s j y d : Nat} {v : Int} {K : Int → Sg → Option (Int × Sg)} {Q : Int → Sg → Prop} (hd : 3 ≤ d) (hDg : DX3_give &&& D = DX3_give) (hM : MidT ν c D u X s j u') (hv : v = (y : Int)) (hy : y < 2147483648) (hr : hT u + j ≤ 30000) (h4 : j = 0 → nw (kd s) = 1 → y = wh s) (h5 : ∀ i t, i + nw (kd s) = j → (ps s)[i]? = some t → ((kd s = 8 ∧ 0 < i) → y = t) ∧ (¬ (kd s = 8 ∧ 0 < i) → y ≤ nT u' ∧ trT ν u' y = t)) (kk : ∀ r u2, MidT ν c D u X s (j + 1) u2 → wp (K r u2) Q) : wp (cl (runT d 3 [v] u') K) Q := by
  obtain ⟨m1, m2, m3, m4, m5⟩ := hM
  subst hv
  refine wp_call (tX3_give hd (Hand.rf m1.1 m2) ⟨by omega, by omega⟩ (by rw [m4.1]; exact hr)) (fun r u2 ⟨s1, e1, r1, p1, p2, w1, g1⟩ => kk r u2 ⟨m1.trn (UxT.eqT e1 s1), w1, fun i hi => ?_, m4.push e1 r1 p2 (rowH_one p1) h4 h5, m5.tr (g1.sub hDg)⟩)
  rw [p2 i (by rw [m4.1]; omega), m3 i hi]
/-- the depth at which the i-th part stands -/
def dpT (t dep i : Nat) : Nat := if kd t = 18 ∧ 0 < i then dep + 1 else dep
theorem chm_at' {g : Nat → Nat → Nat} {t dep i c1 : Nat} (h : (ps t)[i]? = some c1) : (chm (sbT g) (kd t) dep (ps t))[i]? = some (if kd t = 8 ∧ 0 < i then c1 else zf (sbT g (dpT t dep i)) c1) := by
  rw [chm_at h]
  unfold dpT
  by_cases h8 : kd t = 8 ∧ 0 < i
  · rw [if_pos h8, if_pos h8]
  · rw [if_neg h8, if_neg h8]
    by_cases h18 : kd t = 18 ∧ 0 < i
    · rw [if_pos h18, if_pos h18]
    · rw [if_neg h18, if_neg h18]
theorem loopT {d : Nat} (hd : 5 ≤ d) {ν : Nat → Nat} {c D : Nat} {u : Sg} {x t dep : Nat} {X : Nat → Prop} {g : Nat → Nat → Nat} {Q : Int → Sg → Prop} (hDg : DX3_give &&& D = DX3_give) (ho : okT t) (hk : ¬ kd t ≤ 3) (hs : ST ν c u) (x0 : 0 < x) (hx : x ≤ nT u) (ht : trT ν u x = t) (hl : LimT ν u X) (hr : hT u + (ps t).length ≤ 27000) (hdep : dep ≤ 100000)
    {rk : Int → Int → Sg → Option (Int × Sg)} {lp : Nat → Int → Sg → Option (Int × Sg)} {K : Sg → Option (Int × Sg)} {kt : Int} (hkt : kt = tkT (kd t))
    (hlp : ∀ (f : Nat) (j : Int) (u1 : Sg), lp (f + 1) j u1 = ld u1 3 (x : Int) fun v1 => if j < v1 then (cl (runT d 16 [(x : Int), j] u1) fun v7 s8 => if v7 = 0 then (cl (runT d 7 [(x : Int), j] s8) fun v9 s10 => cl (runT d 3 [v9] s10) fun _ s5 => ar (j + 1) fun v6 => lp f v6 s5) else (cl (runT d 7 [(x : Int), j] s8) fun v17 s18 => if kt = 17 then (if j = 1 then (ar ((dep : Int) + 1) fun v19 => cl (rk v17 v19 s18) fun v13 s14 => cl (runT d 3 [v13] s14) fun _ s5 => ar (j + 1) fun v6 => lp f v6 s5) else (cl (rk v17 (dep : Int) s18) fun v13 s14 => cl (runT d 3 [v13] s14) fun _ s5 => ar (j + 1) fun v6 => lp f v6 s5)) else (cl (rk v17 (dep : Int) s18) fun v13 s14 => cl (runT d 3 [v13] s14) fun _ s5 => ar (j + 1) fun v6 => lp f v6 s5))) else (K u1))
    (hrec : ∀ (i c1 y : Nat) (u1 : Sg), (ps t)[i]? = some c1 → c1 ∈ fms t → (kd t ≠ 8 ∨ i = 0) → UxT ν c u u1 X → WF FT u1 → Gr FT D u u1 → hT u1 ≤ hT u + i + 1 → 0 < y → y ≤ nT u1 → trT ν u1 y = c1 → wp (rk (y : Int) ((dpT t dep i : Nat) : Int) u1) (RvT ν c D u1 (sbT g (dpT t dep i) c1) X))
    (hK : ∀ u1, MidT ν c D u X (sbT g dep t) ((ps t).length + nw (kd t)) u1 → wp (K u1) Q) :
    ∀ (m j f : Nat) (u1 : Sg), j + m = (ps t).length + nw (kd t) → m < f → MidT ν c D u X (sbT g dep t) j u1 → wp (lp f (j : Int) u1) Q := by
  obtain ⟨e1, e2, e3⟩ := sb_kd (g := g) (d := dep) hk
  have hnw := nw_le (kd t)
  have hin := okT_kin ho
  have ht17 := (tkT_in hin).2.2.2.2.2.2.2
  intro m
  induction m with
  | zero =>
    intro j f u1 hj hf hM
    obtain ⟨f, rfl⟩ : ∃ f', f = f' + 1 := ⟨f - 1, by omega⟩
    have hs1 := hM.1.1
    have hx1 : x ≤ nT u1 := Nat.le_trans hx hM.1.n
    have ht1 : trT ν u1 x = t := by rw [hM.1.tr hs hx, ht]
    have hn := nodeT hs1 x0 hx1
    rw [ht1] at hn
    have hl3 : x < gL u1 3 := by rw [hs1.1.1.2.2.2.1.2.1]; exact hs1.k hx1
    rw [hlp, ld_nat hl3, hn.2.1, if_neg (by omega)]
    have ej : j = (ps t).length + nw (kd t) := by omega
    rw [ej] at hM
    exact hK u1 hM
  | succ m ih =>
    intro j f u1 hj hf hM
    obtain ⟨f, rfl⟩ : ∃ f', f = f' + 1 := ⟨f - 1, by omega⟩
    have hs1 := hM.1.1
    have hx1 : x ≤ nT u1 := Nat.le_trans hx hM.1.n
    have ht1 : trT ν u1 x = t := by rw [hM.1.tr hs hx, ht]
    have hn := nodeT hs1 x0 hx1
    rw [ht1] at hn
    have hb1 := (hM.1.lim hl).n hs1
    have hl3 : x < gL u1 3 := by rw [hs1.1.1.2.2.2.1.2.1]; exact hs1.k hx1
    have hjl : j < (ps (trT ν u1 x)).length + nw (kd (trT ν u1 x)) := by rw [ht1]; omega
    have hget := getT (d := d) (by omega) hs1 x0 hx1 hjl
    have hpart := isPartT (d := d) (by omega) hs1 x0 hx1 (by rw [ht1]; exact ho) hjl
    rw [ht1] at hpart
    rw [hlp, ld_nat hl3, hn.2.1, if_pos (by omega)]
    refine wp_eq hpart ?_
    have next : ∀ u2, MidT ν c D u X (sbT g dep t) (j + 1) u2 → wp (ar ((j : Int) + 1) fun v6 => lp f v6 u2) Q := fun u2 hM2 => by
      rw [wp_ar]
      refine ⟨⟨by omega, by omega⟩, ?_⟩
      rw [show (j : Int) + 1 = ((j + 1 : Nat) : Int) by omega]
      exact ih (j + 1) f u2 (by omega) (by omega) hM2
    by_cases hp : isPt (kd t) j (dt u1 x j)
    · rw [if_pos hp, if_neg (by omega)]
      refine wp_eq hget ?_
      obtain ⟨p1, p2, p3, p4⟩ := hp
      obtain ⟨i, hi⟩ : ∃ i, j = i + nw (kd t) := ⟨j - nw (kd t), by omega⟩
      have hil : i < (ps t).length := by omega
      obtain ⟨c1, hc1⟩ : ∃ c1, (ps t)[i]? = some c1 := ⟨_, List.getElem?_eq_getElem hil⟩
      have h8 : kd t ≠ 8 ∨ i = 0 := by
        by_cases q : kd t = 8
        · have := p3 q
          rw [q] at hi
          have : nw 8 = 1 := by decide
          exact Or.inr (by omega)
        · exact Or.inl q
      have hpc := partT hs1 x0 hx1 (i := i) (t := c1) (by rw [ht1]; exact hc1)
      rw [ht1, ← hi] at hpc
      obtain ⟨b1, b2⟩ := hpc.2.1 h8
      have hy0 : 0 < (dt u1 x j).toNat := by omega
      have hc0 : c1 ≠ 0 := by
        have : 0 < trT ν u1 (dt u1 x j).toNat := tr_pos (okp_T (ν := ν) hs1.1) hy0 (by show (dt u1 x j).toNat ≤ nT u1; omega)
        omega
      have hcm : c1 ∈ fms t := fms_at.mpr ⟨i, h8, hc1, hc0⟩
      have hh1 : hT u1 = hT u + j := hM.2.2.2.1.1
      have hr1 := hrec i c1 (dt u1 x j).toNat u1 hc1 hcm h8 hM.1 hM.2.1 hM.2.2.2.2 (by omega) hy0 (by omega) b2
      have hdt : dt u1 x j = (((dt u1 x j).toNat : Nat) : Int) := (Int.toNat_of_nonneg hpc.1).symm
      have fin : ∀ (r : Int) (u2 : Sg), RvT ν c D u1 (sbT g (dpT t dep i) c1) X r u2 → wp (cl (runT d 3 [r] u2) fun _ s5 => ar ((j : Int) + 1) fun v6 => lp f v6 s5) Q := fun r u2 ⟨y, q1, q2, q3, q4, q5, q6, q7⟩ => by
        have hM2 : MidT ν c D u X (sbT g dep t) j u2 := ⟨hM.1.trn q5.ux, q6, fun k hk => by rw [q5.2.2.2.2 k (by omega), hM.2.2.1 k hk], hM.2.2.2.1.up hs1 q5.ux q5.2.2.2.1 q5.2.2.2.2, hM.2.2.2.2.tr q7⟩
        have hb2 := (hM2.1.lim hl).n hM2.1.1
        refine hM2.give (y := y) (by omega) hDg q1 (by omega) (by omega) (fun z1 z2 => ?_) (fun i' t' z1 z2 => ?_) (fun _ u3 hM3 => next u3 hM3)
        · rw [e1] at z2; omega
        · rw [e1] at z1 ⊢
          rw [e3] at z2
          have hii : i' = i := by omega
          subst hii
          rw [chm_at' hc1] at z2
          have h8' : ¬ (kd t = 8 ∧ 0 < i') := fun q => by rcases h8 with z | z; exact z q.1; omega
          rw [if_neg h8', zf_pos hc0] at z2
          have := Option.some.inj z2
          refine ⟨fun q => absurd q h8', fun _ => ⟨q3, by rw [q4]; exact this⟩⟩
      by_cases h18 : kd t = 18
      · have n0 : nw (kd t) = 0 := by rw [h18]; decide
        rw [if_pos (by rw [hkt]; exact ht17.mpr h18)]
        by_cases hj1 : j = 1
        · have ed : dpT t dep i = dep + 1 := by unfold dpT; rw [if_pos ⟨h18, by omega⟩]
          rw [if_pos (by omega), wp_ar]
          refine ⟨⟨by omega, by omega⟩, ?_⟩
          rw [ed] at hr1 fin
          rw [hdt, show (dep : Int) + 1 = ((dep + 1 : Nat) : Int) by omega]
          exact wp_call hr1 (fun r u2 h => fin r u2 h)
        · have hi0 : i = 0 := by
            rcases ho.n.2 with z | z | z | z | z | z | z | z | z | z | z | z | z | z <;> try omega
            obtain ⟨_, _, a, b, z, _⟩ := z
            rw [z] at hil
            simp at hil
            omega
          have ed : dpT t dep i = dep := by unfold dpT; rw [if_neg (fun q => by omega)]
          rw [if_neg (by omega)]
          rw [ed] at hr1 fin
          rw [hdt]
          exact wp_call hr1 (fun r u2 h => fin r u2 h)
      · have ed : dpT t dep i = dep := by unfold dpT; rw [if_neg (fun q => h18 q.1)]
        rw [if_neg (by rw [hkt]; exact fun q => h18 (ht17.mp q))]
        rw [ed] at hr1 fin
        rw [hdt]
        exact wp_call hr1 (fun r u2 h => fin r u2 h)
    · rw [if_neg hp, if_pos rfl]
      refine wp_eq hget ?_
      have hnn := hn.2.2.2.2.2 j (by omega)
      have hin9 : inR (dt u1 x j) := hM.2.1.2.2.2.1 9 _ (by decide)
      refine hM.give (y := (dt u1 x j).toNat) (by omega) hDg (Int.toNat_of_nonneg hnn).symm (by have := hin9.2; omega) (by omega) (fun z1 z2 => ?_) (fun i t' z1 z2 => ?_) (fun _ u3 hM3 => next u3 hM3)
      · rw [e1] at z2
        have := hn.2.2.2.1 z2 (by omega)
        rw [z1, e2]; omega
      · rw [e1] at z1 ⊢
        rw [e3] at z2
        have hil : i < (ps t).length := by omega
        obtain ⟨c1, hc1⟩ : ∃ c1, (ps t)[i]? = some c1 := ⟨_, List.getElem?_eq_getElem hil⟩
        rw [chm_at' hc1] at z2
        have z2 := Option.some.inj z2
        have hpc := partT hs1 x0 hx1 (i := i) (t := c1) (by rw [ht1]; exact hc1)
        rw [ht1, z1] at hpc
        by_cases h8 : kd t = 8 ∧ 0 < i
        · rw [if_pos h8] at z2
          refine ⟨fun _ => ?_, fun q => absurd h8 q⟩
          rw [← z2]; exact hpc.2.2 h8.1 (by omega)
        · rw [if_neg h8] at z2
          have h8' : kd t ≠ 8 ∨ i = 0 := by
            by_cases q : kd t = 8
            · exact Or.inr (by omega)
            · exact Or.inl q
          obtain ⟨b1, b2⟩ := hpc.2.1 h8'
          refine ⟨fun q => absurd q h8, fun _ => ⟨by omega, ?_⟩⟩
          have hz : dt u1 x j = 0 := by
            rcases Int.lt_or_le 0 (dt u1 x j) with q | q
            · refine absurd ⟨by omega, by omega, fun k8 => ?_, q⟩ hp
              rw [k8] at z1
              have : nw 8 = 1 := by decide
              rcases h8' with w | w
              · exact absurd k8 w
              · omega
            · omega
          rw [hz] at b2 ⊢
          have e0 : c1 = 0 := by rw [← b2]; rfl
          rw [← z2, e0]; rfl
theorem endT {d : Nat} (hd : 11 ≤ d) {ν : Nat → Nat} {c D : Nat} {u u1 : Sg} {x t dep : Nat} {X : Nat → Prop} {g : Nat → Nat → Nat} (hDa : DX3_again &&& D = DX3_again) (h13 : D.testBit 13 = true) (ho : okT t) (hg : gOn g t) (hk : ¬ kd t ≤ 3) (hs : ST ν c u) (x0 : 0 < x) (hx : x ≤ nT u) (ht : trT ν u x = t) (hl : LimT ν u X) (hr : hT u + (ps t).length ≤ 27000) (hp : (ps t).length ≤ 900) (hX : ndT ν u (sbT g dep t) ∨ X (sbT g dep t)) (hM : MidT ν c D u X (sbT g dep t) ((ps t).length + nw (kd t)) u1) :
    wp (runT d 43 [(x : Int), (hT u : Int)] u1) (RvT ν c D u (sbT g dep t) X) := by
  obtain ⟨e1, e2, e3⟩ := sb_kd (g := g) (d := dep) hk
  obtain ⟨m1, m2, m3, m4, m5⟩ := hM
  have hos := okT_sb t ho hg dep
  have hlen : (ps (sbT g dep t)).length = (ps t).length := by rw [e3, chm_len]
  have hnw := nw_le (kd t)
  have hx1 : x ≤ nT u1 := Nat.le_trans hx m1.n
  have ht1 : trT ν u1 x = t := by rw [m1.tr hs hx, ht]
  have hh1 : hT u1 = hT u + ((ps t).length + nw (kd t)) := m4.1
  have hD : DatIs ν u1 (hT u) (sbT g dep t) := PreT.dat (by rw [hlen, e1]; exact m4)
  have he : EqT u1 (sI u1 13 (hT u : Int)) := ⟨fun k _ => rfl, fun k hk => by rw [gI_sI, if_neg (by omega)]⟩
  have hX1 : ndT ν (sI u1 13 (hT u : Int)) (sbT g dep t) ∨ X (sbT g dep t) := hX.imp (fun q => he.nd.mpr (m1.nd hs q)) id
  have hl1 : LimT ν u1 (fun t => ndT ν (sI u1 13 (hT u : Int)) t ∨ X t) := (m1.lim hl).mono (fun t q => q.imp (fun z => he.nd.mp z) id)
  have := tX3_again (d := d) (X := fun t => ndT ν (sI u1 13 (hT u : Int)) t ∨ X t) hd m2 m1.1 x0 hx1 (by rw [ht1, e1]) hos (by rw [e1]; exact hk) hD (by rw [hlen]; exact hp) (by omega) hX1 hl1
  exact wp_mono this (fun r u' h => RvT.back m1.2.1 m1.2.2 (by omega) m3 m5 h13 (RvT.sub hDa h.x'))
