/-! loci become terms, in the model -/
/-- the store and the hand are the same -/
def EqH (u u' : Sg) : Prop := EqT u u' ∧ gI u' 13 = gI u 13 ∧ u'.2.1 12 = u.2.1 12
theorem EqH.rf {u : Sg} : EqH u u := ⟨EqT.rf, rfl, rfl⟩
theorem EqH.trn {u u1 u2 : Sg} (h : EqH u u1) (h' : EqH u1 u2) : EqH u u2 := ⟨h.1.trn h'.1, h'.2.1.trans h.2.1, h'.2.2.trans h.2.2⟩
theorem EqH.sI {u : Sg} {k : Nat} {v : Int} (hk : 14 ≤ k) : EqH u (sI u k v) := ⟨⟨fun _ _ => rfl, fun j hj => by rw [gI_sI, if_neg (by omega)]⟩, by rw [gI_sI, if_neg (by omega)], rfl⟩
theorem EqH.sA {u : Sg} {k : Nat} {i v : Int} (hk : 14 ≤ k) : EqH u (sA u k i v) := by
  exact ⟨⟨fun j hj => by show va_up u.2.1 k _ j = _; unfold va_up; rw [if_neg (by omega)], fun j hj => by rw [gI_sA]⟩, by rw [gI_sA], by show va_up u.2.1 k _ 12 = _; unfold va_up; rw [if_neg (by omega)]⟩
theorem EqH.hh {u u' : Sg} (h : EqH u u') : hT u' = hT u := by unfold hT; rw [h.2.1]
theorem EqH.hL {u u' : Sg} (h : EqH u u') : gL u' 12 = gL u 12 := by show (u'.2.1 12).1 = (u.2.1 12).1; rw [h.2.2]
theorem EqH.hN {u u' : Sg} (h : EqH u u') (i : Nat) : gN u' 12 i = gN u 12 i := by show (u'.2.1 12).2 i = (u.2.1 12).2 i; rw [h.2.2]
theorem EqH.st {ν : Nat → Nat} {c : Nat} {u u' : Sg} (h : EqH u u') (hs : ST ν c u) : ST ν c u' := by
  have r := hs.r
  exact h.1.sT hs ⟨by rw [h.2.1, h.hh]; exact r.1, by rw [h.hh, h.hL]; exact r.2.1⟩ ⟨by rw [h.hL]; exact r.2.2.1, by rw [h.hL]; exact r.2.2.2⟩
theorem EqH.lim {ν : Nat → Nat} {u u' : Sg} (h : EqH u u') {X : Nat → Prop} (hl : LimT ν u X) : LimT ν u' X := fun l hn hm => hl l hn (fun t ht => (hm t ht).imp h.1.nd.mp id)
theorem RvT.ofEqH {ν : Nat → Nat} {c D : Nat} {u u1 : Sg} {t : Nat} {X : Nat → Prop} (he : EqH u u1) (hg : Gr FT D u u1) {r : Int} {u' : Sg} (h : RvT ν c D u1 t X r u') : RvT ν c D u t X r u' := by
  obtain ⟨x, h1, h2, h3, h4, ⟨a1, a2, a3, a4, a5⟩, h6, h7⟩ := h
  exact ⟨x, h1, h2, h3, h4, ⟨a1, by rw [← he.1.st]; exact a2, fun t ht => (a3 t ht).imp he.1.nd.mp id, by rw [a4, he.hh], fun i hi => by rw [a5 i (by rw [he.hh]; exact hi), he.hN]⟩, h6, hg.tr h7⟩
theorem kdT_A {u : Sg} {k : Nat} {i v : Int} (hw : WF FT u) (hk : k = 14 ∨ k = 15) (hv : inR v) : WF FT (sA u k i v) := by
  refine hw.sA (fun _ => hv) (fun h => ?_) (fun h => ?_)
  · rcases hk with q | q <;> (subst q; have h : (1 : Nat) = _ := h; cases h)
  · rcases hk with q | q <;> (subst q; have h : (1 : Nat) = _ := h; cases h)
theorem kdT_I {u : Sg} {v : Int} (hw : WF FT u) (hv : inR v) : WF FT (sI u 16 v) := hw.sI hv (fun h => by have h : (0 : Nat) = _ := h; cases h)
theorem sb_same {g : Nat → Nat → Nat} : ∀ (t : Nat), okT t → (∀ c ∈ lvT t, ∀ d, g d c = c) → ∀ d, sbT g d t = t := by
  intro t
  induction t using Nat.strongRecOn with
  | ind t ih =>
    intro ho h d
    by_cases hk : kd t ≤ 3
    · rw [sbT_eq, if_pos hk]; exact h t (by rw [lvT_eq, if_pos hk]; exact List.mem_cons_self) d
    · rw [sbT_eq, if_neg hk]
      have e : chm (sbT g) (kd t) d (ps t) = ps t := by
        refine List.ext_getElem? (fun i => ?_)
        by_cases hi : i < (ps t).length
        · have hg := pa_get hi
          rw [hg, chm_at hg]
          by_cases h8 : kd t = 8 ∧ 0 < i
          · rw [if_pos h8]
          · rw [if_neg h8]
            have hz : ∀ d', zf (sbT g d') (pa t i) = pa t i := fun d' => by
              by_cases h0 : pa t i = 0
              · rw [h0]; rfl
              · rw [zf_pos h0]
                have hm : pa t i ∈ fms t := fms_at.mpr ⟨i, by omega, hg, h0⟩
                exact ih _ (fms_lt hm) (ho.c hm) (fun c hc d2 => h c (lv_part ho.n hm c hc) d2) d'
            rw [hz, hz]
            split <;> rfl
        · rw [List.getElem?_eq_none (by rw [chm_len]; omega), List.getElem?_eq_none (by omega)]
      rw [e]; exact ho.n.1.symm
theorem loc_same {a b t : Nat} (ho : okT t) (hl : lvL t 0) (d : Nat) : sbT (locg a b) d t = t := sb_same t ho (fun c hc d' => by
  unfold locg
  rw [if_neg (fun q => by have := hl c hc q; omega)]) d
theorem tX3_move {d : Nat} (hd : 230 ≤ d) {ν : Nat → Nat} {c n ta tb : Nat} {W : Wd} {N : Nat → Prop} {u : Sg} {x : Nat} {X : Nat → Prop} (hw : WF FT u) (hs : ST ν c u) (x0 : 0 < x) (hx : x ≤ nT u) (hg : gvn W N (trT ν u x) n) (hm : MvT ν u n ta tb) (ha : 0 < n → cltm W N ta) (hb : 1 < n → cltm W N tb) (hr : hT u ≤ 26000) (hX : ImT X (locg ta tb) (trT ν u x) 0) (hl : LimT ν u X) :
    wp (runT d 78 [(x : Int)] u) (RvT ν c DX3_move u (sbT (locg ta tb) 0 (trT ν u x)) X) := by
  obtain ⟨d, rfl⟩ : ∃ d', d = d' + 1 := ⟨d - 1, by omega⟩
  rw [runT_eq (by omega)]
  show wp (bX3_move (runT d) x u) _
  unfold bX3_move
  rw [wp_un, hm.1]
  refine wp_ite (fun h0 => ?_) (fun h0 => ?_)
  · have hn0 : n = 0 := by omega
    subst hn0
    rw [wp_some, loc_same hg.1.1 hg.2.1]
    exact ⟨x, rfl, x0, hx, rfl, UpT.rf hs, hw, Gr.rf⟩
  · have hloc := loc_ok (d := 0) hg hm.2.1 ha hb
    have hht := gvn_ht hg
    have hsz := hg.2.2.2
    have := tX3_move2 (c := c) (n := n) (trT ν u x) hg.1.1 hg.2.1 hloc.2.2.1 d u x 0 X (by omega) (by omega) hw hs x0 hx rfl hm (by omega) (ImT.mono (fun _ q => Or.inr q) _ _ hX) hl (by omega)
    exact wp_mono (RvT.cl this) (fun r u' h => RvT.sub (by decide) h)
/-- the terms that go for loci are laid: i of them -/
def MvP (ν : Nat → Nat) (u u1 : Sg) (t n i : Nat) : Prop := EqH u u1 ∧ WF FT u1 ∧ Gr FT DX3_moveLoci u u1 ∧ gI u1 16 = (n : Int) ∧ gL u1 14 = gL u 14 ∧ gL u1 15 = gL u 15 ∧ ∀ j, j < i → gN u1 14 j = (j : Int) ∧ ∃ y : Nat, gN u1 15 j = (y : Int) ∧ y ≤ nT u ∧ trT ν u y = pa t j
theorem moveLoci_L14 {d : Nat} (hd : 4 ≤ d) {ν : Nat → Nat} {c : Nat} {u : Sg} {x : Nat} (hs : ST ν c u) (x0 : 0 < x) (hx : x ≤ nT u) (h4 : kd (trT ν u x) = 4) (hn2 : (ps (trT ν u x)).length ≤ 2) (h14 : 2 ≤ gL u 14) (h15 : 2 ≤ gL u 15) (hb : nT u < 131072) : ∀ (m i f : Nat) (u1 : Sg), i + m = (ps (trT ν u x)).length → m < f → MvP ν u u1 (trT ν u x) (ps (trT ν u x)).length i → wp (bX3_moveLoci_L14 (runT d) f (x : Int) (i : Int) u1 (fun s4 => some (0, s4))) (fun _ u' => MvP ν u u' (trT ν u x) (ps (trT ν u x)).length (ps (trT ν u x)).length) := by
  intro m
  induction m with
  | zero =>
    intro i f u1 hi hf hP
    obtain ⟨f, rfl⟩ : ∃ f', f = f' + 1 := ⟨f - 1, by omega⟩
    have e : i = (ps (trT ν u x)).length := by omega
    rw [bX3_moveLoci_L14, wp_un, hP.2.2.2.1, if_neg (by omega), wp_some]
    rw [e] at hP
    exact hP
  | succ m ih =>
    intro i f u1 hi hf hP
    obtain ⟨f, rfl⟩ : ∃ f', f = f' + 1 := ⟨f - 1, by omega⟩
    obtain ⟨p1, p2, p3, p4, p5, p6, p7⟩ := hP
    have hP1 : EqH u (sA u1 14 (i : Int) (i : Int)) := p1.trn (EqH.sA (by omega))
    have hs2 := hP1.st hs
    have htx : trT ν (sA u1 14 (i : Int) (i : Int)) x = trT ν u x := hP1.1.tr
    have nw4 : nw (kd (trT ν u x)) = 1 := by rw [h4]; decide
    have hxn : x ≤ nT (sA u1 14 (i : Int) (i : Int)) := by rw [hP1.1.n]; exact hx
    have hget := getT (d := d) (i := 1 + i) (by omega) hs2 x0 hxn (by rw [htx, nw4]; omega)
    have hpt := partT hs2 x0 hxn (i := i) (t := pa (trT ν u x) i) (by rw [htx]; exact pa_get (by omega))
    rw [htx, nw4, show i + 1 = 1 + i by omega] at hpt
    obtain ⟨z1, z2⟩ := hpt.2.1 (Or.inl (by omega))
    have hv : inR (dt (sA u1 14 (i : Int) (i : Int)) x (1 + i)) := ⟨by have := hpt.1; omega, by have := hpt.1; omega⟩
    rw [bX3_moveLoci_L14, wp_un, p4, if_pos (by omega), stA_pos ⟨by omega, by omega⟩, wp_ar]
    refine ⟨⟨by omega, by omega⟩, ?_⟩
    rw [show (1 : Int) + (i : Int) = ((1 + i : Nat) : Int) by omega]
    refine wp_eq hget ?_
    rw [wp_gd]
    refine ⟨by simp [keeps], ?_⟩
    rw [stA_pos ⟨by omega, by rw [gL_sA]; omega⟩, wp_ar]
    refine ⟨⟨by omega, by omega⟩, ?_⟩
    rw [show (i : Int) + 1 = ((i + 1 : Nat) : Int) by omega]
    refine ih (i + 1) f _ (by omega) (by omega) ⟨hP1.trn (EqH.sA (by omega)), kdT_A (kdT_A p2 (by omega) ⟨by omega, by omega⟩) (by omega) hv, (p3.tr (Gr_sA (by decide))).tr (Gr_sA (by decide)), by rw [gI_sA, gI_sA]; exact p4, by rw [gL_sA, gL_sA]; exact p5, by rw [gL_sA, gL_sA]; exact p6, fun j hj => ?_⟩
    rw [gN_sAn, gN_sAn, if_neg (by omega), gN_sAn, gN_sAn]
    by_cases hji : j = i
    · rw [if_pos ⟨rfl, hji⟩, if_pos ⟨rfl, hji⟩]
      refine ⟨by rw [hji], (dt (sA u1 14 (i : Int) (i : Int)) x (1 + i)).toNat, (Int.toNat_of_nonneg hpt.1).symm, by omega, ?_⟩
      rw [← hP1.1.tr, hji]; exact z2
    · rw [if_neg (fun q => hji q.2), if_neg (fun q => hji q.2), if_neg (by omega)]
      exact p7 j (by omega)
theorem tX3_moveLoci {d : Nat} (hd : 5 ≤ d) {ν : Nat → Nat} {c : Nat} {W : Wd} {N : Nat → Prop} {u : Sg} {x : Nat} (hw : WF FT u) (hs : ST ν c u) (x0 : 0 < x) (hx : x ≤ nT u) (h4 : kd (trT ν u x) = 4) (ht : cltm W N (trT ν u x)) (hn2 : (ps (trT ν u x)).length ≤ 2) (h14 : 2 ≤ gL u 14) (h15 : 2 ≤ gL u 15) (hb : nT u < 131072) :
    wp (runT d 81 [(x : Int)] u) (fun _ u' => EqH u u' ∧ WF FT u' ∧ Gr FT DX3_moveLoci u u' ∧ MvT ν u' (ps (trT ν u x)).length (pa (trT ν u x) 0) (pa (trT ν u x) 1)) := by
  obtain ⟨d, rfl⟩ : ∃ d', d = d' + 1 := ⟨d - 1, by omega⟩
  rw [runT_eq (by omega)]
  show wp (bX3_moveLoci (runT d) x u) _
  unfold bX3_moveLoci
  have hn := nodeT hs x0 hx
  have nw4 : nw (kd (trT ν u x)) = 1 := by rw [h4]; decide
  have hl3 : x < gL u 3 := by rw [hs.1.1.2.2.2.1.2.1]; exact hs.k hx
  have hKF := KF_big
  rw [ld_nat hl3, hn.2.1, nw4, wp_ar]
  refine ⟨⟨by omega, by omega⟩, ?_⟩
  rw [show (((ps (trT ν u x)).length + 1 : Nat) : Int) - 1 = ((ps (trT ν u x)).length : Int) by omega, wp_un]
  refine wp_mono (moveLoci_L14 (by omega) hs x0 hx h4 hn2 h14 h15 hb (ps (trT ν u x)).length 0 KF _ (by omega) (by omega) ⟨EqH.sI (by omega), kdT_I hw ⟨by omega, by omega⟩, Gr_sI (by decide), by rw [gI_sI, if_pos rfl], rfl, rfl, fun j hj => by omega⟩) (fun _ u' hP => ?_)
  obtain ⟨p1, p2, p3, p4, p5, p6, p7⟩ := hP
  have pos : ∀ (y j : Nat), j < (ps (trT ν u x)).length → trT ν u y = pa (trT ν u x) j → 0 < y := fun y j hj e => by
    rcases Nat.eq_zero_or_pos y with q | q
    · rw [q] at e
      exact absurd e.symm (isTm_pos (fun_part ht h4 hj).1.2.1)
    · exact q
  have ex : ∀ j, ∃ y : Nat, j < (ps (trT ν u x)).length → gN u' 15 j = (y : Int) ∧ y ≤ nT u ∧ trT ν u y = pa (trT ν u x) j := fun j => by
    by_cases hj : j < (ps (trT ν u x)).length
    · obtain ⟨_, y, hy⟩ := p7 j hj
      exact ⟨y, fun _ => hy⟩
    · exact ⟨0, fun q => absurd q hj⟩
  obtain ⟨a, ha⟩ := ex 0
  obtain ⟨b, hb'⟩ := ex 1
  refine ⟨p1, p2, p3, p4, hn2, by rw [p5]; exact h14, by rw [p6]; exact h15, a, b, fun q => ?_, fun q => ?_⟩
  · obtain ⟨a1, a2, a3⟩ := ha q
    have hf := (fun_part ht h4 q).1
    exact ⟨(p7 0 q).1, a1, pos a 0 q a3, by rw [p1.1.n]; exact a2, by rw [p1.1.tr]; exact a3, hf.1.1, hf.2.1, hf.2.2.1⟩
  · obtain ⟨a1, a2, a3⟩ := hb' q
    have hf := (fun_part ht h4 q).1
    exact ⟨(p7 1 q).1, a1, pos b 1 q a3, by rw [p1.1.n]; exact a2, by rw [p1.1.tr]; exact a3, hf.1.1, hf.2.1, hf.2.2.1⟩
