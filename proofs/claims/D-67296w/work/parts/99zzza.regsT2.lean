theorem adjs_L2 {d : Nat} (hd : 6 ≤ d) {ν : Nat → Nat} {c : Nat} {W : Wd} {S : Fs} {X : XFm} {Kl : List Nat} {u0 : Sg} {l0 : Ls} {C0 : Prop} {i t : Nat} {v : Int} {L : List Nat} {Q : Int → Sg → Prop} (hW : WOK W (NT ν c)) (hK : KlOK W (NT ν c) Kl) (hv : bitS v L) (hL : ∀ j ∈ L, j < 30 ∧ fA S t j) : ∀ (m a f : Nat) (u1 : Sg) (l1 : Ls), a + m = 31 → m < f → TwR ν c W S X Kl u0 l0 (C0 ∧ ∀ j ∈ L, j < a → fA (FsQ l0) t j) u1 l1 → l1.1[i]? = some t → l1.1 = l0.1 → ∀ xx : Sg → Option (Int × Sg), (∀ (u2 : Sg) (l2 : Ls), TwR ν c W S X Kl u0 l0 (C0 ∧ ∀ j ∈ L, fA (FsQ l0) t j) u2 l2 → l2.1 = l0.1 → wp (xx u2) Q) → wp (bX3_adjs_L2 (runT d) f (i : Int) v (a : Int) u1 xx) Q := by
  intro m
  induction m with
  | zero =>
    intro a f u1 l1 ha hf hw hi hH xx k
    obtain ⟨f, rfl⟩ : ∃ f', f = f' + 1 := ⟨f - 1, by omega⟩
    rw [bX3_adjs_L2, if_neg (by omega)]
    exact k u1 l1 (hw.mono (fun _ q => ⟨q.1, fun j hj => q.2 j hj (by have := (hL j hj).1; omega)⟩)) hH
  | succ m ih =>
    intro a f u1 l1 ha hf hw hi hH xx k
    obtain ⟨f, rfl⟩ : ∃ f', f = f' + 1 := ⟨f - 1, by omega⟩
    have hC := hw.2.1
    have nx : ∀ (u2 : Sg) (l2 : Ls), TwR ν c W S X Kl u0 l0 (C0 ∧ ∀ j ∈ L, j < a + 1 → fA (FsQ l0) t j) u2 l2 → l2.1 = l0.1 → wp (ar ((a : Int) + 1) fun v' => bX3_adjs_L2 (runT d) f (i : Int) v v' u2 xx) Q := fun u2 l2 w2 e2 => by
      rw [wp_ar]
      refine ⟨⟨by omega, by omega⟩, ?_⟩
      rw [show (a : Int) + 1 = ((a + 1 : Nat) : Int) by omega]
      exact ih (a + 1) f u2 l2 (by omega) (by omega) w2 (by rw [e2, ← hH]; exact hi) e2 xx k
    rw [bX3_adjs_L2, if_pos (by omega), wp_un, wp_un, bt_shr (by omega)]
    have hva := hv.2 a (by omega)
    by_cases hb : bt v a = true
    · rw [if_pos hb, if_pos rfl]
      have haL := hva.mp hb
      refine wp_call (tX3_adj (X := X) (by omega) hW hK hC hi (hL a haL).1 (hL a haL).2) (fun _ u2 ⟨l2, q1, q2, q3, q4, q5⟩ => ?_)
      refine nx u2 l2 (hw.seq q1 (fun e q r => ⟨q.1, fun j hj hja => ?_⟩)) (q2.trans hH)
      by_cases hja' : j = a
      · rw [hja', ← e]; exact r
      · exact q.2 j hj (by omega)
    · rw [if_neg hb, if_neg (by decide)]
      refine nx u1 l1 (hw.mono (fun _ q => ⟨q.1, fun j hj hja => ?_⟩)) hH
      by_cases hja' : j = a
      · rw [hja'] at hj; exact absurd (hva.mpr hj) hb
      · exact q.2 j hj (by omega)
/-- the adjectives of a set -/
theorem tX3_adjs {d : Nat} (hd : 7 ≤ d) {ν : Nat → Nat} {c : Nat} {W : Wd} {S : Fs} {X : XFm} {Kl : List Nat} {u : Sg} {l : Ls} {i t : Nat} {v : Int} {L : List Nat} (hW : WOK W (NT ν c)) (hK : KlOK W (NT ν c) Kl) (hC : CaT ν c W S Kl u l) (hi : l.1[i]? = some t) (hv : bitS v L) (hL : ∀ j ∈ L, j < 30 ∧ fA S t j) : wp (runT d 85 [(i : Int), v] u) (fun _ u' => ∃ l1, TwR ν c W S X Kl u l (∀ j ∈ L, fA (FsQ l) t j) u' l1 ∧ l1.1 = l.1) := by
  obtain ⟨d, rfl⟩ : ∃ d', d = d' + 1 := ⟨d - 1, by omega⟩
  rw [runT_eq (by omega)]
  show wp (bX3_adjs (runT d) i v u) _
  unfold bX3_adjs
  refine adjs_L2 (X := X) (C0 := True) (by omega) hW hK hv hL 31 0 KF u l (by omega) (Nat.lt_of_le_of_lt (by omega : _ ≤ 300000) KF_300) (TwR.rf hC ⟨trivial, fun j _ h => by omega⟩) hi rfl _ (fun u2 l2 w2 e2 => ?_)
  rw [wp_some]
  exact ⟨l2, w2.mono (fun _ q => q.2), e2⟩
theorem fsQ_eq {l : Ls} (hn : l.1.Nodup) {t t' : Nat} (h : eqX l.1 l.2.1 t t') : (∀ j, fA (FsQ l) t j → fA (FsQ l) t' j) ∧ ∀ m a, fM (FsQ l) t m a → fM (FsQ l) t' m a :=
  ⟨fun j ⟨s, q1, q2⟩ => ⟨s, q1, q2.trn hn h⟩, fun m a ⟨s, b, q1, q2, q3⟩ => ⟨s, b, q1, q2.trn hn h, q3⟩⟩
theorem clG_eq {W : Wd} {l : Ls} (hn : l.1.Nodup) {g t t' : Nat} (h : eqX l.1 l.2.1 t t') (q : clG W (FsQ l) g t') : clG W (FsQ l) g t := fun h1 ⟨a, h2, h3⟩ j hj => (fsQ_eq hn h.sy).1 j (q (fun j' hj' => (fsQ_eq hn h).1 j' (h1 j' hj')) ⟨a, (fsQ_eq hn h).2 _ _ h2, h3⟩ j hj)
/-- whether a mode fact answers a registration of all that has a type -/
def ofQ (W : Wd) (l : Ls) (t g : Nat) (q : Nat × Nat × Nat) : Prop := q.2.1 = wh (wgO W g) ∧ eqX l.1 l.2.1 q.1 t ∧ (wgA W g = 0 ∨ fM (FsQ l) q.2.2 (wh (wgA W g)) (pa (wgA W g) 0))
theorem ofQ_iff {ν : Nat → Nat} {c : Nat} {W : Wd} {S : Fs} {Kl : List Nat} {u : Sg} {l : Ls} {t g : Nat} (hW : WOK W (NT ν c)) (hG : WGK W (NT ν c)) (hK : KlOK W (NT ν c) Kl) (hC : CaT ν c W S Kl u l) (hg : g < wnG W) (hg0 : wgS W g = 0) (htH : t ∈ l.1) : ofS W (FsQ l) t g ↔ wh (wgO W g) = 0 ∨ ∃ q ∈ l.2.2.1, ofQ W l t g q := by
  obtain ⟨k1, k2, k3, k4, k5⟩ := (hG.2 g hg).2.1 hg0
  have hs := hC.1.1
  have hn := hC.2.2.1.1.2.2.1
  have h0 := hC.2.2.1.1.h0 hs
  have hm : ∀ q ∈ l.2.2.1, q.2.1 ≠ 0 := fun q hq => (hC.2.2.2.2.2.2.2.1.2 q hq).2.2.2.1
  have hlc := (k1.1.lc.2.2.1 k2).2.1
  constructor
  · rintro ⟨a, q1, q2⟩
    rcases (fMQ hn h0 hm htH).mp q1 with ⟨e, _⟩ | ⟨t', a', r1, r2, r3⟩
    · exact Or.inl e
    · refine Or.inr ⟨_, r1, rfl, r2, ?_⟩
      rcases q2 with q2 | ⟨q2, q3⟩
      · exact Or.inl (k3.mp q2)
      · exact Or.inr ((fsQ_eq hn r3.sy).2 _ _ q3)
  · rintro (e | ⟨q, q1, q2, q3, q4⟩)
    · have e0 : pa (wgO W g) 0 = 0 := hlc.mpr (by rw [e]; exact hW.1)
      exact ⟨0, by rw [e]; exact (fMQ hn h0 hm htH).mpr (Or.inl ⟨rfl, rfl⟩), Or.inl e0⟩
    · refine ⟨q.2.2, ⟨q.1, q.2.2, List.mem_append_left _ (by rw [← q2]; exact q1), q3, Or.inl rfl⟩, ?_⟩
      rcases q4 with q4 | q4
      · exact Or.inl (k3.mpr q4)
      · by_cases hz : pa (wgO W g) 0 = 0
        · exact Or.inl hz
        · refine Or.inr ⟨fun z => hz (hlc.mpr ?_), q4⟩
          have := (ALM_arg hW hK (fun t ht => (hC.2.2.2.2.2.1 t ht).1) (hC.2.2.2.2.2.2.2.1.2 q q1).2.2.1).mp z
          rw [q2] at this
          exact this
theorem cond_L18 {d : Nat} (hd : 5 ≤ d) {ν : Nat → Nat} {c : Nat} {u : Sg} {l : Ls} (h : HaT ν u l.1 l.2.1) (hs : ST ν c u) (hJ : FcJT u l.1 l.2.2.2) (hJl : l.2.2.2.length ≤ 100000) {g i0 t y ty : Nat} {v4 : Int} (hi0 : l.1[i0]? = some t) (y0 : 0 < y) (hy : y ≤ nT u) (ey : trT ν u y = ty) (h8 : kd ty = 8) (ho : okT ty) {xx : Int → Int → Int → Sg → Option (Int × Sg)} {xy : Sg → Option (Int × Sg)} : ∀ (n i f : Nat), i + n = (ps ty).length → n < f → 1 ≤ i → ((∀ j ∈ (ps ty).drop i, fA (FsQ l) t j) → bX3_conditional_L18 (runT d) f (g : Int) (i0 : Int) (y : Int) v4 ((i + 1 : Nat) : Int) u xx xy = xx (g : Int) (i0 : Int) v4 u) ∧ (¬ (∀ j ∈ (ps ty).drop i, fA (FsQ l) t j) → bX3_conditional_L18 (runT d) f (g : Int) (i0 : Int) (y : Int) v4 ((i + 1 : Nat) : Int) u xx xy = xy u) := by
  have hn := nodeT hs y0 hy
  rw [ey] at hn
  have nw1 : nw (kd ty) = 1 := by rw [h8]; decide
  have hl3 : y < gL u 3 := by rw [hs.1.1.2.2.2.1.2.1]; exact hs.k hy
  have hpt := ps_type ho h8
  intro n
  induction n with
  | zero =>
    intro i f hi hf h1
    obtain ⟨f, rfl⟩ : ∃ f', f = f' + 1 := ⟨f - 1, by omega⟩
    rw [bX3_conditional_L18, ld_nat hl3, hn.2.1, if_neg (by omega), List.drop_of_length_le (by omega)]
    exact ⟨fun _ => rfl, fun q => absurd (fun j hj => by cases hj) q⟩
  | succ n ih =>
    intro i f hi hf h1
    obtain ⟨f, rfl⟩ : ∃ f', f = f' + 1 := ⟨f - 1, by omega⟩
    have hil : i < (ps ty).length := by omega
    have a1 := adjNT (d := d) (i := i) (by omega) hs y0 hy (by rw [ey]; exact h8) (by rw [ey]; exact hil) h1
    rw [ey] at a1
    obtain ⟨c1, c2⟩ := ih (i + 1) f (by omega) (by omega) (by omega)
    rw [bX3_conditional_L18, ld_nat hl3, hn.2.1, if_pos (by omega), cl_eq a1, drop_pa hil]
    obtain ⟨b1, b2⟩ := rX3_hasAdj (d := d) (j := pa ty i) (by omega) h hJ hJl hi0
    by_cases he : fA (FsQ l) t (pa ty i)
    · rw [cl_eq (b1 he), if_neg (by decide), ar_pos ⟨by omega, by omega⟩, show ((i + 1 : Nat) : Int) + 1 = ((i + 1 + 1 : Nat) : Int) by omega]
      refine ⟨fun q => c1 (fun j hj => q j (List.mem_cons_of_mem _ hj)), fun q => c2 (fun w => q (fun j hj => ?_))⟩
      rcases List.mem_cons.mp hj with z | z
      · rw [z]; exact he
      · exact w j z
    · rw [cl_eq (b2 he), if_pos rfl]
      exact ⟨fun q => absurd (q _ List.mem_cons_self) he, fun _ => rfl⟩
theorem cond_L66 {d : Nat} (hd : 7 ≤ d) {ν : Nat → Nat} {c : Nat} {W : Wd} {S : Fs} {Kl : List Nat} {u : Sg} {l : Ls} {g i0 t : Nat} {xx : Int → Int → Int → Sg → Option (Int × Sg)} (hW : WOK W (NT ν c)) (hG : WGK W (NT ν c)) (hK : KlOK W (NT ν c) Kl) (hC : CaT ν c W S Kl u l) (hg : g < wnG W) (hg0 : wgS W g = 0) (hi0 : l.1[i0]? = some t) (hroot : rt l.2.1 i0 = i0) : ∀ (n i f : Nat), i + n = l.2.2.1.length → n + 1 < f → ((∃ k q, i ≤ k ∧ l.2.2.1[k]? = some q ∧ ofQ W l t g q) → bX3_conditional_L66 (runT d) f (g : Int) (i0 : Int) (wh (wgO W g) : Int) 0 (i : Int) u xx = xx (g : Int) (i0 : Int) 1 u) ∧ (¬ (∃ k q, i ≤ k ∧ l.2.2.1[k]? = some q ∧ ofQ W l t g q) → bX3_conditional_L66 (runT d) f (g : Int) (i0 : Int) (wh (wgO W g) : Int) 0 (i : Int) u xx = xx (g : Int) (i0 : Int) 0 u) := by
  obtain ⟨d, rfl⟩ : ∃ d', d = d' + 1 := ⟨d - 1, by omega⟩
  have hml := hC.ml hW (hK.wh hC.1.2.2.2.1.2.1.2) hK.1
  have hC0 := hC
  obtain ⟨h1, h2, ⟨h3, h3b⟩, h4, h5, h6, h7, ⟨h8, h8b⟩, h9, h10⟩ := hC
  have hs := h1.1
  have hn := h3.2.2.1
  obtain ⟨gg1, gg2, gg3, gg8⟩ := h1.2.2.2.2.2.2
  obtain ⟨q1, q2, q3, q4, q5⟩ := gg8 g hg
  obtain ⟨q21, q22⟩ := q2 hg0
  obtain ⟨k1, k2, k3, k4, k5⟩ := (hG.2 g hg).2.1 hg0
  have L31 := gg3 31 (by omega) (by omega)
  have h4' := h4
  obtain ⟨⟨m1, m2, m3, m4, m5, m6, m7⟩, m8⟩ := h4'
  have hl0 := (List.getElem?_eq_some_iff.mp hi0).1
  intro n
  induction n with
  | zero =>
    intro i f hi hf
    obtain ⟨f, rfl⟩ : ∃ f', f = f' + 1 := ⟨f - 1, by omega⟩
    rw [bX3_conditional_L66, un_eq, m1, if_neg (by omega)]
    exact ⟨fun ⟨k, q, r1, r2, _⟩ => by have := (List.getElem?_eq_some_iff.mp r2).1; omega, fun _ => rfl⟩
  | succ n ih =>
    intro i f hi hf
    obtain ⟨f, rfl⟩ : ∃ f', f = f' + 1 := ⟨f - 1, by omega⟩
    have hil : i < l.2.2.1.length := by omega
    obtain ⟨t', m', a', hget⟩ : ∃ t' m' a', l.2.2.1[i]? = some (t', m', a') := ⟨_, _, _, List.getElem?_eq_getElem hil⟩
    obtain ⟨⟨y, y1, y2⟩, e2, ⟨z, z1, z2, z3⟩⟩ := m8 i t' m' a' hget
    have hyl := (List.getElem?_eq_some_iff.mp y2).1
    have hmem := List.mem_of_getElem? hget
    obtain ⟨c1, c2⟩ := ih (i + 1) f (by omega) (by omega)
    have cont : ¬ ofQ W l t g (t', m', a') → ((∃ k q, i ≤ k ∧ l.2.2.1[k]? = some q ∧ ofQ W l t g q) → (ar ((i : Int) + 1) fun v8 => bX3_conditional_L66 (runT (d + 1)) f (g : Int) (i0 : Int) (wh (wgO W g) : Int) 0 v8 u xx) = xx (g : Int) (i0 : Int) 1 u) ∧ (¬ (∃ k q, i ≤ k ∧ l.2.2.1[k]? = some q ∧ ofQ W l t g q) → (ar ((i : Int) + 1) fun v8 => bX3_conditional_L66 (runT (d + 1)) f (g : Int) (i0 : Int) (wh (wgO W g) : Int) 0 v8 u xx) = xx (g : Int) (i0 : Int) 0 u) := fun hno => by
      rw [ar_pos ⟨by omega, by omega⟩, show (i : Int) + 1 = ((i + 1 : Nat) : Int) by omega]
      refine ⟨fun ⟨k, q, r1, r2, r3⟩ => c1 ⟨k, q, ?_, r2, r3⟩, fun q => c2 (fun ⟨k, q', r1, r2, r3⟩ => q ⟨k, q', by omega, r2, r3⟩)⟩
      by_cases hk : k = i
      · rw [hk, hget] at r2
        rw [← Option.some.inj r2] at r3
        exact absurd r3 hno
      · omega
    have yes : ofQ W l t g (t', m', a') → ((∃ k q, i ≤ k ∧ l.2.2.1[k]? = some q ∧ ofQ W l t g q) → (ar ((i : Int) + 1) fun v8 => bX3_conditional_L66 (runT (d + 1)) f (g : Int) (i0 : Int) (wh (wgO W g) : Int) 1 v8 u xx) = xx (g : Int) (i0 : Int) 1 u) ∧ (¬ (∃ k q, i ≤ k ∧ l.2.2.1[k]? = some q ∧ ofQ W l t g q) → (ar ((i : Int) + 1) fun v8 => bX3_conditional_L66 (runT (d + 1)) f (g : Int) (i0 : Int) (wh (wgO W g) : Int) 1 v8 u xx) = xx (g : Int) (i0 : Int) 0 u) := fun hyes => by
      refine ⟨fun _ => ?_, fun q => absurd ⟨i, _, Nat.le_refl _, hget, hyes⟩ q⟩
      rw [ar_pos ⟨by omega, by omega⟩, show (i : Int) + 1 = ((i + 1 : Nat) : Int) by omega]
      obtain ⟨f, rfl⟩ : ∃ f', f = f' + 1 := ⟨f - 1, by omega⟩
      rw [bX3_conditional_L66, un_eq, m1]
      by_cases q : ((i + 1 : Nat) : Int) < (l.2.2.1.length : Int)
      · rw [if_pos q, if_neg (by decide)]
      · rw [if_neg q]
    rw [bX3_conditional_L66, un_eq, m1, if_pos (by omega), if_pos rfl, ld_nat (by omega), e2]
    by_cases hm : (m' : Int) = (wh (wgO W g) : Int)
    · rw [if_pos hm, ld_nat (by omega), y1, cl_eq (rX3_top (by omega) h3 hyl)]
      have hrt : rt l.2.1 y = i0 ↔ eqX l.1 l.2.1 t' t := by rw [← rt_eqX hn y2 hi0, hroot]
      by_cases he : eqX l.1 l.2.1 t' t
      · rw [if_pos (by have := hrt.mpr he; omega), jn_eq, jn_eq, ld_nat (by omega)]
        obtain ⟨o, o1, o2, o3⟩ := q22
        rw [o1]
        by_cases ho : (o : Int) = 0
        · rw [if_pos ho]
          have eA : wgA W g = 0 := by rw [← o3, show o = 0 by omega]; rfl
          exact yes ⟨by show m' = _; omega, he, Or.inl eA⟩
        · rw [if_neg ho, ld_nat (by omega), z1]
          have o0 : 0 < o := by omega
          have hA : wgA W g ≠ 0 := by
            have := trT_pos hs o0 o2
            omega
          have hcl := k4 hA
          have ha' : a' ≠ 0 := fun e => by
            have e1 := (ALM_arg hW hK (fun t ht => (h6 t ht).1) (h8b _ hmem).2.2.1).mp e
            have e3 : m' = wh (wgO W g) := by omega
            have e1 : wmH W m' = 0 := e1
            rw [e3] at e1
            exact hA (k3.mp ((k1.1.lc.2.2.1 k2).2.1.mpr e1))
          obtain ⟨j, j1, j2⟩ := indT (d := d) (by omega) hC0 z2 z3 ((h8b _ hmem).2.2.2.2 ha')
          have nwA : nw (kd (wgA W g)) = 1 := by rw [hcl.2.1]; decide
          have g1 := headNT (d := d + 1) (by omega) hs o0 o2 (by rw [o3]; exact nwA) (by rw [o3, hcl.2.1]; decide)
          obtain ⟨b, b1, b2, b3⟩ := rX3_arg (d := d + 1) (by omega) hs o0 o2 (by rw [o3]; exact hcl.2.1) (by rw [o3]; exact (ps_type hcl.1.1 hcl.2.1).1)
          rw [o3] at g1 b3
          obtain ⟨r1, r2⟩ := rX3_hasHere (d := d + 1) (m := wh (wgA W g)) (a := b) (by omega) h3 hs h4 (by omega) (fun q hq => (h8b q hq).2.2.2.1) j1 (by omega) (fun q => by rw [b3]; exact (hcl.1.lc.2.2.1 hcl.2.1).2.1.mpr (by rw [q]; exact hW.1))
          rw [b3] at r1 r2
          rw [cl_eq j2, ld_nat (by omega), o1, cl_eq g1, ld_nat (by omega), o1, cl_eq b1]
          by_cases hf : fM (FsQ l) a' (wh (wgA W g)) (pa (wgA W g) 0)
          · rw [cl_eq (r1 hf), if_neg (by decide)]
            exact yes ⟨by show m' = _; omega, he, Or.inr hf⟩
          · rw [cl_eq (r2 hf), if_pos rfl]
            exact cont (fun q => q.2.2.elim (fun z => hA z) hf)
      · rw [if_neg (fun q => he (hrt.mp (by omega)))]
        exact cont (fun q => he q.2.1)
    · rw [if_neg hm]
      exact cont (fun q => hm (by have : m' = _ := q.1; omega))
/-- a registration of all that has a type, for one term that stands for its class -/
theorem tX3_conditional {d : Nat} (hd : 8 ≤ d) {ν : Nat → Nat} {c : Nat} {W : Wd} {S : Fs} {X : XFm} {K B : Nat → Prop} {Kl : List Nat} {u : Sg} {l : Ls} {g i0 t : Nat} (hE : EnT ν c W S X Kl K B) (hC : CaT ν c W S Kl u l) (hg : g < wnG W) (hg0 : wgS W g = 0) (hi0 : l.1[i0]? = some t) (hroot : rt l.2.1 i0 = i0) : wp (runT d 84 [(g : Int), (i0 : Int)] u) (fun _ u' => ∃ l1, TwR ν c W S X Kl u l (clG W (FsQ l) g t) u' l1 ∧ l1.1 = l.1) := by
  obtain ⟨hW, hG, hK, hS, hcn, hXS, hXT, hXK, hKK⟩ := hE
  obtain ⟨d, rfl⟩ : ∃ d', d = d' + 1 := ⟨d - 1, by omega⟩
  rw [runT_eq (by omega)]
  show wp (bX3_conditional (runT d) g i0 u) _
  unfold bX3_conditional
  have hml := hC.ml hW (hK.wh hC.1.2.2.2.1.2.1.2) hK.1
  have hs := hC.1.1
  obtain ⟨gg1, gg2, gg3, gg8⟩ := hC.1.2.2.2.2.2.2
  obtain ⟨q1, q2, q3, q4, q5⟩ := gg8 g hg
  obtain ⟨q21, q22⟩ := q2 hg0
  obtain ⟨k1, k2, k3, k4, k5⟩ := (hG.2 g hg).2.1 hg0
  have L30 := gg3 30 (by omega) (by omega)
  have L35 := gg3 35 (by omega) (by omega)
  have htH := List.mem_of_getElem? hi0
  have hO0 : wgO W g ≠ 0 := fun e => by rw [e, kd0] at k2; omega
  obtain ⟨y, y1, y2, y3, y4⟩ := q21.pos hO0
  have nwO : nw (kd (wgO W g)) = 1 := by rw [k2]; decide
  have g1 := headNT (d := d) (by omega) hs y2 y3 (by rw [y4]; exact nwO) (by rw [y4, k2]; decide)
  rw [y4] at g1
  have hpt := ps_type k1.1.1 k2
  have hof := ofQ_iff hW hG hK hC hg hg0 htH
  rw [ld_nat (by omega), y1]
  refine wp_eq g1 ?_
  obtain ⟨c1, c2⟩ := cond_L18 (d := d) (g := g) (v4 := (wh (wgO W g) : Int)) (by omega) hC.2.2.1.1 hs hC.2.2.2.2.1 (by omega) hi0 y2 y3 y4 k2 k1.1.1 (xx := fun v5 v6 v7 s4 => jn (fun (a1 a2 a4 t0 : Int) (s9 : Sg) => bX3_conditional_L66 (runT d) KF a1 a2 a4 t0 0 s9 (fun v11 v12 v13 s10 => if v13 = 0 then (some (0, s10)) else (ld s10 35 v11 fun v14 => cl (runT d 85 [v12, v14] s10) fun v15 s16 => some (0, s16)))) fun j8 => if v7 = 0 then (j8 v5 v6 v7 1 s4) else (j8 v5 v6 v7 0 s4)) (xy := fun s17 => some (0, s17)) ((ps (wgO W g)).length - 1) 1 KF (by omega) (Nat.lt_of_le_of_lt (by omega : _ ≤ 300000) KF_300) (Nat.le_refl _)
  rw [hpt.2.2] at c1 c2
  by_cases ha : ∀ j ∈ adjT (wgO W g), fA (FsQ l) t j
  · have e1 : bX3_conditional_L18 (runT d) KF (g : Int) (i0 : Int) (y : Int) (wh (wgO W g) : Int) 2 u _ _ = _ := c1 ha
    rw [e1, wp_jn]
    have sb := hC.sub hW hS
    have hV : bitS (gN u 35 g) (adjT (wgV W g)) := q4 (by omega)
    have act : ofS W (FsQ l) t g → wp (if (1 : Int) = 0 then (some (0, u)) else (ld u 35 (g : Int) fun v14 => cl (runT d 85 [(i0 : Int), v14] u) fun v15 s16 => some (0, s16))) (fun _ u' => ∃ l1, TwR ν c W S X Kl u l (clG W (FsQ l) g t) u' l1 ∧ l1.1 = l.1) := fun hofS => by
      rw [if_neg (by decide), ld_nat (by omega)]
      refine wp_call (tX3_adjs (X := X) (by omega) hW hK hC hi0 hV (fun j hj => ⟨((hG.2 g hg).2.2.2.1 (by omega)).2.2 j hj, hS.2.2.2.2.2 t g ((hC.2.2.2.2.2.1 t htH).2) hg hg0 (fun j' hj' => sb.2.2.2 _ _ (ha j' hj')) (sb.of hofS) j hj⟩)) (fun _ u2 ⟨l2, w1, w2⟩ => ?_)
      rw [wp_some]
      exact ⟨l2, w1.mono (fun _ q _ _ => q), w2⟩
    refine wp_ite (fun hz => ?_) (fun hz => ?_)
    · have hz' : wh (wgO W g) = 0 := by omega
      have hKF := KF_300
      obtain ⟨F, hF⟩ : ∃ F, KF = F + 1 := ⟨KF - 1, by omega⟩
      have e2 : bX3_conditional_L66 (runT d) KF (g : Int) (i0 : Int) (wh (wgO W g) : Int) 1 0 u (fun v11 v12 v13 s10 => if v13 = 0 then (some (0, s10)) else (ld s10 35 v11 fun v14 => cl (runT d 85 [v12, v14] s10) fun v15 s16 => some (0, s16))) = (if (1 : Int) = 0 then (some (0, u)) else (ld u 35 (g : Int) fun v14 => cl (runT d 85 [(i0 : Int), v14] u) fun v15 s16 => some (0, s16))) := by
        rw [hF, bX3_conditional_L66, un_eq]
        by_cases q : (0 : Int) < gI u 62
        · rw [if_pos q, if_neg (by decide)]
        · rw [if_neg q]
      show wp (bX3_conditional_L66 (runT d) KF (g : Int) (i0 : Int) (wh (wgO W g) : Int) 1 0 u _) _
      rw [e2]
      exact act (hof.mpr (Or.inl hz'))
    · have hz' : wh (wgO W g) ≠ 0 := by omega
      obtain ⟨m1, m2⟩ := cond_L66 (d := d) (by omega) hW hG hK hC hg hg0 hi0 hroot (xx := fun v11 v12 v13 s10 => if v13 = 0 then (some (0, s10)) else (ld s10 35 v11 fun v14 => cl (runT d 85 [v12, v14] s10) fun v15 s16 => some (0, s16))) l.2.2.1.length 0 KF (by omega) (Nat.lt_of_le_of_lt (by omega : _ ≤ 300000) KF_300)
      by_cases hex : ∃ k q, 0 ≤ k ∧ l.2.2.1[k]? = some q ∧ ofQ W l t g q
      · have e3 : bX3_conditional_L66 (runT d) KF (g : Int) (i0 : Int) (wh (wgO W g) : Int) 0 0 u _ = _ := m1 hex
        show wp (bX3_conditional_L66 (runT d) KF (g : Int) (i0 : Int) (wh (wgO W g) : Int) 0 0 u _) _
        rw [e3]
        obtain ⟨k, q, _, r2, r3⟩ := hex
        exact act (hof.mpr (Or.inr ⟨q, List.mem_of_getElem? r2, r3⟩))
      · have e3 : bX3_conditional_L66 (runT d) KF (g : Int) (i0 : Int) (wh (wgO W g) : Int) 0 0 u _ = _ := m2 hex
        show wp (bX3_conditional_L66 (runT d) KF (g : Int) (i0 : Int) (wh (wgO W g) : Int) 0 0 u _) _
        rw [e3]
        show wp (if (0 : Int) = 0 then _ else _) _
        rw [if_pos rfl, wp_some]
        refine ⟨l, TwR.rf hC (fun _ hofS => absurd ?_ hex), rfl⟩
        rcases hof.mp hofS with w | ⟨q, w1, w2⟩
        · exact absurd w hz'
        · obtain ⟨k, hk⟩ := List.getElem?_of_mem w1
          exact ⟨k, q, Nat.zero_le _, hk, w2⟩
  · have e1 : bX3_conditional_L18 (runT d) KF (g : Int) (i0 : Int) (y : Int) (wh (wgO W g) : Int) 2 u _ _ = _ := c2 ha
    rw [e1, wp_some]
    exact ⟨l, TwR.rf hC (fun q _ => absurd q ha), rfl⟩
