/-! face: atom -/
theorem FkC.prm {o : Option (Int × Sg)} {ok : Prop} {t : Nat} {W : Wd} {c : Nat} {Fo Pr : List Nat} {lc : Nat} {K : Int} {u : Sg} {X : Nat → Prop} (hFl : Fo.length < 400) (h : wp o (FkC ok t W c Fo Pr lc K u X)) : wp (cl o fun v s => pr v s (some (v, s))) (FkC ok t W c Fo Pr lc K u X) := by
  refine wp_call h (fun r u' q => ?_)
  have e : exB = 1099511627776 := rfl
  rcases q with ⟨a1, a2, a3, a4⟩ | ⟨a1, a2, a3, a4⟩ | ⟨a1, a2, a3⟩
  · rw [pr_n (by omega), wp_some]
    exact Or.inl ⟨a1, a2, a3, a4⟩
  · rw [a3, pr_x (by decide), wp_some]
    exact Or.inr (Or.inl ⟨a1, a2, rfl, a4⟩)
  · rw [a2, pr_x (by decide), wp_some]
    exact Or.inr (Or.inr ⟨a1, rfl, a3⟩)
theorem FkC.iff {o : Option (Int × Sg)} {ok ok' : Prop} {t t' : Nat} {W : Wd} {c : Nat} {Fo Pr : List Nat} {lc : Nat} {K : Int} {u : Sg} {X : Nat → Prop} (h : wp o (FkC ok t W c Fo Pr lc K u X)) (ho : ok ↔ ok') (ht : t = t') : wp o (FkC ok' t' W c Fo Pr lc K u X) := by
  rw [← ht, ← propext ho]; exact h
theorem FkM.iff {o : Option (Int × Sg)} {ok ok' : Prop} {t t' : Nat} {W : Wd} {c : Nat} {Fo Pr : List Nat} {lc : Nat} {K : Int} {u : Sg} {X : Nat → Prop} (h : wp o (FkM ok t W c Fo Pr lc K u X)) (ho : ok ↔ ok') (ht : t = t') : wp o (FkM ok' t' W c Fo Pr lc K u X) := by
  rw [← ht, ← propext ho]; exact h
def okMo (W : Wd) (Fo : List Nat) (a s t : Int) : Prop := (0 ≤ a ∧ a < (wnM W : Int)) ∧ (isS Fo 0 s ∧ lvL (frm Fo s) 0) ∧ (wmH W a.toNat = 0 → t = -1) ∧ (wmH W a.toNat ≠ 0 → isS Fo 0 t ∧ lvL (frm Fo t) 0)
def okAt (W : Wd) (Fo : List Nat) (k a s t : Int) : Prop := (k = 0 ∧ okA Fo ((10 : Nat) ≠ 4) 2 s t) ∨ (k = 1 ∧ okA Fo ((11 : Nat) ≠ 4) 2 s t) ∨ (k = 2 ∧ (0 ≤ a ∧ a < (wnP W : Int)) ∧ okA Fo ((12 : Nat) ≠ 4) (wpM W a.toNat) s t) ∨ (k = 3 ∧ (0 ≤ a ∧ a < (wnA W : Int)) ∧ okA Fo ((13 : Nat) ≠ 4) 1 s t) ∨ (k = 4 ∧ okMo W Fo a s t)
def atT (W : Wd) (Fo : List Nat) (k a s t : Int) : Nat := if k = 0 then mk 10 0 (argA Fo 2 s t) else if k = 1 then mk 11 0 (argA Fo 2 s t) else if k = 2 then mk 12 a.toNat (argA Fo (wpM W a.toNat) s t) else if k = 3 then mk 13 a.toNat (argA Fo 1 s t) else modT a.toNat (argTy W Fo a t) (frm Fo s)
theorem atT_0 {W : Wd} {Fo : List Nat} {a s t : Int} : atT W Fo 0 a s t = mk 10 0 (argA Fo 2 s t) := if_pos rfl
theorem atT_1 {W : Wd} {Fo : List Nat} {a s t : Int} : atT W Fo 1 a s t = mk 11 0 (argA Fo 2 s t) := by unfold atT; rw [if_neg (by decide), if_pos rfl]
theorem atT_2 {W : Wd} {Fo : List Nat} {a s t : Int} : atT W Fo 2 a s t = mk 12 a.toNat (argA Fo (wpM W a.toNat) s t) := by unfold atT; rw [if_neg (by decide), if_neg (by decide), if_pos rfl]
theorem atT_3 {W : Wd} {Fo : List Nat} {a s t : Int} : atT W Fo 3 a s t = mk 13 a.toNat (argA Fo 1 s t) := by unfold atT; rw [if_neg (by decide), if_neg (by decide), if_neg (by decide), if_pos rfl]
theorem atT_4 {W : Wd} {Fo : List Nat} {a s t : Int} : atT W Fo 4 a s t = modT a.toNat (argTy W Fo a t) (frm Fo s) := by unfold atT; rw [if_neg (by decide), if_neg (by decide), if_neg (by decide), if_neg (by decide)]
theorem okAt_0 {W : Wd} {Fo : List Nat} {a s t : Int} : okA Fo ((10 : Nat) ≠ 4) 2 s t ↔ okAt W Fo 0 a s t := ⟨fun h => Or.inl ⟨rfl, h⟩, fun h => by rcases h with q | q | q | q | q <;> first | exact q.2 | (have := q.1; omega)⟩
theorem okAt_1 {W : Wd} {Fo : List Nat} {a s t : Int} : okA Fo ((11 : Nat) ≠ 4) 2 s t ↔ okAt W Fo 1 a s t := ⟨fun h => Or.inr (Or.inl ⟨rfl, h⟩), fun h => by rcases h with q | q | q | q | q <;> first | exact q.2 | (have := q.1; omega)⟩
theorem okAt_2 {W : Wd} {Fo : List Nat} {a s t : Int} : ((0 ≤ a ∧ a < (wnP W : Int)) ∧ okA Fo ((12 : Nat) ≠ 4) (wpM W a.toNat) s t) ↔ okAt W Fo 2 a s t := ⟨fun h => Or.inr (Or.inr (Or.inl ⟨rfl, h⟩)), fun h => by rcases h with q | q | q | q | q <;> first | exact q.2 | (have := q.1; omega)⟩
theorem okAt_3 {W : Wd} {Fo : List Nat} {a s t : Int} : ((0 ≤ a ∧ a < (wnA W : Int)) ∧ okA Fo ((13 : Nat) ≠ 4) 1 s t) ↔ okAt W Fo 3 a s t := ⟨fun h => Or.inr (Or.inr (Or.inr (Or.inl ⟨rfl, h⟩))), fun h => by rcases h with q | q | q | q | q <;> first | exact q.2 | (have := q.1; omega)⟩
theorem okAt_4 {W : Wd} {Fo : List Nat} {a s t : Int} : okMo W Fo a s t ↔ okAt W Fo 4 a s t := ⟨fun h => Or.inr (Or.inr (Or.inr (Or.inr ⟨rfl, h⟩))), fun h => by rcases h with q | q | q | q | q <;> first | exact q.2 | (have := q.1; omega)⟩
theorem Dmo : ∀ k, k = 13 ∨ k = 14 ∨ (21 ≤ k ∧ k ≤ 99) → DX2_mode.testBit k = false := fun k hk => by
  rcases hk with q | q | q
  · rw [q]; decide +kernel
  · rw [q]; decide +kernel
  · exact (by decide +kernel : ∀ k, k ≤ 99 → 21 ≤ k → DX2_mode.testBit k = false) k q.2 q.1
theorem cAtom {d : Nat} (hd : 310 ≤ d) {W : Wd} {c : Nat} {Fo Pr : List Nat} {lc : Nat} {K : Int} {u : Sg} {X : Nat → Prop} (h : ReC W c Fo Pr lc K u) (hW : WOK W (Nm nu2 c)) (hP : ∀ p, p < wnP W → wpM W p ≤ 2) (hF : FoP Fo) (h9 : 0 ≤ gI u 99 ∧ gI u 99 < 1000000) (hFl : Fo.length < 400) (hK : K < 1000000) (k a s t : Int) (hl : Lim nu2 u X) (h5 : P5u u X) (hX : X (atT W Fo k a s t)) : wp (runC d 24 [k, a, s, t] u) (FkC (okAt W Fo k a s t) (atT W Fo k a s t) W c Fo Pr lc K u X) := by
  obtain ⟨d, rfl⟩ : ∃ e, d = e + 1 := ⟨d - 1, by omega⟩
  rw [runC_eq (by omega)]
  show wp (bX1_atom (runC d) k a s t u) _
  have hs := h.1.1
  have hr0 := h.2.2.2.2.1
  have hn9 := nC_le hs
  have nok : k < 0 ∨ 4 < k → ¬ okAt W Fo k a s t := fun hk q => by
    rcases q with q | q | q | q | q <;> (have := q.1; omega)
  unfold bX1_atom
  rw [wp_jn]; dsimp only
  rw [wp_jn]; dsimp only
  by_cases k0 : k < 0
  · rw [if_pos k0]; exact FkC.nb (by omega) h h9 (nok (Or.inl k0)) _
  rw [if_neg k0]
  by_cases k4 : k ≤ 4
  · rw [if_pos k4, cl_eq (need_ok (by omega)), pr_0]
    have hk5 : k = 0 ∨ k = 1 ∨ k = 2 ∨ k = 3 ∨ k = 4 := by omega
    rcases hk5 with rfl | rfl | rfl | rfl | rfl
    · rw [if_pos rfl]
      rw [atT_0] at hX
      exact FkC.iff (FkC.prm hFl (cMade (d := d) (k := 10) (w := 0) (m := 2) (X := X) (by omega) h hF h9 hFl hK (Or.inr (by omega)) (by omega) (by omega) s t hl h5 hX)) okAt_0 atT_0.symm
    · rw [if_neg (by decide), if_pos rfl]
      rw [atT_1] at hX
      exact FkC.iff (FkC.prm hFl (cMade (d := d) (k := 11) (w := 0) (m := 2) (X := X) (by omega) h hF h9 hFl hK (Or.inr (by omega)) (by omega) (by omega) s t hl h5 hX)) okAt_1 atT_1.symm
    · rw [if_neg (by decide), if_neg (by decide), if_pos rfl, wp_jn]; dsimp only
      rw [wp_jn]; dsimp only
      obtain ⟨h75, h10, h73, hpm⟩ := h.1.2.2.2.2.2.1.1
      rw [atT_2] at hX
      refine FkC.iff ?_ okAt_2 atT_2.symm
      by_cases a0 : a < 0
      · rw [if_pos a0]; exact FkC.nb (by omega) h h9 (fun q => by have := q.1; omega) _
      rw [if_neg a0, wp_un, h75]
      by_cases a1 : a < (wnP W : Int)
      · rw [if_pos a1, cl_eq (need_ok (by omega)), pr_0, wp_ld]
        refine ⟨⟨by omega, by rw [h73]; omega⟩, ?_⟩
        have han : a.toNat < wnP W := by omega
        rw [show gA u 73 a = ((wpM W a.toNat : Nat) : Int) from hpm a.toNat han]
        have := cMade (d := d) (k := 12) (w := a.toNat) (m := wpM W a.toNat) (X := X) (by omega) h hF h9 hFl hK (Or.inr (by omega)) (by omega) (hP _ han) s t hl h5 hX
        rw [show ((a.toNat : Nat) : Int) = a by omega] at this
        exact FkC.iff (FkC.prm hFl this) ⟨fun q => ⟨⟨by omega, a1⟩, q⟩, fun q => q.2⟩ rfl
      · rw [if_neg a1]; exact FkC.nb (by omega) h h9 (fun q => a1 q.1.2) _
    · rw [if_neg (by decide), if_neg (by decide), if_neg (by decide), if_pos rfl, wp_jn]; dsimp only
      rw [wp_jn]; dsimp only
      have h70 := h.1.2.2.2.2.2.1.2.1
      have h15 := h.1.2.2.2.2.2.1.2.2
      rw [atT_3] at hX
      refine FkC.iff ?_ okAt_3 atT_3.symm
      by_cases a0 : a < 0
      · rw [if_pos a0]; exact FkC.nb (by omega) h h9 (fun q => by have := q.1; omega) _
      rw [if_neg a0, wp_un, h70]
      by_cases a1 : a < (wnA W : Int)
      · rw [if_pos a1, cl_eq (need_ok (by omega)), pr_0]
        have := cMade (d := d) (k := 13) (w := a.toNat) (m := 1) (X := X) (by omega) h hF h9 hFl hK (Or.inr (by omega)) (by omega) (by omega) s t hl h5 hX
        rw [show ((a.toNat : Nat) : Int) = a by omega] at this
        exact FkC.iff (FkC.prm hFl this) ⟨fun q => ⟨⟨by omega, a1⟩, q⟩, fun q => q.2⟩ rfl
      · rw [if_neg a1]; exact FkC.nb (by omega) h h9 (fun q => a1 q.1.2) _
    · rw [if_neg (by decide), if_neg (by decide), if_neg (by decide), if_neg (by decide), wp_jn]; dsimp only
      rw [wp_jn]; dsimp only
      obtain ⟨h69, ⟨h1, h20⟩, h67, h68, hz, hen⟩ := h.1.2.2.2.1
      rw [atT_4] at hX
      refine FkC.iff ?_ okAt_4 atT_4.symm
      have fin : ∀ (y : Nat) (x : Nat), y < nC u → trC nu2 u y = argTy W Fo a t → 0 < x → x < nC u → trC nu2 u x = frm Fo s → okMo W Fo a s t → wp (un (gI u 9) fun v36 => un (gI u 10) fun v37 => cl (runC d 100 [a, (y : Int), (x : Int)] u) fun v38 s39 => cl (runC d 16 [v38, v36, v37] s39) fun v40 s41 => pr v40 s41 (some (v40, s41))) (FkC (okMo W Fo a s t) (modT a.toNat (argTy W Fo a t) (frm Fo s)) W c Fo Pr lc K u X) := fun y x hy ey x0 hx ex hok => by
        rw [wp_un, wp_un, hs.1.1.1.1, hs.1.1.2.1.1]
        have hp := tX2_mode (d := d) (m := a.toNat) (x1 := y) (x2 := x) (X := X) (by omega) h.2.1 hs h.1.2.1 (by have := hok.1; omega) hy hx (by omega) (by rw [ey, ex]; exact hX) hl
        rw [ey, ex, show ((a.toNat : Nat) : Int) = a by have := hok.1; omega] at hp
        refine wp_call hp (fun r u' ⟨z, e2, z0, hz, ez, hU, hw1, hg⟩ => ?_)
        rw [e2]
        exact FkC.kp (by omega) h hU hw1 hg Dmo h9 z0 hz ez hFl hK (fun z q => h5 z (hU.2.2.2.2.1 z q)) hok
      by_cases a0 : a < 0
      · rw [if_pos a0, wp_jn]; dsimp only
        exact FkC.nb (by omega) h h9 (fun q => by have := q.1; omega) _
      rw [if_neg a0, wp_un, h69]
      by_cases a1 : a < (wnM W : Int)
      · rw [if_pos a1, wp_jn]; dsimp only
        rw [cl_eq (need_ok (by omega)), pr_0, wp_ld]
        refine ⟨⟨by omega, by rw [h68]; omega⟩, ?_⟩
        have hmH : gA u 68 a = ((wmH W a.toNat : Nat) : Int) ∧ wmH W a.toNat ≤ 1 := by
          by_cases hm0 : a.toNat = 0
          · have e : gA u 68 a = gN u 68 a.toNat := rfl
            rw [e, hm0, hz, hW.1]
            exact ⟨rfl, by decide⟩
          · exact ⟨(hen a.toNat (by omega) (by omega)).2, (hW.2.1 a.toNat (by omega) (by omega)).2.2.2⟩
        have hm2 : wmH W a.toNat = 0 ∨ wmH W a.toNat = 1 := by omega
        have clo : ∀ (x : Nat) (b : Int), isS Fo 0 b → 0 < x → x < nC u → trC nu2 u x = frm Fo b → (lvL (frm Fo b) 0 → runC d 18 [(x : Int)] u = some ((x : Int), u)) ∧ (¬ lvL (frm Fo b) 0 → runC d 18 [(x : Int)] u = some (exB + 1, tS u)) := fun x b ha x0 hx et => by
          obtain ⟨fo, fz, -⟩ := hF _ ha.mem
          have fh := hF.ht ha.mem
          exact cClosed hs h9 (by omega) fo (by omega) x0 hx et
        by_cases t1 : t = -1
        · rw [if_pos t1, wp_jn]; dsimp only
          rcases hm2 with q | q
          · rw [show gA u 68 a = 0 by rw [hmH.1, q]; rfl, if_pos rfl, wp_jn]; dsimp only
            rw [cl_eq (need_ok (by omega)), pr_0]
            rcases cS (d := d) (by omega) h hF h9 (s := 0) (by decide) s with ⟨hS, x, x0, hx, et, e⟩ | ⟨hS, e⟩
            · have e : runC d 11 [s] u = some ((x : Int), u) := e
              rw [cl_eq e, pr_n (by omega)]
              by_cases hcl : lvL (frm Fo s) 0
              · rw [cl_eq ((clo x s hS x0 hx et).1 hcl), pr_n (by omega), if_pos t1]
                exact fin 0 x (by have := hs.1.1.1.2.1; omega) (by unfold argTy; rw [if_pos q]; rfl) x0 hx et ⟨⟨by omega, a1⟩, ⟨hS, hcl⟩, fun _ => t1, fun z => absurd q z⟩
              · exact FkC.th ((clo x s hS x0 hx et).2 hcl) h h9 (fun z => hcl z.2.1.2) _
            · have e : runC d 11 [s] u = some (exB + 1, tS u) := e
              exact FkC.th e h h9 (fun z => hS z.2.1.1) _
          · rw [show gA u 68 a = 1 by rw [hmH.1, q]; rfl, if_neg (by decide), wp_jn]; dsimp only
            exact FkC.nb (by omega) h h9 (fun z => (z.2.2.2 (by omega)).1.nn t1) _
        · rw [if_neg t1, wp_jn]; dsimp only
          rcases hm2 with q | q
          · rw [show gA u 68 a = 0 by rw [hmH.1, q]; rfl, if_neg (by decide), wp_jn]; dsimp only
            exact FkC.nb (by omega) h h9 (fun z => t1 (z.2.2.1 q)) _
          · rw [show gA u 68 a = 1 by rw [hmH.1, q]; rfl, if_pos rfl, wp_jn]; dsimp only
            rw [cl_eq (need_ok (by omega)), pr_0]
            rcases cS (d := d) (by omega) h hF h9 (s := 0) (by decide) s with ⟨hS, x, x0, hx, et, e⟩ | ⟨hS, e⟩
            · have e : runC d 11 [s] u = some ((x : Int), u) := e
              rw [cl_eq e, pr_n (by omega)]
              by_cases hcl : lvL (frm Fo s) 0
              · rw [cl_eq ((clo x s hS x0 hx et).1 hcl), pr_n (by omega), if_neg t1]
                rcases cS (d := d) (by omega) h hF h9 (s := 0) (by decide) t with ⟨hS2, y, y0, hy, ey, e2⟩ | ⟨hS2, e2⟩
                · have e2 : runC d 11 [t] u = some ((y : Int), u) := e2
                  rw [cl_eq e2, pr_n (by omega)]
                  by_cases hcl2 : lvL (frm Fo t) 0
                  · rw [cl_eq ((clo y t hS2 y0 hy ey).1 hcl2), pr_n (by omega)]
                    exact fin y x hy (by unfold argTy; rw [if_neg (by omega)]; exact ey) x0 hx et ⟨⟨by omega, a1⟩, ⟨hS, hcl⟩, fun z => by omega, fun _ => ⟨hS2, hcl2⟩⟩
                  · exact FkC.th ((clo y t hS2 y0 hy ey).2 hcl2) h h9 (fun z => hcl2 (z.2.2.2 (by omega)).2) _
                · have e2 : runC d 11 [t] u = some (exB + 1, tS u) := e2
                  exact FkC.th e2 h h9 (fun z => hS2 (z.2.2.2 (by omega)).1) _
              · exact FkC.th ((clo x s hS x0 hx et).2 hcl) h h9 (fun z => hcl z.2.1.2) _
            · have e : runC d 11 [s] u = some (exB + 1, tS u) := e
              exact FkC.th e h h9 (fun z => hS z.2.1.1) _
      · rw [if_neg a1, wp_jn]; dsimp only
        exact FkC.nb (by omega) h h9 (fun q => a1 q.1.2) _
  · rw [if_neg k4]; exact FkC.nb (by omega) h h9 (nok (Or.inr (by omega))) _
