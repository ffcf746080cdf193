/-! face: gives and reduce in the model -/
def okTs (W : Wd) (Fo : List Nat) (f a b : Int) : Prop := (0 ≤ f ∧ f < (wnF W : Int)) ∧ (okPl Fo (wfM W f.toNat) 0 a ∧ okPl Fo (wfM W f.toNat) 1 b)
/-- behind types: the slot of the registrations' tables is written where there is one -/
def TsQ (W : Wd) (Fo : List Nat) (f a b : Int) (u : Sg) : Int → Sg → Prop := fun r u' => (okTs W Fo f a b ∧ r = 1 ∧ ((¬ wnG W < 30 ∧ u' = u) ∨ (wnG W < 30 ∧ ∃ x y : Int, inT nt2 u x (plT Fo (wfM W f.toNat) 0 a) ∧ inT nt2 u y (plT Fo (wfM W f.toNat) 1 b) ∧ u' = sA (sA (sA u 32 (wnG W : Int) f) 33 (wnG W : Int) x) 34 (wnG W : Int) y))) ∨ (¬ okTs W Fo f a b ∧ r = 0 ∧ u' = u)
theorem tTypes {d : Nat} (hd : 310 ≤ d) {W : Wd} {c : Nat} {Fo Pr : List Nat} {lc : Nat} {K : Int} {u : Sg} (h : ReT W c Fo Pr lc K u) (hF : FoP Fo) (hW : WOK W (NT nt2 (c + 2))) (f a b : Int) : wp (runT d 48 [f, a, b] u) (TsQ W Fo f a b u) := by
  obtain ⟨d, rfl⟩ : ∃ e, d = e + 1 := ⟨d - 1, by omega⟩
  rw [runT_eq (by omega)]
  show wp (bX3_types (runT d) f a b u) _
  have hT := h.1.1
  have hn9 := nT_le hT
  obtain ⟨g37, g30, gl, -⟩ := h.1.2.2.2.2.2.2
  obtain ⟨f1, f2, f3, f4, f5⟩ := h.1.2.2.2.2.1
  unfold bX3_types
  have bad : ¬ okTs W Fo f a b → wp (some ((0 : Int), u)) (TsQ W Fo f a b u) := fun hb => wp_some.mpr (Or.inr ⟨hb, rfl, rfl⟩)
  by_cases hf0 : f < 0
  · rw [if_pos hf0]
    exact bad (fun q => by have := q.1; omega)
  rw [if_neg hf0, wp_un, f1]
  by_cases hfl : f < (wnF W : Int)
  · rw [if_pos hfl, wp_jn]; dsimp only
    obtain ⟨g, rfl⟩ : ∃ g : Nat, f = (g : Int) := ⟨f.toNat, by omega⟩
    have hg : g < wnF W := by omega
    have em : gN u 20 g = ((wfM W g : Nat) : Int) := (f5 g hg).1
    have vs : ∀ z : Int, ∃ v : Int, runT d 12 [z, 1] u = some (v, u) ∧ ((v = 0 ∧ ¬ isS Fo 1 z) ∨ ∃ x : Nat, v = (x : Int) ∧ 0 < x ∧ x ≤ nT u ∧ trT nt2 u x = frm Fo z ∧ isS Fo 1 z) := fun z => by
      rcases tS' (d := d) (by omega) h hF (s := 1) (by decide) z with ⟨q, x, x0, hx, et, e⟩ | ⟨q, e⟩
      · exact ⟨x, e, Or.inr ⟨x, rfl, x0, hx, et, q⟩⟩
      · exact ⟨0, e, Or.inl ⟨rfl, q⟩⟩
    obtain ⟨va, ea, ha⟩ := vs a
    obtain ⟨vb, eb, hb⟩ := vs b
    rw [cl_eq ea, cl_eq eb, wp_ld]
    refine ⟨⟨by omega, by omega⟩, ?_⟩
    rw [gA_nat, em]
    have below : ∀ {z : Int} {x : Nat}, isS Fo 1 z → 0 < x → x ≤ nT u → trT nt2 u x = frm Fo z → (lvL (frm Fo z) (wfM W g) → runT d 14 [(x : Int), ((wfM W g : Nat) : Int)] u = some (1, u)) ∧ (¬ lvL (frm Fo z) (wfM W g) → runT d 14 [(x : Int), ((wfM W g : Nat) : Int)] u = some (0, u)) := fun {z} {x} hS x0 hx et => by
      obtain ⟨fo, fz, -⟩ := hF _ hS.mem
      have fh := hF.ht hS.mem
      exact rX3_isBelow hT (by omega) fo (by omega) (by omega) x0 hx et
    have nn : ∀ {z v : Int}, z = -1 → ((v = 0 ∧ ¬ isS Fo 1 z) ∨ ∃ x : Nat, v = (x : Int) ∧ 0 < x ∧ x ≤ nT u ∧ trT nt2 u x = frm Fo z ∧ isS Fo 1 z) → v = 0 := fun {z v} z1 q => by
      rcases q with q | ⟨x, _, _, _, _, q⟩
      · exact q.1
      · exact absurd z1 q.nn
    -- stored
    have fin : okPl Fo (wfM W g) 0 a → inT nt2 u va (plT Fo (wfM W g) 0 a) → okPl Fo (wfM W g) 1 b → inT nt2 u vb (plT Fo (wfM W g) 1 b) → wp (un (gI u 37) fun v6 => if v6 < 30 then (un (gI u 37) fun v7 => stA u 32 v7 (g : Int) fun s8 => un (gI s8 37) fun v9 => stA s8 33 v9 va fun s10 => un (gI s10 37) fun v11 => stA s10 34 v11 vb fun s12 => some ((1 : Int), s12)) else (some ((1 : Int), u))) (TsQ W Fo (g : Int) a b u) := fun pa ia pb ib => by
      have hok : okTs W Fo (g : Int) a b := ⟨⟨by omega, by omega⟩, pa, pb⟩
      rw [wp_un, g37]
      by_cases hlt : wnG W < 30
      · rw [if_pos (by omega), wp_un, wp_stA]
        refine ⟨⟨by omega, by rw [gl 32 (by decide) (by decide)]; omega⟩, ?_⟩
        rw [wp_un, gI_sA, g37, wp_stA]
        refine ⟨⟨by omega, by rw [gL_sA, gl 33 (by decide) (by decide)]; omega⟩, ?_⟩
        rw [wp_un, gI_sA, gI_sA, g37, wp_stA]
        refine ⟨⟨by omega, by rw [gL_sA, gL_sA, gl 34 (by decide) (by decide)]; omega⟩, ?_⟩
        exact wp_some.mpr (Or.inl ⟨hok, rfl, Or.inr ⟨hlt, va, vb, ia, ib, rfl⟩⟩)
      · rw [if_neg (by omega)]
        exact wp_some.mpr (Or.inl ⟨hok, rfl, Or.inl ⟨hlt, rfl⟩⟩)
    -- the second
    have sec : okPl Fo (wfM W g) 0 a → inT nt2 u va (plT Fo (wfM W g) 0 a) → wp (jn (fun (a1 a4 a5 : Int) (s5 : Sg) => un (gI s5 37) fun v6 => if v6 < 30 then (un (gI s5 37) fun v7 => stA s5 32 v7 a1 fun s8 => un (gI s8 37) fun v9 => stA s8 33 v9 a4 fun s10 => un (gI s10 37) fun v11 => stA s10 34 v11 a5 fun s12 => some (1, s12)) else (some (1, s5))) fun j4 => if ((wfM W g : Nat) : Int) ≤ 1 then (if b = (-1) then (j4 (g : Int) va vb u) else (some (0, u))) else (if vb = 0 then (some (0, u)) else (cl (runT d 14 [vb, ((wfM W g : Nat) : Int)] u) fun v13 s14 => if v13 = 0 then (some (0, s14)) else (j4 (g : Int) va vb s14)))) (TsQ W Fo (g : Int) a b u) := fun pa ia => by
      rw [wp_jn]; dsimp only
      by_cases m1 : wfM W g ≤ 1
      · rw [if_pos (by omega)]
        by_cases b1 : b = -1
        · rw [if_pos b1]
          refine fin pa ia ⟨fun q => absurd q (by omega), fun _ => b1⟩ ?_
          unfold plT
          rw [if_neg (by omega), nn b1 hb]
          exact ⟨0, rfl, Nat.zero_le _, rfl⟩
        · rw [if_neg b1]
          exact bad (fun q => b1 (q.2.2.2 (by show ¬ 1 < wfM W g; omega)))
      · rw [if_neg (by omega)]
        rcases hb with ⟨q, hno⟩ | ⟨y, ey, y0, hy, ety, hS⟩
        · rw [if_pos q]
          exact bad (fun q => hno (q.2.2.1 (by show 1 < wfM W g; omega)).1)
        · rw [if_neg (by omega)]
          obtain ⟨w1, w2⟩ := below hS y0 hy ety
          by_cases hlv : lvL (frm Fo b) (wfM W g)
          · rw [ey, cl_eq (w1 hlv), if_neg (by decide), ← ey]
            refine fin pa ia ⟨fun _ => ⟨hS, hlv⟩, fun q => absurd (by omega) q⟩ ?_
            unfold plT
            rw [if_pos (by omega)]
            exact ⟨y, ey, hy, ety⟩
          · rw [ey, cl_eq (w2 hlv), if_pos rfl]
            exact bad (fun q => hlv (q.2.2.1 (by show 1 < wfM W g; omega)).2)
    by_cases m0 : wfM W g = 0
    · rw [if_pos (by omega)]
      by_cases a1 : a = -1
      · rw [if_pos a1]
        refine sec ⟨fun q => absurd q (by omega), fun _ => a1⟩ ?_
        unfold plT
        rw [if_neg (by omega), nn a1 ha]
        exact ⟨0, rfl, Nat.zero_le _, rfl⟩
      · rw [if_neg a1]
        exact bad (fun q => a1 (q.2.1.2 (by show ¬ 0 < wfM W g; omega)))
    · rw [if_neg (by omega)]
      rcases ha with ⟨q, hno⟩ | ⟨y, ey, y0, hy, ety, hS⟩
      · rw [if_pos q]
        exact bad (fun q => hno (q.2.1.1 (by show 0 < wfM W g; omega)).1)
      · rw [if_neg (by omega)]
        obtain ⟨w1, w2⟩ := below hS y0 hy ety
        by_cases hlv : lvL (frm Fo a) (wfM W g)
        · rw [ey, cl_eq (w1 hlv), if_neg (by decide), ← ey]
          refine sec ⟨fun _ => ⟨hS, hlv⟩, fun q => absurd (by omega) q⟩ ?_
          unfold plT
          rw [if_pos (by omega)]
          exact ⟨y, ey, hy, ety⟩
        · rw [ey, cl_eq (w2 hlv), if_pos rfl]
          exact bad (fun q => hlv (q.2.1.1 (by show 0 < wfM W g; omega)).2)
  · rw [if_neg hfl]
    exact bad (fun q => by have := q.1; omega)
theorem TsQ.re {W : Wd} {c : Nat} {Fo Pr : List Nat} {lc : Nat} {K : Int} {u u' : Sg} {f a b r : Int} (h : ReT W c Fo Pr lc K u) (hW : WOK W (NT nt2 (c + 2))) (q : TsQ W Fo f a b u r u') : ReT W c Fo Pr lc K u' ∧ EqH u u' := by
  have hn9 := nT_le h.1.1
  have f2 := h.1.2.2.2.2.1.2.1
  rcases q with ⟨ok, -, ⟨-, rfl⟩ | ⟨hlt, x, y, hx, hy, rfl⟩⟩ | ⟨-, -, rfl⟩
  · exact ⟨h, EqH.rf⟩
  · obtain ⟨x', rfl, hx', _⟩ := hx
    obtain ⟨y', rfl, hy', _⟩ := hy
    have hfr := ok.1
    exact ⟨((h.sl hW (k := 32) (by decide) (by decide) rfl ⟨by omega, by omega⟩).sl hW (k := 33) (by decide) (by decide) rfl ⟨by omega, by omega⟩).sl hW (k := 34) (by decide) (by decide) rfl ⟨by omega, by omega⟩, ((EqH.sA (by decide)).trn (EqH.sA (by decide))).trn (EqH.sA (by decide))⟩
  · exact ⟨h, EqH.rf⟩
theorem tGive {d : Nat} (hd : 320 ≤ d) {W : Wd} {c : Nat} {Fo Pr : List Nat} {lc : Nat} {K : Int} {u : Sg} (h : ReT W c Fo Pr lc K u) (hF : FoP Fo) (hW : WOK W (NT nt2 (c + 2))) (f a b s : Int) (hsR : inR s) : wp (runT d 47 [f, a, b, s] u) (RgM (okGv W Fo f a b s) W (wGv W Fo f a b s) c Fo Pr lc K u) := by
  obtain ⟨d, rfl⟩ : ∃ e, d = e + 1 := ⟨d - 1, by omega⟩
  rw [runT_eq (by omega)]
  show wp (bX3_gives_2 (runT d) f a b s u) _
  have hs := h.s0 (v := 0) (by decide)
  have hn9 := nT_le hs.1.1
  have hnd : ∀ z, ndT nt2 (sI u 0 0) z → ndT nt2 u z := fun z ⟨y, a, b, e⟩ => ⟨y, a, b, e⟩
  unfold bX3_gives_2
  rw [wp_jn]; dsimp only
  rw [wp_un]
  refine wp_call (tTypes (d := d) (by omega) hs hF hW f a b) (fun r u' q => ?_)
  obtain ⟨h', he⟩ := q.re hs hW
  have hnd' : ∀ z, ndT nt2 u' z → ndT nt2 u z := fun z hz => hnd z (he.1.nd.mp hz)
  have h28 := h'.1.2.2.2.2.2.1.2.1
  have h15 := h'.1.2.2.2.2.2.1.2.2
  obtain ⟨g37, g30, gl, -⟩ := h'.1.2.2.2.2.2.2
  obtain ⟨st1, st2⟩ := tSet (d := d) (u := u') (by omega) h28 h15 hsR
  rcases q with ⟨ok, r1, q⟩ | ⟨hno, r0, q⟩
  · rw [if_neg (by omega)]
    by_cases hok : okSet W s
    · have hokG : okGv W Fo f a b s := ⟨ok.1, ok.2, hok⟩
      rw [cl_eq (st1 hok), if_neg (by decide), wp_un, g37]
      by_cases hlt : wnG W = 30
      · rw [if_pos (by omega)]
        exact RgM.fu (by omega) h' hnd' hokG hlt
      · rw [if_neg (by omega), wp_un, wp_stA]
        refine ⟨⟨by omega, by rw [gl 29 (by decide) (by decide)]; omega⟩, ?_⟩
        rw [wp_un, gI_sA, g37, wp_stA]
        refine ⟨⟨by omega, by rw [gL_sA, gl 35 (by decide) (by decide)]; omega⟩, ?_⟩
        have h4 := (h'.sl hW (k := 29) (v := 2) (by decide) (by decide) rfl (by decide)).sl hW (k := 35) (v := s) (by decide) (by decide) rfl hsR
        have he2 : EqH u' (sA (sA u' 29 (wnG W : Int) 2) 35 (wnG W : Int) s) := (EqH.sA (by decide)).trn (EqH.sA (by decide))
        rcases q with ⟨hn, _⟩ | ⟨_, x, y, hx, hy, eu⟩
        · omega
        refine RgM.rg (by omega) h4 (fun z hz => hnd' z (he2.1.nd.mp hz)) hokG (by omega) ⟨?_, fun q => absurd q (by decide), fun _ => ⟨?_, ?_, ?_⟩, fun _ => ?_, fun q => absurd q (by decide)⟩
        · rw [gN_sAn, if_neg (by omega), gN_sAn, if_pos ⟨rfl, rfl⟩]; rfl
        · rw [gN_sAn, if_neg (by omega), gN_sAn, if_neg (by omega), eu, gN_sAn, if_neg (by omega), gN_sAn, if_neg (by omega), gN_sAn, if_pos ⟨rfl, rfl⟩]
          have := ok.1
          omega
        · rw [gN_sAn, if_neg (by omega), gN_sAn, if_neg (by omega)]
          refine inT.ee he2 ?_
          have e3 : gN u' 33 (wnG W) = x := by rw [eu, gN_sAn, if_neg (by omega), gN_sAn, if_pos ⟨rfl, rfl⟩]
          rw [e3]
          exact inT.ee he hx
        · rw [gN_sAn, if_neg (by omega), gN_sAn, if_neg (by omega)]
          refine inT.ee he2 ?_
          have e3 : gN u' 34 (wnG W) = y := by rw [eu, gN_sAn, if_pos ⟨rfl, rfl⟩]
          rw [e3]
          exact inT.ee he hy
        · rw [gN_sAn, if_pos ⟨rfl, rfl⟩]
          exact set_bits hok h15 hsR
    · rw [cl_eq (st2 hok), if_pos rfl]
      exact RgM.bad (by omega) h' hnd' (fun q => hok q.2.2)
  · rw [if_pos r0]
    exact RgM.bad (by omega) h' hnd' (fun q => hno ⟨q.1, q.2.1⟩)
theorem tRedu {d : Nat} (hd : 320 ≤ d) {W : Wd} {c : Nat} {Fo Pr : List Nat} {lc : Nat} {K : Int} {u : Sg} (h : ReT W c Fo Pr lc K u) (hF : FoP Fo) (hW : WOK W (NT nt2 (c + 2))) (f a b t : Int) : wp (runT d 49 [f, a, b, t] u) (RgM (okRd W Fo f a b t) W (wRd W Fo f a b t) c Fo Pr lc K u) := by
  obtain ⟨d, rfl⟩ : ∃ e, d = e + 1 := ⟨d - 1, by omega⟩
  rw [runT_eq (by omega)]
  show wp (bX3_reduce (runT d) f a b t u) _
  have hs := h.s0 (v := 0) (by decide)
  have hn9 := nT_le hs.1.1
  have hnd : ∀ z, ndT nt2 (sI u 0 0) z → ndT nt2 u z := fun z ⟨y, a, b, e⟩ => ⟨y, a, b, e⟩
  unfold bX3_reduce
  rw [wp_jn]; dsimp only
  rw [wp_un]
  have vs : ∃ v : Int, runT d 12 [t, 0] (sI u 0 0) = some (v, sI u 0 0) ∧ ((v = 0 ∧ ¬ isS Fo 0 t) ∨ ∃ x : Nat, v = (x : Int) ∧ 0 < x ∧ x ≤ nT (sI u 0 0) ∧ trT nt2 (sI u 0 0) x = frm Fo t ∧ isS Fo 0 t) := by
    rcases tS' (d := d) (by omega) hs hF (s := 0) (by decide) t with ⟨q, x, x0, hx, et, e⟩ | ⟨q, e⟩
    · exact ⟨x, e, Or.inr ⟨x, rfl, x0, hx, et, q⟩⟩
    · exact ⟨0, e, Or.inl ⟨rfl, q⟩⟩
  obtain ⟨vt, e1, hvt⟩ := vs
  rw [cl_eq e1]
  refine wp_call (tTypes (d := d) (by omega) hs hF hW f a b) (fun r u' q => ?_)
  obtain ⟨h', he⟩ := q.re hs hW
  have hnd' : ∀ z, ndT nt2 u' z → ndT nt2 u z := fun z hz => hnd z (he.1.nd.mp hz)
  obtain ⟨g37, g30, gl, -⟩ := h'.1.2.2.2.2.2.2
  obtain ⟨f1, f2, f3, f4, f5⟩ := h'.1.2.2.2.2.1
  rcases q with ⟨ok, r1, q⟩ | ⟨hno, r0, q⟩
  · rw [if_neg (by omega)]
    obtain ⟨g, rfl⟩ : ∃ g : Nat, f = (g : Int) := ⟨f.toNat, by have := ok.1; omega⟩
    have hg : g < wnF W := by have := ok.1; omega
    have em : gN u' 20 g = ((wfM W g : Nat) : Int) := (f5 g hg).1
    rcases hvt with ⟨q1, hno⟩ | ⟨x, ex, x0, hx, et, hS⟩
    · rw [if_pos q1]
      exact RgM.bad (by omega) h' hnd' (fun q => hno q.2.2.1)
    · rw [if_neg (by omega), wp_ld]
      refine ⟨⟨by omega, by omega⟩, ?_⟩
      rw [gA_nat, em, ex]
      obtain ⟨fo, fz, -⟩ := hF _ hS.mem
      have fh := hF.ht hS.mem
      have hx' : x ≤ nT u' := by rw [he.1.n]; exact hx
      have et' : trT nt2 u' x = frm Fo t := by rw [he.1.tr]; exact et
      obtain ⟨w1, w2⟩ := rX3_isBelow (d := d) (n := wfM W g) h'.1.1 (by have := nT_le h'.1.1; omega) fo (by omega) (by omega) x0 hx' et'
      by_cases hlv : lvL (frm Fo t) (wfM W g)
      · have hokR : okRd W Fo (g : Int) a b t := ⟨ok.1, ok.2, hS, hlv⟩
        rw [cl_eq (w1 hlv), if_neg (by decide), wp_un, g37]
        by_cases hlt : wnG W = 30
        · rw [if_pos (by omega)]
          exact RgM.fu (by omega) h' hnd' hokR hlt
        · rw [if_neg (by omega), wp_un, wp_stA]
          refine ⟨⟨by omega, by rw [gl 29 (by decide) (by decide)]; omega⟩, ?_⟩
          rw [wp_un, gI_sA, g37, wp_stA]
          refine ⟨⟨by omega, by rw [gL_sA, gl 36 (by decide) (by decide)]; omega⟩, ?_⟩
          have h4 := (h'.sl hW (k := 29) (v := 3) (by decide) (by decide) rfl (by decide)).sl hW (k := 36) (v := (x : Int)) (by decide) (by decide) rfl ⟨by omega, by omega⟩
          have he2 : EqH u' (sA (sA u' 29 (wnG W : Int) 3) 36 (wnG W : Int) (x : Int)) := (EqH.sA (by decide)).trn (EqH.sA (by decide))
          rcases q with ⟨hn, _⟩ | ⟨_, x1, y1, hx1, hy1, eu⟩
          · omega
          refine RgM.rg (by omega) h4 (fun z hz => hnd' z (he2.1.nd.mp hz)) hokR (by omega) ⟨?_, fun q => absurd q (by decide), fun _ => ⟨?_, ?_, ?_⟩, fun q => absurd rfl q, fun _ => ?_⟩
          · rw [gN_sAn, if_neg (by omega), gN_sAn, if_pos ⟨rfl, rfl⟩]; rfl
          · rw [gN_sAn, if_neg (by omega), gN_sAn, if_neg (by omega), eu, gN_sAn, if_neg (by omega), gN_sAn, if_neg (by omega), gN_sAn, if_pos ⟨rfl, rfl⟩]
            have := ok.1
            omega
          · rw [gN_sAn, if_neg (by omega), gN_sAn, if_neg (by omega)]
            refine inT.ee he2 ?_
            have e3 : gN u' 33 (wnG W) = x1 := by rw [eu, gN_sAn, if_neg (by omega), gN_sAn, if_pos ⟨rfl, rfl⟩]
            rw [e3]
            exact inT.ee he hx1
          · rw [gN_sAn, if_neg (by omega), gN_sAn, if_neg (by omega)]
            refine inT.ee he2 ?_
            have e3 : gN u' 34 (wnG W) = y1 := by rw [eu, gN_sAn, if_pos ⟨rfl, rfl⟩]
            rw [e3]
            exact inT.ee he hy1
          · rw [gN_sAn, if_pos ⟨rfl, rfl⟩]
            exact inT.ee he2 ⟨x, rfl, hx', et'⟩
      · rw [cl_eq (w2 hlv), if_pos rfl]
        exact RgM.bad (by omega) h' hnd' (fun q => hlv q.2.2.2)
  · rw [if_pos r0]
    exact RgM.bad (by omega) h' hnd' (fun q => hno ⟨q.1, q.2.1⟩)
