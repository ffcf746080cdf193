/-! faces: fits and adjectives in the model -/
theorem ReT.mm {W : Wd} {c : Nat} {Fo Pr : List Nat} {lc : Nat} {K : Int} {u : Sg} (h : ReT W c Fo Pr lc K u) : MmA u := ⟨h.2.2.2.1.2.1, fun i hi => ⟨(h.2.2.1.2.2.2.2.2 i hi).1, (h.2.2.1.2.2.2.2.2 i hi).2.1⟩⟩
/-- more is remembered: at rest -/
theorem ReT.rm {D : Nat} {W : Wd} {c : Nat} {Fo Pr : List Nat} {lc : Nat} {K : Int} {u u' : Sg} {X : Nat → Prop} (h : ReT W c Fo Pr lc K u) (hU : UpT nt2 (c + 2) u u' X) (hw : WF FT u') (hg : Gr FT D u u') (hb : ∀ k, k ≤ 82 → 17 ≤ k ∧ k ≠ 38 ∧ k ≠ 39 ∧ k ≠ 41 ∧ k ≠ 42 → D.testBit k = false) (hD : D &&& mkT = 0) (hm : MemT nt2 (c + 2) W u') (hmm : MmA u') (hS : StkT u' 0) : ReT W c Fo Pr lc K u' := by
  obtain ⟨hC, -, ⟨x1, x2, x3, ⟨x4, x5, x6⟩, x7, x8⟩, -, hh, h54, h76, h43, hFo, hPr, h82⟩ := h
  have A : ∀ k, k ≤ 82 → 17 ≤ k ∧ k ≠ 38 ∧ k ≠ 39 ∧ k ≠ 41 ∧ k ≠ 42 → u'.2.1 k = u.2.1 k := fun k h1 hk => (hg.2.1 k (hb k h1 hk)).2
  have I : ∀ k, k ≤ 82 → 17 ≤ k ∧ k ≠ 38 ∧ k ≠ 39 ∧ k ≠ 41 ∧ k ≠ 42 → gI u' k = gI u k := fun k h1 hk => (hg.2.1 k (hb k h1 hk)).1
  have L : ∀ k, k ≤ 82 → 17 ≤ k ∧ k ≠ 38 ∧ k ≠ 39 ∧ k ≠ 41 ∧ k ≠ 42 → gL u' k = gL u k := fun k h1 hk => congrArg Prod.fst (A k h1 hk)
  have N : ∀ k i, k ≤ 82 → 17 ≤ k ∧ k ≠ 38 ∧ k ≠ 39 ∧ k ≠ 41 ∧ k ≠ 42 → gN u' k i = gN u k i := fun k i h1 hk => congrFun (congrArg Prod.snd (A k h1 hk)) i
  refine ⟨hC.up hU.ux hg hD, hw, ⟨fun k hk => ?_, fun k hk => ?_, fun k hk i hi => ?_, ⟨?_, ?_, fun i hi => ?_⟩, ⟨?_, trivial⟩, fun i hi => ?_⟩, ⟨hm, hmm.1, hS⟩, hU.2.2.2.1.trans hh, ?_, ?_, fun k h1 h2 => ?_, hFo.up hC.1 hU.ux (A 78 (by omega) (by omega)) (I 79 (by omega) (by omega)), hPr.up hC.1 hU.ux (A 80 (by omega) (by omega)) (I 81 (by omega) (by omega)), ?_⟩
  · rw [L k (by omega) (by omega)]; exact x1 k hk
  · rw [L k (by omega) (by omega)]; exact x2 k hk
  · rw [N k i (by omega) (by omega), I 54 (by omega) (by omega)]
    rw [L k (by omega) (by omega)] at hi
    exact x3 k hk i hi
  · rw [I 76 (by omega) (by omega)]; exact x4
  · rw [I 76 (by omega) (by omega)]; exact x5
  · rw [L 74 (by omega) (by omega)] at hi
    rw [N 74 i (by omega) (by omega), I 76 (by omega) (by omega)]
    exact x6 i hi
  · rw [I 40 (by omega) (by omega)]; exact x7.1
  · exact ⟨(hmm.2 i hi).1, (hmm.2 i hi).2, fun _ => trivial⟩
  · rw [I 54 (by omega) (by omega)]; exact h54
  · rw [I 76 (by omega) (by omega)]; exact h76
  · rw [L k (by omega) (by omega)]; exact h43 k h1 h2
  · rw [I 82 (by omega) (by omega), L 80 (by omega) (by omega)]; exact h82
theorem tFits {d : Nat} (hd : 310 ≤ d) {W : Wd} {c : Nat} {Fo Pr : List Nat} {lc : Nat} {K : Int} {u : Sg} {X : Nat → Prop} (h : ReT W c Fo Pr lc K u) (hW : WOK W (NT nt2 (c + 2))) (hG : WGK W (NT nt2 (c + 2))) (hF : FoW W (NT nt2 (c + 2)) Fo) (a b : Int) (hl : LimT nt2 u X) (hX : okFi Fo a b → adXX W X (frm Fo a)) : wp (runT d 113 [a, b] u) (FcT (okFi Fo a b) False (tvI (fitT W (frm Fo a) (frm Fo b))) (fun u' => ReT W c Fo Pr lc K u' ∧ NdT u u' X) (fun u' => ReT W c Fo Pr lc K u' ∧ NdT u u' (fun _ => False))) := by
  obtain ⟨d, rfl⟩ : ∃ e, d = e + 1 := ⟨d - 1, by omega⟩
  rw [runT_eq (by omega)]
  show wp (bX3_fits (runT d) a b u) _
  have hs := h.s0 (v := 0) (by decide)
  have hP := hF.p
  have nd : NdT u (sI u 0 0) (fun _ => False) := fun z ⟨y, a, b, e⟩ => Or.inl ⟨y, a, b, e⟩
  have hl0 : LimT nt2 (sI u 0 0) X := fun l hn hm => hl l hn (fun t ht => (hm t ht).imp (fun ⟨y, a, b, e⟩ => ⟨y, a, b, e⟩) id)
  unfold bX3_fits
  rw [wp_jn]; dsimp only
  rw [wp_un]
  have bad : ¬ okFi Fo a b → wp (cl (runT d 17 [1] (sI u 0 0)) fun v3 s4 => if v3 ≤ 0 then (some (0, s4)) else (some (1, s4))) (FcT (okFi Fo a b) False (tvI (fitT W (frm Fo a) (frm Fo b))) (fun u' => ReT W c Fo Pr lc K u' ∧ NdT u u' X) (fun u' => ReT W c Fo Pr lc K u' ∧ NdT u u' (fun _ => False))) := fun hb => by
    rw [cl_eq (fails_eq (by omega)), if_pos (by decide), wp_some]
    exact Or.inr (Or.inr ⟨hb, rfl, by rw [gI_sI, if_pos rfl], hs.s0 (by decide), fun z ⟨y, a, b, e⟩ => Or.inl ⟨y, a, b, e⟩⟩)
  rcases tCl (d := d) (by omega) hs hP (s := 0) (by decide) a with ⟨⟨hS, hcl⟩, x, x0, hx, ex, e⟩ | ⟨hS, e⟩
  · have e : runT d 25 [a, 0] (sI u 0 0) = some ((x : Int), sI u 0 0) := e
    rw [cl_eq e]
    rcases tCl (d := d) (by omega) hs hP (s := 1) (by decide) b with ⟨⟨hS2, hcl2⟩, y, y0, hy, ey, e2⟩ | ⟨hS2, e2⟩
    · have e2 : runT d 25 [b, 1] (sI u 0 0) = some ((y : Int), sI u 0 0) := e2
      rw [cl_eq e2, if_neg (by omega), if_neg (by omega)]
      have ok : okFi Fo a b := ⟨⟨hS, hcl⟩, hS2, hcl2⟩
      obtain ⟨fo, fz, -⟩ := hP _ hS.mem
      have hh0 := hs.2.2.2.2.1
      refine wp_call (tX3_suits (d := d) (X := X) (w := 0) (by omega) hs.2.1 hs.1 hW hG hs.2.2.2.1.1 hs.mm hs.2.2.2.1.2.2 (by omega) x0 hx (by rw [ex]; exact hF.tm hS hcl) (by rw [ex]; omega) y0 hy (by rw [ey]; exact hF.ty hS2 hcl2) (by omega) (by rw [ex]; exact hX ok) hl0) (fun r u1 ⟨⟨b1, b2, b3, b4⟩, b5, b6, b7⟩ => ?_)
      rw [ex, ey] at b1
      rw [wp_some]
      refine Or.inl ⟨ok, id, ?_, ?_, hs.rm b2 b3 b4 (by decide +kernel) (by decide +kernel) b5 b6 b7, fun z hz => ?_⟩
      · rcases b1 with ⟨z1, z2⟩ | ⟨z1, z2⟩
        · rw [z1, tvI_1 z2]
        · rw [z1, tvI_0 z2]
      · rw [b4.I 0 (by decide +kernel), gI_sI, if_pos rfl]
      · exact (b2.2.2.1 z hz).imp (fun ⟨y, a, b, e⟩ => ⟨y, a, b, e⟩) id
    · have e2 : runT d 25 [b, 1] (sI u 0 0) = some (0, sI u 0 0) := e2
      rw [cl_eq e2, if_neg (by omega), if_pos rfl]
      exact bad (fun q => hS2 q.2)
  · have e : runT d 25 [a, 0] (sI u 0 0) = some (0, sI u 0 0) := e
    rw [cl_eq e]
    rcases tCl (d := d) (by omega) hs hP (s := 1) (by decide) b with ⟨-, y, y0, hy, ey, e2⟩ | ⟨hS2, e2⟩
    · have e2 : runT d 25 [b, 1] (sI u 0 0) = some ((y : Int), sI u 0 0) := e2
      rw [cl_eq e2, if_pos rfl]
      exact bad (fun q => hS q.1)
    · have e2 : runT d 25 [b, 1] (sI u 0 0) = some (0, sI u 0 0) := e2
      rw [cl_eq e2, if_pos rfl]
      exact bad (fun q => hS q.1)
theorem tAdjs {d : Nat} (hd : 310 ≤ d) {W : Wd} {c : Nat} {Fo Pr : List Nat} {lc : Nat} {K : Int} {u : Sg} {X : Nat → Prop} (h : ReT W c Fo Pr lc K u) (hW : WOK W (NT nt2 (c + 2))) (hG : WGK W (NT nt2 (c + 2))) (hF : FoW W (NT nt2 (c + 2)) Fo) (a : Int) (hl : LimT nt2 u X) (hX : okAd Fo a → adXX W X (frm Fo a)) : wp (runT d 114 [a] u) (FcT (okAd Fo a) False (setV (adT W (frm Fo a))) (fun u' => ReT W c Fo Pr lc K u' ∧ NdT u u' X) (fun u' => ReT W c Fo Pr lc K u' ∧ NdT u u' (fun _ => False))) := by
  obtain ⟨d, rfl⟩ : ∃ e, d = e + 1 := ⟨d - 1, by omega⟩
  rw [runT_eq (by omega)]
  show wp (bX3_adjectives (runT d) a u) _
  have hs := h.s0 (v := 0) (by decide)
  have hP := hF.p
  have nd : NdT u (sI u 0 0) (fun _ => False) := fun z ⟨y, a, b, e⟩ => Or.inl ⟨y, a, b, e⟩
  have hl0 : LimT nt2 (sI u 0 0) X := fun l hn hm => hl l hn (fun t ht => (hm t ht).imp (fun ⟨y, a, b, e⟩ => ⟨y, a, b, e⟩) id)
  unfold bX3_adjectives
  rw [wp_un]
  rcases tCl (d := d) (by omega) hs hP (s := 0) (by decide) a with ⟨⟨hS, hcl⟩, x, x0, hx, ex, e⟩ | ⟨hS, e⟩
  · have e : runT d 25 [a, 0] (sI u 0 0) = some ((x : Int), sI u 0 0) := e
    rw [cl_eq e, if_neg (by omega)]
    have ok : okAd Fo a := ⟨hS, hcl⟩
    obtain ⟨fo, fz, -⟩ := hP _ hS.mem
    have hh0 := hs.2.2.2.2.1
    refine wp_call (tX3_allOf (d := d) (X := X) (w := 0) (by omega) hs.2.1 hs.1 hW hG hs.2.2.2.1.1 hs.mm hs.2.2.2.1.2.2 (by omega) x0 hx ex (hF.tm hS hcl) (by omega) (by omega) (hX ok) hl0) (fun r u1 ⟨⟨b1, b2, b3, b4⟩, b5, b6, b7⟩ => ?_)
    rw [wp_some]
    refine Or.inl ⟨ok, id, setV_eq b1, ?_, hs.rm b2 b3 b4 (by decide +kernel) (by decide +kernel) b5 b6 b7, fun z hz => ?_⟩
    · rw [b4.I 0 (by decide +kernel), gI_sI, if_pos rfl]
    · exact (b2.2.2.1 z hz).imp (fun ⟨y, a, b, e⟩ => ⟨y, a, b, e⟩) id
  · have e : runT d 25 [a, 0] (sI u 0 0) = some (0, sI u 0 0) := e
    rw [cl_eq e, if_pos rfl, cl_eq (fails_eq (by omega)), wp_some]
    exact Or.inr (Or.inr ⟨hS, rfl, by rw [gI_sI, if_pos rfl], hs.s0 (by decide), fun z ⟨y, a, b, e⟩ => Or.inl ⟨y, a, b, e⟩⟩)
