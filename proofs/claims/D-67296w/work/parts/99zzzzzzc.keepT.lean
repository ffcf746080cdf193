/-! face: gives in the model -/
def NdT (u u' : Sg) (X : Nat → Prop) : Prop := ∀ z, ndT nt2 u' z → ndT nt2 u z ∨ X z
theorem NdT.rf {u : Sg} {X : Nat → Prop} : NdT u u X := fun _ q => Or.inl q
theorem NdC.rf {u : Sg} {X : Nat → Prop} : NdC u u X := fun _ q => Or.inl q
theorem ReC.mono {W : Wd} {c : Nat} {Fo Pr : List Nat} {lc : Nat} {K K' : Int} {u : Sg} (h : ReC W c Fo Pr lc K u) (hK : K ≤ K') : ReC W c Fo Pr lc K' u := by
  obtain ⟨a, b, c1, d, e, f, g, r⟩ := h
  exact ⟨a, b, c1, d, e, ⟨f.1, by omega⟩, ⟨g.1, by omega⟩, r⟩
theorem ReT.mono {W : Wd} {c : Nat} {Fo Pr : List Nat} {lc : Nat} {K K' : Int} {u : Sg} (h : ReT W c Fo Pr lc K u) (hK : K ≤ K') : ReT W c Fo Pr lc K' u := by
  obtain ⟨a, b, c1, d, e, f, g, r⟩ := h
  exact ⟨a, b, c1, d, e, ⟨f.1, by omega⟩, by omega, r⟩
theorem nt_s0 {u : Sg} {v : Int} : NdT u (sI u 0 v) (fun _ => False) := fun z ⟨x, a, b, e⟩ => Or.inl ⟨x, a, b, e⟩
theorem tGives {d : Nat} (hd : 10 ≤ d) {W : Wd} {c : Nat} {Fo Pr : List Nat} {lc : Nat} {K : Int} {u : Sg} {x t : Nat} (h : ReT W c Fo Pr lc K u) (hW : WOK W (NT nt2 (c + 2))) (h0 : gI u 0 = 0) (x0 : 0 < x) (hx : x ≤ nT u) (et : trT nt2 u x = t) (ho : okT t) (hz : szT t ≤ 100000) (hFl : Fo.length < 400) : wp (runT d 23 [(x : Int)] u) (fun b u' => (okKp t ∧ b = (Fo.length : Int) ∧ gI u' 0 = 0 ∧ ReT W c (Fo ++ [t]) Pr lc K u' ∧ NdT u u' (fun _ => False)) ∨ (¬ okKp t ∧ b = 0 ∧ gI u' 0 = 2 ∧ ReT W c Fo Pr lc K u' ∧ NdT u u' (fun _ => False))) := by
  obtain ⟨d, rfl⟩ : ∃ e, d = e + 1 := ⟨d - 1, by omega⟩
  rw [runT_eq (by omega)]
  show wp (bX3_gives (runT d) x u) _
  unfold bX3_gives jn
  dsimp only
  have hs := h.1.1
  have hn9 := nT_le hs
  obtain ⟨o1, o2, o3, o4⟩ := h.2.2.2.2.2.2.2.2.1
  have hsz := sz_T hs x x0 hx (by rw [et]; exact ho) (by rw [et]; exact hz)
  rw [et] at hsz
  have hl4 : x < gL u 4 := by rw [hs.1.1.2.2.2.1.2.2.1]; exact Nat.lt_of_le_of_lt hx hs.1.1.1.2
  rw [wp_un, o1, if_neg (by omega), wp_ld]
  refine ⟨⟨by omega, by omega⟩, ?_⟩
  rw [gA_nat, hsz]
  by_cases hk : okKp t
  · rw [if_pos (by unfold okKp at hk; omega), wp_un, wp_stA]
    refine ⟨⟨by omega, by rw [o2]; omega⟩, ?_⟩
    rw [wp_un, gI_sA, o1, wp_ar]
    refine ⟨⟨by omega, by omega⟩, ?_⟩
    rw [wp_un, wp_some]
    have hw : WF FT (sI (sA u 78 (Fo.length : Int) (x : Int)) 79 ((Fo.length : Int) + 1)) := wfIT (wfAT h.2.1 rfl ⟨by omega, by omega⟩) rfl ⟨by omega, by omega⟩
    have he : EqH u (sI (sA u 78 (Fo.length : Int) (x : Int)) 79 ((Fo.length : Int) + 1)) := (EqH.sA (by decide)).trn (EqH.sI (by decide))
    refine Or.inl ⟨hk, rfl, h0, h.tb (fun k hk h2 => aA (by unfold isTb at h2; omega)) (fun k hk h2 => by rw [gI_sI, if_neg (by unfold isTb at h2; omega)]; rfl) hw hW wex_rf h.1.2.2.1 h.1.2.2.2.1 h.1.2.2.2.2.1 h.1.2.2.2.2.2.1 (TWg.ag h.1.2.2.2.2.2.2 he (fun k h1 h2 => aA (by omega)) rfl) ⟨?_, o2, ?_, fun i f hf => ?_⟩ h.2.2.2.2.2.2.2.2.2.1 h.2.2.2.2.2.2.2.2.2.2, fun z ⟨y, a, b, e⟩ => Or.inl ⟨y, a, b, e⟩⟩
    · rw [gI_sI, if_pos rfl, List.length_append]; show _ = ((Fo.length + 1 : Nat) : Int); omega
    · rw [List.length_append]; show Fo.length + 1 ≤ 400; omega
    · rw [gN_sI, gN_sAn]
      by_cases q : i = Fo.length
      · rw [if_pos ⟨rfl, q⟩]
        rw [q, List.getElem?_append_right (Nat.le_refl _), Nat.sub_self] at hf
        exact ⟨x, rfl, x0, hx, et.trans (Option.some.inj hf)⟩
      · rw [if_neg (fun z => q z.2)]
        have hlt := (List.getElem?_eq_some_iff.mp hf).1
        rw [List.length_append] at hlt
        have hlt : i < Fo.length + 1 := hlt
        rw [List.getElem?_append_left (by omega)] at hf
        exact o4 i f hf
  · rw [if_neg (by unfold okKp at hk; omega)]
    exact wp_fails (by omega) (Or.inr ⟨hk, rfl, by rw [gI_sI, if_pos rfl], h.s0 (by decide), nt_s0⟩)
/-- what a call that makes a form comes to, in the class and in the model -/
def FkC (ok : Prop) (t : Nat) (W : Wd) (c : Nat) (Fo Pr : List Nat) (lc : Nat) (K : Int) (u : Sg) (X : Nat → Prop) : Int → Sg → Prop := FcC ok (¬ okKp t) (Fo.length : Int) (fun u' => ReC W c (Fo ++ [t]) Pr lc (K + 1) u' ∧ NdC u u' X) (fun u' => ReC W c Fo Pr lc (K + 1) u' ∧ NdC u u' X)
def FkM (ok : Prop) (t : Nat) (W : Wd) (c : Nat) (Fo Pr : List Nat) (lc : Nat) (K : Int) (u : Sg) (X : Nat → Prop) : Int → Sg → Prop := FcT ok (¬ okKp t) (Fo.length : Int) (fun u' => ReT W c (Fo ++ [t]) Pr lc (K + 1) u' ∧ NdT u u' X) (fun u' => ReT W c Fo Pr lc (K + 1) u' ∧ NdT u u' X)
theorem FkC.bad {ok : Prop} {t : Nat} {W : Wd} {c : Nat} {Fo Pr : List Nat} {lc : Nat} {K : Int} {u : Sg} {X : Nat → Prop} (h : ReC W c Fo Pr lc K u) (h9 : 0 ≤ gI u 99 ∧ gI u 99 < 1000000) (hb : ¬ ok) : FkC ok t W c Fo Pr lc K u X (exB + 1) (tS u) := Or.inr (Or.inr ⟨hb, rfl, (h.tS h9).mono (by omega), fun z ⟨y, a, b, e⟩ => Or.inl ⟨y, a, b, e⟩⟩)
theorem FkM.bad {ok : Prop} {t : Nat} {W : Wd} {c : Nat} {Fo Pr : List Nat} {lc : Nat} {K : Int} {u : Sg} {X : Nat → Prop} (h : ReT W c Fo Pr lc K u) (hb : ¬ ok) : FkM ok t W c Fo Pr lc K u X 0 (sI (sI u 0 0) 0 1) := Or.inr (Or.inr ⟨hb, rfl, by rw [gI_sI, if_pos rfl], ((h.s0 (v := 0) (by decide)).s0 (by decide)).mono (by omega), fun z ⟨y, a, b, e⟩ => Or.inl ⟨y, a, b, e⟩⟩)
theorem FkC.nb {d : Nat} (hd : 3 ≤ d) {ok : Prop} {t : Nat} {W : Wd} {c : Nat} {Fo Pr : List Nat} {lc : Nat} {K : Int} {u : Sg} {X : Nat → Prop} (h : ReC W c Fo Pr lc K u) (h9 : 0 ≤ gI u 99 ∧ gI u 99 < 1000000) (hb : ¬ ok) (Kc : Int → Sg → Option (Int × Sg)) : wp (cl (runC d 4 [0] u) fun v s => pr v s (Kc v s)) (FkC ok t W c Fo Pr lc K u X) := by
  rw [need_no hd h9]
  show wp (pr (exB + 1) (tS u) _) _
  rw [pr_x (by decide), wp_some]
  exact FkC.bad h h9 hb
theorem FkC.th {e : Option (Int × Sg)} {ok : Prop} {t : Nat} {W : Wd} {c : Nat} {Fo Pr : List Nat} {lc : Nat} {K : Int} {u : Sg} {X : Nat → Prop} (he : e = some (exB + 1, tS u)) (h : ReC W c Fo Pr lc K u) (h9 : 0 ≤ gI u 99 ∧ gI u 99 < 1000000) (hb : ¬ ok) (Kc : Int → Sg → Option (Int × Sg)) : wp (cl e fun v s => pr v s (Kc v s)) (FkC ok t W c Fo Pr lc K u X) := by
  rw [he]
  show wp (pr (exB + 1) (tS u) _) _
  rw [pr_x (by decide), wp_some]
  exact FkC.bad h h9 hb
theorem FkM.nb {d : Nat} (hd : 3 ≤ d) {ok : Prop} {t : Nat} {W : Wd} {c : Nat} {Fo Pr : List Nat} {lc : Nat} {K : Int} {u : Sg} {X : Nat → Prop} (h : ReT W c Fo Pr lc K u) (hb : ¬ ok) : wp (cl (runT d 17 [1] (sI u 0 0)) fun v s => some (v, s)) (FkM ok t W c Fo Pr lc K u X) := wp_fails hd (FkM.bad h hb)
/-- made and kept: the class -/
theorem FkC.kp {d : Nat} (hd : 10 ≤ d) {D : Nat} {ok : Prop} {W : Wd} {c : Nat} {Fo Pr : List Nat} {lc : Nat} {K : Int} {u u1 : Sg} {X : Nat → Prop} {x t : Nat} (h : ReC W c Fo Pr lc K u) (hU : Up nu2 c u u1 X) (hw1 : WF FC u1) (hg : Gr FC D u u1) (hb : ∀ k, k = 13 ∨ k = 14 ∨ (21 ≤ k ∧ k ≤ 99) → D.testBit k = false) (h9 : 0 ≤ gI u 99 ∧ gI u 99 < 1000000) (x0 : 0 < x) (hx : x < nC u1) (et : trC nu2 u1 x = t) (hFl : Fo.length < 400) (hK : K < 1000000) (h5 : ∀ z, ndC nu2 u1 z → P5 z) (hok : ok) : wp (cl (runC d 16 [(x : Int), (nC u : Int), (pC u : Int)] u1) fun v s => pr v s (some (v, s))) (FkC ok t W c Fo Pr lc K u X) := by
  refine wp_call (cKeep hd h hU hw1 hg (fun k hk => hb k (by omega)) (by rw [hg.I 99 (hb 99 (by omega))]; exact h9) x0 hx et hFl hK h5) (fun r u' q => ?_)
  have e : exB = 1099511627776 := rfl
  rcases q with ⟨a1, a2, a3, a4⟩ | ⟨a1, a2, a3, a4⟩
  · rw [pr_n (by omega), wp_some]
    exact Or.inl ⟨hok, fun q => q a1, a2, a3.mono (by omega), a4⟩
  · rw [a2, pr_x (by decide), wp_some]
    exact Or.inr (Or.inl ⟨hok, a1, rfl, a3, fun z q => (a4 z q).elim Or.inl (fun q => q.elim)⟩)
/-- made and given: the model -/
theorem FkM.kp {d : Nat} (hd : 10 ≤ d) {D : Nat} {ok : Prop} {W : Wd} {c : Nat} {Fo Pr : List Nat} {lc : Nat} {K : Int} {u u1 : Sg} {X : Nat → Prop} {x t : Nat} (h : ReT W c Fo Pr lc K u) (hW : WOK W (NT nt2 (c + 2))) (hU : UpT nt2 (c + 2) (sI u 0 0) u1 X) (hw1 : WF FT u1) (hg : Gr FT D (sI u 0 0) u1) (hb : ∀ k, k = 0 ∨ (17 ≤ k ∧ k ≤ 82) → D.testBit k = false) (x0 : 0 < x) (hx : x ≤ nT u1) (et : trT nt2 u1 x = t) (ho : okT t) (hz : szT t ≤ 100000) (hFl : Fo.length < 400) (hok : ok) : wp (cl (runT d 23 [(x : Int)] u1) fun v s => some (v, s)) (FkM ok t W c Fo Pr lc K u X) := by
  have h1 := (h.s0 (v := 0) (by decide)).up hU hw1 hg (fun k hk => hb k (Or.inr hk))
  have hn : ∀ z, ndT nt2 u1 z → ndT nt2 u z ∨ X z := fun z q => (hU.2.2.1 z q).imp (fun ⟨y, a, b, e⟩ => ⟨y, a, b, e⟩) id
  refine wp_call (tGives hd h1 hW (by rw [hg.I 0 (hb 0 (Or.inl rfl)), gI_sI, if_pos rfl]) x0 hx et ho hz hFl) (fun r u' q => ?_)
  rw [wp_some]
  rcases q with ⟨a1, a2, a3, a4, a5⟩ | ⟨a1, a2, a3, a4, a5⟩
  · exact Or.inl ⟨hok, fun q => q a1, a2, a3, a4.mono (by omega), fun z q => (a5 z q).elim (hn z) (fun q => q.elim)⟩
  · exact Or.inr (Or.inl ⟨hok, a1, a2, a3, a4.mono (by omega), fun z q => (a5 z q).elim (hn z) (fun q => q.elim)⟩)
