/-! face: premise, alike -/
theorem cPrem {d : Nat} (hd : 300 ≤ d) {W : Wd} {c : Nat} {Fo Pr : List Nat} {lc : Nat} {K : Int} {u : Sg} (h : ReC W c Fo Pr lc K u) (hF : FoP Fo) (h9 : 0 ≤ gI u 99 ∧ gI u 99 < 1000000) (f : Int) : wp (runC d 35 [f] u) (FcC (isS Fo 2 f) (Pr.length = 20) ((Pr.length + 1 : Nat) : Int) (fun u' => ReC W c Fo (Pr ++ [frm Fo f]) lc K u' ∧ NdC u u' (fun _ => False)) (fun u' => ReC W c Fo Pr lc K u' ∧ NdC u u' (fun _ => False))) := by
  obtain ⟨d, rfl⟩ : ∃ e, d = e + 1 := ⟨d - 1, by omega⟩
  rw [runC_eq (by omega)]
  show wp (bX1_premise (runC d) f u) _
  unfold bX1_premise
  rw [wp_jn]; dsimp only
  have hn9 := nC_le h.1.1
  obtain ⟨p1, p2, p3, p4⟩ := h.2.2.2.2.2.2.2.2.2.2.1
  have l82 := h.2.2.2.2.2.2.2.2.2.2.2.2
  have nd : NdC u (tS u) (fun _ => False) := fun z ⟨y, a, b, e⟩ => Or.inl ⟨y, a, b, e⟩
  rcases cS (d := d) (by omega) h hF h9 (s := 2) (by decide) f with ⟨hS, x, x0, hx, et, e⟩ | ⟨hS, e⟩
  · have e : runC d 26 [f] u = some ((x : Int), u) := e
    rw [cl_eq e, pr_n (by omega), wp_un, p1]
    by_cases hlt : Pr.length < 20
    · rw [if_pos (by omega), cl_eq (room_ok (by omega)), pr_0, wp_un, p1, wp_stA]
      refine ⟨⟨by omega, by omega⟩, ?_⟩
      rw [wp_un, gI_sA, p1, wp_ar]
      refine ⟨⟨by omega, by omega⟩, ?_⟩
      rw [wp_un, wp_un, gI_sI, if_pos rfl, wp_some]
      have hw : WF FC (sI (sA u 82 (Pr.length : Int) (x : Int)) 83 ((Pr.length : Int) + 1)) := wfI (wfA h.2.1 rfl ⟨by omega, by omega⟩) rfl ⟨by omega, by omega⟩
      refine Or.inl ⟨hS, by omega, by omega, h.tb (fun k hk => aA (by omega)) (fun k hk => by rw [gI_sI, if_neg (by omega)]; rfl) hw h.1.2.2.1 h.1.2.2.2.1 h.1.2.2.2.2.1 h.1.2.2.2.2.2.1 h.1.2.2.2.2.2.2 h.2.2.2.2.2.2.2.2.2.1 ⟨?_, ?_, ?_, fun i t ht => ?_⟩ h.2.2.2.2.2.2.2.2.2.2.2, fun z ⟨y, a, b, e⟩ => Or.inl ⟨y, a, b, e⟩⟩
      · rw [gI_sI, if_pos rfl, List.length_append]; show _ = ((Pr.length + 1 : Nat) : Int); omega
      · rw [List.length_append]; show Pr.length + 1 ≤ gL u 82; omega
      · rw [List.length_append]; show Pr.length + 1 ≤ 20; omega
      · rw [gN_sI, gN_sAn]
        by_cases q : i = Pr.length
        · rw [if_pos ⟨rfl, q⟩]
          rw [q, List.getElem?_append_right (Nat.le_refl _), Nat.sub_self] at ht
          exact ⟨x, rfl, x0, hx, et.trans (Option.some.inj ht)⟩
        · rw [if_neg (fun z => q z.2)]
          have hlt := (List.getElem?_eq_some_iff.mp ht).1
          rw [List.length_append] at hlt
          have hlt : i < Pr.length + 1 := hlt
          rw [List.getElem?_append_left (by omega)] at ht
          exact p4 i t ht
    · rw [if_neg (by omega), room_no (by omega) h9]
      show wp (pr (exB + 2) (tS u) _) _
      rw [pr_x (by decide), wp_some]
      exact Or.inr (Or.inl ⟨hS, by omega, rfl, h.tS h9, nd⟩)
  · have e : runC d 26 [f] u = some (exB + 1, tS u) := e
    rw [cl_eq e, pr_x (by decide), wp_some]
    exact Or.inr (Or.inr ⟨hS, rfl, h.tS h9, nd⟩)
theorem tPrem {d : Nat} (hd : 300 ≤ d) {W : Wd} {c : Nat} {Fo Pr : List Nat} {lc : Nat} {K : Int} {u : Sg} (h : ReT W c Fo Pr lc K u) (hF : FoP Fo) (hW : WOK W (NT nt2 (c + 2))) (f : Int) : wp (runT d 50 [f] u) (FcT (isS Fo 2 f) (Pr.length = 20) ((Pr.length + 1 : Nat) : Int) (fun u' => ReT W c Fo (Pr ++ [frm Fo f]) lc K u' ∧ NdT u u' (fun _ => False)) (fun u' => ReT W c Fo Pr lc K u' ∧ NdT u u' (fun _ => False))) := by
  obtain ⟨d, rfl⟩ : ∃ e, d = e + 1 := ⟨d - 1, by omega⟩
  rw [runT_eq (by omega)]
  show wp (bX3_premise (runT d) f u) _
  unfold bX3_premise
  have hs := h.s0 (v := 0) (by decide)
  have hn9 := nT_le hs.1.1
  rw [wp_un]
  obtain ⟨p1, p2, p3, p4⟩ := hs.2.2.2.2.2.2.2.2.2.1
  have l80 := hs.2.2.2.2.2.2.2.2.2.2.2
  rcases tS' (d := d) (by omega) hs hF (s := 2) (by decide) f with ⟨hS, x, x0, hx, et, e⟩ | ⟨hS, e⟩
  · have e : runT d 12 [f, 2] (sI u 0 0) = some ((x : Int), sI u 0 0) := e
    rw [cl_eq e, if_neg (by omega), wp_un, p1]
    by_cases hlt : Pr.length = 20
    · rw [if_pos (by omega)]
      exact wp_fails (by omega) (Or.inr (Or.inl ⟨hS, hlt, rfl, by rw [gI_sI, if_pos rfl], hs.s0 (by decide), fun z ⟨y, a, b, e⟩ => Or.inl ⟨y, a, b, e⟩⟩))
    · rw [if_neg (by omega), wp_un, wp_ar]
      refine ⟨⟨by omega, by omega⟩, ?_⟩
      rw [wp_un, wp_stA]
      refine ⟨⟨by omega, by show _ < (gL (sI u 0 0) 80 : Int); omega⟩, ?_⟩
      rw [wp_un, wp_some]
      have hw : WF FT (sA (sI (sI u 0 0) 81 ((Pr.length : Int) + 1)) 80 (Pr.length : Int) (x : Int)) := wfAT (wfIT hs.2.1 rfl ⟨by omega, by omega⟩) rfl ⟨by omega, by omega⟩
      have he : EqH (sI u 0 0) (sA (sI (sI u 0 0) 81 ((Pr.length : Int) + 1)) 80 (Pr.length : Int) (x : Int)) := (EqH.sI (by decide)).trn (EqH.sA (by decide))
      refine Or.inl ⟨hS, hlt, by rw [gI_sA, gI_sI, if_pos rfl]; omega, rfl, hs.tb (fun k hk h2 => (aA (by unfold isTb at h2; omega)).trans rfl) (fun k hk h2 => by rw [gI_sA, gI_sI, if_neg (by unfold isTb at h2; omega)]) hw hW wex_rf hs.1.2.2.1 hs.1.2.2.2.1 hs.1.2.2.2.2.1 hs.1.2.2.2.2.2.1 (TWg.ag hs.1.2.2.2.2.2.2 he (fun k h1 h2 => aA (by omega)) rfl) hs.2.2.2.2.2.2.2.2.1 ⟨?_, ?_, ?_, fun i t ht => ?_⟩ hs.2.2.2.2.2.2.2.2.2.2, fun z ⟨y, a, b, e⟩ => Or.inl ⟨y, a, b, e⟩⟩
      · rw [gI_sA, gI_sI, if_pos rfl, List.length_append]; show _ = ((Pr.length + 1 : Nat) : Int); omega
      · rw [List.length_append]; show Pr.length + 1 ≤ gL (sI u 0 0) 80; omega
      · rw [List.length_append]; show Pr.length + 1 ≤ 20; omega
      · rw [gN_sAn, gN_sI]
        by_cases q : i = Pr.length
        · rw [if_pos ⟨rfl, q⟩]
          rw [q, List.getElem?_append_right (Nat.le_refl _), Nat.sub_self] at ht
          exact ⟨x, rfl, x0, hx, et.trans (Option.some.inj ht)⟩
        · rw [if_neg (fun z => q z.2)]
          have hlt := (List.getElem?_eq_some_iff.mp ht).1
          rw [List.length_append] at hlt
          have hlt : i < Pr.length + 1 := hlt
          rw [List.getElem?_append_left (by omega)] at ht
          exact p4 i t ht
  · have e : runT d 12 [f, 2] (sI u 0 0) = some (0, sI u 0 0) := e
    rw [cl_eq e, if_pos rfl]
    exact wp_fails (by omega) (Or.inr (Or.inr ⟨hS, rfl, by rw [gI_sI, if_pos rfl], hs.s0 (by decide), fun z ⟨y, a, b, e⟩ => Or.inl ⟨y, a, b, e⟩⟩))
