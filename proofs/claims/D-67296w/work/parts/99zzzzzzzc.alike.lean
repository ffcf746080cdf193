/-! face: alike -/
def isF (Fo : List Nat) (a : Int) : Prop := getF Fo a (frm Fo a)
theorem isF.mem {Fo : List Nat} {a : Int} (h : isF Fo a) : frm Fo a ∈ Fo := getF.mem h
theorem cF {d : Nat} (hd : 10 ≤ d) {W : Wd} {c : Nat} {Fo Pr : List Nat} {lc : Nat} {K : Int} {u : Sg} (h : ReC W c Fo Pr lc K u) (h9 : 0 ≤ gI u 99 ∧ gI u 99 < 1000000) (a : Int) : (isF Fo a ∧ ∃ x : Nat, 0 < x ∧ x < nC u ∧ trC nu2 u x = frm Fo a ∧ runC d 3 [a] u = some ((x : Int), u)) ∨ (¬ isF Fo a ∧ runC d 3 [a] u = some (exB + 1, tS u)) := by
  rcases cForm hd h h9 a with ⟨f, x, hg, x0, hx, et, e⟩ | ⟨hn, e⟩
  · have ef := hg.frm
    exact Or.inl ⟨by unfold isF; rw [ef]; exact hg, x, x0, hx, by rw [ef]; exact et, e⟩
  · exact Or.inr ⟨fun q => hn ⟨_, q⟩, e⟩
theorem cAlike {d : Nat} (hd : 12 ≤ d) {W : Wd} {c : Nat} {Fo Pr : List Nat} {lc : Nat} {K : Int} {u : Sg} (h : ReC W c Fo Pr lc K u) (h9 : 0 ≤ gI u 99 ∧ gI u 99 < 1000000) (a b : Int) : wp (runC d 91 [a, b] u) (FcC (isF Fo a ∧ isF Fo b) False (if frm Fo a = frm Fo b then 1 else 0) (fun u' => u' = u) (fun u' => ReC W c Fo Pr lc K u' ∧ NdC u u' (fun _ => False))) := by
  obtain ⟨d, rfl⟩ : ∃ e, d = e + 1 := ⟨d - 1, by omega⟩
  rw [runC_eq (by omega)]
  show wp (bX1_alike (runC d) a b u) _
  have hs := h.1.1
  have hn9 := nC_le hs
  have nd : NdC u (tS u) (fun _ => False) := fun z ⟨y, a, b, e⟩ => Or.inl ⟨y, a, b, e⟩
  unfold bX1_alike
  rcases cF (d := d) (by omega) h h9 a with ⟨hA, x, x0, hx, ex, e⟩ | ⟨hA, e⟩
  · rw [cl_eq e, pr_n (by omega)]
    rcases cF (d := d) (by omega) h h9 b with ⟨hB, y, y0, hy, ey, e⟩ | ⟨hB, e⟩
    · rw [cl_eq e, pr_n (by omega)]
      by_cases q : x = y
      · rw [if_pos (by omega), wp_some]
        exact Or.inl ⟨⟨hA, hB⟩, id, by rw [if_pos (by rw [← ex, ← ey, q])], rfl⟩
      · rw [if_neg (by omega), wp_some]
        exact Or.inl ⟨⟨hA, hB⟩, id, by rw [if_neg (fun z => q (trC_inj hs hx hy (by rw [ex, ey]; exact z)))], rfl⟩
    · rw [cl_eq e, pr_x (by decide), wp_some]
      exact Or.inr (Or.inr ⟨fun q => hB q.2, rfl, h.tS h9, nd⟩)
  · rw [cl_eq e, pr_x (by decide), wp_some]
    exact Or.inr (Or.inr ⟨fun q => hA q.1, rfl, h.tS h9, nd⟩)
theorem tAlike {d : Nat} (hd : 12 ≤ d) {W : Wd} {c : Nat} {Fo Pr : List Nat} {lc : Nat} {K : Int} {u : Sg} (h : ReT W c Fo Pr lc K u) (a b : Int) : wp (runT d 115 [a, b] u) (FcT (isF Fo a ∧ isF Fo b) False (if frm Fo a = frm Fo b then 1 else 0) (fun u' => ReT W c Fo Pr lc K u' ∧ NdT u u' (fun _ => False)) (fun u' => ReT W c Fo Pr lc K u' ∧ NdT u u' (fun _ => False))) := by
  obtain ⟨d, rfl⟩ : ∃ e, d = e + 1 := ⟨d - 1, by omega⟩
  rw [runT_eq (by omega)]
  show wp (bX3_alike (runT d) a b u) _
  have hs := h.s0 (v := 0) (by decide)
  have hT := hs.1.1
  have hFo := hs.2.2.2.2.2.2.2.2.1
  have nd : NdT u (sI u 0 0) (fun _ => False) := fun z ⟨y, a, b, e⟩ => Or.inl ⟨y, a, b, e⟩
  unfold bX3_alike
  rw [wp_jn]; dsimp only
  rw [wp_un]
  have bad : ¬ (isF Fo a ∧ isF Fo b) → wp (cl (runT d 17 [1] (sI u 0 0)) fun v3 s4 => if v3 ≤ 0 then (some (0, s4)) else (some (1, s4))) (FcT (isF Fo a ∧ isF Fo b) False (if frm Fo a = frm Fo b then 1 else 0) (fun u' => ReT W c Fo Pr lc K u' ∧ NdT u u' (fun _ => False)) (fun u' => ReT W c Fo Pr lc K u' ∧ NdT u u' (fun _ => False))) := fun hb => by
    rw [cl_eq (fails_eq (by omega)), if_pos (by decide), wp_some]
    exact Or.inr (Or.inr ⟨hb, rfl, by rw [gI_sI, if_pos rfl], hs.s0 (by decide), fun z ⟨y, a, b, e⟩ => Or.inl ⟨y, a, b, e⟩⟩)
  have at' : ∀ {z : Int}, isF Fo z → (0 ≤ z ∧ z < gI (sI u 0 0) 79 ∧ z < (gL (sI u 0 0) 78 : Int)) ∧ ∃ x : Nat, gA (sI u 0 0) 78 z = (x : Int) ∧ 0 < x ∧ x ≤ nT (sI u 0 0) ∧ trT nt2 (sI u 0 0) x = frm Fo z := fun q => FoT.at hFo q
  have no' : ∀ {z : Int}, ¬ isF Fo z → 0 ≤ z → ¬ z < gI (sI u 0 0) 79 := fun q h0 => FoT.no hFo (fun ⟨f, hf⟩ => q (by unfold isF; rw [hf.frm]; exact hf)) h0
  by_cases a0 : a < 0
  · rw [if_pos a0]; exact bad (fun q => by have := (at' q.1).1; omega)
  rw [if_neg a0]
  by_cases b0 : b < 0
  · rw [if_pos b0]; exact bad (fun q => by have := (at' q.2).1; omega)
  rw [if_neg b0, wp_un]
  by_cases hA : isF Fo a
  · obtain ⟨⟨a1, a2, a3⟩, x, a4, a5, a6, a7⟩ := at' hA
    rw [if_pos a2, wp_un]
    by_cases hB : isF Fo b
    · obtain ⟨⟨b1, b2, b3⟩, y, b4, b5, b6, b7⟩ := at' hB
      rw [if_pos b2, wp_ld]
      refine ⟨⟨a1, a3⟩, ?_⟩
      rw [a4, wp_ld]
      refine ⟨⟨b1, b3⟩, ?_⟩
      rw [b4]
      by_cases q : x = y
      · rw [if_pos (by omega), wp_some]
        exact Or.inl ⟨⟨hA, hB⟩, id, by rw [if_pos (by rw [← a7, ← b7, q])], rfl, hs, nd⟩
      · rw [if_neg (by omega), wp_some]
        exact Or.inl ⟨⟨hA, hB⟩, id, by rw [if_neg (fun z => q (trT_inj hT a6 b6 (by rw [a7, b7]; exact z)))], rfl, hs, nd⟩
    · rw [if_neg (no' hB (by omega))]; exact bad (fun q => hB q.2)
  · rw [if_neg (no' hA (by omega))]; exact bad (fun q => hA q.1)
