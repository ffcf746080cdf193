/-- the hand from a place on, seen as given to a state whose hand ends there -/
theorem Hand.back {ν : Nat → Nat} {c : Nat} {u1 : Sg} {h : Nat} (hs : ST ν c u1) (hw : WF FT u1) (hh : h ≤ hT u1) : Hand ν c (sI u1 13 (h : Int)) u1 (rowH u1 h) := by
  have er : hT (sI u1 13 (h : Int)) = h := by unfold hT; rw [gI_sI, if_pos rfl]; omega
  have h13 : DX3_give.testBit 13 = true := by decide
  refine ⟨hs, ⟨fun k _ => rfl, fun k hk => by rw [gI_sI, if_neg (by omega)]⟩, by rw [er, rowH_len]; omega, by rw [er], fun i _ => rfl, hw, ⟨⟨Nat.le_refl _, Nat.le_refl _⟩, fun k hk => ⟨?_, rfl⟩, fun _ => Nat.le_refl _, Nat.le_refl _, Nat.le_refl _⟩⟩
  rw [gI_sI, if_neg (fun q => by rw [q, h13] at hk; cases hk)]
/-- an answer from the state with the hand set back is an answer -/
theorem RvT.back {ν : Nat → Nat} {c D : Nat} {u u1 : Sg} {t : Nat} {X : Nat → Prop} (hE : Ext (stT ν u) (stT ν u1)) (hnd : ∀ t, ndT ν u1 t → ndT ν u t ∨ X t) (hle : hT u ≤ hT u1) (hrow : ∀ i, i < hT u → gN u1 12 i = gN u 12 i) (hg : Gr FT D u u1) (h13 : D.testBit 13 = true) {r : Int} {u' : Sg} (h : RvT ν c D (sI u1 13 (hT u : Int)) t X r u') : RvT ν c D u t X r u' := by
  obtain ⟨x, q1, q2, q3, q4, ⟨q5, q5b, q5c, q5d, q5e⟩, q6, q7⟩ := h
  have er : hT (sI u1 13 (hT u : Int)) = hT u := by unfold hT; rw [gI_sI, if_pos rfl]; omega
  have he : EqT u1 (sI u1 13 (hT u : Int)) := ⟨fun k _ => rfl, fun k hk => by rw [gI_sI, if_neg (by omega)]⟩
  refine ⟨x, q1, q2, q3, q4, ⟨q5, ?_, fun t ht => ?_, by rw [q5d, er], fun i hi => ?_⟩, q6, Gr.tr hg (Gr.tr (Gr_sI h13) q7)⟩
  · rw [he.st] at q5b
    exact hE.tr q5b
  · rcases q5c t ht with ⟨y, y0, hy, et⟩ | q
    · exact hnd t ⟨y, y0, by rw [he.n] at hy; exact hy, by rw [he.tr] at et; exact et⟩
    · exact Or.inr q
  · rw [q5e i (by rw [er]; exact hi)]
    exact hrow i hi
