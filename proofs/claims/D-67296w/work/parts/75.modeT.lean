theorem tree_mode (ν : Nat → Nat) (u : Sg) (m x y : Nat) : treeT ν u (13, [(m : Int), (x : Int), (y : Int)]) = mk 14 m [trT ν u x, trT ν u y] := by
  unfold treeT
  rw [show labT ν (13, [(m : Int), (x : Int), (y : Int)]) = (14, m, [x, y]) from by unfold labT; simp [fsT, nk, hd0]]
  rfl
theorem tX3_modeOf {d : Nat} (hd : 8 ≤ d) {ν : Nat → Nat} {c : Nat} {u : Sg} {m x1 x2 : Nat} {X : Nat → Prop} (hw : WF FT u) (hs : ST ν c u) (hm : m < 1000000) (hx1 : x1 ≤ nT u) (hx2 : x2 ≤ nT u) (h5 : hT u < 29000) (hX : X (modT m (trT ν u x1) (trT ν u x2))) (hl : LimT ν u X) :
    wp (runT d 33 [(m : Int), (x1 : Int), (x2 : Int)] u) (RvT ν c DX3_modeOf u (modT m (trT ν u x1) (trT ν u x2)) X) := by
  obtain ⟨d, rfl⟩ : ∃ d', d = d' + 1 := ⟨d - 1, by omega⟩
  rw [runT_eq (by omega)]
  show wp (bX3_modeOf (runT d) m x1 x2 u) _
  unfold bX3_modeOf
  have hb := hl.n hs
  refine wp_ite (fun h => ?_) (fun h => ?_)
  · have e : modT m (trT ν u x1) (trT ν u x2) = yesT := by unfold modT; rw [if_pos (by omega)]
    rw [e] at hX ⊢
    exact wp_mono (RvT.cl (tX3_truth (by omega) hw hs hX hl)) (fun r u' ⟨y, q1, q2, q3, q4, q5, q6, q7⟩ => ⟨y, q1, q2, q3, q4, q5, q6, Gr.sub (by decide) q7⟩)
  · have e : modT m (trT ν u x1) (trT ν u x2) = mk 14 m [trT ν u x1, trT ν u x2] := by unfold modT; rw [if_neg (by omega)]
    rw [e] at hX ⊢
    rw [wp_un, hs.r.1]
    refine wp_call (tX3_give (by omega) (Hand.rf hs hw) ⟨by omega, by omega⟩ (by omega)) (fun _ u1 h1 => ?_)
    refine wp_call (tX3_give (by omega) h1 ⟨by omega, by omega⟩ (by have := h1.2.2.1; simp at this; omega)) (fun _ u2 h2 => ?_)
    refine wp_call (tX3_give (by omega) h2 ⟨by omega, by omega⟩ (by have := h2.2.2.1; simp at this; omega)) (fun _ u3 h3 => ?_)
    have ht := tX3_node (d := d) (k := 13) (X := X) (D := DX3_modeOf) (by omega) h3 (by simp [okR]) (fun z hz => by simp at hz; omega) (fun p hp => by unfold fptT at hp; simp [fsT] at hp; omega) (fun q => by cases q) (fun q => by cases q) (by simp) (by rw [show ([] ++ [(m : Int)] ++ [(x1 : Int)] ++ [(x2 : Int)]) = [(m : Int), (x1 : Int), (x2 : Int)] from rfl, tree_mode]; exact hX) hl hs (by decide) (Gr.sub (by decide) h3.2.2.2.2.2.2)
    rw [show ([] ++ [(m : Int)] ++ [(x1 : Int)] ++ [(x2 : Int)]) = [(m : Int), (x1 : Int), (x2 : Int)] from rfl, tree_mode] at ht
    exact RvT.cl ht
