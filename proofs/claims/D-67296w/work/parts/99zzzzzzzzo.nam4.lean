/-! names in kept formulas: binds -/
theorem NmA.sb {c x f e : Nat} (ho : okT f) (hx : kd x = 1) (h : Alls (NmL c) f) : Alls (NmL c) (sbT (bindg x) e f) := fun s hs => by
  rcases sub_sb f hs with ⟨l, d', hc, q⟩ | ⟨z, d', hc, hk, q⟩
  · obtain ⟨o, k3, _⟩ := lv_ok f ho l hc
    have k4 := (gLf_bind (x := x) (e := d') l k3 (okT_0 o)).1
    have e1 : sbT (bindg x) d' l = bindg x d' l := by rw [sbT_eq, if_pos k3]
    have : s = bindg x d' l ∨ ∃ z ∈ fms (bindg x d' l), subT s z := by rw [subT_eq] at q; exact q
    rcases this with w | ⟨z, hz, _⟩
    · rw [w, ← e1]
      exact NmL.bd o hx (h l (lv_is f hc))
    · rw [fms_lf (okT_bindg o).n k4] at hz; cases hz
  · rw [q]
    exact NmL.bd (sub_ok f ho hc) hx (h z hc)
theorem NmA.ty {W : Wd} {c y : Nat} (h : clty W (Nm nu2 c) y) : Alls (NmL c) y := fun s hs => by
  have o := sub_ok y h.1.1 hs
  have l0 : loT s = 0 := by
    have : ∀ (t : Nat), okT t → kd t ≤ 14 → loT t = 0 → ∀ s, subT s t → loT s = 0 := by
      intro t
      induction t using Nat.strongRecOn with
      | ind t ih =>
        intro ot k14 l0 s hs
        rw [subT_eq] at hs
        rcases hs with e | ⟨z, hz, q⟩
        · rw [e]; exact l0
        · have := lo_part ot.n (by omega) hz
          exact ih z (fms_lt hz) (ot.c hz) (by have := kd_14 ot.n k14 hz; omega) (by omega) s q
    exact this y h.1.1 (by have := h.2.1; omega) h.2.2.1 s hs
  exact NmL.cl o l0 (h.1.sub hs)
