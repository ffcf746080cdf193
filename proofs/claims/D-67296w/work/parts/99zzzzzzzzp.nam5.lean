/-! names in kept formulas: all calls -/
theorem NmA.bd {W : Wd} {c : Nat} {o : Int} {x y : Nat} (hy : fF W (Nm nu2 c) y) (ha : Alls (NmL c) y) (hx : kd x = 1) (ht : clty W (Nm nu2 c) (wcT W (wh x))) (hA : fF W (Nm nu2 c) (bdA W o x y)) : Alls (NmL c) (bdT W o x y) := by
  have a2 : okT (bdF o y) ∧ Alls (NmL c) (bdF o y) := by
    unfold bdF
    split
    · exact ⟨hy.1.1.1, ha⟩
    · exact ⟨(okT_not hy.1.1.1 hy.2).1, NmA.not hy ha⟩
  have a3 : Alls (NmL c) (bdA W o x y) := by
    have h0 := NmL.fF hA
    have b1 : Alls (NmL c) (bdG o x y) := NmA.sb a2.1 hx a2.2
    have b2 : Alls (NmL c) (wcT W (wh x)) := NmA.ty ht
    unfold bdA alT at h0 ⊢
    split
    · exact Alls.top NmL.yes (fun z hz => by unfold yesT at hz; rw [fms_nil] at hz; cases hz)
    · rename_i q
      rw [if_neg q] at h0
      refine Alls.top h0 (fun z hz => ?_)
      have := (fms_ps hz).1
      rw [ps_mk] at this
      rcases List.mem_cons.mp this with w | w
      · rw [w]; exact b2
      · rw [List.mem_singleton.mp w]; exact b1
  unfold bdT
  split
  · exact a3
  · exact NmA.not hA a3
/-- no node of a kept formula has more names than there are constants -/
def KfN (c : Nat) (Fo : List Nat) : Prop := ∀ f ∈ Fo, isFo f → Alls (NmL c) f
theorem KfN.ap {c : Nat} {Fo : List Nat} {t : Nat} (h : KfN c Fo) (ht : isFo t → Alls (NmL c) t) : KfN c (Fo ++ [t]) := fun f hf k => by
  rcases List.mem_append.mp hf with q | q
  · exact h f q k
  · rw [List.mem_singleton.mp q] at k ⊢; exact ht k
theorem KfN.cn {c : Nat} {Fo : List Nat} {t : Nat} (h : KfN c Fo) (ht : ¬ isFo t) : KfN (c + 1) (Fo ++ [t]) := KfN.ap (fun f hf k s hs => (h f hf k s hs).mono (by omega)) (fun q => absurd q ht)
/-- an atom: closed, all of it -/
theorem NmA.at {W : Wd} {c A : Nat} (h : fW W (Nm nu2 c) A) (h14 : kd A ≤ 14) : Alls (NmL c) A := fun s hs => by
  have o := sub_ok A h.1.1 hs
  have l0 : loT s = 0 := by
    have : ∀ (t : Nat), okT t → kd t ≤ 14 → loT t = 0 → ∀ s, subT s t → loT s = 0 := by
      intro t
      induction t using Nat.strongRecOn with
      | ind t ih =>
        intro ot k14 l0 s hs
        rw [subT_eq] at hs
        rcases hs with e | ⟨z, hz, q⟩
        · rw [e]; exact l0
        · have := lo_part ot.n (by omega) hz
          exact ih z (fms_lt hz) (ot.c hz) (by have := kd_14 ot.n k14 hz; omega) (by omega) s q
    exact this A h.1.1 h14 h.2.1 s hs
  exact NmL.cl o l0 (h.1.sub hs)
