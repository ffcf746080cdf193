/-! names in kept formulas once more: only constants that stand in kept atoms and types count -/
section NMB
variable {W : Wd} {N : Nat → Prop} {Λ : List Nat}
theorem NmL.clN {s : Nat} (hN : ∀ n, N n → mk 1 n [] ∈ Λ) (ho : okT s) (hlo : loT s = 0) (hfr : frW W N s) : NmL Λ.length s := by
  refine ⟨Λ.map (fun l => 2 * l + 1), by rw [List.length_map]; exact Nat.le_refl _, fun l hl k1 => ?_, fun j hj => ?_⟩
  · have hs := lv_is s hl
    have ol := sub_ok s ho hs
    have h1 := hN _ ((hfr.2 l hs).1 k1)
    have hp : ps l = [] := by
      rcases ol.n.2 with q | q | q | q | q | q | q | q | q | q | q | q | q | q <;> first | omega | exact q.2
    have e := ol.n.1
    rw [k1, hp] at e
    rw [← e] at h1
    exact List.mem_map.mpr ⟨l, h1, rfl⟩
  · have := hv_lo s ho j hj
    omega
theorem nmFN {f : Nat} (hN : ∀ n, N n → mk 1 n [] ∈ Λ) (h : fF W N f) : NmL Λ.length f := NmL.clN hN h.1.1.1 h.1.2.1 h.1.1
theorem NmB.not (hN : ∀ n, N n → mk 1 n [] ∈ Λ) {f : Nat} (h : fF W N f) (ha : Alls (NmL Λ.length) f) : Alls (NmL Λ.length) (notT f) := by
  have h0 := nmFN hN (fF_not h).1
  unfold notT at h0 ⊢
  by_cases h16 : kd f = 16
  · rw [if_pos h16] at h0 ⊢
    obtain ⟨g, e, _, _, hg⟩ := ps_not1 h.1.1.1 h16
    rw [e]
    exact ha.sub (sub_c hg (sub_rf g))
  · rw [if_neg h16] at h0 ⊢
    refine Alls.top h0 (fun z hz => ?_)
    have := (fms_ps hz).1
    rw [ps_mk, List.mem_singleton] at this
    rw [this]; exact ha
theorem NmB.and (hN : ∀ n, N n → mk 1 n [] ∈ Λ) {L : List Nat} (h : ∀ f ∈ L, fF W N f ∧ Alls (NmL Λ.length) f) : Alls (NmL Λ.length) (andT L) := by
  have hfl : ∀ g ∈ L.flatMap flt, Alls (NmL Λ.length) g := fun g hg => by
    obtain ⟨f, hf, q⟩ := List.mem_flatMap.mp hg
    rcases flt_in q with e | ⟨e, z⟩
    · rw [e]; exact (h f hf).2
    · have hfo : isFo g := by
        rcases (h f hf).1.1.1.1.n.2 with q | q | q | q | q | q | q | q | q | q | q | q | q | q <;> try omega
        exact (q.2.2.2 g z).1
      exact (h f hf).2.sub (sub_c (fms_mem z (by omega) (isFo_pos hfo)) (sub_rf g))
  have h0 := nmFN hN (fF_and (fun f hf => (h f hf).1)).1
  have yes : Alls (NmL Λ.length) yesT := Alls.top NmL.yes (fun z hz => by unfold yesT at hz; rw [fms_nil] at hz; cases hz)
  unfold andT at h0 ⊢
  by_cases hn : noT ∈ L
  · rw [if_pos hn] at h0 ⊢
    refine Alls.top h0 (fun z hz => ?_)
    have := (fms_ps hz).1
    unfold noT at this
    rw [ps_mk, List.mem_singleton] at this
    rw [this]; exact yes
  · rw [if_neg hn] at h0 ⊢
    cases hl : L.flatMap flt with
    | nil => exact yes
    | cons a l =>
      rw [hl] at hfl h0
      cases l with
      | nil => exact hfl a List.mem_cons_self
      | cons b l =>
        refine Alls.top h0 (fun z hz => ?_)
        have := (fms_ps hz).1
        rw [ps_mk] at this
        exact hfl z this
theorem NmB.jn (hN : ∀ n, N n → mk 1 n [] ∈ Λ) {k : Int} {x y : Nat} (hx : fF W N x ∧ Alls (NmL Λ.length) x) (hk : k ≠ 0 → fF W N y ∧ Alls (NmL Λ.length) y) : Alls (NmL Λ.length) (jnT k x y) := by
  unfold jnT
  by_cases k0 : k = 0
  · rw [if_pos k0]; exact NmB.not hN hx.1 hx.2
  rw [if_neg k0]
  have hY := hk k0
  have two : ∀ {a b : Nat}, fF W N a ∧ Alls (NmL Λ.length) a → fF W N b ∧ Alls (NmL Λ.length) b → fF W N (andT [a, b]) ∧ Alls (NmL Λ.length) (andT [a, b]) := fun {a b} ha hb => by
    have hL : ∀ z ∈ [a, b], fF W N z ∧ Alls (NmL Λ.length) z := fun z hz => by
      rcases List.mem_cons.mp hz with q | q
      · rw [q]; exact ha
      · rw [List.mem_singleton.mp q]; exact hb
    exact ⟨(fF_and (fun z hz => (hL z hz).1)).1, NmB.and hN hL⟩
  have nt : ∀ {a : Nat}, fF W N a ∧ Alls (NmL Λ.length) a → fF W N (notT a) ∧ Alls (NmL Λ.length) (notT a) := fun {a} ha => ⟨(fF_not ha.1).1, NmB.not hN ha.1 ha.2⟩
  have im : ∀ {a b : Nat}, fF W N a ∧ Alls (NmL Λ.length) a → fF W N b ∧ Alls (NmL Λ.length) b → fF W N (impT a b) ∧ Alls (NmL Λ.length) (impT a b) := fun {a b} ha hb => nt (two ha (nt hb))
  by_cases k1 : k = 1
  · rw [if_pos k1]; exact (two hx hY).2
  rw [if_neg k1]
  by_cases k2 : k = 2
  · rw [if_pos k2]; exact (nt (two (nt hx) (nt hY))).2
  rw [if_neg k2]
  by_cases k3 : k = 3
  · rw [if_pos k3]; exact (im hx hY).2
  rw [if_neg k3]
  exact (two (im hx hY) (im hY hx)).2
theorem NmB.ty (hN : ∀ n, N n → mk 1 n [] ∈ Λ) {y : Nat} (h : clty W N y) : Alls (NmL Λ.length) y := fun s hs => by
  have o := sub_ok y h.1.1 hs
  have l0 : loT s = 0 := by
    have : ∀ (t : Nat), okT t → kd t ≤ 14 → loT t = 0 → ∀ s, subT s t → loT s = 0 := by
      intro t
      induction t using Nat.strongRecOn with
      | ind t ih =>
        intro ot k14 l0 s hs
        rw [subT_eq] at hs
        rcases hs with e | ⟨z, hz, q⟩
        · rw [e]; exact l0
        · have := lo_part ot.n (by omega) hz
          exact ih z (fms_lt hz) (ot.c hz) (by have := kd_14 ot.n k14 hz; omega) (by omega) s q
    exact this y h.1.1 (by have := h.2.1; omega) h.2.2.1 s hs
  exact NmL.clN hN o l0 (h.1.sub hs)
theorem NmB.bd (hN : ∀ n, N n → mk 1 n [] ∈ Λ) {o : Int} {x y : Nat} (hy : fF W N y) (ha : Alls (NmL Λ.length) y) (hx : kd x = 1) (ht : clty W N (wcT W (wh x))) (hA : fF W N (bdA W o x y)) : Alls (NmL Λ.length) (bdT W o x y) := by
  have a2 : okT (bdF o y) ∧ Alls (NmL Λ.length) (bdF o y) := by
    unfold bdF
    split
    · exact ⟨hy.1.1.1, ha⟩
    · exact ⟨(okT_not hy.1.1.1 hy.2).1, NmB.not hN hy ha⟩
  have a3 : Alls (NmL Λ.length) (bdA W o x y) := by
    have h0 := nmFN hN hA
    have b1 : Alls (NmL Λ.length) (bdG o x y) := NmA.sb a2.1 hx a2.2
    have b2 : Alls (NmL Λ.length) (wcT W (wh x)) := NmB.ty hN ht
    unfold bdA alT at h0 ⊢
    split
    · exact Alls.top NmL.yes (fun z hz => by unfold yesT at hz; rw [fms_nil] at hz; cases hz)
    · rename_i q
      rw [if_neg q] at h0
      refine Alls.top h0 (fun z hz => ?_)
      have := (fms_ps hz).1
      rw [ps_mk] at this
      rcases List.mem_cons.mp this with w | w
      · rw [w]; exact b2
      · rw [List.mem_singleton.mp w]; exact b1
  unfold bdT
  split
  · exact a3
  · exact NmB.not hN hA a3
theorem NmB.at (hN : ∀ n, N n → mk 1 n [] ∈ Λ) {A : Nat} (h : fW W N A) (h14 : kd A ≤ 14) : Alls (NmL Λ.length) A := fun s hs => by
  have o := sub_ok A h.1.1 hs
  have l0 : loT s = 0 := by
    have : ∀ (t : Nat), okT t → kd t ≤ 14 → loT t = 0 → ∀ s, subT s t → loT s = 0 := by
      intro t
      induction t using Nat.strongRecOn with
      | ind t ih =>
        intro ot k14 l0 s hs
        rw [subT_eq] at hs
        rcases hs with e | ⟨z, hz, q⟩
        · rw [e]; exact l0
        · have := lo_part ot.n (by omega) hz
          exact ih z (fms_lt hz) (ot.c hz) (by have := kd_14 ot.n k14 hz; omega) (by omega) s q
    exact this A h.1.1 h14 h.2.1 s hs
  exact NmL.clN hN o l0 (h.1.sub hs)

end NMB
