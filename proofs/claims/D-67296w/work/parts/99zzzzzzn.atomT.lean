/-! face: atom in the model -/
theorem lv_of {t n : Nat} (hk : ¬ kd t ≤ 3) (h : ∀ c ∈ fms t, lvL c n) : lvL t n := (lvL_part hk).mpr h
theorem fW_yes {W : Wd} {N : Nat → Prop} : fW W N yesT := by
  refine ⟨fr_mk okT_yes.n (lc_leaf (by omega)) (fun c hc => by unfold yesT at hc; rw [fms_nil] at hc; cases hc), lo_mk0 (by unfold yesT; rw [kd_mk]; decide) (fun c hc => by unfold yesT at hc; rw [fms_nil] at hc; cases hc), fun _ => lv_of (by unfold yesT; rw [kd_mk]; decide) (fun c hc => by unfold yesT at hc; rw [fms_nil] at hc; cases hc)⟩
/-- a form of kept terms -/
theorem fW_atm {W : Wd} {N : Nat → Prop} {k w : Nat} {l : List Nat} (hk : 9 ≤ k) (ho : okN (mk k w l)) (hlc : lcW W N (mk k w l)) (hl : ∀ c ∈ l, c = 0 ∨ (fW W N c ∧ lvL c 0)) : fW W N (mk k w l) := by
  have hf : ∀ c ∈ fms (mk k w l), fW W N c ∧ lvL c 0 := fun c hc => by
    have := fms_ps hc
    rw [ps_mk] at this
    rcases hl c this.1 with q | q
    · exact absurd q this.2
    · exact q
  exact ⟨fr_mk ho hlc (fun c hc => (hf c hc).1.1), lo_mk0 (by rw [kd_mk]; omega) (fun c hc => (hf c hc).1.2.1), fun _ => lv_of (by rw [kd_mk]; omega) (fun c hc => (hf c hc).2)⟩
theorem okA_f {W : Wd} {N : Nat → Prop} {Fo : List Nat} (hF : FoW W N Fo) {cl : Prop} (hc : cl) {m : Nat} (hm : m ≤ 2) {s t : Int} (h : okA Fo cl m s t) : ∀ c ∈ argA Fo m s t, (fW W N c ∧ lvL c 0) ∧ isTm c := fun c hc' => by
  obtain ⟨i, q1, q2, q3⟩ := argA_mem hm h hc'
  rw [q2] at q3 ⊢
  exact ⟨⟨(hF _ q1.mem).1, q3 hc⟩, q1.tm⟩
theorem fW_at {W : Wd} {N : Nat → Prop} {Fo : List Nat} (hF : FoW W N Fo) (hP : ∀ p, p < wnP W → wpM W p ≤ 2) {k a s t : Int} (h : okAt W Fo k a s t) : fW W N (atT W Fo k a s t) ∧ isFo (atT W Fo k a s t) := by
  rcases h with ⟨rfl, h⟩ | ⟨rfl, h⟩ | ⟨rfl, ha, h⟩ | ⟨rfl, ha, h⟩ | ⟨rfl, h⟩
  · rw [atT_0]
    have hf := okA_f hF (by decide) (by decide) h
    refine ⟨fW_atm (by decide) ⟨by rw [kd_mk, wh_mk, ps_mk], ?_⟩ (lc_leaf (by omega)) (fun c hc => Or.inr (hf c hc).1), by unfold isFo; rw [kd_mk]; omega⟩
    rw [kd_mk, wh_mk, ps_mk]
    exact Or.inr (Or.inr (Or.inr (Or.inr (Or.inr (Or.inr (Or.inr (Or.inl ⟨Or.inl rfl, rfl, frm Fo s, frm Fo t, rfl, (hf _ (List.mem_cons_self)).2, (hf _ (List.mem_cons_of_mem _ List.mem_cons_self)).2⟩)))))))
  · rw [atT_1]
    have hf := okA_f hF (by decide) (by decide) h
    refine ⟨fW_atm (by decide) ⟨by rw [kd_mk, wh_mk, ps_mk], ?_⟩ (lc_leaf (by omega)) (fun c hc => Or.inr (hf c hc).1), by unfold isFo; rw [kd_mk]; omega⟩
    rw [kd_mk, wh_mk, ps_mk]
    exact Or.inr (Or.inr (Or.inr (Or.inr (Or.inr (Or.inr (Or.inr (Or.inl ⟨Or.inr rfl, rfl, frm Fo s, frm Fo t, rfl, (hf _ (List.mem_cons_self)).2, (hf _ (List.mem_cons_of_mem _ List.mem_cons_self)).2⟩)))))))
  · rw [atT_2]
    have hm := hP a.toNat (by omega)
    have hf := okA_f hF (by decide) hm h
    have hl := argA_len (Fo := Fo) hm (s := s) (t := t)
    refine ⟨fW_atm (by decide) ⟨by rw [kd_mk, wh_mk, ps_mk], ?_⟩ ?_ (fun c hc => Or.inr (hf c hc).1), by unfold isFo; rw [kd_mk]; omega⟩
    · rw [kd_mk, wh_mk, ps_mk]
      exact Or.inr (Or.inr (Or.inr (Or.inr (Or.inr (Or.inr (Or.inr (Or.inr (Or.inl ⟨rfl, by omega, fun c hc => (hf c hc).2⟩))))))))
    · unfold lcW
      rw [kd_mk, wh_mk, ps_mk]
      exact ⟨fun q => by omega, fun q => by omega, fun q => by omega, fun _ => ⟨by omega, hl⟩, fun q => by omega, fun q => by omega⟩
  · rw [atT_3]
    have hf := okA_f hF (by decide) (by decide) h
    refine ⟨fW_atm (by decide) ⟨by rw [kd_mk, wh_mk, ps_mk], ?_⟩ ?_ (fun c hc => Or.inr (hf c hc).1), by unfold isFo; rw [kd_mk]; omega⟩
    · rw [kd_mk, wh_mk, ps_mk]
      exact Or.inr (Or.inr (Or.inr (Or.inr (Or.inr (Or.inr (Or.inr (Or.inr (Or.inr (Or.inl ⟨rfl, frm Fo s, rfl, (hf _ (List.mem_cons_self)).2⟩)))))))))
    · unfold lcW
      rw [kd_mk, wh_mk]
      exact ⟨fun q => by omega, fun q => by omega, fun q => by omega, fun q => by omega, fun _ => by omega, fun q => by omega⟩
  · rw [atT_4]
    obtain ⟨⟨a0, a1⟩, ⟨hS, hcl⟩, h0, h1⟩ := h
    unfold modT
    by_cases hz : a.toNat = 0
    · rw [if_pos hz]
      exact ⟨fW_yes, by unfold isFo yesT; rw [kd_mk]; omega⟩
    · rw [if_neg hz]
      have harg : argTy W Fo a t = 0 ∨ (fW W N (argTy W Fo a t) ∧ lvL (argTy W Fo a t) 0) ∧ isTm (argTy W Fo a t) := by
        unfold argTy
        by_cases q : wmH W a.toNat = 0
        · rw [if_pos q]; exact Or.inl rfl
        · rw [if_neg q]
          exact Or.inr ⟨⟨(hF _ (h1 q).1.mem).1, (h1 q).2⟩, (h1 q).1.tm⟩
      refine ⟨fW_atm (by decide) ⟨by rw [kd_mk, wh_mk, ps_mk], ?_⟩ ?_ (fun c hc => ?_), by unfold isFo; rw [kd_mk]; omega⟩
      · rw [kd_mk, wh_mk, ps_mk]
        exact Or.inr (Or.inr (Or.inr (Or.inr (Or.inr (Or.inr (Or.inr (Or.inr (Or.inr (Or.inr (Or.inl ⟨rfl, _, _, rfl, harg.imp id (fun q => q.2), hS.tm⟩))))))))))
      · unfold lcW pa
        rw [kd_mk, wh_mk, ps_mk]
        refine ⟨fun q => by omega, fun q => by omega, fun q => by omega, fun q => by omega, fun q => by omega, fun _ => ⟨by omega, by omega, ?_⟩⟩
        show argTy W Fo a t = 0 ↔ _
        unfold argTy
        by_cases q : wmH W a.toNat = 0
        · rw [if_pos q]; exact ⟨fun _ => q, fun _ => rfl⟩
        · rw [if_neg q]; exact ⟨fun z => absurd z (isTm_pos (h1 q).1.tm), fun z => absurd z q⟩
      · rcases List.mem_cons.mp hc with e | e
        · rw [e]
          exact harg.imp id (fun q => q.1)
        · rw [List.mem_singleton.mp e]
          exact Or.inr ⟨(hF _ hS.mem).1, hcl⟩
theorem sz_2 {k w a b : Nat} : szT (mk k w [a, b]) ≤ 2 + szT a + szT b := by
  rw [szT_eq]
  unfold szS
  rw [kd_mk, ps_mk]
  split
  · omega
  · split
    · simp only [List.take_succ_cons, List.take_zero, List.map_cons, List.map_nil, List.sum_cons, List.sum_nil, List.drop_succ_cons, List.drop_zero, List.length_cons, List.length_nil]
      omega
    · simp only [List.map_cons, List.map_nil, List.sum_cons, List.sum_nil]
      omega
theorem szT_at {W : Wd} {Fo : List Nat} (hF : FoP Fo) (hP : ∀ p, p < wnP W → wpM W p ≤ 2) {k a s t : Int} (h : okAt W Fo k a s t) : szT (atT W Fo k a s t) ≤ 402 := by
  rcases h with ⟨rfl, h⟩ | ⟨rfl, h⟩ | ⟨rfl, ha, h⟩ | ⟨rfl, ha, h⟩ | ⟨rfl, h⟩
  · rw [atT_0]; exact Nat.le_trans (argA_sz hF (by decide) h (by decide)) (by decide)
  · rw [atT_1]; exact Nat.le_trans (argA_sz hF (by decide) h (by decide)) (by decide)
  · rw [atT_2]; exact Nat.le_trans (argA_sz hF (hP _ (by omega)) h (by decide)) (by decide)
  · rw [atT_3]; exact Nat.le_trans (argA_sz hF (by decide) h (by decide)) (by decide)
  · rw [atT_4]
    unfold modT
    split
    · have : szT yesT ≤ 1 := sz_c0
      omega
    · refine Nat.le_trans sz_2 ?_
      have h1 := (hF _ h.2.1.1.mem).2.1
      unfold argTy
      split
      · rw [szT_0]; omega
      · rename_i q
        have := (hF _ (h.2.2.2 q).1.mem).2.1
        omega
theorem DtwoT : ∀ k, k = 0 ∨ (17 ≤ k ∧ k ≤ 82) → DX3_two.testBit k = false := fun k hk => by
  rcases hk with q | q
  · rw [q]; decide +kernel
  · exact (by decide +kernel : ∀ k, k ≤ 82 → 17 ≤ k → DX3_two.testBit k = false) k q.2 q.1
theorem DmoT : ∀ k, k = 0 ∨ (17 ≤ k ∧ k ≤ 82) → DX3_modeOf.testBit k = false := fun k hk => by
  rcases hk with q | q
  · rw [q]; decide +kernel
  · exact (by decide +kernel : ∀ k, k ≤ 82 → 17 ≤ k → DX3_modeOf.testBit k = false) k q.2 q.1
theorem tree_eq (ν : Nat → Nat) (u : Sg) {k : Int} (hk : k = 9 ∨ k = 10) (x y : Nat) : treeT ν u (k, [(x : Int), (y : Int)]) = mk (nk k) 0 [trT ν u x, trT ν u y] := by
  unfold treeT
  rw [show labT ν (k, [(x : Int), (y : Int)]) = (nk k, 0, [x, y]) from by
    unfold labT
    dsimp only
    have hf : ¬ fsT k = 1 := by unfold fsT; rw [if_neg (by omega)]; decide
    rw [if_neg (by omega), if_neg (by omega), if_neg hf]
    rfl]
  rcases hk with q | q <;> rw [q] <;> rfl
theorem fpt_eq {k : Int} (hk : k = 9 ∨ k = 10) {x y : Int} : fptT (k, [x, y]) = [x, y] := by
  unfold fptT
  dsimp only
  have hf : fsT k = 0 := by unfold fsT; rw [if_neg (by omega)]
  rw [if_neg (by omega), if_neg (by omega), hf]
  rfl
