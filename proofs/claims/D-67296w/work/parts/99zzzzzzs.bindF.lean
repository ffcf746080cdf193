/-! what bind makes -/
theorem lo_bind {s : Nat} : ∀ (t : Nat), okT t → ∀ e, loT t ≤ e → loT (sbT (bindg s) e t) ≤ e + 1 := by
  intro t
  induction t using Nat.strongRecOn with
  | ind t ih =>
    intro ho e hl
    by_cases h3 : kd t ≤ 3
    · rw [sbT_eq, if_pos h3]
      unfold bindg
      split
      · rw [loT_eq]
        unfold loS
        rw [kd_mk, wh_mk, if_pos rfl]
        exact Nat.le_refl _
      · omega
    · obtain ⟨k1, k2, k3⟩ := sb_kd (g := bindg s) (d := e) h3
      refine lo_of (by omega) (fun i c' hc h8 => ?_)
      rw [k1] at h8
      obtain ⟨c, c1, c2⟩ := sb_parts h3 hc h8
      have hd : dpT (sbT (bindg s) e t) (e + 1) i = dpT t e i + 1 := by unfold dpT; rw [k1]; split <;> rfl
      rw [hd, c2]
      unfold zf
      by_cases q : c = 0
      · rw [if_pos q, loT0]; exact Nat.zero_le _
      · rw [if_neg q]
        have hm : c ∈ fms t := fms_at.mpr ⟨i, h8, c1, q⟩
        exact ih c (fms_lt hm) (ho.c hm) _ (lo_c (e := 0) h3 c1 hm h8 (by omega))
theorem szT_bind {s : Nat} : ∀ (t : Nat), okT t → ∀ e, szT (sbT (bindg s) e t) ≤ szT t := by
  intro t
  induction t using Nat.strongRecOn with
  | ind t ih =>
    intro ho e
    have t0 : t ≠ 0 := fun q => by
      have := okN_kd ho.n
      rw [q] at this
      unfold isTm isFo at this
      rw [kd0] at this
      omega
    have hp := sz_pos t0
    by_cases h3 : kd t ≤ 3
    · rw [sbT_eq, if_pos h3]
      unfold bindg
      split
      · have : szT (mk 2 e []) ≤ 1 := sz_c0
        omega
      · exact Nat.le_refl _
    · obtain ⟨k1, k2, k3⟩ := sb_kd (g := bindg s) (d := e) h3
      have s0 : sbT (bindg s) e t ≠ 0 := fun q => by rw [q, kd0] at k1; omega
      rw [szT_ex s0, szT_ex t0]
      have key : ∀ (d : Nat) (l : List Nat), (∀ c ∈ l, c ≠ 0 → c ∈ fms t) → ((l.map (zf (sbT (bindg s) d))).map szT).sum ≤ (l.map szT).sum := by
        intro d l
        induction l with
        | nil => exact fun _ => Nat.le_refl _
        | cons c l ihl =>
          intro h
          simp only [List.map_cons, List.sum_cons]
          have h1 := ihl (fun x hx => h x (List.mem_cons_of_mem _ hx))
          have h2 : szT (zf (sbT (bindg s) d) c) ≤ szT c := by
            unfold zf
            by_cases q : c = 0
            · rw [if_pos q, q]; exact Nat.le_refl _
            · rw [if_neg q]
              have hm := h c List.mem_cons_self q
              exact ih c (fms_lt hm) (ho.c hm) d
          omega
      have tk : ∀ c ∈ (ps t).take 1, c ≠ 0 → c ∈ fms t := fun c hc h0 => by
        obtain ⟨i, hi⟩ := List.getElem?_of_mem hc
        rw [List.getElem?_take] at hi
        by_cases q : i < 1
        · rw [if_pos q] at hi
          exact fms_at.mpr ⟨i, Or.inr (by omega), hi, h0⟩
        · rw [if_neg q] at hi; cases hi
      unfold exp1
      rw [k1, k3]
      unfold chm
      by_cases k8 : kd t = 8
      · rw [if_pos k8, if_pos k8, if_pos k8]
        have l1 : (((ps t).take 1).map (zf (sbT (bindg s) e)) ++ (ps t).drop 1).take 1 = ((ps t).take 1).map (zf (sbT (bindg s) e)) ∧ (((ps t).take 1).map (zf (sbT (bindg s) e)) ++ (ps t).drop 1).drop 1 = (ps t).drop 1 := by
          cases hps : ps t with
          | nil => exact ⟨rfl, rfl⟩
          | cons a l => exact ⟨rfl, rfl⟩
        rw [l1.1, l1.2]
        have := key e _ tk
        omega
      · rw [if_neg k8, if_neg k8, if_neg k8]
        by_cases k18 : kd t = 18
        · rw [if_pos k18, List.map_append, List.sum_append]
          have a := key e _ tk
          have b := key (e + 1) ((ps t).drop 1) (fun c hc h0 => fms_mem (List.mem_of_mem_drop hc) k8 h0)
          have d : ((ps t).map szT).sum = (((ps t).take 1).map szT).sum + (((ps t).drop 1).map szT).sum := by
            rw [← List.sum_append, ← List.map_append, List.take_append_drop]
          omega
        · rw [if_neg k18]
          have := key e (ps t) (fun c hc h0 => fms_mem hc k8 h0)
          omega
theorem fr_bound {W : Wd} {N : Nat → Prop} (d : Nat) : frW W N (mk 2 d []) := fr_mk (okT_bound d).1.n (lc_leaf (by omega)) (fun c hc => by rw [fms_nil] at hc; cases hc)
theorem fr_bind {W : Wd} {N : Nat → Prop} {s t e : Nat} (h : frW W N t) : frW W N (sbT (bindg s) e t) := by
  refine frW_sb h (fun c hc d' => ?_)
  unfold bindg
  split
  · exact ⟨(okT_bound d').2, fr_bound d'⟩
  · exact ⟨(lv_ok t h.1 c hc).2.2, h.sub (lv_sb0 t hc).1⟩
theorem lv_bind {s t e : Nat} (h : lvL t 0) : lvL (sbT (bindg s) e t) 0 := fun l hl h3 => by
  obtain ⟨c, d', hc, q⟩ := lv_sb t hl
  unfold bindg at q
  split at q
  · rw [lv_leaf (by rw [kd_mk]; decide)] at q
    rw [List.mem_singleton.mp q, kd_mk] at h3
    omega
  · have k := (lv_sb0 t hc).2
    rw [lv_leaf k] at q
    rw [List.mem_singleton.mp q] at h3 ⊢
    exact h c hc h3
theorem kd_bind {s t e : Nat} (h : isFo t) : kd (sbT (bindg s) e t) = kd t := (sb_kd (g := bindg s) (d := e) (by unfold isFo at h; omega)).1
theorem lo_all {y f : Nat} (hy : loT y = 0) (hf : loT f ≤ 1) : loT (mk 18 0 [y, f]) = 0 := by
  rw [loT_eq]
  unfold loS loX
  rw [kd_mk, ps_mk, if_neg (by decide), if_neg (by decide), if_pos rfl]
  simp only [List.take_succ_cons, List.take_zero, List.drop_succ_cons, List.drop_zero, List.map_cons, List.map_nil, List.foldl_cons, List.foldl_nil]
  omega
theorem fF_all {W : Wd} {N : Nat → Prop} {y f : Nat} (hy : clty W N y) (hf : frW W N f) (fo : isFo f) (hl : loT f ≤ 1) (hv : lvL f 0) : fF W N (alT y f) ∧ szT (alT y f) ≤ 2 + szT y + szT f := by
  unfold alT
  split
  · exact ⟨fF_yes, by have : szT yesT ≤ 1 := sz_c0; omega⟩
  · rename_i hne
    have y0 : y ≠ 0 := ty_pos hy
    have f0 := isFo_pos fo
    have hfm : ∀ c ∈ fms (mk 18 0 [y, f]), c = y ∨ c = f := fun c hc => by
      rw [fms_two (by decide) y0 f0] at hc
      simpa using hc
    refine ⟨⟨⟨fr_mk ⟨by rw [kd_mk, wh_mk, ps_mk], ?_⟩ (lc_leaf (by omega)) (fun c hc => ?_), lo_all hy.2.2.1 hl, fun _ => lv_of (by rw [kd_mk]; decide) (fun c hc => ?_)⟩, by unfold isFo; rw [kd_mk]; omega⟩, sz_2⟩
    · rw [kd_mk, wh_mk, ps_mk]
      exact Or.inr (Or.inr (Or.inr (Or.inr (Or.inr (Or.inr (Or.inr (Or.inr (Or.inr (Or.inr (Or.inr (Or.inr (Or.inr ⟨rfl, rfl, y, f, rfl, hy.2.1, fo, hne⟩))))))))))))
    · rcases hfm c hc with e | e
      · rw [e]; exact hy.1
      · rw [e]; exact hf
    · rcases hfm c hc with e | e
      · rw [e]; exact hy.2.2.2
      · rw [e]; exact hv
/-- the formula that is bound -/
def bdF (o : Int) (y : Nat) : Nat := if o = 0 then y else notT y
def bdG (o : Int) (x y : Nat) : Nat := sbT (bindg x) 0 (bdF o y)
def bdA (W : Wd) (o : Int) (x y : Nat) : Nat := alT (wcT W (wh x)) (bdG o x y)
def bdT (W : Wd) (o : Int) (x y : Nat) : Nat := if o = 0 then bdA W o x y else notT (bdA W o x y)
theorem fF_bdF {W : Wd} {N : Nat → Prop} {o : Int} {y : Nat} (hy : fF W N y) (zy : szT y ≤ 200) : fF W N (bdF o y) ∧ szT (bdF o y) ≤ 201 := by
  unfold bdF
  split
  · exact ⟨hy, by omega⟩
  · have := fF_not hy
    exact ⟨this.1, by omega⟩
theorem bdG_ok {W : Wd} {N : Nat → Prop} {o : Int} {x y : Nat} (hy : fF W N y) (zy : szT y ≤ 200) : frW W N (bdG o x y) ∧ isFo (bdG o x y) ∧ loT (bdG o x y) ≤ 1 ∧ lvL (bdG o x y) 0 ∧ szT (bdG o x y) ≤ 201 := by
  have h := fF_bdF (o := o) hy zy
  refine ⟨fr_bind h.1.1.1, ?_, lo_bind _ h.1.1.1.1 0 (by have := h.1.1.2.1; omega), lv_bind h.1.lv, Nat.le_trans (szT_bind _ h.1.1.1.1 0) h.2⟩
  unfold isFo bdG
  rw [kd_bind h.1.2]
  exact h.1.2
theorem fF_bd {W : Wd} {N : Nat → Prop} {o : Int} {x y : Nat} (hy : fF W N y) (zy : szT y ≤ 200) (ht : clty W N (wcT W (wh x))) (zt : szT (wcT W (wh x)) ≤ 200) : (fF W N (bdA W o x y) ∧ szT (bdA W o x y) ≤ 403) ∧ fF W N (bdT W o x y) ∧ szT (bdT W o x y) ≤ 404 := by
  obtain ⟨g1, g2, g3, g4, g5⟩ := bdG_ok (o := o) (x := x) hy zy
  have ha := fF_all ht g1 g2 g3 g4
  have ha' : fF W N (bdA W o x y) ∧ szT (bdA W o x y) ≤ 403 := ⟨ha.1, Nat.le_trans ha.2 (by omega)⟩
  refine ⟨ha', ?_⟩
  unfold bdT
  split
  · exact ⟨ha'.1, by omega⟩
  · have := fF_not ha'.1
    exact ⟨this.1, by omega⟩
