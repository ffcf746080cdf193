/-! adjectives of terms, over trees -/
def fitF (W : Wd) (f : Nat → Nat → Prop) (a y : Nat) : Prop := hasT W (tyT W a) (wh y) (pa y 0) ∧ ∀ j ∈ adjT y, f a j
def argF (W : Wd) (f : Nat → Nat → Prop) (t g : Nat) : Prop := (wgA W g ≠ 0 → 0 < (ps t).length ∧ fitF W f (pa t 0) (sbT (locg (pa t 0) (pa t 1)) 0 (wgA W g))) ∧ (wgB W g ≠ 0 → 1 < (ps t).length ∧ fitF W f (pa t 1) (sbT (locg (pa t 0) (pa t 1)) 0 (wgB W g)))
def ofM (W : Wd) (y g : Nat) : Prop := ∃ z ∈ upT W y, wh z = wh (wgO W g) ∧ (pa (wgO W g) 0 = 0 ∨ (pa z 0 ≠ 0 ∧ hasT W (tyT W (pa z 0)) (wh (wgA W g)) (pa (wgA W g) 0)))
def basA (W : Wd) (f : Nat → Nat → Prop) (t j : Nat) : Prop := (∃ z ∈ upT W (tyT W t), j ∈ adjT z) ∨ (kd t = 4 ∧ ∃ g, g < wnG W ∧ wgS W g = 1 ∧ wgO W g = wh t ∧ argF W f t g ∧ j ∈ adjT (wgV W g))
def cluA (W : Wd) (y : Nat) (S : Nat → Prop) : Prop := ∀ g, g < wnG W → wgS W g = 0 → (∀ j ∈ adjT (wgO W g), S j) → ofM W y g → ∀ j ∈ adjT (wgV W g), S j
def adjS (W : Wd) (f : Nat → Nat → Prop) (t : Nat) : Nat → Prop := fun j => ∀ S : Nat → Prop, (∀ i, basA W f t i → S i) → cluA W (tyT W t) S → S j
/-- all adjectives that a term has -/
def adT (W : Wd) (t : Nat) : Nat → Prop := rcT (adjS W) (fun _ => False) t
theorem pa_mem {t i : Nat} (h : i < (ps t).length) : pa t i ∈ ps t := List.mem_of_getElem? (pa_get h)
theorem adT_eq (W : Wd) (t : Nat) : adT W t = adjS W (adT W) t := rc_eq (fun f f' t h => by
  have hb : ∀ f f' : Nat → Nat → Prop, (∀ c ∈ ps t, f c = f' c) → ∀ j, basA W f t j → basA W f' t j := fun f f' h j hb => by
    rcases hb with q | ⟨q1, g, q2, q3, q4, ⟨q5, q6⟩, q7⟩
    · exact Or.inl q
    · refine Or.inr ⟨q1, g, q2, q3, q4, ⟨fun z => ?_, fun z => ?_⟩, q7⟩
      · obtain ⟨z1, z2, z3⟩ := q5 z
        exact ⟨z1, z2, fun j hj => by rw [← h _ (pa_mem z1)]; exact z3 j hj⟩
      · obtain ⟨z1, z2, z3⟩ := q6 z
        exact ⟨z1, z2, fun j hj => by rw [← h _ (pa_mem z1)]; exact z3 j hj⟩
  funext j
  unfold adjS
  refine propext ⟨fun q S h1 h2 => q S (fun i hi => h1 i (hb f f' h i hi)) h2, fun q S h1 h2 => q S (fun i hi => h1 i (hb f' f (fun c hc => (h c hc).symm) i hi)) h2⟩) t
theorem adT.bas {W : Wd} {t j : Nat} (h : basA W (adT W) t j) : adT W t j := by rw [adT_eq]; exact fun S h1 _ => h1 j h
theorem adT.clu (W : Wd) (t : Nat) : cluA W (tyT W t) (adT W t) := fun g h1 h2 h3 h4 j hj => by
  rw [adT_eq]
  intro S b1 b2
  refine b2 g h1 h2 (fun i hi => ?_) h4 j hj
  have := h3 i hi
  rw [adT_eq] at this
  exact this S b1 b2
theorem adT.min {W : Wd} {t j : Nat} {S : Nat → Prop} (h : adT W t j) (h1 : ∀ i, basA W (adT W) t i → S i) (h2 : cluA W (tyT W t) S) : S j := by rw [adT_eq] at h; exact h S h1 h2
def fitT (W : Wd) (t y : Nat) : Prop := fitF W (adT W) t y
/-- the registrations are as they should be -/
def WGK (W : Wd) (N : Nat → Prop) : Prop := wnA W ≤ 15 ∧ ∀ g, g < wnG W → wgS W g ≤ 2 ∧ (wgS W g = 0 → gvn W N (wgO W g) 1 ∧ kd (wgO W g) = 8 ∧ (pa (wgO W g) 0 = 0 ↔ wgA W g = 0) ∧ (wgA W g ≠ 0 → clty W N (wgA W g)) ∧ ∀ j ∈ adjT (wgO W g), j < 30) ∧ (wgS W g ≠ 0 → wgO W g < wnF W ∧ (wgA W g = 0 ↔ wfM W (wgO W g) = 0) ∧ (wgA W g ≠ 0 → gvn W N (wgA W g) (wfM W (wgO W g)) ∧ kd (wgA W g) = 8) ∧ (wgB W g = 0 ↔ wfM W (wgO W g) ≤ 1) ∧ (wgB W g ≠ 0 → gvn W N (wgB W g) (wfM W (wgO W g)) ∧ kd (wgB W g) = 8)) ∧ (wgS W g ≠ 2 → kd (wgV W g) = 8 ∧ okT (wgV W g) ∧ ∀ j ∈ adjT (wgV W g), j < 30) ∧ (wgS W g = 2 → gvn W N (wgV W g) (wfM W (wgO W g)) ∧ isTm (wgV W g))
theorem clty_adj {W : Wd} {N : Nat → Prop} (hg : WGK W N) {y : Nat} (h : clty W N y) : ∀ j ∈ adjT y, j < 30 := fun j hj => by
  have := (h.1.lc.2.2.1 h.2.1).2.2 j hj
  have := hg.1
  omega
/-- every adjective of a term is below thirty -/
theorem adT_30 {W : Wd} {N : Nat → Prop} (hW : WOK W N) (hg : WGK W N) {t j : Nat} (ht : cltm W N t) (h : adT W t j) : j < 30 := by
  refine h.min (S := fun j => j < 30) (fun i hi => ?_) (fun g h1 h2 _ _ j hj => ((hg.2 g h1).2.2.2.1 (by omega)).2.2 j hj)
  rcases hi with ⟨z, hz, q⟩ | ⟨_, g, q2, q3, _, _, q7⟩
  · exact clty_adj hg (up_cl hW _ _ (Nat.lt_succ_self _) (ty_ok hW ht) z hz).1 i q
  · exact ((hg.2 g q2).2.2.2.1 (by omega)).2.2 i q7
/-! the class's row of adjectives -/
def RwL (u : Sg) (b : Nat) (L : List Nat) : Prop := rC u = b + L.length ∧ ∀ (q v : Nat), L[q]? = some v → gN u 11 (b + q) = (v : Int)
theorem inRow_L2 {d : Nat} {ν : Nat → Nat} {c : Nat} {u : Sg} {b j : Nat} {L : List Nat} (hs : SC ν c u) (hb : rC u ≤ 29000) (hR : RwL u b L) : ∀ (m i f : Nat), i + m = L.length → m < f → (∀ (q v : Nat), q < i → L[q]? = some v → v ≠ j) → ∀ {x34 x26 : Sg → Option (Int × Sg)}, bX1_inRow_L2 (runC d) f (j : Int) ((b + i : Nat) : Int) u x34 x26 = if j ∈ L then x26 u else x34 u := by
  have hr := hs.r
  intro m
  induction m with
  | zero =>
    intro i f hi hf hno x34 x26
    obtain ⟨f, rfl⟩ : ∃ f', f = f' + 1 := ⟨f - 1, by omega⟩
    have := hR.1
    rw [bX1_inRow_L2, un_eq, hr.1, if_neg (by omega), if_neg]
    intro hm
    obtain ⟨q, hq⟩ := List.getElem?_of_mem hm
    exact hno q j (by have := (List.getElem?_eq_some_iff.mp hq).1; omega) hq rfl
  | succ m ih =>
    intro i f hi hf hno x34 x26
    obtain ⟨f, rfl⟩ : ∃ f', f = f' + 1 := ⟨f - 1, by omega⟩
    have hrc := hR.1
    have hil : i < L.length := by omega
    have hget : L[i]? = some L[i] := List.getElem?_eq_getElem hil
    have hv := hR.2 i _ hget
    rw [bX1_inRow_L2, un_eq, hr.1, if_pos (by omega), ld_nat (by omega), hv]
    by_cases he : (L[i] : Int) = (j : Int)
    · rw [if_pos he, if_pos]
      have : L[i] = j := by omega
      rw [← this]; exact List.getElem_mem hil
    · rw [if_neg he, ar_pos ⟨by omega, by omega⟩, show ((b + i : Nat) : Int) + 1 = ((b + (i + 1) : Nat) : Int) by omega]
      refine ih (i + 1) f (by omega) (by omega) (fun q v hq h1 => ?_)
      by_cases hqi : q = i
      · rw [hqi, hget] at h1
        have := Option.some.inj h1
        rw [← this]
        intro z; exact he (by rw [z])
      · exact hno q v (by omega) h1
theorem rX1_inRow {d : Nat} (hd : 3 ≤ d) {ν : Nat → Nat} {c : Nat} {u : Sg} {b j : Nat} {L : List Nat} (hs : SC ν c u) (hb : rC u ≤ 29000) (hR : RwL u b L) : (j ∈ L → runC d 86 [(b : Int), (j : Int)] u = some (1, u)) ∧ (j ∉ L → runC d 86 [(b : Int), (j : Int)] u = some (0, u)) := by
  obtain ⟨d, rfl⟩ : ∃ d', d = d' + 1 := ⟨d - 1, by omega⟩
  have h : runC (d + 1) 86 [(b : Int), (j : Int)] u = if j ∈ L then some (1, u) else some (0, u) := by
    rw [runC_eq (by omega)]
    show bX1_inRow (runC d) b j u = _
    unfold bX1_inRow
    have hrc := hR.1
    exact inRow_L2 (x34 := fun s1 => some (0, s1)) (x26 := fun s2 => some (1, s2)) hs hb hR L.length 0 KF (by omega) (Nat.lt_of_le_of_lt (by omega : _ ≤ 65536) KF_gt) (fun q v hq => by omega)
  exact ⟨fun q => by rw [h, if_pos q], fun q => by rw [h, if_neg q]⟩
theorem addAdj_L2 {d : Nat} {ν : Nat → Nat} {c : Nat} {u : Sg} {b j : Nat} {L : List Nat} (hs : SC ν c u) (hb : rC u ≤ 29000) (hR : RwL u b L) : ∀ (m i f : Nat), i + m = L.length → m < f → (∀ (q v : Nat), q < i → L[q]? = some v → v ≠ j) → ∀ {x34 : Int → Sg → Option (Int × Sg)} {x26 : Sg → Option (Int × Sg)}, bX1_addAdjective_L2 (runC d) f (j : Int) ((b + i : Nat) : Int) u x34 x26 = if j ∈ L then x26 u else x34 (j : Int) u := by
  have hr := hs.r
  intro m
  induction m with
  | zero =>
    intro i f hi hf hno x34 x26
    obtain ⟨f, rfl⟩ : ∃ f', f = f' + 1 := ⟨f - 1, by omega⟩
    have := hR.1
    rw [bX1_addAdjective_L2, un_eq, hr.1, if_neg (by omega), if_neg]
    intro hm
    obtain ⟨q, hq⟩ := List.getElem?_of_mem hm
    exact hno q j (by have := (List.getElem?_eq_some_iff.mp hq).1; omega) hq rfl
  | succ m ih =>
    intro i f hi hf hno x34 x26
    obtain ⟨f, rfl⟩ : ∃ f', f = f' + 1 := ⟨f - 1, by omega⟩
    have hrc := hR.1
    have hil : i < L.length := by omega
    have hget : L[i]? = some L[i] := List.getElem?_eq_getElem hil
    have hv := hR.2 i _ hget
    rw [bX1_addAdjective_L2, un_eq, hr.1, if_pos (by omega), ld_nat (by omega), hv]
    by_cases he : (L[i] : Int) = (j : Int)
    · rw [if_pos he, if_pos]
      have : L[i] = j := by omega
      rw [← this]; exact List.getElem_mem hil
    · rw [if_neg he, ar_pos ⟨by omega, by omega⟩, show ((b + i : Nat) : Int) + 1 = ((b + (i + 1) : Nat) : Int) by omega]
      refine ih (i + 1) f (by omega) (by omega) (fun q v hq h1 => ?_)
      by_cases hqi : q = i
      · rw [hqi, hget] at h1
        have := Option.some.inj h1
        rw [← this]
        intro z; exact he (by rw [z])
      · exact hno q v (by omega) h1
/-- a number joins a list, if it is not there -/
def addL (L : List Nat) (j : Nat) : List Nat := if j ∈ L then L else L ++ [j]
theorem addL_mem {L : List Nat} {j v : Nat} : v ∈ addL L j ↔ v ∈ L ∨ v = j := by
  unfold addL
  by_cases h : j ∈ L
  · rw [if_pos h]
    exact ⟨Or.inl, fun q => q.elim id (fun e => by rw [e]; exact h)⟩
  · rw [if_neg h]
    simp
theorem addL_nd {L : List Nat} {j : Nat} (h : L.Nodup) : (addL L j).Nodup := by
  unfold addL
  by_cases hj : j ∈ L
  · rw [if_pos hj]; exact h
  · rw [if_neg hj]
    refine List.nodup_append.mpr ⟨h, by simp, fun a ha b hb => ?_⟩
    have := List.mem_singleton.mp hb
    rw [this]
    intro e; exact hj (by rw [← e]; exact ha)
theorem nd_len {n : Nat} : ∀ {L : List Nat}, L.Nodup → (∀ v ∈ L, v < n) → L.length ≤ n := by
  induction n with
  | zero =>
    intro L _ h
    cases L with
    | nil => simp
    | cons a l => have := h a List.mem_cons_self; omega
  | succ n ih =>
    intro L hn h
    have h1 : (L.filter (fun v => decide (v ≠ n))).length ≤ n := ih (hn.filter _) (fun v hv => by
      have h2 := List.mem_filter.mp hv
      have := h v h2.1
      have : v ≠ n := by simpa using h2.2
      omega)
    have h3 : L.length ≤ (L.filter (fun v => decide (v ≠ n))).length + 1 := by
      clear ih h h1
      induction L with
      | nil => simp
      | cons a l ihl =>
        have hc := List.nodup_cons.mp hn
        by_cases ha : a = n
        · have e : l.filter (fun v => decide (v ≠ n)) = l := List.filter_eq_self.mpr (fun v hv => by
            have : v ≠ n := fun e => hc.1 (by rw [ha, ← e]; exact hv)
            simpa using this)
          have e2 : (a :: l).filter (fun v => decide (v ≠ n)) = l := by
            rw [List.filter_cons, if_neg (by simp [ha]), e]
          rw [e2]; simp
        · have e2 : (a :: l).filter (fun v => decide (v ≠ n)) = a :: l.filter (fun v => decide (v ≠ n)) := by
            rw [List.filter_cons, if_pos (by simpa using ha)]
          have := ihl hc.2
          rw [e2]; simp at this ⊢; omega
    omega
