/-! what there is: types and terms that are closed -/
def cltm (W : Wd) (N : Nat → Prop) (t : Nat) : Prop := frW W N t ∧ isTm t ∧ closT t
def clty (W : Wd) (N : Nat → Prop) (y : Nat) : Prop := frW W N y ∧ kd y = 8 ∧ closT y
/-- a form that was given: of a registration, a parent, a result -/
def gvn (W : Wd) (N : Nat → Prop) (y n : Nat) : Prop := frW W N y ∧ lvL y n ∧ loT y = 0 ∧ szT y ≤ 200
def WOK (W : Wd) (N : Nat → Prop) : Prop := wmH W 0 = 0 ∧ (∀ m, 1 ≤ m → m < wnM W → gvn W N (wmP W m) (wmH W m) ∧ kd (wmP W m) = 8 ∧ wh (wmP W m) < m ∧ wmH W m ≤ 1) ∧ (∀ f, f < wnF W → gvn W N (wfR W f) (wfM W f) ∧ kd (wfR W f) = 8 ∧ wfM W f ≤ 2) ∧ (∀ n, N n → clty W N (wcT W n))
theorem lo_part {t c : Nat} (ho : okN t) (h18 : kd t ≠ 18) (hc : c ∈ fms t) : loT c ≤ loT t := by
  have hk := leaf_fms ho hc
  rw [loT_eq t]
  unfold loS loX
  rw [if_neg (by omega)]
  unfold fms at hc
  have h1 := (List.mem_filter.mp hc).1
  by_cases h8 : kd t = 8
  · rw [if_pos h8] at h1 ⊢
    exact (foldl_max 0).1 _ (List.mem_map.mpr ⟨c, h1, rfl⟩)
  · rw [if_neg h8] at h1 ⊢
    rw [if_neg h18]
    exact (foldl_max 0).1 _ (List.mem_map.mpr ⟨c, h1, rfl⟩)
theorem lv_part {t c : Nat} (ho : okN t) (hc : c ∈ fms t) : ∀ l ∈ lvT c, l ∈ lvT t := fun l hl => by
  rw [lvT_eq t, if_neg (leaf_fms ho hc)]
  exact List.mem_flatMap.mpr ⟨c, hc, hl⟩
theorem frW.part {W : Wd} {N : Nat → Prop} {t c : Nat} (h : frW W N t) (hc : c ∈ fms t) : frW W N c := h.sub (sub_c hc (sub_rf c))
theorem closT.part {t c : Nat} (h : closT t) (ho : okN t) (h18 : kd t ≠ 18) (hc : c ∈ fms t) : closT c :=
  ⟨by have := lo_part ho h18 hc; have := h.1; omega, fun l hl => h.2 l (lv_part ho hc l hl)⟩
theorem cltm.k {W : Wd} {N : Nat → Prop} {t : Nat} (h : cltm W N t) : kd t = 1 ∨ kd t = 4 ∨ kd t = 5 := by
  obtain ⟨⟨ho, h0⟩, h1, h2, h3⟩ := h
  unfold isTm at h1
  have h3' : kd t ≠ 3 := fun q => by
    have := h3 t (by rw [lvT_eq, if_pos (by omega)]; exact List.mem_cons_self) q
    omega
  have h2' : kd t ≠ 2 := fun q => by
    rw [loT_eq] at h2
    unfold loS at h2
    rw [if_pos q] at h2
    omega
  omega
/-- the arguments of a functor's term -/
theorem fun_part {W : Wd} {N : Nat → Prop} {t i : Nat} (h : cltm W N t) (h4 : kd t = 4) (hi : i < (ps t).length) : cltm W N (pa t i) ∧ pa t i ∈ fms t := by
  obtain ⟨hf, h1, h2⟩ := h
  have hg := pa_get hi
  have hall : ∀ c ∈ ps t, isTm c := by
    rcases hf.1.n.2 with q | q | q | q | q | q | q | q | q | q | q | q | q | q <;> first | omega | exact q.2.2
  have ht := hall _ (List.mem_of_getElem? hg)
  have hm : pa t i ∈ fms t := fms_at.mpr ⟨i, Or.inl (by omega), hg, isTm_pos ht⟩
  exact ⟨⟨hf.part hm, ht, h2.part hf.1.n (by omega) hm⟩, hm⟩
theorem the_part {W : Wd} {N : Nat → Prop} {t : Nat} (h : cltm W N t) (h5 : kd t = 5) : clty W N (pa t 0) ∧ pa t 0 ∈ fms t ∧ ps t = [pa t 0] := by
  obtain ⟨hf, h1, h2⟩ := h
  obtain ⟨y, hy, h8⟩ : ∃ y, ps t = [y] ∧ kd y = 8 := by
    rcases hf.1.n.2 with q | q | q | q | q | q | q | q | q | q | q | q | q | q <;> first | omega | exact q.2.2
  have e : pa t 0 = y := pa_at (by rw [hy]; rfl)
  rw [e]
  have hm : y ∈ fms t := fms_at.mpr ⟨0, Or.inr rfl, by rw [hy]; rfl, fun q => by rw [q, kd0] at h8; omega⟩
  exact ⟨⟨hf.part hm, h8, h2.part hf.1.n (by omega) hm⟩, hm, hy⟩
theorem type_part {W : Wd} {N : Nat → Prop} {y : Nat} (h : clty W N y) : 1 ≤ (ps y).length ∧ (pa y 0 ≠ 0 → cltm W N (pa y 0) ∧ pa y 0 ∈ fms y) := by
  obtain ⟨hf, h8, h2⟩ := h
  obtain ⟨a, js, hy, ha⟩ : ∃ a js, ps y = a :: js ∧ (a = 0 ∨ isTm a) := by
    rcases hf.1.n.2 with q | q | q | q | q | q | q | q | q | q | q | q | q | q <;> try omega
    obtain ⟨_, a, js, q, q1, _⟩ := q
    exact ⟨a, js, q, q1⟩
  have e : pa y 0 = a := pa_at (by rw [hy]; rfl)
  rw [e]
  refine ⟨by rw [hy]; simp, fun h0 => ?_⟩
  have ht := ha.resolve_left h0
  have hm : a ∈ fms y := fms_at.mpr ⟨0, Or.inr rfl, by rw [hy]; rfl, h0⟩
  exact ⟨⟨hf.part hm, ht, h2.part hf.1.n (by omega) hm⟩, hm⟩
/-- what comes of a given form by terms for its loci -/
theorem loc_ok {W : Wd} {N : Nat → Prop} {y n a b d : Nat} (hg : gvn W N y n) (hn : n ≤ 2) (ha : 0 < n → cltm W N a) (hb : 1 < n → cltm W N b) : frW W N (sbT (locg a b) d y) ∧ closT (sbT (locg a b) d y) ∧ gOn (locg a b) y ∧ locOK a b y := by
  obtain ⟨hf, hv, hl, hz⟩ := hg
  have key : ∀ c ∈ lvT y, ∀ d', isTm (locg a b d' c) ∧ frW W N (locg a b d' c) ∧ loT (locg a b d' c) ≤ loT c ∧ ∀ l ∈ lvT (locg a b d' c), kd l ≠ 3 := fun c hc d' => by
    have hok := lv_ok y hf.1 c hc
    unfold locg
    by_cases h3 : kd c = 3
    · have hw := hv c hc h3
      rw [if_pos h3]
      by_cases h0 : wh c = 0
      · have ha' := ha (by omega)
        rw [if_pos h0]
        exact ⟨ha'.2.1, ha'.1, by have := ha'.2.2.1; omega, fun l hl q => by have := ha'.2.2.2 l hl q; omega⟩
      · have hb' := hb (by omega)
        rw [if_neg h0]
        exact ⟨hb'.2.1, hb'.1, by have := hb'.2.2.1; omega, fun l hl q => by have := hb'.2.2.2 l hl q; omega⟩
    · rw [if_neg h3]
      refine ⟨hok.2.2, hf.sub (lv_sb0 y hc).1, Nat.le_refl _, fun l hl q => ?_⟩
      rw [lvT_eq, if_pos hok.2.1] at hl
      have := List.mem_singleton.mp hl
      exact h3 (by rw [← this]; exact q)
  refine ⟨frW_sb hf (fun c hc d' => ⟨(key c hc d').1, (key c hc d').2.1⟩), ⟨?_, fun l hl q => ?_⟩, fun c hc d' => ⟨(key c hc d').1, (key c hc d').2.1.1⟩, fun c hc h3 => ⟨fun h0 => ?_, fun h0 => ?_⟩⟩
  · have := lo_sb y (g := locg a b) (d := d) hf.1 (fun c hc d' => (key c hc d').2.2.1)
    omega
  · obtain ⟨c, d', z1, z2⟩ := lv_sb y hl
    exact absurd q ((key c z1 d').2.2.2 l z2)
  · have hw := hv c hc h3
    have ha' := ha (by omega)
    exact ⟨ha'.1.1, ha'.2.1⟩
  · have hw := hv c hc h3
    have hb' := hb (by omega)
    exact ⟨hb'.1.1, hb'.2.1⟩
theorem ty_ok {W : Wd} {N : Nat → Prop} (hW : WOK W N) {t : Nat} (h : cltm W N t) : clty W N (tyT W t) := by
  unfold tyT
  rcases h.k with q | q | q
  · rw [if_pos q]
    exact hW.2.2.2 _ (h.1.lc.1 q)
  · rw [if_neg (by omega), if_pos q]
    obtain ⟨f1, f2⟩ := h.1.lc.2.1 q
    obtain ⟨g1, g2, g3⟩ := hW.2.2.1 _ f1
    have := loc_ok (d := 0) g1 g3 (fun z => (fun_part h q (i := 0) (by omega)).1) (fun z => (fun_part h q (i := 1) (by omega)).1)
    exact ⟨this.1, by rw [(sb_kd (by omega)).1]; exact g2, this.2.1⟩
  · rw [if_neg (by omega), if_neg (by omega)]
    exact (the_part h q).1
theorem pa_ok {W : Wd} {N : Nat → Prop} (hW : WOK W N) {y : Nat} (h : clty W N y) (h0 : wh y ≠ 0) : clty W N (paT W y) ∧ wh (paT W y) < wh y := by
  unfold paT
  rw [if_neg h0]
  obtain ⟨f1, f2, f3⟩ := h.1.lc.2.2.1 h.2.1
  obtain ⟨g1, g2, g3, g4⟩ := hW.2.1 _ (by omega) f1
  have := loc_ok (b := 0) (d := 0) g1 (by omega) (fun z => ((type_part h).2 (fun q => by have := f2.mp q; omega)).1) (fun z => by omega)
  exact ⟨⟨this.1, by rw [(sb_kd (by omega)).1]; exact g2, this.2.1⟩, by rw [(sb_kd (by omega)).2.1]; exact g3⟩
theorem ty_pos {W : Wd} {N : Nat → Prop} {y : Nat} (h : clty W N y) : y ≠ 0 := fun q => by have := h.2.1; rw [q, kd0] at this; omega
theorem chT_st {W : Wd} {N : Nat → Prop} (hW : WOK W N) : ∀ (n m y : Nat), clty W N y → wh y < n → wh y < m → chT W n y = chT W m y := by
  intro n
  induction n with
  | zero => intro m y _ h; omega
  | succ n ih =>
    intro m y hy hn hm
    obtain ⟨m, rfl⟩ : ∃ m', m = m' + 1 := ⟨m - 1, by omega⟩
    rw [chT, chT, if_neg (ty_pos hy), if_neg (ty_pos hy)]
    by_cases h0 : wh y = 0
    · have e : paT W y = 0 := by unfold paT; rw [if_pos h0]
      rw [e]
      have z : ∀ k, chT W k 0 = [] := fun k => by cases k with
        | zero => rfl
        | succ k => rw [chT, if_pos rfl]
      rw [z, z]
    · obtain ⟨p1, p2⟩ := pa_ok hW hy h0
      rw [ih m (paT W y) p1 (by omega) (by omega)]
theorem up_eq {W : Wd} {N : Nat → Prop} (hW : WOK W N) {y : Nat} (hy : clty W N y) : upT W y = y :: (if wh y = 0 then [] else upT W (paT W y)) := by
  unfold upT
  rw [chT, if_neg (ty_pos hy)]
  by_cases h0 : wh y = 0
  · rw [if_pos h0, h0]; rfl
  · obtain ⟨p1, p2⟩ := pa_ok hW hy h0
    rw [if_neg h0, chT_st hW _ (wh (paT W y) + 1) _ p1 p2 (by omega)]
theorem up_cl {W : Wd} {N : Nat → Prop} (hW : WOK W N) : ∀ (n y : Nat), wh y < n → clty W N y → ∀ z ∈ upT W y, clty W N z ∧ wh z ≤ wh y := by
  intro n
  induction n with
  | zero => intro y h; omega
  | succ n ih =>
    intro y hn hy z hz
    rw [up_eq hW hy] at hz
    rcases List.mem_cons.mp hz with q | q
    · rw [q]; exact ⟨hy, Nat.le_refl _⟩
    · by_cases h0 : wh y = 0
      · rw [if_pos h0] at q; cases q
      · rw [if_neg h0] at q
        obtain ⟨p1, p2⟩ := pa_ok hW hy h0
        have := ih _ (by omega) p1 z q
        exact ⟨this.1, by omega⟩
/-- a type has a mode (with a term) -/
def hasT (W : Wd) (y m a : Nat) : Prop := ∃ z ∈ upT W y, wh z = m ∧ pa z 0 = a
theorem has_eq {W : Wd} {N : Nat → Prop} (hW : WOK W N) {y : Nat} (hy : clty W N y) (m a : Nat) : hasT W y m a ↔ (wh y = m ∧ pa y 0 = a) ∨ (wh y ≠ 0 ∧ hasT W (paT W y) m a) := by
  unfold hasT
  rw [up_eq hW hy]
  by_cases h0 : wh y = 0
  · rw [if_pos h0]
    constructor
    · rintro ⟨z, hz, h⟩
      rw [List.mem_singleton.mp hz] at h; exact Or.inl h
    · rintro (h | ⟨h, _⟩)
      · exact ⟨y, List.mem_cons_self, h⟩
      · exact absurd h0 h
  · rw [if_neg h0]
    constructor
    · rintro ⟨z, hz, h⟩
      rcases List.mem_cons.mp hz with q | q
      · rw [q] at h; exact Or.inl h
      · exact Or.inr ⟨h0, z, q, h⟩
    · rintro (h | ⟨_, z, hz, h⟩)
      · exact ⟨y, List.mem_cons_self, h⟩
      · exact ⟨z, List.mem_cons_of_mem _ hz, h⟩
theorem has_set {W : Wd} {N : Nat → Prop} (hW : WOK W N) : ∀ (n y : Nat), wh y < n → clty W N y → hasT W y 0 0 := by
  intro n
  induction n with
  | zero => intro y h; omega
  | succ n ih =>
    intro y hn hy
    rw [has_eq hW hy]
    by_cases h0 : wh y = 0
    · refine Or.inl ⟨h0, ?_⟩
      have := (hy.1.lc.2.2.1 hy.2.1).2.1
      rw [h0] at this
      exact this.mpr hW.1
    · obtain ⟨p1, p2⟩ := pa_ok hW hy h0
      exact Or.inr ⟨h0, ih _ (by omega) p1⟩
