/-! what there is, and the types of terms, over trees -/
abbrev Wd := (Nat → Nat → Nat) × (Nat → Nat)
def wcT (W : Wd) (i : Nat) : Nat := W.1 0 i
def wmP (W : Wd) (i : Nat) : Nat := W.1 1 i
def wmH (W : Wd) (i : Nat) : Nat := W.1 2 i
def wfM (W : Wd) (i : Nat) : Nat := W.1 3 i
def wfR (W : Wd) (i : Nat) : Nat := W.1 4 i
def wpM (W : Wd) (i : Nat) : Nat := W.1 5 i
def wgS (W : Wd) (i : Nat) : Nat := W.1 6 i
def wgO (W : Wd) (i : Nat) : Nat := W.1 7 i
def wgA (W : Wd) (i : Nat) : Nat := W.1 8 i
def wgB (W : Wd) (i : Nat) : Nat := W.1 9 i
def wgV (W : Wd) (i : Nat) : Nat := W.1 10 i
def wnM (W : Wd) : Nat := W.2 0
def wnF (W : Wd) : Nat := W.2 1
def wnP (W : Wd) : Nat := W.2 2
def wnA (W : Wd) : Nat := W.2 3
def wnG (W : Wd) : Nat := W.2 4
/-- the i-th part, or 0 -/
def pa (t i : Nat) : Nat := ((ps t)[i]?).getD 0
def adjT (y : Nat) : List Nat := (ps y).drop 1
theorem pa_at {t i c : Nat} (h : (ps t)[i]? = some c) : pa t i = c := by unfold pa; rw [h]; rfl
theorem pa_get {t i : Nat} (h : i < (ps t).length) : (ps t)[i]? = some (pa t i) := by unfold pa; rw [List.getElem?_eq_getElem h]; rfl
theorem pa_out {t i : Nat} (h : (ps t).length ≤ i) : pa t i = 0 := by unfold pa; rw [List.getElem?_eq_none h]; rfl
/-- the type of a term -/
def tyT (W : Wd) (t : Nat) : Nat := if kd t = 1 then wcT W (wh t) else if kd t = 4 then sbT (locg (pa t 0) (pa t 1)) 0 (wfR W (wh t)) else pa t 0
/-- the parent of a type; 0: it is set -/
def paT (W : Wd) (y : Nat) : Nat := if wh y = 0 then 0 else sbT (locg (pa y 0) 0) 0 (wmP W (wh y))
def chT (W : Wd) : Nat → Nat → List Nat
  | 0, _ => []
  | n + 1, y => if y = 0 then [] else y :: chT W n (paT W y)
/-- a type and its parents -/
def upT (W : Wd) (y : Nat) : List Nat := chT W (wh y + 1) y
/-- a node says what there is -/
def lcW (W : Wd) (N : Nat → Prop) (s : Nat) : Prop := (kd s = 1 → N (wh s)) ∧ (kd s = 4 → wh s < wnF W ∧ (ps s).length = wfM W (wh s)) ∧ (kd s = 8 → wh s < wnM W ∧ (pa s 0 = 0 ↔ wmH W (wh s) = 0) ∧ ∀ j ∈ adjT s, j < 2 * wnA W) ∧ (kd s = 12 → wh s < wnP W ∧ (ps s).length = wpM W (wh s)) ∧ (kd s = 13 → wh s < wnA W) ∧ (kd s = 14 → 0 < wh s ∧ wh s < wnM W ∧ (pa s 0 = 0 ↔ wmH W (wh s) = 0))
def frW (W : Wd) (N : Nat → Prop) (t : Nat) : Prop := okT t ∧ ∀ s, subT s t → lcW W N s
/-- only loci below n -/
def lvL (t n : Nat) : Prop := ∀ l ∈ lvT t, kd l = 3 → wh l < n
def closT (t : Nat) : Prop := loT t = 0 ∧ lvL t 0
theorem sub_rf (t : Nat) : subT t t := by rw [subT_eq]; exact Or.inl rfl
theorem sub_c {s t c : Nat} (hc : c ∈ fms t) (h : subT s c) : subT s t := by rw [subT_eq]; exact Or.inr ⟨c, hc, h⟩
theorem sub_tr : ∀ (t : Nat) {s r : Nat}, subT s r → subT r t → subT s t := by
  intro t
  induction t using Nat.strongRecOn with
  | ind t ih =>
    intro s r h1 h2
    rw [subT_eq] at h2
    rcases h2 with q | ⟨c, hc, q⟩
    · rw [← q]; exact h1
    · exact sub_c hc (ih c (fms_lt hc) h1 q)
theorem sub_ok : ∀ (t : Nat) {s : Nat}, okT t → subT s t → okT s := by
  intro t
  induction t using Nat.strongRecOn with
  | ind t ih =>
    intro s ho h
    rw [subT_eq] at h
    rcases h with q | ⟨c, hc, q⟩
    · rw [q]; exact ho
    · exact ih c (fms_lt hc) (ho.c hc) q
theorem frW.sub {W : Wd} {N : Nat → Prop} {s t : Nat} (h : frW W N t) (hs : subT s t) : frW W N s := ⟨sub_ok t h.1 hs, fun r hr => h.2 r (sub_tr t hr hs)⟩
theorem frW.lc {W : Wd} {N : Nat → Prop} {t : Nat} (h : frW W N t) : lcW W N t := h.2 t (sub_rf t)
/-- the form parts of what came to be -/
theorem fms_sb {g : Nat → Nat → Nat} {d t c' : Nat} (hk : ¬ kd t ≤ 3) (h : c' ∈ fms (sbT g d t)) : ∃ c ∈ fms t, ∃ i, (ps t)[i]? = some c ∧ (kd t ≠ 8 ∨ i = 0) ∧ c' = sbT g (if kd t = 18 ∧ 0 < i then d + 1 else d) c := by
  obtain ⟨e1, e2, e3⟩ := sb_kd (g := g) (d := d) hk
  obtain ⟨i, h8, hi, h0⟩ := fms_at.mp h
  rw [e1] at h8
  rw [e3] at hi
  have hil : i < (ps t).length := by
    have := (List.getElem?_eq_some_iff.mp hi).1
    rw [chm_len] at this; exact this
  obtain ⟨c, hc⟩ : ∃ c, (ps t)[i]? = some c := ⟨_, List.getElem?_eq_getElem hil⟩
  rw [chm_at hc] at hi
  have h8' : ¬ (kd t = 8 ∧ 0 < i) := fun q => by rcases h8 with z | z; exact z q.1; omega
  rw [if_neg h8'] at hi
  have hc0 : c ≠ 0 := fun q => by
    subst q
    by_cases h18 : kd t = 18 ∧ 0 < i
    · rw [if_pos h18] at hi; unfold zf at hi; simp at hi; exact h0 hi.symm
    · rw [if_neg h18] at hi; unfold zf at hi; simp at hi; exact h0 hi.symm
  refine ⟨c, fms_at.mpr ⟨i, h8, hc, hc0⟩, i, hc, h8, ?_⟩
  by_cases h18 : kd t = 18 ∧ 0 < i
  · rw [if_pos h18] at hi ⊢; rw [zf_pos hc0] at hi; exact (Option.some.inj hi).symm
  · rw [if_neg h18] at hi ⊢; rw [zf_pos hc0] at hi; exact (Option.some.inj hi).symm
theorem sub_sb {g : Nat → Nat → Nat} : ∀ (t : Nat) {s d : Nat}, subT s (sbT g d t) → (∃ c d', c ∈ lvT t ∧ subT s (g d' c)) ∨ ∃ c d', subT c t ∧ ¬ kd c ≤ 3 ∧ s = sbT g d' c := by
  intro t
  induction t using Nat.strongRecOn with
  | ind t ih =>
    intro s d h
    by_cases hk : kd t ≤ 3
    · rw [sbT_eq, if_pos hk] at h
      exact Or.inl ⟨t, d, by rw [lvT_eq, if_pos hk]; exact List.mem_cons_self, h⟩
    · rw [subT_eq] at h
      rcases h with q | ⟨c', hc', q⟩
      · exact Or.inr ⟨t, d, sub_rf t, hk, q⟩
      · obtain ⟨c, hc, i, _, _, e⟩ := fms_sb hk hc'
        rw [e] at q
        rcases ih c (fms_lt hc) q with ⟨l, d', hl, z⟩ | ⟨c1, d', z1, z2, z3⟩
        · exact Or.inl ⟨l, d', by rw [lvT_eq, if_neg hk]; exact List.mem_flatMap.mpr ⟨c, hc, hl⟩, z⟩
        · exact Or.inr ⟨c1, d', sub_c hc z1, z2, z3⟩
theorem lv_sb0 : ∀ (t : Nat) {l : Nat}, l ∈ lvT t → subT l t ∧ kd l ≤ 3 := by
  intro t
  induction t using Nat.strongRecOn with
  | ind t ih =>
    intro l hl
    rw [lvT_eq] at hl
    by_cases hk : kd t ≤ 3
    · rw [if_pos hk] at hl
      have := List.mem_singleton.mp hl
      rw [this]; exact ⟨sub_rf t, hk⟩
    · rw [if_neg hk] at hl
      obtain ⟨c, hc, q⟩ := List.mem_flatMap.mp hl
      have := ih c (fms_lt hc) q
      exact ⟨sub_c hc this.1, this.2⟩
/-- the leaves of what came to be -/
theorem lv_sb {g : Nat → Nat → Nat} : ∀ (t : Nat) {l d : Nat}, l ∈ lvT (sbT g d t) → ∃ c d', c ∈ lvT t ∧ l ∈ lvT (g d' c) := by
  intro t
  induction t using Nat.strongRecOn with
  | ind t ih =>
    intro l d h
    by_cases hk : kd t ≤ 3
    · rw [sbT_eq, if_pos hk] at h
      exact ⟨t, d, by rw [lvT_eq, if_pos hk]; exact List.mem_cons_self, h⟩
    · have e1 := (sb_kd (g := g) (d := d) hk).1
      rw [lvT_eq, if_neg (by rw [e1]; exact hk)] at h
      obtain ⟨c', hc', q⟩ := List.mem_flatMap.mp h
      obtain ⟨c, hc, i, _, _, e⟩ := fms_sb hk hc'
      rw [e] at q
      obtain ⟨l', d', z1, z2⟩ := ih c (fms_lt hc) q
      exact ⟨l', d', by rw [lvT_eq, if_neg hk]; exact List.mem_flatMap.mpr ⟨c, hc, z1⟩, z2⟩
theorem pa_sb {g : Nat → Nat → Nat} {d t i : Nat} (hg : gOn g t) (ho : okT t) (hk : ¬ kd t ≤ 3) (h8 : kd t ≠ 8 ∨ i = 0) : (pa (sbT g d t) i = 0 ↔ pa t i = 0) ∧ (pa t i ≠ 0 → pa (sbT g d t) i = sbT g (if kd t = 18 ∧ 0 < i then d + 1 else d) (pa t i)) := by
  obtain ⟨e1, e2, e3⟩ := sb_kd (g := g) (d := d) hk
  have h8' : ¬ (kd t = 8 ∧ 0 < i) := fun q => by rcases h8 with z | z; exact z q.1; omega
  by_cases hil : i < (ps t).length
  · have hc := pa_get hil
    have hch : (ps (sbT g d t))[i]? = some (zf (sbT g (if kd t = 18 ∧ 0 < i then d + 1 else d)) (pa t i)) := by
      rw [e3, chm_at hc, if_neg h8']
      by_cases h18 : kd t = 18 ∧ 0 < i
      · rw [if_pos h18, if_pos h18]
      · rw [if_neg h18, if_neg h18]
    rw [pa_at hch]
    by_cases h0 : pa t i = 0
    · rw [h0]
      unfold zf
      simp
    · rw [zf_pos h0]
      have hm : pa t i ∈ fms t := fms_at.mpr ⟨i, h8, hc, h0⟩
      have hok := okT_sb (pa t i) (ho.c hm) (hg.c hk hm) (if kd t = 18 ∧ 0 < i then d + 1 else d)
      refine ⟨⟨fun q => ?_, fun q => absurd q h0⟩, fun _ => rfl⟩
      rw [q] at hok
      have := okN_kd hok.n
      unfold isTm isFo at this
      rw [kd0] at this
      omega
  · have o1 := pa_out (t := t) (i := i) (by omega)
    have o2 := pa_out (t := sbT g d t) (i := i) (by rw [e3, chm_len]; omega)
    rw [o1, o2]
    exact ⟨Iff.rfl, fun q => absurd rfl q⟩
theorem adj_sb {g : Nat → Nat → Nat} {d t : Nat} (h8 : kd t = 8) : adjT (sbT g d t) = adjT t := by
  unfold adjT
  rw [(sb_kd (g := g) (d := d) (t := t) (by omega)).2.2]
  unfold chm
  rw [if_pos h8]
  cases ps t with
  | nil => rfl
  | cons a l => simp
theorem lcW_sb {W : Wd} {N : Nat → Prop} {g : Nat → Nat → Nat} {d t : Nat} (hg : gOn g t) (ho : okT t) (hk : ¬ kd t ≤ 3) (h : lcW W N t) : lcW W N (sbT g d t) := by
  obtain ⟨e1, e2, e3⟩ := sb_kd (g := g) (d := d) hk
  obtain ⟨h1, h2, h3, h4, h5, h6⟩ := h
  have el : (ps (sbT g d t)).length = (ps t).length := by rw [e3, chm_len]
  unfold lcW
  rw [e1, e2, el]
  refine ⟨fun q => by omega, h2, fun q => ?_, h4, h5, fun q => ?_⟩
  · rw [(pa_sb (i := 0) (d := d) hg ho hk (Or.inr rfl)).1, adj_sb q]; exact h3 q
  · rw [(pa_sb (i := 0) (d := d) hg ho hk (Or.inr rfl)).1]; exact h6 q
theorem leaf_ps {t : Nat} (h : okN t) (hk : kd t ≤ 3) : ps t = [] := by
  rcases h.2 with q | q | q | q | q | q | q | q | q | q | q | q | q | q <;> try omega
  · exact q.2
  · exact q.2
  · exact q.2.1
theorem leaf_fms {t c : Nat} (h : okN t) (hc : c ∈ fms t) : ¬ kd t ≤ 3 := fun hk => by
  have := (fms_ps hc).1
  rw [leaf_ps h hk] at this
  cases this
theorem gOn.sub {g : Nat → Nat → Nat} : ∀ (t : Nat) {c : Nat}, okT t → gOn g t → subT c t → gOn g c := by
  intro t
  induction t using Nat.strongRecOn with
  | ind t ih =>
    intro c ho hg h
    rw [subT_eq] at h
    rcases h with q | ⟨c1, hc, q⟩
    · rw [q]; exact hg
    · exact ih c1 (fms_lt hc) (ho.c hc) (hg.c (leaf_fms ho.n hc) hc) q
theorem frW_sb {W : Wd} {N : Nat → Prop} {g : Nat → Nat → Nat} {d t : Nat} (h : frW W N t) (hg : ∀ c ∈ lvT t, ∀ d', isTm (g d' c) ∧ frW W N (g d' c)) : frW W N (sbT g d t) := by
  have hgo : gOn g t := fun c hc d' => ⟨(hg c hc d').1, (hg c hc d').2.1⟩
  refine ⟨okT_sb t h.1 hgo d, fun s hs => ?_⟩
  rcases sub_sb t hs with ⟨c, d', hc, q⟩ | ⟨c, d', z1, z2, z3⟩
  · exact (hg c hc d').2.2 s q
  · rw [z3]
    exact lcW_sb (hgo.sub t h.1 z1) (sub_ok t h.1 z1) z2 (h.2 c z1)
theorem loX_le {f f' : Nat → Nat} {k : Nat} {l l' : List Nat} (hl : l'.length = l.length) (h : ∀ (i c : Nat), l[i]? = some c → ∃ c', l'[i]? = some c' ∧ f' c' ≤ f c) : loX f' k l' ≤ loX f k l := by
  have mono : ∀ {m m' : List Nat}, m'.length = m.length → (∀ (i c : Nat), m[i]? = some c → ∃ c', m'[i]? = some c' ∧ f' c' ≤ f c) → (m'.map f').foldl max 0 ≤ (m.map f).foldl max 0 := fun {m m'} hm hq => by
    have key : ∀ (x : List Nat) (a b : Nat), a ≤ b → (∀ z ∈ x, z ≤ b) → x.foldl max a ≤ b := by
      intro x
      induction x with
      | nil => exact fun a b hab _ => hab
      | cons y x ih =>
        intro a b hab hz
        rw [List.foldl_cons]
        have := hz y List.mem_cons_self
        exact ih _ b (by omega) (fun z q => hz z (List.mem_cons_of_mem _ q))
    refine key _ 0 _ (Nat.zero_le _) (fun z hz => ?_)
    obtain ⟨c', hc', e⟩ := List.mem_map.mp hz
    obtain ⟨i, hi⟩ := List.getElem?_of_mem hc'
    have hil : i < m.length := by have := (List.getElem?_eq_some_iff.mp hi).1; omega
    obtain ⟨c2, h2, h3⟩ := hq i _ (List.getElem?_eq_getElem hil)
    rw [hi] at h2
    have := Option.some.inj h2
    have h4 := (foldl_max (l := m.map f) 0).1 _ (List.mem_map.mpr ⟨m[i], List.getElem_mem hil, rfl⟩)
    rw [← e, this]; omega
  have htk : ((l'.take 1).map f').foldl max 0 ≤ ((l.take 1).map f).foldl max 0 := mono (by rw [List.length_take, List.length_take, hl]) (fun i c hi => by
    by_cases h1 : i < 1
    · rw [List.getElem?_take_of_lt h1] at hi ⊢
      exact h i c hi
    · rw [List.getElem?_eq_none (by rw [List.length_take]; omega)] at hi
      cases hi)
  have hdr : ((l'.drop 1).map f').foldl max 0 ≤ ((l.drop 1).map f).foldl max 0 := mono (by rw [List.length_drop, List.length_drop, hl]) (fun i c hi => by
    rw [List.getElem?_drop] at hi ⊢
    exact h _ c hi)
  have hal := mono hl h
  unfold loX
  split
  · exact htk
  · split
    · omega
    · exact hal
theorem lo_sb {g : Nat → Nat → Nat} : ∀ (t : Nat) {d : Nat}, okT t → (∀ c ∈ lvT t, ∀ d', loT (g d' c) ≤ loT c) → loT (sbT g d t) ≤ loT t := by
  intro t
  induction t using Nat.strongRecOn with
  | ind t ih =>
    intro d ho h
    by_cases hk : kd t ≤ 3
    · rw [sbT_eq, if_pos hk]
      exact h t (by rw [lvT_eq, if_pos hk]; exact List.mem_cons_self) d
    · obtain ⟨e1, e2, e3⟩ := sb_kd (g := g) (d := d) hk
      rw [loT_eq (sbT g d t), loT_eq t]
      unfold loS
      rw [e1, if_neg (by omega), if_neg (by omega), e3]
      have hz : ∀ c, (c ≠ 0 → c ∈ fms t) → ∀ d', loT (zf (sbT g d') c) ≤ loT c := fun c hc d' => by
        unfold zf
        split
        · rw [loT0]; omega
        · rename_i q
          exact ih c (fms_lt (hc q)) (ho.c (hc q)) (fun l hl d2 => h l (by rw [lvT_eq, if_neg hk]; exact List.mem_flatMap.mpr ⟨c, hc q, hl⟩) d2)
      by_cases h8 : kd t = 8
      · unfold loX chm
        rw [if_pos h8, if_pos h8, if_pos h8]
        cases hps : ps t with
        | nil => simp
        | cons a l =>
          have := hz a (fun q => fms_at.mpr ⟨0, Or.inr rfl, by rw [hps]; rfl, q⟩) d
          simp
          omega
      · refine loX_le chm_len (fun i c hi => ⟨_, chm_at hi, ?_⟩)
        rw [if_neg (fun q => h8 q.1)]
        by_cases h18 : kd t = 18 ∧ 0 < i
        · rw [if_pos h18]; exact hz c (fun q => fms_at.mpr ⟨i, Or.inl h8, hi, q⟩) _
        · rw [if_neg h18]; exact hz c (fun q => fms_at.mpr ⟨i, Or.inl h8, hi, q⟩) _
