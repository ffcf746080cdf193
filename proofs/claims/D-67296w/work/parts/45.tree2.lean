/-! functions over trees -/
def rcF {α : Type} (st : (Nat → α) → Nat → α) (z : α) : Nat → Nat → α
  | 0, _ => z
  | n + 1, t => st (rcF st z n) t
def rcT {α : Type} (st : (Nat → α) → Nat → α) (z : α) (t : Nat) : α := rcF st z (t + 1) t
theorem rcF_st {α : Type} {st : (Nat → α) → Nat → α} {z : α} (h : ∀ f f' t, (∀ c ∈ ps t, f c = f' c) → st f t = st f' t) : ∀ (t n m : Nat), t < n → t < m → rcF st z n t = rcF st z m t := by
  intro t
  induction t using Nat.strongRecOn with
  | ind t ih =>
    intro n m hn hm
    obtain ⟨n, rfl⟩ : ∃ n', n = n' + 1 := ⟨n - 1, by omega⟩
    obtain ⟨m, rfl⟩ : ∃ m', m = m' + 1 := ⟨m - 1, by omega⟩
    rw [rcF, rcF]
    refine h _ _ t (fun c hc => ?_)
    have := ps_lt hc
    exact ih c this n m (by omega) (by omega)
theorem rc_eq {α : Type} {st : (Nat → α) → Nat → α} {z : α} (h : ∀ f f' t, (∀ c ∈ ps t, f c = f' c) → st f t = st f' t) (t : Nat) : rcT st z t = st (rcT st z) t := by
  unfold rcT
  rw [rcF]
  refine h _ _ t (fun c hc => ?_)
  have := ps_lt hc
  exact rcF_st h c _ _ this (by omega)
/-- the parts that are forms -/
def fms (t : Nat) : List Nat := (if kd t = 8 then (ps t).take 1 else ps t).filter (fun c => decide (c ≠ 0))
theorem fms_ps {t c : Nat} (h : c ∈ fms t) : c ∈ ps t ∧ c ≠ 0 := by
  unfold fms at h
  have h2 := List.mem_filter.mp h
  refine ⟨?_, by simpa using h2.2⟩
  have h1 := h2.1
  split at h1
  · exact List.mem_of_mem_take h1
  · exact h1
theorem fms_lt {t c : Nat} (h : c ∈ fms t) : c < t := ps_lt (fms_ps h).1
def isTm (t : Nat) : Prop := kd t = 1 ∨ kd t = 2 ∨ kd t = 3 ∨ kd t = 4 ∨ kd t = 5
def isFo (t : Nat) : Prop := kd t = 9 ∨ kd t = 10 ∨ kd t = 11 ∨ kd t = 12 ∨ kd t = 13 ∨ kd t = 14 ∨ kd t = 16 ∨ kd t = 17 ∨ kd t = 18
/-- a form is put together as it should be -/
def okN (t : Nat) : Prop := t = mk (kd t) (wh t) (ps t) ∧ (
  (kd t = 1 ∧ ps t = []) ∨ (kd t = 2 ∧ ps t = []) ∨ (kd t = 3 ∧ ps t = [] ∧ wh t < 2) ∨
  (kd t = 4 ∧ (ps t).length ≤ 2 ∧ ∀ c ∈ ps t, isTm c) ∨ (kd t = 5 ∧ wh t = 0 ∧ ∃ y, ps t = [y] ∧ kd y = 8) ∨
  (kd t = 8 ∧ ∃ a js, ps t = a :: js ∧ (a = 0 ∨ isTm a) ∧ js.length ≤ 30 ∧ ∀ j ∈ js, j < 30) ∨
  (kd t = 9 ∧ wh t = 0 ∧ ps t = []) ∨ ((kd t = 10 ∨ kd t = 11) ∧ wh t = 0 ∧ ∃ a b, ps t = [a, b] ∧ isTm a ∧ isTm b) ∨
  (kd t = 12 ∧ (ps t).length ≤ 2 ∧ ∀ c ∈ ps t, isTm c) ∨ (kd t = 13 ∧ ∃ a, ps t = [a] ∧ isTm a) ∨
  (kd t = 14 ∧ ∃ a b, ps t = [a, b] ∧ (a = 0 ∨ isTm a) ∧ isTm b) ∨
  (kd t = 16 ∧ wh t = 0 ∧ ∃ f, ps t = [f] ∧ isFo f ∧ kd f ≠ 16) ∨
  (kd t = 17 ∧ wh t = 0 ∧ 2 ≤ (ps t).length ∧ ∀ f ∈ ps t, isFo f ∧ kd f ≠ 17 ∧ f ≠ yesT ∧ f ≠ noT) ∨
  (kd t = 18 ∧ wh t = 0 ∧ ∃ y f, ps t = [y, f] ∧ kd y = 8 ∧ isFo f ∧ f ≠ yesT))
theorem kd0 : kd 0 = 0 := by decide
theorem ps0 : ps 0 = [] := by decide
theorem isTm_pos {t : Nat} (h : isTm t) : t ≠ 0 := fun e => by subst e; unfold isTm at h; rw [kd0] at h; omega
theorem isFo_pos {t : Nat} (h : isFo t) : t ≠ 0 := fun e => by subst e; unfold isFo at h; rw [kd0] at h; omega
def okS (f : Nat → Prop) (t : Nat) : Prop := okN t ∧ ∀ c ∈ fms t, f c
theorem okS_c : ∀ (f f' : Nat → Prop) (t : Nat), (∀ c ∈ ps t, f c = f' c) → okS f t = okS f' t := fun f f' t h => by
  unfold okS
  refine propext ⟨fun ⟨a, b⟩ => ⟨a, fun c hc => ?_⟩, fun ⟨a, b⟩ => ⟨a, fun c hc => ?_⟩⟩
  · rw [← h c (fms_ps hc).1]; exact b c hc
  · rw [h c (fms_ps hc).1]; exact b c hc
def okT (t : Nat) : Prop := rcT okS False t
theorem okT_eq (t : Nat) : okT t = (okN t ∧ ∀ c ∈ fms t, okT c) := rc_eq okS_c t
theorem okT.n {t : Nat} (h : okT t) : okN t := by rw [okT_eq] at h; exact h.1
theorem okT.c {t c : Nat} (h : okT t) (hc : c ∈ fms t) : okT c := by rw [okT_eq] at h; exact h.2 c hc
/-- how many binders around are spoken of -/
def loX (f : Nat → Nat) (k : Nat) (l : List Nat) : Nat := if k = 8 then ((l.take 1).map f).foldl max 0 else if k = 18 then max (((l.take 1).map f).foldl max 0) ((((l.drop 1).map f).foldl max 0) - 1) else (l.map f).foldl max 0
def loS (f : Nat → Nat) (t : Nat) : Nat := if kd t = 2 then wh t + 1 else loX f (kd t) (ps t)
theorem loX_c {f f' : Nat → Nat} {k : Nat} {l : List Nat} (h : ∀ c ∈ l, f c = f' c) : loX f k l = loX f' k l := by
  unfold loX
  have h1 : (l.take 1).map f = (l.take 1).map f' := List.map_congr_left fun c hc => h c (List.mem_of_mem_take hc)
  have h2 : (l.drop 1).map f = (l.drop 1).map f' := List.map_congr_left fun c hc => h c (List.mem_of_mem_drop hc)
  have h3 : l.map f = l.map f' := List.map_congr_left h
  rw [h1, h2, h3]
def loT (t : Nat) : Nat := rcT loS 0 t
theorem loT_eq (t : Nat) : loT t = loS loT t := rc_eq (fun f f' t h => by unfold loS; rw [loX_c h]) t
def szS (f : Nat → Nat) (t : Nat) : Nat := if t = 0 then 0 else if kd t = 8 then 1 + ((ps t).take 1 |>.map f).sum + ((ps t).drop 1).length else 1 + ((ps t).map f).sum
def szT (t : Nat) : Nat := rcT szS 0 t
theorem szT_eq (t : Nat) : szT t = szS szT t := rc_eq (fun f f' t h => by
  unfold szS
  have h1 : ((ps t).take 1).map f = ((ps t).take 1).map f' := List.map_congr_left fun c hc => h c (List.mem_of_mem_take hc)
  have h3 : (ps t).map f = (ps t).map f' := List.map_congr_left h
  simp only [h1, h3]) t
theorem loT0 : loT 0 = 0 := by rw [loT_eq]; unfold loS loX; rw [kd0, ps0]; rfl
theorem szT0 : szT 0 = 0 := by rw [szT_eq]; unfold szS; rw [if_pos rfl]
/-- one thing in the place of another: g says what becomes of a leaf at a depth -/
def zf (h : Nat → Nat) (c : Nat) : Nat := if c = 0 then 0 else h c
def chm (f : Nat → Nat → Nat) (k d : Nat) (l : List Nat) : List Nat := if k = 8 then (l.take 1).map (zf (f d)) ++ l.drop 1 else if k = 18 then (l.take 1).map (zf (f d)) ++ (l.drop 1).map (zf (f (d + 1))) else l.map (zf (f d))
def isLf (t : Nat) : Prop := kd t = 1 ∨ kd t = 2 ∨ kd t = 3
def sbS (g : Nat → Nat → Nat) (f : Nat → Nat → Nat) (t : Nat) : Nat → Nat := fun d => if kd t ≤ 3 then g d t else mk (kd t) (wh t) (chm (fun d c => f c d) (kd t) d (ps t))
theorem chm_c {f f' : Nat → Nat → Nat} {k d : Nat} {l : List Nat} (h : ∀ c ∈ l, ∀ d, f d c = f' d c) : chm f k d l = chm f' k d l := by
  unfold chm
  have hz : ∀ d, ∀ c ∈ l, zf (f d) c = zf (f' d) c := fun d c hc => by unfold zf; rw [h c hc d]
  have h1 : ∀ d, (l.take 1).map (zf (f d)) = (l.take 1).map (zf (f' d)) := fun d => List.map_congr_left fun c hc => hz d c (List.mem_of_mem_take hc)
  have h2 : ∀ d, (l.drop 1).map (zf (f d)) = (l.drop 1).map (zf (f' d)) := fun d => List.map_congr_left fun c hc => hz d c (List.mem_of_mem_drop hc)
  have h3 : l.map (zf (f d)) = l.map (zf (f' d)) := List.map_congr_left (hz d)
  rw [h1, h2, h3]
def sbT (g : Nat → Nat → Nat) (d t : Nat) : Nat := rcT (sbS g) (fun _ => 0) t d
theorem sbT_eq (g : Nat → Nat → Nat) (d t : Nat) : sbT g d t = if kd t ≤ 3 then g d t else mk (kd t) (wh t) (chm (sbT g) (kd t) d (ps t)) := by
  unfold sbT
  rw [rc_eq (fun f f' t h => by
    unfold sbS
    funext d
    rw [chm_c (f' := fun d c => f' c d) (fun c hc d => by show f c d = f' c d; rw [h c hc])]) t]
  rfl
theorem chm_len {f : Nat → Nat → Nat} {k d : Nat} {l : List Nat} : (chm f k d l).length = l.length := by
  unfold chm
  split
  · rw [List.length_append, List.length_map, ← List.length_append, List.take_append_drop]
  · split
    · rw [List.length_append, List.length_map, List.length_map, ← List.length_append, List.take_append_drop]
    · rw [List.length_map]
/-- the leaves of a form -/
def lvS (f : Nat → List Nat) (t : Nat) : List Nat := if kd t ≤ 3 then [t] else (fms t).flatMap f
def lvT (t : Nat) : List Nat := rcT lvS [] t
theorem flatMap_c {f f' : Nat → List Nat} : ∀ {l : List Nat}, (∀ c ∈ l, f c = f' c) → l.flatMap f = l.flatMap f'
  | [], _ => rfl
  | a :: l, h => by
    rw [List.flatMap_cons, List.flatMap_cons, h a List.mem_cons_self, flatMap_c (fun c hc => h c (List.mem_cons_of_mem _ hc))]
theorem lvT_eq (t : Nat) : lvT t = if kd t ≤ 3 then [t] else (fms t).flatMap lvT := rc_eq (fun f f' t h => by
  unfold lvS
  rw [flatMap_c (fun c hc => h c (fms_ps hc).1)]) t
/-- what a leaf of t becomes is a term -/
def gOn (g : Nat → Nat → Nat) (t : Nat) : Prop := ∀ c ∈ lvT t, ∀ d, isTm (g d c) ∧ okT (g d c)
theorem gOn.c {g : Nat → Nat → Nat} {t c : Nat} (h : gOn g t) (hk : ¬ kd t ≤ 3) (hc : c ∈ fms t) : gOn g c := fun x hx d => h x (by
  rw [lvT_eq, if_neg hk]
  exact List.mem_flatMap.mpr ⟨c, hc, hx⟩) d
theorem gOn.l {g : Nat → Nat → Nat} {t : Nat} (h : gOn g t) (hk : kd t ≤ 3) (d : Nat) : isTm (g d t) ∧ okT (g d t) := h t (by rw [lvT_eq, if_pos hk]; exact List.mem_cons_self) d
/-- the height of a form -/
def htT (t : Nat) : Nat := rcT (fun f t => 1 + ((fms t).map f).foldl max 0) 0 t
theorem htT_eq (t : Nat) : htT t = 1 + ((fms t).map htT).foldl max 0 := rc_eq (fun f f' t h => by
  have : (fms t).map f = (fms t).map f' := List.map_congr_left fun c hc => h c (fms_ps hc).1
  show 1 + ((fms t).map f).foldl max 0 = 1 + ((fms t).map f').foldl max 0
  rw [this]) t
theorem okN_kd {t : Nat} (h : okN t) : isTm t ∨ kd t = 8 ∨ isFo t := by
  unfold isTm isFo
  rcases h.2 with h | h | h | h | h | h | h | h | h | h | h | h | h | h <;> omega
theorem sb_kd {g : Nat → Nat → Nat} {d t : Nat} (h : ¬ kd t ≤ 3) : kd (sbT g d t) = kd t ∧ wh (sbT g d t) = wh t ∧ ps (sbT g d t) = chm (sbT g) (kd t) d (ps t) := by
  rw [sbT_eq, if_neg h]
  exact ⟨kd_mk _ _ _, wh_mk _ _ _, ps_mk _ _ _⟩
theorem sb_tm {g : Nat → Nat → Nat} {d t : Nat} (hg : gOn g t) (h : isTm t) : isTm (sbT g d t) := by
  by_cases hk : kd t ≤ 3
  · rw [sbT_eq, if_pos hk]; exact (hg.l hk d).1
  · have e := (sb_kd (g := g) (d := d) hk).1
    unfold isTm at h ⊢
    rw [e]; exact h
theorem sb_fo {g : Nat → Nat → Nat} {d t : Nat} (h : isFo t) : isFo (sbT g d t) ∧ kd (sbT g d t) = kd t := by
  have hk : ¬ kd t ≤ 3 := by unfold isFo at h; omega
  have e := (sb_kd (g := g) (d := d) hk).1
  unfold isFo at h ⊢
  rw [e]; exact ⟨h, rfl⟩
theorem yes_kd {t : Nat} (h : okN t) (h9 : kd t = 9) : t = yesT := by
  rcases h.2 with q | q | q | q | q | q | q | q | q | q | q | q | q | q <;> try omega
  rw [h.1, q.1, q.2.1, q.2.2]; rfl
theorem kd_yes : kd yesT = 9 := kd_mk _ _ _
theorem kd_no : kd noT = 16 := kd_mk _ _ _
theorem fms_mem {t c : Nat} (h : c ∈ ps t) (h8 : kd t ≠ 8) (hc : c ≠ 0) : c ∈ fms t := by
  unfold fms
  rw [if_neg h8]
  exact List.mem_filter.mpr ⟨h, by simpa using hc⟩
theorem sb_yes {g : Nat → Nat → Nat} {d t : Nat} (ho : okT t) (hf : isFo t) (h : t ≠ yesT) : sbT g d t ≠ yesT := fun e => by
  have := (sb_fo (g := g) (d := d) hf).2
  rw [e, kd_yes] at this
  exact h (yes_kd ho.n this.symm)
theorem sb_no {g : Nat → Nat → Nat} {d t : Nat} (ho : okT t) (hf : isFo t) (h : t ≠ noT) : sbT g d t ≠ noT := fun e => by
  have hk := (sb_fo (g := g) (d := d) hf).2
  rw [e, kd_no] at hk
  have hn := ho.n
  rcases hn.2 with q | q | q | q | q | q | q | q | q | q | q | q | q | q <;> try omega
  obtain ⟨q1, q2, f, q3, q4, q5⟩ := q
  have h4 : ¬ kd t ≤ 3 := by omega
  rw [sbT_eq, if_neg h4, q1, q3, q2] at e
  have e2 := (mk_inj e).2.2
  unfold chm at e2
  simp [zf, isFo_pos q4] at e2
  have fo := ho.c (fms_mem (t := t) (c := f) (by rw [q3]; exact List.mem_cons_self) (by omega) (isFo_pos q4))
  have k9 := (sb_fo (g := g) (d := d) q4).2
  rw [e2, kd_yes] at k9
  have fy := yes_kd fo.n k9.symm
  refine h ?_
  rw [hn.1, q1, q2, q3, fy]; rfl
