/-! one thing in the place of another, in the class -/
def bindg (s : Nat) : Nat → Nat → Nat := fun d t => if t = s then mk 2 d [] else t
def locg (a b : Nat) : Nat → Nat → Nat := fun _ t => if kd t = 3 then (if wh t = 0 then a else b) else t
/-- what is to be put in, by the store's own fields -/
def GM (ν : Nat → Nat) (u : Sg) (g : Nat → Nat → Nat) : Prop :=
  (gI u 15 = 0 ∧ ∃ s : Nat, gI u 17 = (s : Int) ∧ 0 < s ∧ s < nC u ∧ g = putg (trC ν u s)) ∨
  (gI u 15 = 1 ∧ ∃ s : Nat, gI u 16 = (s : Int) ∧ 0 < s ∧ s < nC u ∧ kd (trC ν u s) = 1 ∧ g = bindg (trC ν u s)) ∨
  (gI u 15 = 2 ∧ ∃ a b : Nat, gI u 18 = (a : Int) ∧ gI u 19 = (b : Int) ∧ a < nC u ∧ b < nC u ∧ g = locg (trC ν u a) (trC ν u b))
/-- the store has grown by trees of X; of the row nothing is said -/
def Ux (ν : Nat → Nat) (c : Nat) (u u' : Sg) (X : Nat → Prop) : Prop := SC ν c u' ∧ Ext (stC ν u) (stC ν u') ∧ ∀ t, ndC ν u' t → ndC ν u t ∨ X t
theorem Up.ux {ν : Nat → Nat} {c : Nat} {u u' : Sg} {X : Nat → Prop} (h : Up ν c u u' X) : Ux ν c u u' X := ⟨h.sc, h.2.2.2.1, h.2.2.2.2.1⟩
theorem Ux.n {ν : Nat → Nat} {c : Nat} {u u1 : Sg} {X : Nat → Prop} (hs : SC ν c u) (h : Ux ν c u u1 X) : nC u ≤ nC u1 := by
  have a : nC u - 1 ≤ nC u1 - 1 := h.2.1.1
  have := hs.1.1.1.2.1
  have := h.1.1.1.1.2.1
  omega
theorem Ux.tr {ν : Nat → Nat} {c : Nat} {u u1 : Sg} {X : Nat → Prop} (hs : SC ν c u) (h : Ux ν c u u1 X) {x : Nat} (hx : x < nC u) : trC ν u1 x = trC ν u x :=
  tr_ext (okp_C hs.1) (okp_C h.1.1) h.2.1 x (by show x ≤ nC u - 1; omega)
theorem Ux.nd {ν : Nat → Nat} {c : Nat} {u u1 : Sg} {X : Nat → Prop} (hs : SC ν c u) (h : Ux ν c u u1 X) {t : Nat} (ht : ndC ν u t) : ndC ν u1 t := by
  obtain ⟨x, x0, hx, e⟩ := ht
  exact ⟨x, x0, Nat.lt_of_lt_of_le hx (h.n hs), by rw [h.tr hs hx, e]⟩
theorem Ux.rf {ν : Nat → Nat} {c : Nat} {u : Sg} {X : Nat → Prop} (h : SC ν c u) : Ux ν c u u X := ⟨h, Ext.rf, fun _ ht => Or.inl ht⟩
theorem Ux.trn {ν : Nat → Nat} {c : Nat} {u u1 u2 : Sg} {X : Nat → Prop} (h : Ux ν c u u1 X) (h' : Ux ν c u1 u2 X) : Ux ν c u u2 X :=
  ⟨h'.1, h.2.1.tr h'.2.1, fun t ht => (h'.2.2 t ht).elim (h.2.2 t) Or.inr⟩
theorem Ux.eqs {ν : Nat → Nat} {c : Nat} {u u' : Sg} {X : Nat → Prop} (h : EqS u u') (hs : SC ν c u') : Ux ν c u u' X := ⟨hs, by rw [h.st]; exact Ext.rf, fun t ht => Or.inl ((h.nd t).mp ht)⟩
theorem Ux.lim {ν : Nat → Nat} {c : Nat} {u u1 : Sg} {X : Nat → Prop} (h : Ux ν c u u1 X) (hl : Lim ν u X) : Lim ν u1 X := fun l hn hm => hl l hn (fun t ht => (hm t ht).elim (h.2.2 t) Or.inr)
theorem GM.up {ν : Nat → Nat} {c : Nat} {u u' : Sg} {X : Nat → Prop} {g : Nat → Nat → Nat} {D : Nat} (h : GM ν u g) (hs : SC ν c u) (hu : Ux ν c u u' X) (hg : Gr FC D u u') (hD : D &&& 2064384 = 0) : GM ν u' g := by
  have hb : ∀ k, 15 ≤ k → k ≤ 20 → gI u' k = gI u k := fun k h1 h2 => hg.I k (by
    have e := congrArg (fun z => Nat.testBit z k) hD
    simp only [Nat.testBit_and, Nat.zero_testBit] at e
    have h3 : Nat.testBit 2064384 k = true := (by decide : ∀ k, k ≤ 20 → 15 ≤ k → Nat.testBit 2064384 k = true) k h2 h1
    rw [h3, Bool.and_true] at e
    exact e)
  have hn := hu.n hs
  rcases h with ⟨h1, s, h2, h3, h4, h5⟩ | ⟨h1, s, h2, h3, h4, h45, h5⟩ | ⟨h1, a, b, h2, h3, h4, h5, h6⟩
  · exact Or.inl ⟨by rw [hb 15 (by omega) (by omega)]; exact h1, s, by rw [hb 17 (by omega) (by omega)]; exact h2, h3, by omega, by rw [hu.tr hs h4]; exact h5⟩
  · exact Or.inr (Or.inl ⟨by rw [hb 15 (by omega) (by omega)]; exact h1, s, by rw [hb 16 (by omega) (by omega)]; exact h2, h3, by omega, by rw [hu.tr hs h4]; exact h45, by rw [hu.tr hs h4]; exact h5⟩)
  · exact Or.inr (Or.inr ⟨by rw [hb 15 (by omega) (by omega)]; exact h1, a, b, by rw [hb 18 (by omega) (by omega)]; exact h2, by rw [hb 19 (by omega) (by omega)]; exact h3, by omega, by omega, by rw [hu.tr hs h4, hu.tr hs h5]; exact h6⟩)
theorem YN.up {ν : Nat → Nat} {c : Nat} {u u' : Sg} {X : Nat → Prop} {D : Nat} (h : YN ν u) (hs : SC ν c u) (hu : Ux ν c u u' X) (hg : Gr FC D u u') (h1 : D.testBit 13 = false) (h2 : D.testBit 14 = false) : YN ν u' := by
  obtain ⟨y, n, a1, a2, ⟨a3, a4, a5⟩, a6, a7, a8⟩ := h
  have hn := hu.n hs
  exact ⟨y, n, by rw [hg.I 13 h1]; exact a1, by rw [hg.I 14 h2]; exact a2, ⟨a3, by omega, by rw [hu.tr hs a4]; exact a5⟩, a6, by omega, by rw [hu.tr hs a7]; exact a8⟩
/-- parts with their depths -/
def chd (t d : Nat) : List (Nat × Nat) := if kd t = 18 then ((ps t).take 1).map (fun c => (c, d)) ++ ((ps t).drop 1).map (fun c => (c, d + 1)) else (fms t).map (fun c => (c, d))
/-- all images of a form's parts, and its own, are in X -/
def ImS (X : Nat → Prop) (g : Nat → Nat → Nat) (f : Nat → Nat → Prop) (t : Nat) : Nat → Prop := fun d => X (sbT g d t) ∧ ∀ i c, (ps t)[i]? = some c → (kd t ≠ 8 ∨ i = 0) → c ≠ 0 → f c (if kd t = 18 ∧ 0 < i then d + 1 else d)
def ImT (X : Nat → Prop) (g : Nat → Nat → Nat) (t d : Nat) : Prop := rcT (ImS X g) (fun _ => True) t d
theorem ImT_eq (X : Nat → Prop) (g : Nat → Nat → Nat) (t d : Nat) : ImT X g t d = (X (sbT g d t) ∧ ∀ i c, (ps t)[i]? = some c → (kd t ≠ 8 ∨ i = 0) → c ≠ 0 → ImT X g c (if kd t = 18 ∧ 0 < i then d + 1 else d)) := by
  unfold ImT
  rw [rc_eq (fun f f' t h => by
    unfold ImS
    funext d
    refine propext ⟨fun ⟨a, b⟩ => ⟨a, fun i c hc h8 h0 => ?_⟩, fun ⟨a, b⟩ => ⟨a, fun i c hc h8 h0 => ?_⟩⟩
    · rw [← h c (List.mem_of_getElem? hc)]; exact b i c hc h8 h0
    · rw [h c (List.mem_of_getElem? hc)]; exact b i c hc h8 h0) t]
  rfl
theorem ImT.mono {X Y : Nat → Prop} {g : Nat → Nat → Nat} (hxy : ∀ t, X t → Y t) : ∀ (t d : Nat), ImT X g t d → ImT Y g t d := by
  intro t
  induction t using Nat.strongRecOn with
  | ind t ih =>
    intro d h
    rw [ImT_eq] at h ⊢
    exact ⟨hxy _ h.1, fun i c hc h8 h0 => ih c (ps_lt (List.mem_of_getElem? hc)) _ (h.2 i c hc h8 h0)⟩
/-- the row from a on: nodes (or 0), behind the first of a type numbers -/
def RowE (ν : Nat → Nat) (u : Sg) (a k : Nat) (L : List Nat) : Prop := rC u = a + L.length ∧ ∀ i t, L[i]? = some t → ∃ y : Nat, gN u 11 (a + i) = (y : Int) ∧ ((k = 8 ∧ 0 < i) → y = t) ∧ (¬ (k = 8 ∧ 0 < i) → y < nC u ∧ trC ν u y = t)
theorem RowE.up {ν : Nat → Nat} {c : Nat} {u u' : Sg} {X : Nat → Prop} {a k : Nat} {L : List Nat} (h : RowE ν u a k L) (hs : SC ν c u) (hu : Up ν c u u' X) : RowE ν u' a k L := by
  have hn := hu.n hs
  refine ⟨by rw [hu.2.2.2.2.2.1]; exact h.1, fun i t hi => ?_⟩
  have hil := (List.getElem?_eq_some_iff.mp hi).1
  obtain ⟨y, y1, y2, y3⟩ := h.2 i t hi
  refine ⟨y, by rw [hu.2.2.2.2.2.2 _ (by rw [h.1]; omega)]; exact y1, y2, fun q => ?_⟩
  have := y3 q
  exact ⟨by omega, by rw [hu.tr hs this.1]; exact this.2⟩
theorem RowE.push {ν : Nat → Nat} {u u' : Sg} {a k t y : Nat} {L : List Nat} (h : RowE ν u a k L) (he : EqS u u') (h1 : rC u' = rC u + 1) (h2 : ∀ i, i < rC u → gN u' 11 i = gN u 11 i) (h3 : gN u' 11 (rC u) = (y : Int)) (h4 : (k = 8 ∧ 0 < L.length) → y = t) (h5 : ¬ (k = 8 ∧ 0 < L.length) → y < nC u ∧ trC ν u y = t) : RowE ν u' a k (L ++ [t]) := by
  refine ⟨by rw [h1, h.1, List.length_append]; rfl, fun i s hi => ?_⟩
  by_cases hil : i < L.length
  · rw [List.getElem?_append_left hil] at hi
    obtain ⟨z, z1, z2, z3⟩ := h.2 i s hi
    exact ⟨z, by rw [h2 _ (by rw [h.1]; omega)]; exact z1, z2, fun q => by have := z3 q; exact ⟨by rw [he.n]; exact this.1, by rw [he.tr]; exact this.2⟩⟩
  · rw [List.getElem?_append_right (by omega)] at hi
    have hz : i - L.length = 0 := by
      have := (List.getElem?_eq_some_iff.mp hi).1
      simp at this; omega
    rw [hz] at hi
    have hi : t = s := by simpa using hi
    subst hi
    have hiL : i = L.length := by omega
    subst hiL
    exact ⟨y, by rw [← h.1]; exact h3, h4, fun q => by have := h5 q; exact ⟨by rw [he.n]; exact this.1, by rw [he.tr]; exact this.2⟩⟩
theorem RowE.row {ν : Nat → Nat} {u : Sg} {a k : Nat} {L : List Nat} (h : RowE ν u a k L) : (∀ v ∈ rowC u a, 0 ≤ v) ∧ rowT ν u k a = L ∧ (1 ≤ nC u → ∀ w : Int, ∀ p ∈ fptR ((k : Int), w, rowC u a), p < (nC u : Int)) := by
  have hlen : (rowC u a).length = L.length := by rw [row_len, h.1]; omega
  have hat : ∀ i, i < L.length → ∃ y t : Nat, (rowC u a)[i]? = some (y : Int) ∧ L[i]? = some t ∧ ((k = 8 ∧ 0 < i) → y = t) ∧ (¬ (k = 8 ∧ 0 < i) → y < nC u ∧ trC ν u y = t) := fun i hi => by
    obtain ⟨y, y1, y2, y3⟩ := h.2 i _ (List.getElem?_eq_getElem hi)
    exact ⟨y, _, by rw [row_at u (by rw [h.1]; omega), y1], List.getElem?_eq_getElem hi, y2, y3⟩
  refine ⟨fun v hv => ?_, ?_, fun hn1 w p hp => ?_⟩
  · obtain ⟨i, hi⟩ := List.getElem?_of_mem hv
    obtain ⟨y, t, y1, -⟩ := hat i (by have := (List.getElem?_eq_some_iff.mp hi).1; omega)
    rw [hi] at y1
    rw [Option.some.inj y1]; omega
  · unfold rowT pmp
    refine List.ext_getElem? (fun i => ?_)
    by_cases hi : i < L.length
    · obtain ⟨y, t, y1, y2, y3, y4⟩ := hat i hi
      rw [y2]
      by_cases h8 : k = 8
      · rw [if_pos h8]
        cases i with
        | zero =>
          have := (y4 (by omega)).2
          cases hr : rowC u a with
          | nil => rw [hr] at y1; simp at y1
          | cons z zs => rw [hr] at y1; simp at y1; simp [y1, this]
        | succ i =>
          have := y3 ⟨h8, by omega⟩
          cases hr : rowC u a with
          | nil => rw [hr] at y1; simp at y1
          | cons z zs => rw [hr] at y1; simp at y1; simp [y1, this]
      · rw [if_neg h8, List.map_map, List.getElem?_map, y1]
        have := (y4 (fun q => h8 q.1)).2
        show some (trC ν u ((y : Int).toNat)) = _
        rw [← this]; rfl
    · rw [List.getElem?_eq_none (by rw [show (if k = 8 then List.map (trC ν u) (List.take 1 (List.map Int.toNat (rowC u a))) ++ List.drop 1 (List.map Int.toNat (rowC u a)) else List.map (trC ν u) (List.map Int.toNat (rowC u a))) = pmp (trC ν u) k ((rowC u a).map Int.toNat) from rfl, pmp_len, List.length_map]; omega), List.getElem?_eq_none (by omega)]
  · have hm : ∃ i, (rowC u a)[i]? = some p ∧ ¬ (k = 8 ∧ 0 < i) := by
      unfold fptR at hp
      by_cases h8 : k = 8
      · rw [if_pos (by show (k : Int) = 8; omega)] at hp
        cases hr : rowC u a with
        | nil => rw [show ((k : Int), w, rowC u a).2.2 = rowC u a from rfl, hr] at hp; simp at hp
        | cons z zs => rw [show ((k : Int), w, rowC u a).2.2 = rowC u a from rfl, hr] at hp; simp at hp; exact ⟨0, by rw [hp]; rfl, by omega⟩
      · rw [if_neg (by show ¬ (k : Int) = 8; omega)] at hp
        obtain ⟨i, hi⟩ := List.getElem?_of_mem hp
        exact ⟨i, hi, fun q => h8 q.1⟩
    obtain ⟨i, hi, hq⟩ := hm
    obtain ⟨y, t, y1, y2, y3, y4⟩ := hat i (by have := (List.getElem?_eq_some_iff.mp hi).1; omega)
    rw [hi] at y1
    have := (y4 hq).1
    rw [Option.some.inj y1]; omega
