/-! the class's store as labels and trees; constants by names -/
def labC (ν : Nat → Nat) (r : Int × Int × List Int) : Lb := (r.1.toNat, if r.1 = 1 then ν r.2.1.toNat else r.2.1.toNat, r.2.2.map Int.toNat)
def stC (ν : Nat → Nat) (σ : Sg) : Sto := (nC σ - 1, fun x => labC ν (rawC σ x))
def trC (ν : Nat → Nat) (σ : Sg) (x : Nat) : Nat := tr (stC ν σ) x
/-- constants below c; each its own name -/
def NmC (ν : Nat → Nat) (c : Nat) (σ : Sg) : Prop := (∀ x, 0 < x → x < nC σ → gN σ 0 x = 1 → gN σ 1 x < (c : Int)) ∧ ∀ i j, i < c → j < c → ν i = ν j → i = j
theorem take_map {α β : Type} (f : α → β) (l : List α) : (l.map f).take 1 = (l.take 1).map f := by
  cases l <;> rfl
theorem fpt_labC {ν : Nat → Nat} {r : Int × Int × List Int} (h : 0 ≤ r.1) : fpt (labC ν r) = (fptR r).map Int.toNat := by
  unfold fpt fptR labC
  by_cases h8 : r.1 = 8
  · have : r.1.toNat = 8 := by omega
    simp only [h8, this, if_true]
    rw [show (8 : Int).toNat = 8 from rfl, if_pos rfl, take_map]
  · have : ¬ r.1.toNat = 8 := by omega
    simp only [h8, this, if_false]
theorem okp_C {ν : Nat → Nat} {σ : Sg} (h : IC σ) : OKp (stC ν σ) := by
  obtain ⟨h1, h2, h3, h4, h5⟩ := h
  intro x h0 hx p hp
  have hx : x ≤ nC σ - 1 := hx
  have hp : p ∈ fpt (labC ν (rawC σ x)) := hp
  rw [fpt_labC (h2.1 x h0 (by omega)).1.1] at hp
  obtain ⟨q, hq, rfl⟩ := List.mem_map.mp hp
  have a := (h5 x h0 (by omega)).1 q hq
  have b := raw_nn h2 h0 (by omega) (fptR_sub hq)
  omega
theorem toNat_inj : ∀ (l l' : List Int), (∀ p ∈ l, 0 ≤ p) → (∀ p ∈ l', 0 ≤ p) → l.map Int.toNat = l'.map Int.toNat → l = l'
  | [], [], _, _, _ => rfl
  | [], _ :: _, _, _, h => by simp at h
  | _ :: _, [], _, _, h => by simp at h
  | a :: l, b :: l', h1, h2, h => by
    simp only [List.map_cons, List.cons.injEq] at h
    have := h1 a List.mem_cons_self
    have := h2 b List.mem_cons_self
    rw [show a = b by omega, toNat_inj l l' (fun p hp => h1 p (List.mem_cons_of_mem _ hp)) (fun p hp => h2 p (List.mem_cons_of_mem _ hp)) h.2]
theorem labC_inj {ν : Nat → Nat} {c : Nat} {r r' : Int × Int × List Int} (hν : ∀ i j, i < c → j < c → ν i = ν j → i = j) (a1 : 0 ≤ r.1) (a2 : 0 ≤ r.2.1) (a3 : ∀ p ∈ r.2.2, 0 ≤ p) (a4 : r.1 = 1 → r.2.1 < (c : Int)) (b1 : 0 ≤ r'.1) (b2 : 0 ≤ r'.2.1) (b3 : ∀ p ∈ r'.2.2, 0 ≤ p) (b4 : r'.1 = 1 → r'.2.1 < (c : Int)) (h : labC ν r = labC ν r') : r = r' := by
  obtain ⟨k, w, l⟩ := r
  obtain ⟨k', w', l'⟩ := r'
  unfold labC at h
  simp only [Prod.mk.injEq] at h a1 a2 a3 a4 b1 b2 b3 b4
  obtain ⟨e1, e2, e3⟩ := h
  have ek : k = k' := by omega
  subst ek
  have ew : w = w' := by
    by_cases hk : k = 1
    · simp only [hk, if_true] at e2
      have := hν _ _ (by have := a4 hk; omega) (by have := b4 hk; omega) e2
      omega
    · simp only [hk, if_false] at e2
      omega
  subst ew
  rw [toNat_inj l l' a3 b3 e3]
theorem inj_C {ν : Nat → Nat} {c : Nat} {σ : Sg} (h : IC σ) (hn : NmC ν c σ) : Inj (stC ν σ) := by
  obtain ⟨h1, h2, h3, h4, h5⟩ := h
  intro x y x0 hx y0 hy e
  have hx : x ≤ nC σ - 1 := hx
  have hy : y ≤ nC σ - 1 := hy
  have ax := (h2.1 x x0 (by omega)).1
  have ay := (h2.1 y y0 (by omega)).1
  refine h4 x y x0 (by omega) y0 (by omega) (labC_inj hn.2 ax.1 ax.2.1 (fun p hp => raw_nn h2 x0 (by omega) hp) (fun h => hn.1 x x0 (by omega) h) ay.1 ay.2.1 (fun p hp => raw_nn h2 y0 (by omega) hp) (fun h => hn.1 y y0 (by omega) h) e)
theorem mk_C {ν : Nat → Nat} {u u' : Sg} {r : Int × Int × List Int} {x : Nat} (hI : IC u) (m : MkC u r x u') : Mk (stC ν u) (labC ν r) x (stC ν u') := by
  obtain ⟨m1, m2, m3, m4, m5, m6⟩ := m
  have hn := hI.1.1.2.1
  refine ⟨⟨?_, fun y y0 hy => ?_⟩, m2, ?_, ?_, ?_⟩
  · show nC u - 1 ≤ nC u' - 1; omega
  · have hy : y ≤ nC u - 1 := hy
    show labC ν (rawC u' y) = labC ν (rawC u y)
    rw [(m5 y y0 (by omega)).1]
  · show x ≤ nC u' - 1; omega
  · show labC ν (rawC u' x) = _
    rw [m4]
  · show nC u' - 1 = nC u - 1 ∨ (nC u' - 1 = nC u - 1 + 1 ∧ x = nC u - 1 + 1)
    omega
/-- the number of parts of the nodes below n -/
def pSum (σ : Sg) : Nat → Nat
  | 0 => 0
  | n + 1 => pSum σ n + (if n = 0 then 0 else (rawC σ n).2.2.length)
def IC6 (σ : Sg) : Prop := pC σ = pSum σ (nC σ) ∧ ∀ x, 0 < x → x < nC σ → gN σ 2 x = (pSum σ x : Int)
theorem pSum_congr {σ σ' : Sg} : ∀ (n : Nat), (∀ y, 0 < y → y < n → rawC σ' y = rawC σ y) → pSum σ' n = pSum σ n
  | 0, _ => rfl
  | n + 1, h => by
    rw [pSum, pSum, pSum_congr n (fun y y0 hy => h y y0 (by omega))]
    by_cases hn : n = 0
    · simp [hn]
    · rw [if_neg hn, if_neg hn, h n (by omega) (by omega)]
theorem MkC.ic6 {u u' : Sg} {r : Int × Int × List Int} {x : Nat} (h : IC6 u) (hn : 1 ≤ nC u) (m : MkC u r x u') : IC6 u' := by
  obtain ⟨m1, m2, m3, m4, m5, m6⟩ := m
  obtain ⟨h, hf⟩ := h
  have hc : ∀ n, n ≤ nC u → pSum u' n = pSum u n := fun n hn => pSum_congr n (fun y y0 hy => (m5 y y0 (by omega)).1)
  rcases m6 with ⟨e1, e2⟩ | ⟨e1, e2, e3, e4⟩
  · refine ⟨by rw [e1, e2, h, hc _ (Nat.le_refl _)], fun y y0 hy => ?_⟩
    rw [(m5 y y0 (by omega)).2.2.2, hf y y0 (by omega), hc y (by omega)]
  · refine ⟨by rw [e1, e2, h, pSum, hc _ (Nat.le_refl _), if_neg (by omega), ← e3, m4], fun y y0 hy => ?_⟩
    by_cases hyn : y < nC u
    · rw [(m5 y y0 hyn).2.2.2, hf y y0 hyn, hc y (by omega)]
    · have : y = x := by omega
      subst this
      rw [e4, h, e3, hc _ (Nat.le_refl _)]
/-- the trees that stand in the store -/
def ndC (ν : Nat → Nat) (σ : Sg) (t : Nat) : Prop := ∃ x, 0 < x ∧ x < nC σ ∧ trC ν σ x = t
/-- from u to u': the store has grown by trees of X alone, the row is as it was -/
def Up (ν : Nat → Nat) (c : Nat) (u u' : Sg) (X : Nat → Prop) : Prop := IC u' ∧ IC6 u' ∧ NmC ν c u' ∧ Ext (stC ν u) (stC ν u') ∧ (∀ t, ndC ν u' t → ndC ν u t ∨ X t) ∧ rC u' = rC u ∧ ∀ i, i < rC u → gN u' 11 i = gN u 11 i
/-- the trees of the store and of X are few -/
def Lim (ν : Nat → Nat) (u : Sg) (X : Nat → Prop) : Prop := ∀ l : List Nat, l.Nodup → (∀ t ∈ l, ndC ν u t ∨ X t) → l.length < 89990 ∧ (l.map (fun t => (ps t).length)).sum ≤ 264000
/-- the class's store is in order -/
def SC (ν : Nat → Nat) (c : Nat) (u : Sg) : Prop := IC u ∧ IC6 u ∧ NmC ν c u
theorem Up.sc {ν : Nat → Nat} {c : Nat} {u u' : Sg} {X : Nat → Prop} (h : Up ν c u u' X) : SC ν c u' := ⟨h.1, h.2.1, h.2.2.1⟩
theorem Up.rf {ν : Nat → Nat} {c : Nat} {u : Sg} {X : Nat → Prop} (h : SC ν c u) : Up ν c u u X := ⟨h.1, h.2.1, h.2.2, Ext.rf, fun _ ht => Or.inl ht, rfl, fun _ _ => rfl⟩
theorem Up.trn {ν : Nat → Nat} {c : Nat} {u u1 u2 : Sg} {X Y : Nat → Prop} (h : Up ν c u u1 X) (h' : Up ν c u1 u2 Y) : Up ν c u u2 (fun t => X t ∨ Y t) := by
  refine ⟨h'.1, h'.2.1, h'.2.2.1, h.2.2.2.1.tr h'.2.2.2.1, fun t ht => ?_, h'.2.2.2.2.2.1.trans h.2.2.2.2.2.1, fun i hi => ?_⟩
  · rcases h'.2.2.2.2.1 t ht with q | q
    · exact (h.2.2.2.2.1 t q).imp id Or.inl
    · exact Or.inr (Or.inr q)
  · rw [h'.2.2.2.2.2.2 i (by rw [h.2.2.2.2.2.1]; exact hi), h.2.2.2.2.2.2 i hi]
theorem Up.mono {ν : Nat → Nat} {c : Nat} {u u1 : Sg} {X Y : Nat → Prop} (h : Up ν c u u1 X) (hxy : ∀ t, X t → ndC ν u t ∨ Y t) : Up ν c u u1 Y :=
  ⟨h.1, h.2.1, h.2.2.1, h.2.2.2.1, fun t ht => (h.2.2.2.2.1 t ht).elim Or.inl (hxy t), h.2.2.2.2.2⟩
theorem Up.tr {ν : Nat → Nat} {c : Nat} {u u1 : Sg} {X : Nat → Prop} (hs : SC ν c u) (h : Up ν c u u1 X) {x : Nat} (hx : x < nC u) : trC ν u1 x = trC ν u x :=
  tr_ext (okp_C hs.1) (okp_C h.1) h.2.2.2.1 x (by show x ≤ nC u - 1; omega)
theorem Up.n {ν : Nat → Nat} {c : Nat} {u u1 : Sg} {X : Nat → Prop} (hs : SC ν c u) (h : Up ν c u u1 X) : nC u ≤ nC u1 := by
  have a : nC u - 1 ≤ nC u1 - 1 := h.2.2.2.1.1
  have := hs.1.1.1.2.1
  have := h.1.1.1.2.1
  omega
theorem Up.nd {ν : Nat → Nat} {c : Nat} {u u1 : Sg} {X : Nat → Prop} (hs : SC ν c u) (h : Up ν c u u1 X) {t : Nat} (ht : ndC ν u t) : ndC ν u1 t := by
  obtain ⟨x, x0, hx, e⟩ := ht
  exact ⟨x, x0, Nat.lt_of_lt_of_le hx (h.n hs), by rw [h.tr hs hx, e]⟩
theorem Lim.up {ν : Nat → Nat} {c : Nat} {u u1 : Sg} {X Y Z : Nat → Prop} (hl : Lim ν u Z) (h : Up ν c u u1 X) (hx : ∀ t, X t → Z t) (hy : ∀ t, Y t → Z t) : Lim ν u1 Y := fun l hn hm => hl l hn (fun t ht => by
  rcases hm t ht with q | q
  · exact (h.2.2.2.2.1 t q).imp id (hx t)
  · exact Or.inr (hy t q))
theorem Lim.mono {ν : Nat → Nat} {u : Sg} {X Y : Nat → Prop} (hl : Lim ν u X) (hy : ∀ t, Y t → ndC ν u t ∨ X t) : Lim ν u Y := fun l hn hm => hl l hn (fun t ht => (hm t ht).elim Or.inl (hy t))
theorem trC_inj {ν : Nat → Nat} {c : Nat} {u : Sg} (hs : SC ν c u) {x y : Nat} (hx : x < nC u) (hy : y < nC u) (e : trC ν u x = trC ν u y) : x = y :=
  tr_inj (okp_C hs.1) (inj_C hs.1 hs.2.2) x y (by show x ≤ nC u - 1; omega) (by show y ≤ nC u - 1; omega) e
theorem pmp_len {g : Nat → Nat} {k : Nat} {l : List Nat} : (pmp g k l).length = l.length := by
  unfold pmp
  split
  · rw [List.length_append, List.length_map, ← List.length_append, List.take_append_drop]
  · rw [List.length_map]
theorem trC_eq {ν : Nat → Nat} {u : Sg} (h : IC u) {x : Nat} (x0 : 0 < x) (hx : x < nC u) : trC ν u x = mk (labC ν (rawC u x)).1 (labC ν (rawC u x)).2.1 (pmp (trC ν u) (labC ν (rawC u x)).1 (labC ν (rawC u x)).2.2) :=
  tr_eq (okp_C h) x0 (by show x ≤ nC u - 1; omega)
/-- the list of all trees of the store -/
theorem nd_list {ν : Nat → Nat} {c : Nat} {u : Sg} (hs : SC ν c u) : ∃ l : List Nat, l.Nodup ∧ l.length = nC u - 1 ∧ (∀ t ∈ l, ndC ν u t) ∧ (l.map (fun t => (ps t).length)).sum = pC u := by
  have key : ∀ n, n ≤ nC u → ∃ l : List Nat, l.Nodup ∧ l.length = n - 1 ∧ (∀ t ∈ l, ∃ x, 0 < x ∧ x < n ∧ trC ν u x = t) ∧ (l.map (fun t => (ps t).length)).sum = pSum u n := by
    intro n
    induction n with
    | zero => exact fun _ => ⟨[], List.nodup_nil, rfl, (fun t h => by cases h), rfl⟩
    | succ n ih =>
      intro hn
      obtain ⟨l, l1, l2, l3, l4⟩ := ih (by omega)
      by_cases hn0 : n = 0
      · subst hn0
        exact ⟨[], List.nodup_nil, rfl, (fun t h => by cases h), rfl⟩
      · refine ⟨trC ν u n :: l, List.nodup_cons.mpr ⟨fun hm => ?_, l1⟩, by rw [List.length_cons, l2]; omega, fun t ht => ?_, ?_⟩
        · obtain ⟨x, x0, hx, e⟩ := l3 _ hm
          have := trC_inj hs (by omega) (by omega) e
          omega
        · rcases List.mem_cons.mp ht with q | q
          · exact ⟨n, by omega, by omega, q.symm⟩
          · obtain ⟨x, x0, hx, e⟩ := l3 t q
            exact ⟨x, x0, by omega, e⟩
        · rw [List.map_cons, List.sum_cons, l4, pSum, if_neg hn0, trC_eq hs.1 (by omega) (by omega), ps_mk, pmp_len]
          show (labC ν (rawC u n)).2.2.length + _ = _
          unfold labC
          rw [List.length_map]; omega
  obtain ⟨l, l1, l2, l3, l4⟩ := key (nC u) (Nat.le_refl _)
  exact ⟨l, l1, l2, l3, by rw [l4]; exact hs.2.1.1.symm⟩
theorem Lim.n {ν : Nat → Nat} {c : Nat} {u : Sg} {X : Nat → Prop} (hs : SC ν c u) (hl : Lim ν u X) : nC u ≤ 89990 ∧ pC u ≤ 264000 := by
  obtain ⟨l, l1, l2, l3, l4⟩ := nd_list hs
  have := hl l l1 (fun t ht => Or.inl (l3 t ht))
  omega
