/-! the model's store as labels and trees: kinds and names as the class has them -/
def hd0 (l : List Int) : Nat := ((l[0]?).getD 0).toNat
def nk (k : Int) : Nat := if k ≤ 5 then k.toNat else (k + 1).toNat
def labT (ν : Nat → Nat) (r : Int × List Int) : Lb := if r.1 = 1 then (2, hd0 r.2, []) else if r.1 = 2 then (if hd0 r.2 < 2 then (3, hd0 r.2, []) else (1, ν (hd0 r.2), [])) else if fsT r.1 = 1 then (nk r.1, hd0 r.2, (r.2.drop 1).map Int.toNat) else (nk r.1, 0, r.2.map Int.toNat)
def stT (ν : Nat → Nat) (σ : Sg) : Sto := (nT σ, fun x => labT ν (rawT σ x))
def trT (ν : Nat → Nat) (σ : Sg) (x : Nat) : Nat := tr (stT ν σ) x
def NmT (ν : Nat → Nat) (c : Nat) (σ : Sg) : Prop := (∀ x, 0 < x → x ≤ nT σ → gN σ 1 x = 2 → hd0 (rawT σ x).2 < c) ∧ ∀ i j, 2 ≤ i → i < c → 2 ≤ j → j < c → ν i = ν j → i = j
theorem fpt_labT {ν : Nat → Nat} {r : Int × List Int} (h : okR r) : fpt (labT ν r) = (fptT r).map Int.toNat := by
  obtain ⟨k, l⟩ := r
  obtain ⟨h1, h2, h3, h4, h5, h6⟩ := h
  unfold fpt fptT labT
  by_cases k1 : k = 1
  · simp [k1]
  by_cases k2 : k = 2
  · by_cases hh : hd0 l < 2
    · simp [k2, hh]
    · simp [k2, hh]
  by_cases k7 : k = 7
  · have : fsT (7 : Int) = 1 := by decide
    have n8 : nk (7 : Int) = 8 := by decide
    simp [k7, this, n8, List.map_take, List.map_drop]
  by_cases k8 : k = 8
  · have : fsT (8 : Int) = 0 := by decide
    have n9 : nk (8 : Int) = 9 := by decide
    have hl : l = [] := List.length_eq_zero_iff.mp (h5 k8)
    simp [k8, this, n9, hl]
  have hn : nk k ≠ 8 := by
    simp only at h1
    unfold nk
    split <;> omega
  have k3 : ¬ k = 3 := by simp only at h1; omega
  simp only [k1, k2, k7, k8, k3, if_false, or_self]
  by_cases hf : fsT k = 1
  · rw [if_pos hf]
    simp only [hn, if_false]
    rw [hf]
  · rw [if_neg hf]
    simp only [hn, if_false]
    have : fsT k = 0 := by unfold fsT at hf ⊢; split <;> simp_all
    rw [this, List.drop_zero]
theorem okp_T {ν : Nat → Nat} {σ : Sg} (h : IT σ) : OKp (stT ν σ) := by
  obtain ⟨h1, h2, h3, h4, h5⟩ := h
  intro x h0 hx p hp
  have hx : x ≤ nT σ := hx
  have hp : p ∈ fpt (labT ν (rawT σ x)) := hp
  rw [fpt_labT (h2.1 x h0 hx).1] at hp
  obtain ⟨q, hq, rfl⟩ := List.mem_map.mp hp
  have a := (h5 x h0 hx).1 q hq
  have b := rawT_nn h2 h0 hx (fptT_sub hq)
  omega
theorem labT_k {ν : Nat → Nat} {r : Int × List Int} (h : okR r) : ((labT ν r).1 = 2 ∧ r.1 = 1) ∨ ((labT ν r).1 = 3 ∧ r.1 = 2 ∧ hd0 r.2 < 2) ∨ ((labT ν r).1 = 1 ∧ r.1 = 2 ∧ ¬ hd0 r.2 < 2) ∨ ((r.1 = 4 ∨ r.1 = 5) ∧ ((labT ν r).1 : Int) = r.1) ∨ (7 ≤ r.1 ∧ ((labT ν r).1 : Int) = r.1 + 1) := by
  obtain ⟨k, l⟩ := r
  obtain ⟨h1, _⟩ := h
  simp only at h1
  unfold labT
  by_cases k1 : k = 1
  · exact Or.inl (by simp [k1])
  by_cases k2 : k = 2
  · by_cases hh : hd0 l < 2
    · exact Or.inr (Or.inl ⟨by simp [k2, hh], k2, hh⟩)
    · exact Or.inr (Or.inr (Or.inl ⟨by simp [k2, hh], k2, hh⟩))
  have hk : ((if k = 1 then (2, hd0 l, []) else if k = 2 then (if hd0 l < 2 then (3, hd0 l, []) else (1, ν (hd0 l), [])) else if fsT k = 1 then (nk k, hd0 l, (l.drop 1).map Int.toNat) else (nk k, 0, l.map Int.toNat) : Lb)).1 = nk k := by
    rw [if_neg k1, if_neg k2]
    split <;> rfl
  rw [hk]
  unfold nk
  by_cases k5 : k ≤ 5
  · rw [if_pos k5]
    exact Or.inr (Or.inr (Or.inr (Or.inl ⟨by simp only; omega, by simp only; omega⟩)))
  · rw [if_neg k5]
    exact Or.inr (Or.inr (Or.inr (Or.inr ⟨by simp only; omega, by simp only; omega⟩)))
theorem one_eq {l l' : List Int} (h : l.length = 1) (h' : l'.length = 1) (n : ∀ p ∈ l, 0 ≤ p) (n' : ∀ p ∈ l', 0 ≤ p) (e : hd0 l = hd0 l') : l = l' := by
  obtain ⟨a, rfl⟩ := List.length_eq_one_iff.mp h
  obtain ⟨b, rfl⟩ := List.length_eq_one_iff.mp h'
  have := n a List.mem_cons_self
  have := n' b List.mem_cons_self
  unfold hd0 at e
  simp at e
  rw [show a = b by omega]
theorem cons_eq {l l' : List Int} (h : 1 ≤ l.length) (h' : 1 ≤ l'.length) (n : ∀ p ∈ l, 0 ≤ p) (n' : ∀ p ∈ l', 0 ≤ p) (e : hd0 l = hd0 l') (e2 : (l.drop 1).map Int.toNat = (l'.drop 1).map Int.toNat) : l = l' := by
  cases l with
  | nil => simp at h
  | cons a l =>
    cases l' with
    | nil => simp at h'
    | cons b l' =>
      have := n a List.mem_cons_self
      have := n' b List.mem_cons_self
      unfold hd0 at e
      simp at e e2
      rw [show a = b by omega, toNat_inj l l' (fun p hp => n p (List.mem_cons_of_mem _ hp)) (fun p hp => n' p (List.mem_cons_of_mem _ hp)) (by simpa using e2)]
theorem labT_inj {ν : Nat → Nat} {c : Nat} {r r' : Int × List Int} (hν : ∀ i j, 2 ≤ i → i < c → 2 ≤ j → j < c → ν i = ν j → i = j) (a1 : okR r) (a3 : ∀ p ∈ r.2, 0 ≤ p) (a4 : r.1 = 2 → hd0 r.2 < c) (b1 : okR r') (b3 : ∀ p ∈ r'.2, 0 ≤ p) (b4 : r'.1 = 2 → hd0 r'.2 < c) (h : labT ν r = labT ν r') : r = r' := by
  have ka := labT_k (ν := ν) a1
  have kb := labT_k (ν := ν) b1
  rw [← h] at kb
  have ek : r.1 = r'.1 := by omega
  obtain ⟨k, l⟩ := r
  obtain ⟨k', l'⟩ := r'
  simp only at ek
  subst ek
  refine Prod.ext rfl ?_
  show l = l'
  unfold labT at h
  simp only at h a3 a4 b3 b4 ka kb
  by_cases k1 : k = 1
  · simp only [k1, if_true, Prod.mk.injEq] at h
    exact one_eq (a1.2.1 (Or.inl k1)) (b1.2.1 (Or.inl k1)) a3 b3 h.2.1
  by_cases k2 : k = 2
  · refine one_eq (a1.2.1 (Or.inr k2)) (b1.2.1 (Or.inr k2)) a3 b3 ?_
    rw [if_neg k1, if_neg k1, if_pos k2, if_pos k2] at h
    by_cases h1 : hd0 l < 2
    · by_cases h2 : hd0 l' < 2
      · rw [if_pos h1, if_pos h2] at h
        simp only [Prod.mk.injEq] at h
        exact h.2.1
      · rw [if_pos h1, if_neg h2] at h
        simp at h
    · by_cases h2 : hd0 l' < 2
      · rw [if_neg h1, if_pos h2] at h
        simp at h
      · rw [if_neg h1, if_neg h2] at h
        simp only [Prod.mk.injEq] at h
        exact hν _ _ (by omega) (a4 k2) (by omega) (b4 k2) h.2.1
  rw [if_neg k1, if_neg k1, if_neg k2, if_neg k2] at h
  by_cases hf : fsT k = 1
  · rw [if_pos hf, if_pos hf] at h
    simp only [Prod.mk.injEq] at h
    have hl : ∀ q : List Int, okR (k, q) → 1 ≤ q.length := fun q hq => by
      have x1 := hq.2.2.1
      have x2 := hq.2.2.2.1
      have x3 := hq.1
      simp only at x1 x2 x3
      by_cases k7 : k = 7
      · have := x2 k7; omega
      · refine x1 ?_
        unfold fsT at hf
        split at hf
        · omega
        · omega
    exact cons_eq (hl l a1) (hl l' b1) a3 b3 h.2.1 h.2.2
  · rw [if_neg hf, if_neg hf] at h
    simp only [Prod.mk.injEq] at h
    exact toNat_inj l l' a3 b3 h.2.2
theorem inj_T {ν : Nat → Nat} {c : Nat} {σ : Sg} (h : IT σ) (hn : NmT ν c σ) : Inj (stT ν σ) := by
  obtain ⟨h1, h2, h3, h4, h5⟩ := h
  intro x y x0 hx y0 hy e
  have hx : x ≤ nT σ := hx
  have hy : y ≤ nT σ := hy
  exact h4 x y x0 hx y0 hy (labT_inj hn.2 (h2.1 x x0 hx).1 (fun p hp => rawT_nn h2 x0 hx hp) (fun h => hn.1 x x0 hx h) (h2.1 y y0 hy).1 (fun p hp => rawT_nn h2 y0 hy hp) (fun h => hn.1 y y0 hy h) e)
theorem mk_T {ν : Nat → Nat} {u u' : Sg} {r : Int × List Int} {x : Nat} (m : MkT u r x u') : Mk (stT ν u) (labT ν r) x (stT ν u') := by
  obtain ⟨m1, m2, m3, m4, m5, m6⟩ := m
  refine ⟨⟨?_, fun y y0 hy => ?_⟩, m2, ?_, ?_, ?_⟩
  · show nT u ≤ nT u'; omega
  · have hy : y ≤ nT u := hy
    show labT ν (rawT u' y) = labT ν (rawT u y)
    rw [(m5 y y0 hy).1]
  · show x ≤ nT u'; omega
  · show labT ν (rawT u' x) = _
    rw [m4]
  · show nT u' = nT u ∨ (nT u' = nT u + 1 ∧ x = nT u + 1)
    omega
/-- the data of the nodes up to n -/
def dSum (σ : Sg) : Nat → Nat
  | 0 => 0
  | n + 1 => dSum σ n + (rawT σ (n + 1)).2.length
def IT6 (σ : Sg) : Prop := dT σ = dSum σ (nT σ) ∧ ∀ x, 0 < x → x ≤ nT σ → gN σ 2 x = (dSum σ (x - 1) : Int)
theorem dSum_congr {σ σ' : Sg} : ∀ (n : Nat), (∀ y, 0 < y → y ≤ n → rawT σ' y = rawT σ y) → dSum σ' n = dSum σ n
  | 0, _ => rfl
  | n + 1, h => by rw [dSum, dSum, dSum_congr n (fun y y0 hy => h y y0 (by omega)), h (n + 1) (by omega) (Nat.le_refl _)]
theorem MkT.it6 {u u' : Sg} {r : Int × List Int} {x : Nat} (h : IT6 u) (m : MkT u r x u') : IT6 u' := by
  obtain ⟨m1, m2, m3, m4, m5, m6⟩ := m
  obtain ⟨h, hf⟩ := h
  have hc : ∀ n, n ≤ nT u → dSum u' n = dSum u n := fun n hn => dSum_congr n (fun y y0 hy => (m5 y y0 (by omega)).1)
  rcases m6 with ⟨e1, e2⟩ | ⟨e1, e2, e3, e4⟩
  · refine ⟨by rw [e1, e2, h, hc _ (Nat.le_refl _)], fun y y0 hy => ?_⟩
    rw [(m5 y y0 (by omega)).2.2.2, hf y y0 (by omega), hc _ (by omega)]
  · refine ⟨by rw [e1, e2, h, dSum, hc _ (Nat.le_refl _), ← e3, m4], fun y y0 hy => ?_⟩
    by_cases hyn : y ≤ nT u
    · rw [(m5 y y0 hyn).2.2.2, hf y y0 hyn, hc _ (by omega)]
    · have : y = x := by omega
      subst this
      rw [e4, h, e3, Nat.add_sub_cancel, hc _ (Nat.le_refl _)]
def ndT (ν : Nat → Nat) (σ : Sg) (t : Nat) : Prop := ∃ x, 0 < x ∧ x ≤ nT σ ∧ trT ν σ x = t
def ST (ν : Nat → Nat) (c : Nat) (u : Sg) : Prop := IT u ∧ IT6 u ∧ NmT ν c u
/-- from u to u': the store has grown by trees of X alone, the hand is as it was -/
def UpT (ν : Nat → Nat) (c : Nat) (u u' : Sg) (X : Nat → Prop) : Prop := ST ν c u' ∧ Ext (stT ν u) (stT ν u') ∧ (∀ t, ndT ν u' t → ndT ν u t ∨ X t) ∧ hT u' = hT u ∧ ∀ i, i < hT u → gN u' 12 i = gN u 12 i
def LimT (ν : Nat → Nat) (u : Sg) (X : Nat → Prop) : Prop := ∀ l : List Nat, l.Nodup → (∀ t ∈ l, ndT ν u t ∨ X t) → l.length < 119990 ∧ (l.map (fun t => (ps t).length + 1)).sum ≤ 520000
theorem UpT.rf {ν : Nat → Nat} {c : Nat} {u : Sg} {X : Nat → Prop} (h : ST ν c u) : UpT ν c u u X := ⟨h, Ext.rf, fun _ ht => Or.inl ht, rfl, fun _ _ => rfl⟩
theorem UpT.trn {ν : Nat → Nat} {c : Nat} {u u1 u2 : Sg} {X Y : Nat → Prop} (h : UpT ν c u u1 X) (h' : UpT ν c u1 u2 Y) : UpT ν c u u2 (fun t => X t ∨ Y t) := by
  refine ⟨h'.1, h.2.1.tr h'.2.1, fun t ht => ?_, h'.2.2.2.1.trans h.2.2.2.1, fun i hi => ?_⟩
  · rcases h'.2.2.1 t ht with q | q
    · exact (h.2.2.1 t q).imp id Or.inl
    · exact Or.inr (Or.inr q)
  · rw [h'.2.2.2.2 i (by rw [h.2.2.2.1]; exact hi), h.2.2.2.2 i hi]
theorem UpT.mono {ν : Nat → Nat} {c : Nat} {u u1 : Sg} {X Y : Nat → Prop} (h : UpT ν c u u1 X) (hxy : ∀ t, X t → ndT ν u t ∨ Y t) : UpT ν c u u1 Y :=
  ⟨h.1, h.2.1, fun t ht => (h.2.2.1 t ht).elim Or.inl (hxy t), h.2.2.2⟩
theorem UpT.tr {ν : Nat → Nat} {c : Nat} {u u1 : Sg} {X : Nat → Prop} (hs : ST ν c u) (h : UpT ν c u u1 X) {x : Nat} (hx : x ≤ nT u) : trT ν u1 x = trT ν u x :=
  tr_ext (okp_T hs.1) (okp_T h.1.1) h.2.1 x hx
theorem UpT.n {ν : Nat → Nat} {c : Nat} {u u1 : Sg} {X : Nat → Prop} (h : UpT ν c u u1 X) : nT u ≤ nT u1 := h.2.1.1
theorem UpT.nd {ν : Nat → Nat} {c : Nat} {u u1 : Sg} {X : Nat → Prop} (hs : ST ν c u) (h : UpT ν c u u1 X) {t : Nat} (ht : ndT ν u t) : ndT ν u1 t := by
  obtain ⟨x, x0, hx, e⟩ := ht
  exact ⟨x, x0, Nat.le_trans hx h.n, by rw [h.tr hs hx, e]⟩
theorem LimT.up {ν : Nat → Nat} {c : Nat} {u u1 : Sg} {X Y Z : Nat → Prop} (hl : LimT ν u Z) (h : UpT ν c u u1 X) (hx : ∀ t, X t → Z t) (hy : ∀ t, Y t → Z t) : LimT ν u1 Y := fun l hn hm => hl l hn (fun t ht => by
  rcases hm t ht with q | q
  · exact (h.2.2.1 t q).imp id (hx t)
  · exact Or.inr (hy t q))
theorem LimT.mono {ν : Nat → Nat} {u : Sg} {X Y : Nat → Prop} (hl : LimT ν u X) (hy : ∀ t, Y t → ndT ν u t ∨ X t) : LimT ν u Y := fun l hn hm => hl l hn (fun t ht => (hm t ht).elim Or.inl (hy t))
theorem trT_inj {ν : Nat → Nat} {c : Nat} {u : Sg} (hs : ST ν c u) {x y : Nat} (hx : x ≤ nT u) (hy : y ≤ nT u) (e : trT ν u x = trT ν u y) : x = y :=
  tr_inj (okp_T hs.1) (inj_T hs.1 hs.2.2) x y hx hy e
theorem trT_eq {ν : Nat → Nat} {u : Sg} (h : IT u) {x : Nat} (x0 : 0 < x) (hx : x ≤ nT u) : trT ν u x = mk (labT ν (rawT u x)).1 (labT ν (rawT u x)).2.1 (pmp (trT ν u) (labT ν (rawT u x)).1 (labT ν (rawT u x)).2.2) :=
  tr_eq (okp_T h) x0 hx
theorem labT_len {ν : Nat → Nat} {r : Int × List Int} (h : okR r) : r.2.length ≤ (labT ν r).2.2.length + 1 := by
  have h2 := h.2.1
  unfold labT
  by_cases k1 : r.1 = 1
  · rw [if_pos k1, h2 (Or.inl k1)]; show 1 ≤ 0 + 1; omega
  rw [if_neg k1]
  by_cases k2 : r.1 = 2
  · rw [if_pos k2, h2 (Or.inr k2)]
    split <;> (show 1 ≤ 0 + 1; omega)
  rw [if_neg k2]
  split
  · show r.2.length ≤ ((r.2.drop 1).map Int.toNat).length + 1
    rw [List.length_map, List.length_drop]; omega
  · show r.2.length ≤ (r.2.map Int.toNat).length + 1
    rw [List.length_map]; omega
theorem nd_listT {ν : Nat → Nat} {c : Nat} {u : Sg} (hs : ST ν c u) : ∃ l : List Nat, l.Nodup ∧ l.length = nT u ∧ (∀ t ∈ l, ndT ν u t) ∧ dT u ≤ (l.map (fun t => (ps t).length + 1)).sum := by
  have key : ∀ n, n ≤ nT u → ∃ l : List Nat, l.Nodup ∧ l.length = n ∧ (∀ t ∈ l, ∃ x, 0 < x ∧ x ≤ n ∧ trT ν u x = t) ∧ dSum u n ≤ (l.map (fun t => (ps t).length + 1)).sum := by
    intro n
    induction n with
    | zero => exact fun _ => ⟨[], List.nodup_nil, rfl, (fun t h => by cases h), Nat.le_refl _⟩
    | succ n ih =>
      intro hn
      obtain ⟨l, l1, l2, l3, l4⟩ := ih (by omega)
      refine ⟨trT ν u (n + 1) :: l, List.nodup_cons.mpr ⟨fun hm => ?_, l1⟩, by rw [List.length_cons, l2], fun t ht => ?_, ?_⟩
      · obtain ⟨x, x0, hx, e⟩ := l3 _ hm
        have := trT_inj hs (by omega) (by omega) e
        omega
      · rcases List.mem_cons.mp ht with q | q
        · exact ⟨n + 1, by omega, by omega, q.symm⟩
        · obtain ⟨x, x0, hx, e⟩ := l3 t q
          exact ⟨x, x0, by omega, e⟩
      · rw [List.map_cons, List.sum_cons, dSum, trT_eq hs.1 (by omega) hn, ps_mk, pmp_len]
        have := labT_len (ν := ν) (hs.1.2.1.1 (n + 1) (by omega) hn).1
        omega
  obtain ⟨l, l1, l2, l3, l4⟩ := key (nT u) (Nat.le_refl _)
  exact ⟨l, l1, l2, l3, by rw [hs.2.1.1]; exact l4⟩
theorem LimT.n {ν : Nat → Nat} {c : Nat} {u : Sg} {X : Nat → Prop} (hs : ST ν c u) (hl : LimT ν u X) : nT u < 119990 ∧ dT u ≤ 520000 := by
  obtain ⟨l, l1, l2, l3, l4⟩ := nd_listT hs
  have := hl l l1 (fun t ht => Or.inl (l3 t ht))
  omega
