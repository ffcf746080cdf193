/-- x is the node of a label behind a make; what stood before stands as it stood -/
def MkC (u : Sg) (r : Int × Int × List Int) (x : Nat) (u' : Sg) : Prop :=
  IC u' ∧ 0 < x ∧ x < nC u' ∧ rawC u' x = r ∧ (∀ y, 0 < y → y < nC u → rawC u' y = rawC u y ∧ gN u' 4 y = gN u 4 y ∧ gN u' 5 y = gN u 5 y ∧ gN u' 2 y = gN u 2 y) ∧ ((nC u' = nC u ∧ pC u' = pC u) ∨ (nC u' = nC u + 1 ∧ pC u' = pC u + r.2.2.length ∧ x = nC u ∧ gN u' 2 x = (pC u : Int)))
theorem mn9_rng {v : Int} (h : 1 ≤ v) : 1 ≤ mn9 v ∧ mn9 v ≤ 1000000000 := by unfold mn9; split <;> omega
theorem sum_nn {s : Nat → Int} : ∀ (l : List Int), (∀ p ∈ l, p ≠ 0 → 0 ≤ s p.toNat ∧ s p.toNat ≤ 1000000000) → 0 ≤ (l.map (gz s)).sum ∧ (l.map (gz s)).sum ≤ 1000000000 * l.length
  | [], _ => ⟨Int.le_refl _, Int.le_refl _⟩
  | p :: l, h => by
    have := sum_nn l (fun q hq => h q (List.mem_cons_of_mem _ hq))
    rw [List.map_cons, List.sum_cons, List.length_cons]
    have hg : 0 ≤ gz s p ∧ gz s p ≤ 1000000000 := by
      unfold gz
      split
      · omega
      · rename_i hp
        exact h p List.mem_cons_self hp
    omega
theorem szE_rng {s : Nat → Int} {k w : Int} {l : List Int} (h : ∀ p ∈ fptR (k, w, l), p ≠ 0 → 0 ≤ s p.toNat ∧ s p.toNat ≤ 1000000000) : 1 ≤ szE s (k, w, l) ∧ szE s (k, w, l) ≤ 1 + 1000000001 * l.length := by
  unfold szE
  unfold fptR at h
  split
  · rename_i hk
    have hk : k = 8 := hk
    simp only [hk, if_true] at h
    have := sum_nn _ h
    have h2 : (l.take 1).length + (l.drop 1).length = l.length := by rw [← List.length_append, List.take_append_drop]
    simp only
    omega
  · rename_i hk
    have hk : ¬ k = 8 := hk
    simp only [hk, if_false] at h
    have := sum_nn _ h
    simp only
    omega
theorem loF_rng {lo : Nat → Int} {k : Int} : ∀ (l : List Int) (i : Nat) (acc : Int), 0 ≤ acc → acc ≤ 1000000 → (∀ p ∈ l, p ≠ 0 → 0 ≤ lo p.toNat ∧ lo p.toNat ≤ 1000000) → 0 ≤ loF lo k i acc l ∧ loF lo k i acc l ≤ 1000000
  | [], _, _, h0, h1, _ => ⟨h0, h1⟩
  | p :: l, i, acc, h0, h1, h => by
    rw [loF]
    have hp := h p List.mem_cons_self
    refine loF_rng l (i + 1) _ ?_ ?_ (fun q hq => h q (List.mem_cons_of_mem _ hq)) <;>
      (split
       · assumption
       · rename_i hz
         have := hp hz
         unfold mx
         split <;> split <;> omega)
theorem wp_jnG {β : Type} {k : β} {K : β → Option (Int × Sg)} {Q : Int → Sg → Prop} (P : β → Prop) (h1 : P k) (h2 : ∀ j, P j → wp (K j) Q) : wp (jn k K) Q := h2 k h1
theorem wp_L26 {d : Nat} {u : Sg} {k w b : Int} {a : Nat} {Q : Int → Sg → Prop} (hI : IC u) (ha : a ≤ rC u) (hb : b = hsh (k, w, rowC u a)) {y : Int} (ht : topOf (hsx u) (nC u) b y) {x0 : Int → Int → Int → Int → Int → Sg → Option (Int × Sg)} {x1 : Int → Int → Sg → Option (Int × Sg)}
    (h0 : (∀ z, 0 < z → z < nC u → rawC u z ≠ (k, w, rowC u a)) → wp (x0 k w (a : Int) b ((rC u - a : Nat) : Int) u) Q) (h1 : ∀ z : Nat, 0 < z → z < nC u → rawC u z = (k, w, rowC u a) → wp (x1 (a : Int) (z : Int) u) Q) : wp (bX2_make_L26 (runC d) KF k w (a : Int) b ((rC u - a : Nat) : Int) y u x0 x1) Q := by
  have hn : nC u < KF := by
    have := hI.1.1.2.2
    have := hI.1.2.2.2.2.2.2.1
    unfold KF; omega
  rcases make_L26 (d := d) hI ha hb (nC u) KF y (Nat.le_refl _) hn ht x0 x1 with ⟨e, hnew⟩ | ⟨z, z0, zn, ze, e⟩
  · rw [e]; exact h0 hnew
  · rw [e]; exact h1 z z0 zn ze
/-- room for the parts -/
theorem wp_L267 {d : Nat} {u s : Sg} {k w b : Int} {a n : Nat} {Q : Int → Sg → Prop} (hs : SameS u s) (hP : pC u + n ≤ 270000) {x0 : Int → Int → Int → Int → Int → Sg → Option (Int × Sg)}
    (h0 : ∀ s', SameS u s' → gL s' 0 = gL s 0 → gL s' 11 = gL s 11 → pC u + n ≤ gL s' 7 → wp (x0 k w (a : Int) b (n : Int) s') Q) : wp (bX2_make_L267 (runC d) KF k w (a : Int) b (n : Int) s x0) Q := by
  have st : ∀ (f : Nat) (s : Sg), SameS u s → pC u + n ≤ gL s 7 → (∀ s', s' = s → wp (x0 k w (a : Int) b (n : Int) s') Q) → wp (bX2_make_L267 (runC d) (f + 1) k w (a : Int) b (n : Int) s x0) Q := by
    intro f s hs hp h0
    have hs' := hs
    obtain ⟨⟨⟨r1, r2, r3⟩, ⟨r4, r5⟩, ⟨r6, r7⟩, ⟨m1, m2, m3, m4, m5, m6⟩, m8, m11, m0, m7⟩, a2, a3, a4, a5, a6, a7, a8⟩ := hs
    rw [bX2_make_L267, wp_un, wp_ar, wp_un, r4]
    refine ⟨⟨by omega, by omega⟩, wp_ite (fun _ => h0 s rfl) (fun h => by omega)⟩
  have hs' := hs
  obtain ⟨⟨⟨r1, r2, r3⟩, ⟨r4, r5⟩, ⟨r6, r7⟩, ⟨m1, m2, m3, m4, m5, m6⟩, m8, m11, m0, m7⟩, a2, a3, a4, a5, a6, a7, a8⟩ := hs
  by_cases hp : pC u + n ≤ gL s 7
  · exact st (KF - 1) s hs' hp (fun s' e => by rw [e]; exact h0 s hs' rfl rfl hp)
  · have h7 : gL s 7 = 180000 := by omega
    rw [show KF = (KF - 2) + 1 + 1 by decide, bX2_make_L267, wp_un, wp_ar, wp_un, r4]
    refine ⟨⟨by omega, by omega⟩, wp_ite (fun h => by omega) (fun _ => ?_)⟩
    rw [wp_un, wp_un, wp_gd, h7, show Int.tdiv ((180000 : Nat) : Int) 2 = 90000 from by decide, wp_ar, wp_ar, wp_cpy]
    have e9 : (((180000 : Nat) : Int) + 90000).toNat = 270000 := by decide
    have hL : ∀ j, j ≠ 7 → gL (sN s 7 (((180000 : Nat) : Int) + 90000).toNat (fun j => if j < gL s 7 then gF s 7 j else 0)) j = gL s j := fun j hj => by rw [gL_sN, if_neg hj]
    have hS : SameS u (sN s 7 (((180000 : Nat) : Int) + 90000).toNat (fun j => if j < gL s 7 then gF s 7 j else 0)) := by
      have hL7 : gL (sN s 7 (((180000 : Nat) : Int) + 90000).toNat (fun j => if j < gL s 7 then gF s 7 j else 0)) 7 = 270000 := by rw [gL_sN, if_pos rfl, e9]
      have hg : ∀ k j, k ≠ 7 → gN (sN s 7 (((180000 : Nat) : Int) + 90000).toNat (fun j => if j < gL s 7 then gF s 7 j else 0)) k j = gN s k j := fun k j hk => by rw [gN_sN, if_neg hk]
      refine ⟨⟨⟨r1, r2, by rw [hL 0 (by decide)]; exact r3⟩, ⟨r4, by rw [hL7]; show pC s ≤ 270000; omega⟩, ⟨r6, by rw [hL 11 (by decide)]; exact r7⟩, ⟨by rw [hL 1 (by decide), hL 0 (by decide)]; exact m1, by rw [hL 2 (by decide), hL 0 (by decide)]; exact m2, by rw [hL 3 (by decide), hL 0 (by decide)]; exact m3, by rw [hL 4 (by decide), hL 0 (by decide)]; exact m4, by rw [hL 5 (by decide), hL 0 (by decide)]; exact m5, by rw [hL 6 (by decide), hL 0 (by decide)]; exact m6⟩, by rw [hL 8 (by decide)]; exact m8, by rw [hL 11 (by decide)]; exact m11, by rw [hL 0 (by decide)]; exact m0, Or.inr hL7⟩, fun k hk x hx => by rw [hg k x (by omega)]; exact a2 k hk x hx, fun i hi => ?_, fun i => by rw [hg 8 i (by decide)]; exact a4 i, fun i hi => by rw [hg 11 i (by decide)]; exact a5 i hi, a6, a7, a8⟩
      rw [gN_sN, if_pos rfl, if_pos (by omega)]
      exact a3 i hi
    refine ⟨by decide, ⟨by decide, by decide⟩, ⟨by decide, by decide⟩, ⟨by omega, by omega, by decide⟩, ?_⟩
    refine st (KF - 2) _ hS (by rw [gL_sN, if_pos rfl, e9]; exact hP) (fun s' e => ?_)
    rw [e]
    exact h0 _ hS (hL 0 (by decide)) (hL 11 (by decide)) (by rw [gL_sN, if_pos rfl, e9]; exact hP)
/-- a longer array of the store -/
theorem SameS.grow {u s : Sg} {id : Nat} (hid : id ≤ 6) (n : Nat) (h7 : ∀ k, k ≤ 6 → ∀ x, x < nC u → gN s k x = gN u k x) (hn : nC u ≤ gL s id) : ∀ k, k ≤ 6 → ∀ x, x < nC u → gN (sN s id n (fun j => if j < gL s id then gF s id j else 0)) k x = gN u k x := fun k hk x hx => by
  rw [gN_sN]
  split
  · rename_i e; subst e
    rw [if_pos (by omega)]; exact h7 k hk x hx
  · exact h7 k hk x hx
