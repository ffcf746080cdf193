/-! the tree of cases stands for a list of cases -/
def CapQ (v : Int) (m : Nat) : Prop := (m ≤ 1000 → v = (m : Int)) ∧ (1000 < m → 1000 < v ∧ v ≤ 1099511627776)
theorem CapQ.rng {v : Int} {m : Nat} (h : CapQ v m) : 0 ≤ v ∧ v ≤ 1099511627776 ∧ (v = 0 ↔ m = 0) := by
  obtain ⟨a, b⟩ := h
  by_cases q : m ≤ 1000
  · have := a q; omega
  · have := b (by omega); omega
theorem CapQ.add {a v : Int} {m k : Nat} (ha : CapQ a m) (hv : CapQ v k) : CapQ (if a + v < 1099511627776 then a + v else 1099511627776) (m + k) := by
  have r1 := ha.rng
  have r2 := hv.rng
  obtain ⟨a1, a2⟩ := ha
  obtain ⟨b1, b2⟩ := hv
  constructor
  · intro h
    have e1 := a1 (by omega)
    have e2 := b1 (by omega)
    rw [if_pos (by omega)]
    omega
  · intro h
    split
    · by_cases q : m ≤ 1000
      · have e1 := a1 q
        by_cases q2 : k ≤ 1000
        · have e2 := b1 q2; omega
        · have e2 := b2 (by omega); omega
      · have e1 := a2 (by omega)
        omega
    · omega
theorem CapQ.mul {a v : Int} {m k : Nat} (ha : CapQ a m) (hv : CapQ v k) (hm : 0 < m) (hk : 0 < k) : (a < Int.tdiv 1099511627776 v → CapQ (a * v) (m * k) ∧ inL (a * v)) ∧ (¬ a < Int.tdiv 1099511627776 v → CapQ 1099511627776 (m * k)) := by
  have r1 := ha.rng
  have r2 := hv.rng
  obtain ⟨a1, a2⟩ := ha
  obtain ⟨b1, b2⟩ := hv
  have v0 : 0 < v := by omega
  have a0 : 0 < a := by omega
  have mk1 : m ≤ m * k := Nat.le_mul_of_pos_right m hk
  have mk2 : k ≤ m * k := Nat.le_mul_of_pos_left k hm
  have ed : Int.tdiv 1099511627776 v = 1099511627776 / v := Int.tdiv_eq_ediv_of_nonneg (by omega)
  rw [ed]
  have av1 : a ≤ a * v := by
    have := Int.mul_le_mul_of_nonneg_left (show (1 : Int) ≤ v by omega) (show (0 : Int) ≤ a by omega)
    rw [Int.mul_one] at this
    exact this
  have av2 : v ≤ a * v := by
    have := Int.mul_le_mul_of_nonneg_right (show (1 : Int) ≤ a by omega) (show (0 : Int) ≤ v by omega)
    rw [Int.one_mul] at this
    exact this
  constructor
  · intro h
    have h2 : a * v ≤ 1099511627776 := by
      have h3 := Int.mul_le_mul_of_nonneg_right (show a ≤ 1099511627776 / v by omega) (show (0 : Int) ≤ v by omega)
      have h4 := Int.ediv_mul_le 1099511627776 (show v ≠ 0 by omega)
      omega
    refine ⟨⟨fun q => ?_, fun q => ⟨?_, h2⟩⟩, ⟨by omega, by omega⟩⟩
    · rw [a1 (by omega), b1 (by omega)]
      exact (Int.natCast_mul m k).symm
    · by_cases q1 : m ≤ 1000
      · by_cases q2 : k ≤ 1000
        · rw [a1 q1, b1 q2, ← Int.natCast_mul]
          omega
        · have := b2 (by omega); omega
      · have := a2 (by omega); omega
  · intro h
    refine ⟨fun q => ?_, fun q => ⟨by omega, by omega⟩⟩
    exfalso
    have e1 := a1 (by omega)
    have e2 := b1 (by omega)
    have h3 : (1099511627 : Int) ≤ 1099511627776 / v := Int.le_ediv_of_mul_le v0 (by omega)
    omega
/-- product of what is not nothing -/
def pnz : List (List (List Nat)) → Nat
  | [] => 1
  | A :: r => (if A.length = 0 then 1 else A.length) * pnz r
theorem pnz_pos : ∀ L : List (List (List Nat)), 0 < pnz L
  | [] => Nat.one_pos
  | A :: r => by
    rw [pnz]
    refine Nat.mul_pos ?_ (pnz_pos r)
    split <;> omega
theorem pnz_app : ∀ (L : List (List (List Nat))) (A : List (List Nat)), pnz (L ++ [A]) = pnz L * (if A.length = 0 then 1 else A.length)
  | [], A => by
    show (if A.length = 0 then 1 else A.length) * 1 = 1 * _
    rw [Nat.mul_comm]
  | B :: r, A => by
    show (if B.length = 0 then 1 else B.length) * pnz (r ++ [A]) = (if B.length = 0 then 1 else B.length) * pnz r * _
    rw [pnz_app r A, Nat.mul_assoc]
theorem flatMap_len {A : List (List Nat)} : ∀ L : List (List Nat), (L.flatMap (fun y => A.map (fun x => x ++ y))).length = A.length * L.length
  | [] => by simp
  | y :: r => by
    rw [List.flatMap_cons, List.length_append, List.length_map, flatMap_len r, List.length_cons, Nat.mul_succ]
    omega
theorem prodL_len (A : List (List Nat)) (r : List (List (List Nat))) : (prodL (A :: r)).length = A.length * (prodL r).length := by
  rw [prodL, flatMap_len]
theorem prodL_nz : ∀ {L : List (List (List Nat))}, (∀ A ∈ L, A.length ≠ 0) → (prodL L).length = pnz L
  | [], _ => rfl
  | A :: r, h => by
    rw [prodL_len, prodL_nz (fun B hB => h B (List.mem_cons_of_mem _ hB)), pnz, if_neg (h A List.mem_cons_self)]
theorem prodL_z : ∀ {L : List (List (List Nat))}, (∃ A ∈ L, A.length = 0) → (prodL L).length = 0
  | [], ⟨_, h, _⟩ => by cases h
  | A :: r, ⟨B, hB, e⟩ => by
    rw [prodL_len]
    rcases List.mem_cons.mp hB with q | q
    · rw [← q, e, Nat.zero_mul]
    · rw [prodL_z ⟨B, q, e⟩, Nat.mul_zero]
/-- the children of a node of cases stand one behind the other -/
def ptrE (E : Nat → Nat) (k i : Nat) : Int := if i < k then (E i : Int) else 0
def KidR (R : Nat → Nat → List (List Nat) → Prop) (u : Sg) (p hi : Nat) (Ls : List (List (List Nat))) : Prop := ∃ E : Nat → Nat, E 0 = p + 1 ∧ E Ls.length = hi + 1 ∧ (∀ i, i < Ls.length → E i < E (i + 1)) ∧ gN u 44 p = ptrE E Ls.length 0 ∧ (∀ i, i < Ls.length → gN u 45 (E i) = ptrE E Ls.length (i + 1)) ∧ ∀ i A, Ls[i]? = some A → R (E i) (E (i + 1) - 1) A
def RepN (ν : Nat → Nat) : Nat → Sg → Nat → Nat → List (List Nat) → Prop
  | 0, _, _, _, _ => False
  | n + 1, u, e, hi, L => (0 < e ∧ e ≤ hi) ∧ CapQ (gN u 47 e) L.length ∧ ((gN u 43 e = 3 ∧ ∃ g, g ≠ 0 ∧ inT ν u (gN u 46 e) g ∧ L = [[g]]) ∨ (gN u 43 e = 1 ∧ ∃ Ls, KidR (RepN ν n u) u e hi Ls ∧ L = prodL Ls) ∨ (gN u 43 e = 2 ∧ ∃ Ls, KidR (RepN ν n u) u e hi Ls ∧ L = Ls.flatten))
theorem RepN.cap {ν : Nat → Nat} {n e hi : Nat} {u : Sg} {L : List (List Nat)} (h : RepN ν n u e hi L) : (0 < e ∧ e ≤ hi) ∧ CapQ (gN u 47 e) L.length := by
  cases n with
  | zero => exact h.elim
  | succ n => exact ⟨h.1, h.2.1⟩
theorem mono_E {E : Nat → Nat} {k : Nat} (h : ∀ i, i < k → E i < E (i + 1)) : ∀ i j, i ≤ j → j ≤ k → E i + (j - i) ≤ E j := by
  intro i j hij
  induction j with
  | zero => intro _; have : i = 0 := by omega
            rw [this]; simp
  | succ j ih =>
    intro hk
    by_cases q : i = j + 1
    · rw [q]; omega
    · have := ih (by omega) (by omega)
      have := h j (by omega)
      omega
theorem KidR.mono {R R' : Nat → Nat → List (List Nat) → Prop} {u u' : Sg} {p hi : Nat} {Ls : List (List (List Nat))} (h : KidR R u p hi Ls) (h44 : gN u' 44 p = gN u 44 p) (h45 : ∀ i, p < i → i ≤ hi → gN u' 45 i = gN u 45 i) (hR : ∀ e m A, p < e → e ≤ m → m ≤ hi → R e m A → R' e m A) : KidR R' u' p hi Ls := by
  obtain ⟨E, e0, e1, e2, e3, e4, e5⟩ := h
  refine ⟨E, e0, e1, e2, by rw [h44]; exact e3, fun i hi' => ?_, fun i A hA => ?_⟩
  · have a := mono_E e2 0 i (by omega) (by omega)
    have b := mono_E e2 (i + 1) Ls.length (by omega) (by omega)
    have c := e2 i hi'
    rw [h45 (E i) (by omega) (by omega)]
    exact e4 i hi'
  · obtain ⟨hi', _⟩ := List.getElem?_eq_some_iff.mp hA
    have a := mono_E e2 0 i (by omega) (by omega)
    have b := mono_E e2 (i + 1) Ls.length (by omega) (by omega)
    have c := e2 i hi'
    exact hR _ _ A (by omega) (by omega) (by omega) (e5 i A hA)
theorem RepN.fr {ν ν' : Nat → Nat} : ∀ (n : Nat) {u u' : Sg} {e hi : Nat} {L : List (List Nat)}, RepN ν n u e hi L → (∀ j, j = 43 ∨ j = 44 ∨ j = 46 ∨ j = 47 → ∀ i, e ≤ i → i ≤ hi → gN u' j i = gN u j i) → (∀ i, e < i → i ≤ hi → gN u' 45 i = gN u 45 i) → (∀ v t, inT ν u v t → inT ν' u' v t) → RepN ν' n u' e hi L
  | 0, _, _, _, _, _, h, _, _, _ => h.elim
  | n + 1, u, u', e, hi, L, h, hj, h45, hT => by
    obtain ⟨h1, h2, h3⟩ := h
    have kid : ∀ Ls, KidR (RepN ν n u) u e hi Ls → KidR (RepN ν' n u') u' e hi Ls := fun Ls hk => hk.mono (hj 44 (by omega) e (by omega) (by omega)) h45 (fun e' m A a b c hR => RepN.fr n hR (fun j hj' i i1 i2 => hj j hj' i (by omega) (by omega)) (fun i i1 i2 => h45 i (by omega) (by omega)) hT)
    refine ⟨h1, by rw [hj 47 (by omega) e (by omega) (by omega)]; exact h2, ?_⟩
    rw [hj 43 (by omega) e (by omega) (by omega), hj 46 (by omega) e (by omega) (by omega)]
    rcases h3 with ⟨a, g, g0, b, c⟩ | ⟨a, Ls, b, c⟩ | ⟨a, Ls, b, c⟩
    · exact Or.inl ⟨a, g, g0, hT _ _ b, c⟩
    · exact Or.inr (Or.inl ⟨a, Ls, kid Ls b, c⟩)
    · exact Or.inr (Or.inr ⟨a, Ls, kid Ls b, c⟩)
theorem RepN.succ {ν : Nat → Nat} : ∀ (n : Nat) {u : Sg} {e hi : Nat} {L : List (List Nat)}, RepN ν n u e hi L → RepN ν (n + 1) u e hi L
  | 0, _, _, _, _, h => h.elim
  | n + 1, u, e, hi, L, h => by
    obtain ⟨h1, h2, h3⟩ := h
    have kid : ∀ Ls, KidR (RepN ν n u) u e hi Ls → KidR (RepN ν (n + 1) u) u e hi Ls := fun Ls hk => hk.mono rfl (fun _ _ _ => rfl) (fun e' m A a b c hR => RepN.succ n hR)
    refine ⟨h1, h2, ?_⟩
    rcases h3 with a | ⟨a, Ls, b, c⟩ | ⟨a, Ls, b, c⟩
    · exact Or.inl a
    · exact Or.inr (Or.inl ⟨a, Ls, kid Ls b, c⟩)
    · exact Or.inr (Or.inr ⟨a, Ls, kid Ls b, c⟩)
/-! counted -/
def CntI (kx : Int) (Dn : List (List (List Nat))) (a2 a4 : Int) : Prop := (kx = 2 → a4 = 0 ∧ CapQ a2 Dn.flatten.length) ∧ (kx = 1 → CapQ a2 (pnz Dn) ∧ ((a4 = 0 ∧ ∀ A ∈ Dn, A.length ≠ 0) ∨ (a4 = 1 ∧ ∃ A ∈ Dn, A.length = 0)))
theorem CntI.fin {kx : Int} {Ls : List (List (List Nat))} {a2 a4 : Int} (h : CntI kx Ls a2 a4) : (kx = 2 → a4 = 0 ∧ CapQ a2 Ls.flatten.length) ∧ (kx = 1 → (a4 = 0 ∧ CapQ a2 (prodL Ls).length) ∨ (a4 = 1 ∧ CapQ 0 (prodL Ls).length)) := by
  refine ⟨h.1, fun q => ?_⟩
  obtain ⟨a, b | b⟩ := h.2 q
  · exact Or.inl ⟨b.1, by rw [prodL_nz b.2]; exact a⟩
  · exact Or.inr ⟨b.1, by rw [prodL_z b.2]; exact ⟨fun _ => rfl, fun z => by omega⟩⟩
theorem o_cmp_0 {a b : Int} : o_cmp a b = 0 ↔ a = b := by
  unfold o_cmp
  split
  · constructor
    · intro h; omega
    · intro h; omega
  · split
    · constructor
      · intro _; omega
      · intro _; rfl
    · constructor
      · intro h; omega
      · intro h; omega
theorem o_cmp_n {a b : Int} : o_cmp a b < 0 ↔ a < b := by
  unfold o_cmp
  split
  · constructor
    · intro h; omega
    · intro h; omega
  · split
    · constructor
      · intro h; omega
      · intro h; omega
    · constructor
      · intro h; omega
      · intro h; omega
theorem o_cmp_le {a b : Int} : o_cmp a b ≤ 0 ↔ a ≤ b := by
  unfold o_cmp
  split
  · constructor
    · intro h; omega
    · intro h; omega
  · split
    · constructor
      · intro h; omega
      · intro h; omega
    · constructor
      · intro h; omega
      · intro h; omega
theorem counted_L27 {d e hi q : Nat} {u : Sg} {Ls : List (List (List Nat))} {E : Nat → Nat} {kx : Int} {Q : Int → Sg → Prop} {x : Int → Int → Int → Sg → Option (Int × Sg)} (hQ : QS u q) (hhi : hi ≤ q) (he : e ≤ hi) (hk : gN u 43 e = kx) (hkx : kx = 1 ∨ kx = 2) (e0 : E 0 = e + 1) (e1 : E Ls.length = hi + 1) (e2 : ∀ i, i < Ls.length → E i < E (i + 1)) (e4 : ∀ i, i < Ls.length → gN u 45 (E i) = ptrE E Ls.length (i + 1)) (e5 : ∀ i A, Ls[i]? = some A → CapQ (gN u 47 (E i)) A.length) (hx : ∀ a2 a4, CntI kx Ls a2 a4 → wp (x (e : Int) a2 a4 u) Q) : ∀ (Rm Dn : List (List (List Nat))) (fu : Nat) (a2 a4 : Int), Ls = Dn ++ Rm → Rm.length < fu → CntI kx Dn a2 a4 → wp (bX3_counted_L27 (runT d) fu (e : Int) a2 a4 (ptrE E Ls.length Dn.length) u x) Q
  | [], Dn, fu, a2, a4, hL, hf, hI => by
    obtain ⟨fu, rfl⟩ : ∃ f', fu = f' + 1 := ⟨fu - 1, by simp at hf; omega⟩
    rw [List.append_nil] at hL
    rw [bX3_counted_L27, hL, ptrE, if_neg (Nat.lt_irrefl _), if_pos (Int.le_refl 0)]
    exact hx a2 a4 (by rw [hL]; exact hI)
  | A :: Rm, Dn, fu, a2, a4, hL, hf, hI => by
    obtain ⟨fu, rfl⟩ : ∃ f', fu = f' + 1 := ⟨fu - 1, by simp at hf; omega⟩
    have hlen : Dn.length < Ls.length := by rw [hL]; simp
    have gA : Ls[Dn.length]? = some A := by rw [hL, List.getElem?_append_right (Nat.le_refl _)]; simp
    have cA := e5 _ A gA
    have rA := cA.rng
    have b1 := mono_E e2 0 Dn.length (by omega) (by omega)
    have b2 := mono_E e2 Dn.length Ls.length (by omega) (by omega)
    have l43 := (hQ.2.2 43 (by omega) (by omega)).1
    have l45 := (hQ.2.2 45 (by omega) (by omega)).1
    have l47 := (hQ.2.2 47 (by omega) (by omega)).1
    have ep : ptrE E Ls.length Dn.length = (E Dn.length : Int) := if_pos hlen
    have hE47 : E Dn.length < gL u 47 := by omega
    have nx : ∀ b2 b4, CntI kx (Dn ++ [A]) b2 b4 → wp (ld u 45 (E Dn.length : Int) fun v3 => bX3_counted_L27 (runT d) fu (e : Int) b2 b4 v3 u x) Q := fun b2 b4 h => by
      rw [ld_nat (by omega), e4 _ hlen]
      have := counted_L27 (d := d) hQ hhi he hk hkx e0 e1 e2 e4 e5 hx Rm (Dn ++ [A]) fu b2 b4 (by rw [hL]; simp) (by simp at hf; omega) h
      rw [List.length_append] at this
      exact this
    rw [bX3_counted_L27, ep, if_neg (by omega), wp_jn, ld_nat (by omega), hk]
    generalize hv : gN u 47 (E Dn.length) = v at cA rA
    rcases hkx with hk1 | hk2
    · rw [if_neg (by omega), ld_nat (by omega), hv, wp_un]
      obtain ⟨c1, c2⟩ := hI.2 hk1
      have p1 := pnz_app Dn A
      have r1 := c1.rng
      refine wp_ite (fun h0 => ?_) (fun h0 => ?_)
      · have h0 := o_cmp_0.mp h0
        have hA0 := rA.2.2.mp h0
        refine nx a2 1 ⟨fun q => by omega, fun _ => ⟨by rw [p1, if_pos hA0, Nat.mul_one]; exact c1, Or.inr ⟨rfl, A, by simp, hA0⟩⟩⟩
      · have h0 : v ≠ 0 := fun q => h0 (o_cmp_0.mpr q)
        have hA0 : A.length ≠ 0 := fun q => h0 (rA.2.2.mpr q)
        obtain ⟨m1, m2⟩ := c1.mul cA (pnz_pos Dn) (by omega)
        have fin : ∀ b, CapQ b (pnz Dn * A.length) → CntI kx (Dn ++ [A]) b a4 := fun b hb => ⟨fun q => by omega, fun _ => ⟨by rw [p1, if_neg hA0]; exact hb, c2.imp (fun z => ⟨z.1, fun B hB => by
          rcases List.mem_append.mp hB with w | w
          · exact z.2 B w
          · rw [List.mem_singleton.mp w]; exact hA0⟩) (fun ⟨z1, B, z2, z3⟩ => ⟨z1, B, List.mem_append_left _ z2, z3⟩)⟩⟩
        rw [wp_jn, ld_nat hE47, hv, wp_gd]
        refine ⟨h0, ?_⟩
        have hdiv : 0 ≤ Int.tdiv 1099511627776 v ∧ Int.tdiv 1099511627776 v ≤ 1099511627776 := by
          rw [Int.tdiv_eq_ediv_of_nonneg (by omega)]
          exact ⟨Int.ediv_nonneg (by omega) (by omega), Int.ediv_le_self _ (by omega)⟩
        rw [wp_arL]
        refine ⟨⟨by omega, by omega⟩, ?_⟩
        rw [wp_un]
        refine wp_ite (fun hlt => ?_) (fun hge => ?_)
        · obtain ⟨m3, m4⟩ := m1 (o_cmp_n.mp hlt)
          rw [ld_nat hE47, hv, wp_arL]
          exact ⟨m4, nx _ _ (fin _ m3)⟩
        · exact nx _ _ (fin _ (m2 (fun z => hge (o_cmp_n.mpr z))))
    · rw [if_pos (by omega), ld_nat (by omega), hv, wp_arL]
      obtain ⟨c0, c1⟩ := hI.1 hk2
      have r1 := c1.rng
      refine ⟨⟨by omega, by omega⟩, ?_⟩
      rw [wp_un]
      refine nx _ _ ⟨fun _ => ⟨c0, ?_⟩, fun q => by omega⟩
      rw [List.flatten_append, List.length_append, show [A].flatten = A by simp]
      exact c1.add cA
/-- counted -/
theorem rX3_counted {d : Nat} (hd : 2 ≤ d) {ν : Nat → Nat} {u : Sg} {q e hi n : Nat} {Ls : List (List (List Nat))} {kx : Int} (hw : WF FT u) (hQ : QS u q) (hhi : hi ≤ q) (e0 : 0 < e) (he : e ≤ hi) (hk : gN u 43 e = kx) (hkx : kx = 1 ∨ kx = 2) (hK : KidR (RepN ν n u) u e hi Ls) : wp (runT (d + 1) 56 [(e : Int)] u) (fun r u' => r = (e : Int) ∧ QS u' q ∧ RepN ν (n + 1) u' e hi (if kx = 1 then prodL Ls else Ls.flatten) ∧ (∀ j, 43 ≤ j → j ≤ 47 → ∀ i, j ≠ 47 ∨ i ≠ e → gN u' j i = gN u j i) ∧ QF u u') := by
  rw [runT_eq (by omega)]
  show wp (bX3_counted (runT d) e u) _
  unfold bX3_counted
  have l43 := (hQ.2.2 43 (by omega) (by omega)).1
  have l44 := (hQ.2.2 44 (by omega) (by omega)).1
  have l47 := (hQ.2.2 47 (by omega) (by omega)).1
  have hK' := hK
  obtain ⟨E, f0, f1, f2, f3, f4, f5⟩ := hK'
  have hlen : Ls.length ≤ 30000 := by
    have := mono_E f2 0 Ls.length (by omega) (Nat.le_refl _)
    have := hQ.2.1
    omega
  have fin : ∀ v : Int, CapQ v (if kx = 1 then prodL Ls else Ls.flatten).length → wp (stA u 47 (e : Int) v fun s10 => some ((e : Int), s10)) (fun r u' => r = (e : Int) ∧ QS u' q ∧ RepN ν (n + 1) u' e hi (if kx = 1 then prodL Ls else Ls.flatten) ∧ (∀ j, 43 ≤ j → j ≤ 47 → ∀ i, j ≠ 47 ∨ i ≠ e → gN u' j i = gN u j i) ∧ QF u u') := fun v hv => by
    have rv := hv.rng
    have ww : WF FT (sA u 47 (e : Int) v) := wfLT hw rfl ⟨by omega, by omega⟩
    have hqf : QF u (sA u 47 (e : Int) v) := qf_sA ⟨by omega, by omega⟩ ww
    have hfr : ∀ j, 43 ≤ j → j ≤ 47 → ∀ i, j ≠ 47 ∨ i ≠ e → gN (sA u 47 (e : Int) v) j i = gN u j i := fun j a b i h => by
      rw [gN_sAn, if_neg (fun z => by omega)]
    rw [wp_stA]
    refine ⟨⟨by omega, by omega⟩, ?_⟩
    rw [wp_some]
    refine ⟨rfl, ⟨hQ.1, hQ.2.1, fun j a b => by rw [gL_sA]; exact hQ.2.2 j a b⟩, ⟨⟨e0, he⟩, by rw [gN_sAn, if_pos ⟨rfl, rfl⟩]; exact hv, ?_⟩, hfr, hqf⟩
    have kid : KidR (RepN ν n (sA u 47 (e : Int) v)) (sA u 47 (e : Int) v) e hi Ls := hK.mono (hfr 44 (by omega) (by omega) e (by omega)) (fun i i1 i2 => hfr 45 (by omega) (by omega) i (by omega)) (fun e' m A a b c hR => RepN.fr n hR (fun j hj i i1 i2 => hfr j (by omega) (by omega) i (by omega)) (fun i i1 i2 => hfr 45 (by omega) (by omega) i (by omega)) (fun v' t ht => ht.ee hqf.1))
    rw [hfr 43 (by omega) (by omega) e (by omega)]
    rcases hkx with h1 | h2
    · exact Or.inr (Or.inl ⟨by rw [hk, h1], Ls, kid, by rw [if_pos h1]⟩)
    · exact Or.inr (Or.inr ⟨by rw [hk, h2], Ls, kid, by rw [if_neg (by omega)]⟩)
  have loop : ∀ a2 : Int, CntI kx [] a2 0 → wp (ld u 44 (e : Int) fun v3 => bX3_counted_L27 (runT d) KF (e : Int) a2 0 v3 u (fun v5 v6 v7 s4 => jn (fun (a1 t1 t2 : Int) (s9 : Sg) => stA s9 47 t1 t2 fun s10 => some (a1, s10)) fun j8 => if v7 = 0 then (j8 v5 v5 v6 s4) else (j8 v5 v5 0 s4))) (fun r u' => r = (e : Int) ∧ QS u' q ∧ RepN ν (n + 1) u' e hi (if kx = 1 then prodL Ls else Ls.flatten) ∧ (∀ j, 43 ≤ j → j ≤ 47 → ∀ i, j ≠ 47 ∨ i ≠ e → gN u' j i = gN u j i) ∧ QF u u') := fun a2 hI => by
    rw [ld_nat (by omega), f3]
    refine counted_L27 (d := d) hQ hhi he hk hkx f0 f1 f2 f4 (fun i A hA => (f5 i A hA).cap.2) (fun b2 b4 hE => ?_) Ls [] KF a2 0 rfl (Nat.lt_of_le_of_lt (by omega : _ ≤ 65536) KF_gt) hI
    rw [wp_jn]
    obtain ⟨g1, g2⟩ := hE.fin
    rcases hkx with h1 | h2
    · rcases g2 h1 with ⟨z1, z2⟩ | ⟨z1, z2⟩
      · rw [if_pos z1]
        exact fin b2 (by rw [if_pos h1]; exact z2)
      · rw [if_neg (by omega)]
        exact fin 0 (by rw [if_pos h1]; exact z2)
    · obtain ⟨z1, z2⟩ := g1 h2
      rw [if_pos z1]
      exact fin b2 (by rw [if_neg (by omega)]; exact z2)
  rw [wp_jn, ld_nat (by omega), hk]
  refine wp_ite (fun h1 => ?_) (fun h1 => ?_)
  · exact loop 1 ⟨fun z => by omega, fun _ => ⟨⟨fun _ => rfl, fun z => by have : pnz [] = 1 := rfl
                                                                          omega⟩, Or.inl ⟨rfl, fun A hA => (by cases hA)⟩⟩⟩
  · exact loop 0 ⟨fun _ => ⟨rfl, ⟨fun _ => rfl, fun z => by simp at z⟩⟩, fun z => absurd z h1⟩
