/-! the leaves of a case -/
def addK : List Nat → List Nat → List Nat
  | K, [] => K
  | K, f :: x => addK (if f ∈ K then K else K ++ [f]) x
theorem addK_app : ∀ (x K y : List Nat), addK K (x ++ y) = addK (addK K x) y
  | [], _, _ => rfl
  | f :: x, K, y => addK_app x _ y
theorem addK_mem : ∀ (x K : List Nat) (g : Nat), g ∈ addK K x ↔ g ∈ K ∨ g ∈ x
  | [], K, g => ⟨Or.inl, fun h => h.elim id (fun q => by cases q)⟩
  | f :: x, K, g => by
    rw [addK, addK_mem x, List.mem_cons]
    by_cases h : f ∈ K
    · rw [if_pos h]
      constructor
      · rintro (a | a)
        · exact Or.inl a
        · exact Or.inr (Or.inr a)
      · rintro (a | a | a)
        · exact Or.inl a
        · rw [a]; exact Or.inl h
        · exact Or.inr a
    · rw [if_neg h, List.mem_append, List.mem_singleton, or_assoc]
theorem addK_len : ∀ (x K : List Nat), (addK K x).length ≤ K.length + x.length
  | [], _ => Nat.le_refl _
  | f :: x, K => by
    rw [addK]
    have := addK_len x (if f ∈ K then K else K ++ [f])
    split at this
    · rename_i h
      rw [if_pos h, List.length_cons]; omega
    · rename_i h
      rw [List.length_append] at this
      rw [if_neg h, List.length_cons]
      simp at this
      omega
theorem fm_at {A : List (List Nat)} : ∀ (L : List (List Nat)) (i : Nat) (x y : List Nat), A[i % A.length]? = some x → L[i / A.length]? = some y → (L.flatMap (fun y => A.map (fun x => x ++ y)))[i]? = some (x ++ y)
  | [], _, _, _, _, h => by simp at h
  | z :: L, i, x, y, hx, hy => by
    have hA : 0 < A.length := by
      have := (List.getElem?_eq_some_iff.mp hx).1
      omega
    rw [List.flatMap_cons]
    by_cases h : i < A.length
    · rw [Nat.mod_eq_of_lt h] at hx
      rw [Nat.div_eq_of_lt h] at hy
      have e : z = y := Option.some.inj hy
      rw [List.getElem?_append_left (by rw [List.length_map]; exact h), List.getElem?_map, hx, e]
      rfl
    · have h : A.length ≤ i := Nat.le_of_not_lt h
      rw [List.getElem?_append_right (by rw [List.length_map]; exact h), List.length_map]
      refine fm_at L (i - A.length) x y ?_ ?_
      · rw [← Nat.mod_eq_sub_mod h]; exact hx
      · rw [Nat.div_eq_sub_div hA h] at hy
        exact hy
theorem prodL_at {A : List (List Nat)} {r : List (List (List Nat))} {i : Nat} (h : i < (prodL (A :: r)).length) : 0 < A.length ∧ A.length ≤ (prodL (A :: r)).length ∧ (prodL r).length ≤ (prodL (A :: r)).length ∧ ∃ x y, A[i % A.length]? = some x ∧ (prodL r)[i / A.length]? = some y ∧ (prodL (A :: r))[i]? = some (x ++ y) := by
  have e := prodL_len A r
  have hA : 0 < A.length := Nat.pos_of_ne_zero (fun q => by rw [e, q, Nat.zero_mul] at h; omega)
  have hr : 0 < (prodL r).length := Nat.pos_of_ne_zero (fun q => by rw [e, q, Nat.mul_zero] at h; omega)
  have l1 : A.length ≤ A.length * (prodL r).length := Nat.le_mul_of_pos_right _ hr
  have l2 : (prodL r).length ≤ A.length * (prodL r).length := Nat.le_mul_of_pos_left _ hA
  have m1 := Nat.mod_lt i hA
  have m2 : i / A.length < (prodL r).length := by
    rw [e] at h
    exact Nat.div_lt_of_lt_mul h
  refine ⟨hA, by omega, by omega, A[i % A.length], (prodL r)[i / A.length], List.getElem?_eq_getElem m1, List.getElem?_eq_getElem m2, ?_⟩
  exact fm_at _ i _ _ (List.getElem?_eq_getElem m1) (List.getElem?_eq_getElem m2)
/-- while the leaves of a case are told -/
def LvI (ν : Nat → Nat) (u0 u : Sg) (Kl : List Nat) : Prop := WF FT u ∧ EqH u0 u ∧ Gr FT DX3_knows u0 u ∧ KnT ν u Kl ∧ (∀ j, j ≠ 50 → gI u j = gI u0 j) ∧ ∀ j, j ≠ 49 → j ≠ 51 → gL u j = gL u0 j ∧ ∀ i, gN u j i = gN u0 j i
def LvSp (ν : Nat → Nat) (u0 : Sg) (q n : Nat) : Prop := ∀ (e hi : Nat) (L : List (List Nat)), RepN ν n u0 e hi L → hi ≤ q → ∀ (i : Nat) (x : List Nat), L.length ≤ 40 → L[i]? = some x → ∀ (d : Nat) (u : Sg) (Kl : List Nat), 10 + n ≤ d → LvI ν u0 u Kl → Kl.length + x.length ≤ 5000 → wp (runT d 62 [(e : Int), (i : Int)] u) (fun _ u' => LvI ν u0 u' (addK Kl x))
theorem tdiv_nat (a b : Nat) : Int.tdiv (a : Int) (b : Int) = ((a / b : Nat) : Int) := rfl
theorem leaves_and {ν : Nat → Nat} {d q n e hi : Nat} {u0 : Sg} {Ls : List (List (List Nat))} {E : Nat → Nat} {x84 : Int → Int → Sg → Option (Int × Sg)} (ih : LvSp ν u0 q n) (hd : 10 + n ≤ d) (hQ : QS u0 q) (hhi : hi ≤ q) (he : e ≤ hi) (hk : gN u0 43 e = 1) (e0 : E 0 = e + 1) (e1 : E Ls.length = hi + 1) (e2 : ∀ i, i < Ls.length → E i < E (i + 1)) (e4 : ∀ i, i < Ls.length → gN u0 45 (E i) = ptrE E Ls.length (i + 1)) (e5 : ∀ i A, Ls[i]? = some A → RepN ν n u0 (E i) (E (i + 1) - 1) A) : ∀ (Rm Dn : List (List (List Nat))) (fu i : Nat) (x : List Nat) (u : Sg) (Kl : List Nat), Ls = Dn ++ Rm → Rm.length < fu → (prodL Rm).length ≤ 40 → (prodL Rm)[i]? = some x → LvI ν u0 u Kl → Kl.length + x.length ≤ 5000 → wp (bX3_leavesOf_L29 (runT d) fu (e : Int) (i : Int) (ptrE E Ls.length Dn.length) u (fun s6 => some (0, s6)) x84) (fun _ u' => LvI ν u0 u' (addK Kl x))
  | [], Dn, fu, i, x, u, Kl, hL, hf, h40, hx, hI, hKl => by
    obtain ⟨fu, rfl⟩ : ∃ f', fu = f' + 1 := ⟨fu - 1, by simp at hf; omega⟩
    rw [List.append_nil] at hL
    rw [bX3_leavesOf_L29, hL, ptrE, if_neg (Nat.lt_irrefl _), if_pos (Int.le_refl 0), wp_some]
    have hi1 := (List.getElem?_eq_some_iff.mp hx).1
    have : i = 0 := by
      have e : (prodL []).length = 1 := rfl
      omega
    rw [this] at hx
    have e : [] = x := Option.some.inj hx
    rw [← e]
    exact hI
  | A :: Rm, Dn, fu, i, x, u, Kl, hL, hf, h40, hx, hI, hKl => by
    obtain ⟨fu, rfl⟩ : ∃ f', fu = f' + 1 := ⟨fu - 1, by simp at hf; omega⟩
    have hlen : Dn.length < Ls.length := by rw [hL]; simp
    have gA : Ls[Dn.length]? = some A := by rw [hL, List.getElem?_append_right (Nat.le_refl _)]; simp
    have RA := e5 _ A gA
    have cA := RA.cap.2
    obtain ⟨hA, l1, l2, x1, x2, m1, m2, m3⟩ := prodL_at (List.getElem?_eq_some_iff.mp hx).1
    rw [m3] at hx
    have ex : x1 ++ x2 = x := Option.some.inj hx
    have hxl : x.length = x1.length + x2.length := by rw [← ex, List.length_append]
    have b1 := mono_E e2 0 Dn.length (by omega) (by omega)
    have b2 := mono_E e2 Dn.length Ls.length (by omega) (by omega)
    have b3 := mono_E e2 (Dn.length + 1) Ls.length (by omega) (by omega)
    have b4 := e2 Dn.length hlen
    have l43 := (hQ.2.2 43 (by omega) (by omega)).1
    have l45 := (hQ.2.2 45 (by omega) (by omega)).1
    have l47 := (hQ.2.2 47 (by omega) (by omega)).1
    have ep : ptrE E Ls.length Dn.length = (E Dn.length : Int) := if_pos hlen
    have cnt : gN u0 47 (E Dn.length) = (A.length : Int) := cA.1 (by omega)
    have fr : ∀ {s : Sg} {K : List Nat}, LvI ν u0 s K → ∀ j, 43 ≤ j → j ≤ 47 → gL s j = gL u0 j ∧ ∀ i, gN s j i = gN u0 j i := fun h j a b => h.2.2.2.2.2 j (by omega) (by omega)
    have il := (List.getElem?_eq_some_iff.mp m2).1
    have f43 := fr hI 43 (by omega) (by omega)
    have f47 := fr hI 47 (by omega) (by omega)
    have hiA : i < 41 := by
      have := (List.getElem?_eq_some_iff.mp m3).1
      omega
    have hdl : i / A.length ≤ i := Nat.div_le_self _ _
    have hml := Nat.mod_lt i hA
    have hsub : (i : Int) - ((i / A.length : Nat) : Int) * (A.length : Int) = ((i % A.length : Nat) : Int) := by
      have := Nat.div_add_mod i A.length
      have e : ((A.length * (i / A.length) + i % A.length : Nat) : Int) = (i : Int) := by rw [this]
      rw [Int.natCast_add, Int.natCast_mul] at e
      rw [Int.mul_comm]
      omega
    rw [bX3_leavesOf_L29, ep, if_neg (by omega), wp_jn, ld_nat (by rw [f43.1]; omega), f43.2, hk, if_pos rfl, ld_nat (by rw [f47.1]; omega), f47.2, cnt, wp_gd, tdiv_nat]
    generalize hwd : i / A.length = wq at *
    generalize hwm : i % A.length = rm at *
    refine ⟨⟨by omega, by omega, by omega⟩, ?_⟩
    rw [wp_arL, hsub]
    refine ⟨⟨by omega, by omega⟩, ?_⟩
    refine wp_call (ih _ _ A RA (by omega) rm x1 (by omega) m1 d u Kl hd hI (by omega)) (fun r s hS => ?_)
    have s45 := fr hS 45 (by omega) (by omega)
    have s47 := fr hS 47 (by omega) (by omega)
    rw [ld_nat (by rw [s47.1]; omega), s47.2, cnt, wp_gd]
    refine ⟨by omega, ?_⟩
    rw [wp_arL, tdiv_nat, hwd]
    refine ⟨⟨by omega, by omega⟩, ?_⟩
    show wp (ld s 45 (E Dn.length : Int) fun v3 => bX3_leavesOf_L29 (runT d) fu (e : Int) (wq : Int) v3 s (fun s6 => some (0, s6)) x84) _
    rw [ld_nat (by rw [s45.1]; omega), s45.2, e4 _ hlen]
    have hl2 := addK_len x1 Kl
    have := leaves_and (x84 := x84) ih hd hQ hhi he hk e0 e1 e2 e4 e5 Rm (Dn ++ [A]) fu wq x2 s (addK Kl x1) (by rw [hL]; simp) (by simp at hf; omega) (by omega) m2 hS (by omega)
    rw [List.length_append] at this
    rw [← ex, addK_app]
    exact this
theorem leaves_or {ν : Nat → Nat} {d q n e hi : Nat} {u0 u : Sg} {Ls : List (List (List Nat))} {E : Nat → Nat} {Kl : List Nat} {x114 : Sg → Option (Int × Sg)} (ih : LvSp ν u0 q n) (hd : 10 + n ≤ d) (hQ : QS u0 q) (hhi : hi ≤ q) (he : e ≤ hi) (hk : gN u0 43 e = 2) (e0 : E 0 = e + 1) (e1 : E Ls.length = hi + 1) (e2 : ∀ i, i < Ls.length → E i < E (i + 1)) (e4 : ∀ i, i < Ls.length → gN u0 45 (E i) = ptrE E Ls.length (i + 1)) (e5 : ∀ i A, Ls[i]? = some A → RepN ν n u0 (E i) (E (i + 1) - 1) A) (hI : LvI ν u0 u Kl) : ∀ (Rm Dn : List (List (List Nat))) (fu i : Nat) (x : List Nat), Ls = Dn ++ Rm → Rm.length < fu → Rm.flatten.length ≤ 40 → Rm.flatten[i]? = some x → Kl.length + x.length ≤ 5000 → wp (bX3_leavesOf_L29 (runT d) fu (e : Int) (i : Int) (ptrE E Ls.length Dn.length) u x114 (fun v8 v9 s7 => cl (runT d 62 [v9, v8] s7) fun _ s11 => some (0, s11))) (fun _ u' => LvI ν u0 u' (addK Kl x))
  | [], Dn, fu, i, x, hL, hf, h40, hx, hKl => by simp at hx
  | A :: Rm, Dn, fu, i, x, hL, hf, h40, hx, hKl => by
    obtain ⟨fu, rfl⟩ : ∃ f', fu = f' + 1 := ⟨fu - 1, by simp at hf; omega⟩
    have hlen : Dn.length < Ls.length := by rw [hL]; simp
    have gA : Ls[Dn.length]? = some A := by rw [hL, List.getElem?_append_right (Nat.le_refl _)]; simp
    have RA := e5 _ A gA
    have cA := RA.cap.2
    rw [List.flatten_cons] at hx h40
    rw [List.length_append] at h40
    have b1 := mono_E e2 0 Dn.length (by omega) (by omega)
    have b2 := mono_E e2 Dn.length Ls.length (by omega) (by omega)
    have b3 := mono_E e2 (Dn.length + 1) Ls.length (by omega) (by omega)
    have b4 := e2 Dn.length hlen
    have l43 := (hQ.2.2 43 (by omega) (by omega)).1
    have l45 := (hQ.2.2 45 (by omega) (by omega)).1
    have l47 := (hQ.2.2 47 (by omega) (by omega)).1
    have ep : ptrE E Ls.length Dn.length = (E Dn.length : Int) := if_pos hlen
    have cnt : gN u0 47 (E Dn.length) = (A.length : Int) := cA.1 (by omega)
    have fr : ∀ j, 43 ≤ j → j ≤ 47 → gL u j = gL u0 j ∧ ∀ i, gN u j i = gN u0 j i := fun j a b => hI.2.2.2.2.2 j (by omega) (by omega)
    have f43 := fr 43 (by omega) (by omega)
    have f45 := fr 45 (by omega) (by omega)
    have f47 := fr 47 (by omega) (by omega)
    have hi1 := (List.getElem?_eq_some_iff.mp hx).1
    rw [List.length_append] at hi1
    rw [bX3_leavesOf_L29, ep, if_neg (by omega), wp_jn, ld_nat (by rw [f43.1]; omega), f43.2, hk, if_neg (by omega), ld_nat (by rw [f47.1]; omega), f47.2, cnt, wp_un]
    refine wp_ite (fun h => ?_) (fun h => ?_)
    · have h := o_cmp_n.mp h
      rw [List.getElem?_append_left (by omega)] at hx
      refine wp_call (ih _ _ A RA (by omega) i x (by omega) hx d u Kl hd hI (by omega)) (fun r s hS => ?_)
      rw [wp_some]
      exact hS
    · have h : ¬ (i : Int) < (A.length : Int) := fun q => h (o_cmp_n.mpr q)
      rw [List.getElem?_append_right (by omega)] at hx
      rw [ld_nat (by rw [f47.1]; omega), f47.2, cnt, wp_arL]
      refine ⟨⟨by omega, by omega⟩, ?_⟩
      show wp (ld u 45 (E Dn.length : Int) fun v3 => bX3_leavesOf_L29 (runT d) fu (e : Int) ((i : Int) - (A.length : Int)) v3 u x114 (fun v8 v9 s7 => cl (runT d 62 [v9, v8] s7) fun _ s11 => some (0, s11))) _
      rw [ld_nat (by rw [f45.1]; omega), f45.2, e4 _ hlen, show (i : Int) - (A.length : Int) = ((i - A.length : Nat) : Int) by omega]
      have := leaves_or (x114 := x114) ih hd hQ hhi he hk e0 e1 e2 e4 e5 hI Rm (Dn ++ [A]) fu (i - A.length) x (by rw [hL]; simp) (by simp at hf; omega) (by omega) hx hKl
      rw [List.length_append] at this
      exact this
theorem tX3_leaves {ν : Nat → Nat} {c q : Nat} {u0 : Sg} (hs : ST ν c u0) (hQ : QS u0 q) (h54 : 1 ≤ gI u0 54) : ∀ n, LvSp ν u0 q n := by
  intro n
  induction n with
  | zero => intro e hi L h; exact h.elim
  | succ n ih =>
    intro e hi L hR hhi i x h40 hx d u Kl hd hI hKl
    obtain ⟨d, rfl⟩ : ∃ d', d = d' + 2 := ⟨d - 2, by omega⟩
    rw [runT_eq (by omega)]
    show wp (bX3_leavesOf (runT (d + 1)) e i u) _
    unfold bX3_leavesOf
    obtain ⟨⟨h1, h1'⟩, h2, h3⟩ := hR
    have l43 := (hQ.2.2 43 (by omega) (by omega)).1
    have l44 := (hQ.2.2 44 (by omega) (by omega)).1
    have l46 := (hQ.2.2 46 (by omega) (by omega)).1
    have fr : ∀ j, 43 ≤ j → j ≤ 47 → gL u j = gL u0 j ∧ ∀ i, gN u j i = gN u0 j i := fun j a b => hI.2.2.2.2.2 j (by omega) (by omega)
    have f43 := fr 43 (by omega) (by omega)
    have f44 := fr 44 (by omega) (by omega)
    have f46 := fr 46 (by omega) (by omega)
    rw [ld_nat (by rw [f43.1]; omega), f43.2]
    have hil := (List.getElem?_eq_some_iff.mp hx).1
    rcases h3 with ⟨k, g, g0, b, eL⟩ | ⟨k, Ls, b, eL⟩ | ⟨k, Ls, b, eL⟩
    · rw [if_pos k, ld_nat (by rw [f46.1]; omega), f46.2]
      obtain ⟨y, y1, y2, y3⟩ := b
      have y0 : 0 < y := Nat.pos_of_ne_zero (fun z => g0 (by rw [← y3, z]; rfl))
      rw [eL] at hx hil
      have i0 : i = 0 := by simp at hil; exact hil
      rw [i0] at hx
      have ex : [g] = x := Option.some.inj hx
      obtain ⟨i1, i2, i3, i4, i5, i6⟩ := hI
      have hsu : ST ν c u := i2.st hs
      rw [y1]
      refine wp_call (tX3_knows (d := d) (f := g) (by omega) i1 hsu i4 (by rw [i5 54 (by omega)]; exact h54) (by omega) y0 (by rw [i2.1.n]; exact y2) (by rw [i2.1.tr]; exact y3)) (fun r u' ⟨z1, z2, z3, z4, z5, z6⟩ => ?_)
      rw [wp_some, ← ex]
      exact ⟨z1, i2.trn z2, i3.tr z3, z4, fun j hj => by rw [z5 j hj]; exact i5 j hj, fun j ha hb => ⟨by rw [(z6 j ha hb).1]; exact (i6 j ha hb).1, fun i => by rw [(z6 j ha hb).2]; exact (i6 j ha hb).2 i⟩⟩
    · rw [if_neg (by omega), ld_nat (by rw [f44.1]; omega), f44.2]
      obtain ⟨E, e0, e1, e2, e3, e4, e5⟩ := b
      have hlen : Ls.length ≤ 30000 := by
        have := mono_E e2 0 Ls.length (by omega) (Nat.le_refl _)
        have := hQ.2.1
        omega
      rw [e3]
      rw [eL] at hx h40
      exact leaves_and ih (by omega) hQ hhi h1' k e0 e1 e2 e4 e5 Ls [] KF i x u Kl rfl (Nat.lt_of_le_of_lt (by omega : _ ≤ 65536) KF_gt) h40 hx hI hKl
    · rw [if_neg (by omega), ld_nat (by rw [f44.1]; omega), f44.2]
      obtain ⟨E, e0, e1, e2, e3, e4, e5⟩ := b
      have hlen : Ls.length ≤ 30000 := by
        have := mono_E e2 0 Ls.length (by omega) (Nat.le_refl _)
        have := hQ.2.1
        omega
      rw [e3]
      rw [eL] at hx h40
      exact leaves_or ih (by omega) hQ hhi h1' k e0 e1 e2 e4 e5 hI Ls [] KF i x rfl (Nat.lt_of_le_of_lt (by omega : _ ≤ 65536) KF_gt) h40 hx hKl
