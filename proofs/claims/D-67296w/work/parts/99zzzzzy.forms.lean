/-! forms by number, on both sides -/
def getF (Fo : List Nat) (a : Int) (f : Nat) : Prop := 0 ≤ a ∧ Fo[a.toNat]? = some f
theorem getF.mem {Fo : List Nat} {a : Int} {f : Nat} (h : getF Fo a f) : f ∈ Fo := List.mem_of_getElem? h.2
theorem getF.u {Fo : List Nat} {a : Int} {f g : Nat} (h : getF Fo a f) (h' : getF Fo a g) : f = g := Option.some.inj (h.2.symm.trans h'.2)
/-- the forms of a sort: 0 term, 1 type, 2 formula -/
def sP (s f : Nat) : Prop := (s = 0 ∧ isTm f) ∨ (s = 1 ∧ kd f = 8) ∨ (s = 2 ∧ isFo f)
/-- what the forms at rest are -/
def FoP (Fo : List Nat) : Prop := ∀ f ∈ Fo, okT f ∧ szT f ≤ 200 ∧ loT f = 0
def mC (s : Nat) : Nat := if s = 0 then 11 else if s = 1 then 2 else 26
theorem exB_v : exB = 1099511627776 := rfl
theorem pr_n {k : Int} {σ : Sg} {K : Option (Int × Sg)} (hk : k ≤ 1099511627776) : pr k σ K = K := by unfold pr; rw [if_neg (by rw [exB_v]; omega)]
theorem nC_le {ν : Nat → Nat} {c : Nat} {u : Sg} (hs : SC ν c u) : nC u ≤ 90000 := by
  have h1 := hs.1.1.1.2.2
  rcases hs.1.1.2.2.2.2.2.2.1 with q | q <;> omega
theorem nT_le {ν : Nat → Nat} {c : Nat} {u : Sg} (hs : ST ν c u) : nT u < 131072 := by
  have h1 := hs.1.1.1.2
  rcases hs.1.1.2.2.2.2.2.2.1 with q | q | q | q | q <;> omega
theorem FoC.at {u : Sg} {Fo : List Nat} (h : FoC nu2 u Fo) {a : Int} {f : Nat} (hg : getF Fo a f) : (0 ≤ a ∧ a < gI u 66 ∧ a < (gL u 65 : Int)) ∧ ∃ x : Nat, gA u 65 a = (x : Int) ∧ 0 < x ∧ x < nC u ∧ trC nu2 u x = f := by
  obtain ⟨h1, h2, h3, h4⟩ := h
  have hl := (List.getElem?_eq_some_iff.mp hg.2).1
  have := hg.1
  exact ⟨⟨hg.1, by omega, by omega⟩, h4 _ _ hg.2⟩
theorem FoC.no {u : Sg} {Fo : List Nat} (h : FoC nu2 u Fo) {a : Int} (hg : ¬ ∃ f, getF Fo a f) (h0 : 0 ≤ a) : ¬ a < gI u 66 := fun q => hg ⟨Fo[a.toNat]'(by have := h.1; omega), h0, List.getElem?_eq_getElem _⟩
theorem FoT.at {u : Sg} {Fo : List Nat} (h : FoT nt2 u Fo) {a : Int} {f : Nat} (hg : getF Fo a f) : (0 ≤ a ∧ a < gI u 79 ∧ a < (gL u 78 : Int)) ∧ ∃ x : Nat, gA u 78 a = (x : Int) ∧ 0 < x ∧ x ≤ nT u ∧ trT nt2 u x = f := by
  obtain ⟨h1, h2, h3, h4⟩ := h
  have hl := (List.getElem?_eq_some_iff.mp hg.2).1
  have := hg.1
  exact ⟨⟨hg.1, by omega, by omega⟩, h4 _ _ hg.2⟩
theorem FoT.no {u : Sg} {Fo : List Nat} (h : FoT nt2 u Fo) {a : Int} (hg : ¬ ∃ f, getF Fo a f) (h0 : 0 ≤ a) : ¬ a < gI u 79 := fun q => hg ⟨Fo[a.toNat]'(by have := h.1; omega), h0, List.getElem?_eq_getElem _⟩
/-- a number in the class: the node of its form, or thrown -/
theorem cForm {d : Nat} (hd : 10 ≤ d) {W : Wd} {c : Nat} {Fo Pr : List Nat} {lc : Nat} {K : Int} {u : Sg} (h : ReC W c Fo Pr lc K u) (h9 : 0 ≤ gI u 99 ∧ gI u 99 < 1000000) (a : Int) : (∃ f x, getF Fo a f ∧ 0 < x ∧ x < nC u ∧ trC nu2 u x = f ∧ runC d 3 [a] u = some ((x : Int), u)) ∨ ((¬ ∃ f, getF Fo a f) ∧ runC d 3 [a] u = some (exB + 1, tS u)) := by
  obtain ⟨d, rfl⟩ : ∃ e, d = e + 1 := ⟨d - 1, by omega⟩
  rw [runC_eq (by omega)]
  show (∃ f x, getF Fo a f ∧ 0 < x ∧ x < nC u ∧ trC nu2 u x = f ∧ bX1_formOf (runC d) a u = some ((x : Int), u)) ∨ ((¬ ∃ f, getF Fo a f) ∧ bX1_formOf (runC d) a u = some (exB + 1, tS u))
  have hFo := h.2.2.2.2.2.2.2.2.2.1
  unfold bX1_formOf jn
  dsimp only
  by_cases hg : ∃ f, getF Fo a f
  · obtain ⟨f, hg⟩ := hg
    obtain ⟨⟨a1, a2, a3⟩, x, a4, a5, a6, a7⟩ := hFo.at hg
    refine Or.inl ⟨f, x, hg, a5, a6, a7, ?_⟩
    rw [if_neg (by omega), un_eq, if_pos a2, cl_eq (need_ok (by omega)), pr_0, ld_pos ⟨a1, a3⟩, a4]
  · refine Or.inr ⟨hg, ?_⟩
    by_cases h0 : a < 0
    · rw [if_pos h0, cl_eq (need_no (by omega) h9), pr_x (by decide)]
    · rw [if_neg h0, un_eq, if_neg (hFo.no hg (by omega)), cl_eq (need_no (by omega) h9), pr_x (by decide)]
theorem cSort {d : Nat} (hd : 12 ≤ d) {W : Wd} {c : Nat} {Fo Pr : List Nat} {lc : Nat} {K : Int} {u : Sg} (h : ReC W c Fo Pr lc K u) (hF : FoP Fo) (h9 : 0 ≤ gI u 99 ∧ gI u 99 < 1000000) {s : Nat} (hs3 : s < 3) (a : Int) : (∃ f x, getF Fo a f ∧ sP s f ∧ 0 < x ∧ x < nC u ∧ trC nu2 u x = f ∧ runC d (mC s) [a] u = some ((x : Int), u)) ∨ ((¬ ∃ f, getF Fo a f ∧ sP s f) ∧ runC d (mC s) [a] u = some (exB + 1, tS u)) := by
  obtain ⟨d, rfl⟩ : ∃ e, d = e + 1 := ⟨d - 1, by omega⟩
  rw [runC_eq (by omega)]
  have hf := cForm (d := d) (by omega) h h9 a
  have hn9 := nC_le h.1.1
  have hs : s = 0 ∨ s = 1 ∨ s = 2 := by omega
  rcases hf with ⟨f, x, hg, x0, hx, et, e⟩ | ⟨hg, e⟩
  · have hn := nodeC h.1.1 x0 hx
    rw [et] at hn
    have hin := okT_kin (hF f hg.mem).1
    have hx9 : (x : Int) ≤ 1099511627776 := by omega
    by_cases hp : sP s f
    · refine Or.inl ⟨f, x, hg, hp, x0, hx, et, ?_⟩
      unfold sP isTm isFo at hp
      rcases hs with rfl | rfl | rfl
      · show bX1_termOf (runC d) a u = _
        unfold bX1_termOf
        rw [cl_eq e, pr_n hx9, ld_nat hn.2.2.2.2.1, hn.1]
        have e12 : runC d 12 [(kd f : Int)] u = some (1, u) := by
          obtain ⟨d, rfl⟩ : ∃ e, d = e + 1 := ⟨d - 1, by omega⟩
          rw [runC_eq (by omega)]
          show bX1_isTerm (runC d) _ u = _
          unfold bX1_isTerm
          rw [if_pos (by omega)]
        rw [cl_eq e12, cl_eq (need_ok (by omega)), pr_0]
      · show bX1_typeOfNumber (runC d) a u = _
        unfold bX1_typeOfNumber jn
        dsimp only
        rw [cl_eq e, pr_n hx9, ld_nat hn.2.2.2.2.1, hn.1, if_pos (by omega), cl_eq (need_ok (by omega)), pr_0]
      · show bX1_formulaOf (runC d) a u = _
        unfold bX1_formulaOf jn
        dsimp only
        rw [cl_eq e, pr_n hx9, ld_nat hn.2.2.2.2.1, hn.1, if_neg (by omega), cl_eq (need_ok (by omega)), pr_0]
    · refine Or.inr ⟨fun ⟨f', hg', hp'⟩ => hp (by rw [hg.u hg']; exact hp'), ?_⟩
      unfold sP isTm isFo at hp
      rcases hs with rfl | rfl | rfl
      · show bX1_termOf (runC d) a u = _
        unfold bX1_termOf
        rw [cl_eq e, pr_n hx9, ld_nat hn.2.2.2.2.1, hn.1]
        have e12 : runC d 12 [(kd f : Int)] u = some (0, u) := by
          obtain ⟨d, rfl⟩ : ∃ e, d = e + 1 := ⟨d - 1, by omega⟩
          rw [runC_eq (by omega)]
          show bX1_isTerm (runC d) _ u = _
          unfold bX1_isTerm
          rw [if_neg (by omega)]
        rw [cl_eq e12, cl_eq (need_no (by omega) h9), pr_x (by decide)]
      · show bX1_typeOfNumber (runC d) a u = _
        unfold bX1_typeOfNumber jn
        dsimp only
        rw [cl_eq e, pr_n hx9, ld_nat hn.2.2.2.2.1, hn.1, if_neg (by omega), cl_eq (need_no (by omega) h9), pr_x (by decide)]
      · show bX1_formulaOf (runC d) a u = _
        unfold bX1_formulaOf jn
        dsimp only
        rw [cl_eq e, pr_n hx9, ld_nat hn.2.2.2.2.1, hn.1, if_pos (by omega), cl_eq (need_no (by omega) h9), pr_x (by decide)]
  · refine Or.inr ⟨fun ⟨f, q, _⟩ => hg ⟨f, q⟩, ?_⟩
    rcases hs with rfl | rfl | rfl
    · show bX1_termOf (runC d) a u = _
      unfold bX1_termOf
      rw [cl_eq e, pr_x (by decide)]
    · show bX1_typeOfNumber (runC d) a u = _
      unfold bX1_typeOfNumber jn
      dsimp only
      rw [cl_eq e, pr_x (by decide)]
    · show bX1_formulaOf (runC d) a u = _
      unfold bX1_formulaOf jn
      dsimp only
      rw [cl_eq e, pr_x (by decide)]
theorem cClosed {d : Nat} {c : Nat} {u : Sg} (hs : SC nu2 c u) (h9 : 0 ≤ gI u 99 ∧ gI u 99 < 1000000) {t x : Nat} (hd : 10 + htT t ≤ d) (ho : okT t) (hz : szT t ≤ 60000) (x0 : 0 < x) (hx : x < nC u) (et : trC nu2 u x = t) : (lvL t 0 → runC d 18 [(x : Int)] u = some ((x : Int), u)) ∧ (¬ lvL t 0 → runC d 18 [(x : Int)] u = some (exB + 1, tS u)) := by
  obtain ⟨d, rfl⟩ : ∃ e, d = e + 1 := ⟨d - 1, by omega⟩
  rw [runC_eq (by omega)]
  show (lvL t 0 → bX1_closed (runC d) x u = some ((x : Int), u)) ∧ (¬ lvL t 0 → bX1_closed (runC d) x u = some (exB + 1, tS u))
  obtain ⟨r, e1, e2, e3, e4⟩ := rX1_loci hs t ho hz d x (by omega) x0 hx et
  have e0 := e4 0
  unfold bX1_closed jn
  dsimp only
  rw [cl_eq e1]
  refine ⟨fun q => ?_, fun q => ?_⟩
  · rw [if_pos (by have := e0.mpr q; omega), cl_eq (need_ok (by omega)), pr_0]
  · rw [if_neg (fun z => q (e0.mp (by omega))), cl_eq (need_no (by omega) h9), pr_x (by decide)]
theorem cClosed0 {d : Nat} (hd : 10 ≤ d) {u : Sg} : runC d 18 [0] u = some (0, u) := by
  obtain ⟨d, rfl⟩ : ∃ e, d = e + 1 := ⟨d - 1, by omega⟩
  rw [runC_eq (by omega)]
  show bX1_closed (runC d) 0 u = _
  unfold bX1_closed jn
  dsimp only
  rw [cl_eq (loci_0 (by omega)), if_pos (by decide), cl_eq (need_ok (by omega)), pr_0]
/-! the model -/
theorem tSort {d : Nat} (hd : 10 ≤ d) {W : Wd} {c : Nat} {Fo Pr : List Nat} {lc : Nat} {K : Int} {u : Sg} (h : ReT W c Fo Pr lc K u) (hF : FoP Fo) {s : Nat} (hs3 : s < 3) (a : Int) : (∃ f x, getF Fo a f ∧ sP s f ∧ 0 < x ∧ x ≤ nT u ∧ trT nt2 u x = f ∧ runT d 12 [a, (s : Int)] u = some ((x : Int), u)) ∨ ((¬ ∃ f, getF Fo a f ∧ sP s f) ∧ runT d 12 [a, (s : Int)] u = some (0, u)) := by
  obtain ⟨d, rfl⟩ : ∃ e, d = e + 1 := ⟨d - 1, by omega⟩
  rw [runT_eq (by omega)]
  show (∃ f x, getF Fo a f ∧ sP s f ∧ 0 < x ∧ x ≤ nT u ∧ trT nt2 u x = f ∧ bX3_form (runT d) a s u = some ((x : Int), u)) ∨ ((¬ ∃ f, getF Fo a f ∧ sP s f) ∧ bX3_form (runT d) a s u = some (0, u))
  have hFo := h.2.2.2.2.2.2.2.2.1
  have hs : s = 0 ∨ s = 1 ∨ s = 2 := by omega
  unfold bX3_form jn
  dsimp only
  by_cases hg : ∃ f, getF Fo a f
  · obtain ⟨f, hg⟩ := hg
    obtain ⟨⟨a1, a2, a3⟩, x, a4, a5, a6, a7⟩ := hFo.at hg
    have hn := nodeT h.1.1 a5 a6
    rw [a7] at hn
    have hin := okT_kin (hF f hg.mem).1
    have so : runT d 13 [(x : Int)] u = some (if kd f ≤ 5 then 0 else if kd f = 8 then 1 else 2, u) := by
      obtain ⟨d, rfl⟩ : ∃ e, d = e + 1 := ⟨d - 1, by omega⟩
      rw [runT_eq (by omega)]
      show bX3_sortOf (runT d) (x : Int) u = _
      unfold bX3_sortOf jn
      dsimp only
      rw [ld_nat (h.1.1.k a6), hn.1, ld_nat (h.1.1.k a6), hn.1, ld_nat (h.1.1.k a6), hn.1]
      rcases hin with q | q | q | q | q | ⟨q1, q2, q3⟩
      · rw [q]; rfl
      · rw [q]; rfl
      · rw [q]; rfl
      · rw [q]; rfl
      · rw [q]; rfl
      · rw [tkT_hi q1, if_neg (by omega), if_neg (by omega)]
        by_cases h8 : kd f = 8
        · rw [if_pos (by omega), if_neg (by omega), if_pos h8]
        · rw [if_neg (by omega), if_neg (by omega), if_neg h8]
    rw [if_neg (by omega), un_eq, if_pos a2, ld_pos ⟨a1, a3⟩, a4, cl_eq so]
    by_cases hp : sP s f
    · refine Or.inl ⟨f, x, hg, hp, a5, a6, a7, ?_⟩
      unfold sP isTm isFo at hp
      rw [if_pos (by split <;> (try split) <;> omega), ld_pos ⟨a1, a3⟩, a4]
    · refine Or.inr ⟨fun ⟨f', hg', hp'⟩ => hp (by rw [hg.u hg']; exact hp'), ?_⟩
      unfold sP isTm isFo at hp
      rw [if_neg (by split <;> (try split) <;> omega)]
  · refine Or.inr ⟨fun ⟨f, q, _⟩ => hg ⟨f, q⟩, ?_⟩
    by_cases h0 : a < 0
    · rw [if_pos h0]
    · rw [if_neg h0, un_eq, if_neg (hFo.no hg (by omega))]
theorem lvL_0 {t : Nat} (ho : okT t) : lvL t 0 ↔ ¬ locAt t 0 ∧ ¬ locAt t 1 := by
  rw [lvL_iff]
  exact ⟨fun h => ⟨fun q => by have := h _ q; omega, fun q => by have := h _ q; omega⟩, fun ⟨h0, h1⟩ k hk => by
    have := locAt_2 ho hk
    have : k = 0 ∨ k = 1 := by omega
    rcases this with e | e
    · rw [e] at hk; exact absurd hk h0
    · rw [e] at hk; exact absurd hk h1⟩
theorem tClosed {d : Nat} (hd : 300 ≤ d) {W : Wd} {c : Nat} {Fo Pr : List Nat} {lc : Nat} {K : Int} {u : Sg} (h : ReT W c Fo Pr lc K u) (hF : FoP Fo) {s : Nat} (hs3 : s < 3) (a : Int) : (∃ f x, getF Fo a f ∧ (sP s f ∧ lvL f 0) ∧ 0 < x ∧ x ≤ nT u ∧ trT nt2 u x = f ∧ runT d 25 [a, (s : Int)] u = some ((x : Int), u)) ∨ ((¬ ∃ f, getF Fo a f ∧ sP s f ∧ lvL f 0) ∧ runT d 25 [a, (s : Int)] u = some (0, u)) := by
  obtain ⟨d, rfl⟩ : ∃ e, d = e + 1 := ⟨d - 1, by omega⟩
  rw [runT_eq (by omega)]
  show (∃ f x, getF Fo a f ∧ (sP s f ∧ lvL f 0) ∧ 0 < x ∧ x ≤ nT u ∧ trT nt2 u x = f ∧ bX3_closed (runT d) a s u = some ((x : Int), u)) ∨ ((¬ ∃ f, getF Fo a f ∧ sP s f ∧ lvL f 0) ∧ bX3_closed (runT d) a s u = some (0, u))
  unfold bX3_closed jn
  dsimp only
  rcases tSort (d := d) (by omega) h hF hs3 a with ⟨f, x, hg, hp, x0, hx, et, e⟩ | ⟨hg, e⟩
  · rw [cl_eq e, if_neg (by omega)]
    have ho := (hF f hg.mem).1
    have hz := (hF f hg.mem).2.1
    have hht : htT f ≤ 200 := Nat.le_trans (ht_sz f (fun q => by have := okT_kin ho; rw [q, kd0] at this; omega)) hz
    have hic : (lvL f 0 → runT d 26 [(x : Int)] u = some (1, u)) ∧ (¬ lvL f 0 → runT d 26 [(x : Int)] u = some (0, u)) := by
      obtain ⟨d, rfl⟩ : ∃ e, d = e + 1 := ⟨d - 1, by omega⟩
      obtain ⟨a1, a2⟩ := rX3_mentions h.1.1 (nT_le h.1.1) (k := 0) (by omega) f ho (by omega) d x (by omega) x0 hx et
      obtain ⟨b1, b2⟩ := rX3_mentions h.1.1 (nT_le h.1.1) (k := 1) (by omega) f ho (by omega) d x (by omega) x0 hx et
      have a1 : locAt f 0 → runT d 15 [(x : Int), 0] u = some (1, u) := a1
      have a2 : ¬ locAt f 0 → runT d 15 [(x : Int), 0] u = some (0, u) := a2
      have b1 : locAt f 1 → runT d 15 [(x : Int), 1] u = some (1, u) := b1
      have b2 : ¬ locAt f 1 → runT d 15 [(x : Int), 1] u = some (0, u) := b2
      rw [runT_eq (by omega)]
      show (lvL f 0 → bX3_isClosed (runT d) x u = some (1, u)) ∧ (¬ lvL f 0 → bX3_isClosed (runT d) x u = some (0, u))
      unfold bX3_isClosed jn
      dsimp only
      rw [lvL_0 ho]
      by_cases q0 : locAt f 0
      · rw [cl_eq (a1 q0), if_neg (by decide)]
        exact ⟨fun z => absurd q0 z.1, fun _ => rfl⟩
      · rw [cl_eq (a2 q0), if_pos rfl]
        by_cases q1 : locAt f 1
        · rw [cl_eq (b1 q1), if_neg (by decide)]
          exact ⟨fun z => absurd q1 z.2, fun _ => rfl⟩
        · rw [cl_eq (b2 q1), if_pos rfl]
          exact ⟨fun _ => rfl, fun z => absurd ⟨q0, q1⟩ z⟩
    by_cases q : lvL f 0
    · refine Or.inl ⟨f, x, hg, ⟨hp, q⟩, x0, hx, et, ?_⟩
      rw [cl_eq (hic.1 q), if_neg (by decide)]
    · refine Or.inr ⟨fun ⟨f', hg', hp', q'⟩ => q (by rw [hg.u hg']; exact q'), ?_⟩
      rw [cl_eq (hic.2 q), if_pos rfl]
  · refine Or.inr ⟨fun ⟨f', hg', hp', _⟩ => hg ⟨f', hg', hp'⟩, ?_⟩
    rw [cl_eq e, if_pos (by decide)]
