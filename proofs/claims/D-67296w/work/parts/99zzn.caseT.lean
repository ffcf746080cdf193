/-! a case in the model -/
def HaT (ν : Nat → Nat) (u : Sg) (H : List Nat) (p : Nat → Nat) : Prop := (gI u 57 = (H.length : Int) ∧ H.length ≤ 1000 ∧ H.length ≤ gL u 55 ∧ H.length ≤ gL u 56 ∧ 16 ≤ gL u 55 ∧ 16 ≤ gL u 56) ∧ (16 ≤ gL u 53 ∧ 16 ≤ gL u 52 ∧ gL u 52 ≤ 300000 ∧ gL u 53 ≤ 300000) ∧ H.Nodup ∧ (∀ (i t : Nat), H[i]? = some t → ∃ x : Nat, gN u 55 i = (x : Int) ∧ 0 < x ∧ x ≤ nT u ∧ trT ν u x = t ∧ x < gL u 52 ∧ gN u 52 x = gI u 54 ∧ gN u 53 x = (i : Int) ∧ x < gL u 53) ∧ (∀ x : Nat, x < gL u 52 → gN u 52 x ≤ gI u 54 ∧ (gN u 52 x = gI u 54 → ∃ i, i < H.length ∧ gN u 55 i = (x : Int))) ∧ (∀ i, i < H.length → gN u 56 i = (p i : Int)) ∧ DecP p H.length
def FcMT (ν : Nat → Nat) (u : Sg) (H : List Nat) (M : List (Nat × Nat × Nat)) : Prop := (gI u 62 = (M.length : Int) ∧ M.length ≤ gL u 59 ∧ M.length ≤ gL u 60 ∧ M.length ≤ gL u 61 ∧ 16 ≤ gL u 59 ∧ 16 ≤ gL u 60 ∧ 16 ≤ gL u 61) ∧ ∀ (k t m a : Nat), M[k]? = some (t, m, a) → (∃ i : Nat, gN u 59 k = (i : Int) ∧ H[i]? = some t) ∧ gN u 60 k = (m : Int) ∧ inT ν u (gN u 61 k) a
def FcJT (u : Sg) (H : List Nat) (J : List (Nat × Nat)) : Prop := (gI u 65 = (J.length : Int) ∧ J.length ≤ gL u 63 ∧ J.length ≤ gL u 64 ∧ 16 ≤ gL u 63 ∧ 16 ≤ gL u 64) ∧ ∀ (k t j : Nat), J[k]? = some (t, j) → (∃ i : Nat, gN u 63 k = (i : Int) ∧ H[i]? = some t) ∧ gN u 64 k = (j : Int)
theorem trT_pos {ν : Nat → Nat} {c : Nat} {u : Sg} (hs : ST ν c u) {x : Nat} (x0 : 0 < x) (hx : x ≤ nT u) : 0 < trT ν u x := tr_pos (okp_T hs.1) x0 (by show x ≤ nT u; exact hx)
theorem HaT.h0 {ν : Nat → Nat} {c : Nat} {u : Sg} {H : List Nat} {p : Nat → Nat} (h : HaT ν u H p) (hs : ST ν c u) : 0 ∉ H := fun q => by
  obtain ⟨i, hi⟩ := List.getElem?_of_mem q
  obtain ⟨x, _, x2, x3, x4, _⟩ := h.2.2.2.1 i 0 hi
  have := trT_pos hs x2 x3
  omega
theorem rX3_indexOf {d : Nat} (hd : 2 ≤ d) {ν : Nat → Nat} {c : Nat} {u : Sg} {H : List Nat} {p : Nat → Nat} (h : HaT ν u H p) (hs : ST ν c u) {x : Nat} (hx : x ≤ nT u) : (trT ν u x ∈ H → ∃ i : Nat, H[i]? = some (trT ν u x) ∧ runT (d + 1) 66 [(x : Int)] u = some ((i : Int), u)) ∧ (trT ν u x ∉ H → runT (d + 1) 66 [(x : Int)] u = some (-1, u)) := by
  obtain ⟨h1, h2, h3, h4, h5, h6, h7⟩ := h
  rw [runT_eq (by omega)]
  show (_ → ∃ i : Nat, _ ∧ bX3_indexOf (runT d) x u = _) ∧ (_ → bX3_indexOf (runT d) x u = _)
  unfold bX3_indexOf
  rw [jn_eq, un_eq]
  refine ⟨fun q => ?_, fun q => ?_⟩
  · obtain ⟨i, hi⟩ := List.getElem?_of_mem q
    obtain ⟨y, y1, y2, y3, y4, y5, y6, y7, y8⟩ := h4 i _ hi
    have e := trT_inj hs y3 hx y4
    subst e
    exact ⟨i, hi, by rw [if_pos (by omega), ld_nat y5, un_eq, if_pos y6, ld_nat (by omega), y7]⟩
  · by_cases hl : x < gL u 52
    · rw [if_pos (by omega), ld_nat hl, un_eq, if_neg (fun z => q ?_)]
      obtain ⟨i, hi, e⟩ := (h5 x hl).2 z
      obtain ⟨y, y1, y2, y3, y4, _⟩ := h4 i _ (List.getElem?_eq_getElem hi)
      have : y = x := by omega
      subst this
      rw [y4]; exact List.getElem_mem hi
    · rw [if_neg (by omega)]
theorem top_L0 {d : Nat} {ν : Nat → Nat} {u : Sg} {H : List Nat} {p : Nat → Nat} (h : HaT ν u H p) {xx : Int → Sg → Option (Int × Sg)} : ∀ (i f : Nat), i < H.length → i < f → bX3_top_L0 (runT d) f (i : Int) u xx = xx ((rt p i : Nat) : Int) u := by
  obtain ⟨h1, h2, h3, h4, h5, h6, h7⟩ := h
  intro i
  induction i using Nat.strongRecOn with
  | ind i ih =>
    intro f hi hf
    obtain ⟨f, rfl⟩ : ∃ f', f = f' + 1 := ⟨f - 1, by omega⟩
    rw [bX3_top_L0, ld_nat (by omega), h6 i hi, rt_eq h7 hi]
    by_cases he : p i = i
    · rw [if_pos (by omega), if_pos he]
    · rw [if_neg (by omega), if_neg he, ld_nat (by omega), h6 i hi]
      have := h7 i hi
      exact ih (p i) (by omega) f (by omega) (by omega)
theorem rX3_top {d : Nat} (hd : 2 ≤ d) {ν : Nat → Nat} {u : Sg} {H : List Nat} {p : Nat → Nat} (h : HaT ν u H p) {i : Nat} (hi : i < H.length) : runT (d + 1) 70 [(i : Int)] u = some (((rt p i : Nat) : Int), u) := by
  rw [runT_eq (by omega)]
  show bX3_top (runT d) i u = _
  unfold bX3_top
  have := h.1.2.1
  exact top_L0 h i KF hi (Nat.lt_of_le_of_lt (by omega : _ ≤ 65536) KF_gt)
theorem rX3_equal {d : Nat} (hd : 4 ≤ d) {ν : Nat → Nat} {c : Nat} {u : Sg} {H : List Nat} {p : Nat → Nat} (h : HaT ν u H p) (hs : ST ν c u) {x y : Nat} (hx : x ≤ nT u) (hy : y ≤ nT u) : Yq (runT d 76 [(x : Int), (y : Int)] u) u (eqX H p (trT ν u x) (trT ν u y)) := by
  obtain ⟨d, rfl⟩ : ∃ d', d = d' + 2 := ⟨d - 2, by omega⟩
  rw [runT_eq (by omega)]
  show Yq (bX3_equal (runT (d + 1)) x y u) u _
  unfold bX3_equal
  have h0 := h.h0 hs
  have h3 := h.2.2.1
  by_cases hxy : (x : Int) = (y : Int)
  · rw [if_pos hxy]
    have e : x = y := by omega
    rw [e]
    exact ⟨fun _ => rfl, fun q => absurd (Or.inl rfl) q⟩
  · rw [if_neg hxy]
    have hne : trT ν u x ≠ trT ν u y := fun q => hxy (by rw [trT_inj hs hx hy q])
    by_cases x0 : x = 0
    · rw [if_pos (by omega)]
      refine ⟨fun q => ?_, fun _ => rfl⟩
      rcases q with z | z
      · exact absurd z hne
      · have := z.mem.1
        rw [x0] at this
        exact absurd this h0
    · rw [if_neg (by omega)]
      by_cases y0 : y = 0
      · rw [if_pos (by omega)]
        refine ⟨fun q => ?_, fun _ => rfl⟩
        rcases q with z | z
        · exact absurd z hne
        · have := z.mem.2
          rw [y0] at this
          exact absurd this h0
      · rw [if_neg (by omega), jn_eq]
        obtain ⟨a1, a2⟩ := rX3_indexOf (d := d) (by omega) h hs hx
        obtain ⟨b1, b2⟩ := rX3_indexOf (d := d) (by omega) h hs hy
        by_cases hxm : trT ν u x ∈ H
        · obtain ⟨i, i1, i2⟩ := a1 hxm
          have hil := (List.getElem?_eq_some_iff.mp i1).1
          rw [cl_eq i2]
          by_cases hym : trT ν u y ∈ H
          · obtain ⟨j, j1, j2⟩ := b1 hym
            have hjl := (List.getElem?_eq_some_iff.mp j1).1
            rw [cl_eq j2, if_neg (by omega), if_neg (by omega), cl_eq (rX3_top (by omega) h hil), cl_eq (rX3_top (by omega) h hjl)]
            have key : eqX H p (trT ν u x) (trT ν u y) ↔ rt p i = rt p j := by
              constructor
              · rintro (z | ⟨i', j', z1, z2, z3⟩)
                · exact absurd z hne
                · have e1 := (List.getElem?_inj hil h3).mp (i1.trans z1.symm)
                  have e2 := (List.getElem?_inj hjl h3).mp (j1.trans z2.symm)
                  rw [e1, e2]; exact z3
              · exact fun z => Or.inr ⟨i, j, i1, j1, z⟩
            by_cases hrt : rt p i = rt p j
            · rw [if_pos (by omega)]
              exact ⟨fun _ => rfl, fun q => absurd (key.mpr hrt) q⟩
            · rw [if_neg (by omega)]
              exact ⟨fun q => absurd (key.mp q) hrt, fun _ => rfl⟩
          · rw [cl_eq (b2 hym), if_neg (by omega), if_pos (by decide)]
            refine ⟨fun q => ?_, fun _ => rfl⟩
            rcases q with z | z
            · exact absurd z hne
            · exact absurd z.mem.2 hym
        · rw [cl_eq (a2 hxm)]
          refine ⟨fun q => ?_, fun _ => ?_⟩
          · rcases q with z | z
            · exact absurd z hne
            · exact absurd z.mem.1 hxm
          · by_cases hym : trT ν u y ∈ H
            · obtain ⟨j, j1, j2⟩ := b1 hym
              rw [cl_eq j2, if_pos (by decide)]
            · rw [cl_eq (b2 hym), if_pos (by decide)]
