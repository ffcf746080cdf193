/-! AND in the model -/
theorem EqT.tr {u u' : Sg} (h : EqT u u') {ν : Nat → Nat} {x : Nat} : trT ν u' x = trT ν u x := by unfold trT; rw [h.st]
def PshT (ν : Nat → Nat) (c : Nat) (u u' : Sg) (L : List Nat) : Prop := ∃ ys : List Nat, Hand ν c u u' (ys.map (fun (y : Nat) => (y : Int))) ∧ ys.map (trT ν u) = L ∧ ∀ y ∈ ys, 0 < y ∧ y ≤ nT u
theorem PshT.nil {ν : Nat → Nat} {c : Nat} {u : Sg} (hs : ST ν c u) (hw : WF FT u) : PshT ν c u u [] := ⟨[], Hand.rf hs hw, rfl, fun _ h => by cases h⟩
theorem PshT.len {ν : Nat → Nat} {c : Nat} {u u' : Sg} {L : List Nat} (h : PshT ν c u u' L) : hT u' = hT u + L.length := by
  obtain ⟨ys, h1, h2, h3⟩ := h
  rw [h1.2.2.1, ← h2, List.length_map, List.length_map]
theorem PshT.give {ν : Nat → Nat} {c : Nat} {d : Nat} (hd : 3 ≤ d) {u u1 : Sg} {L : List Nat} {y t : Nat} {v : Int} (h : PshT ν c u u1 L) (hv : v = (y : Int)) (y0 : 0 < y) (hy : y ≤ nT u) (ht : trT ν u y = t) (h5 : hT u1 ≤ 30000) (hn : nT u < 131072) : wp (runT d 3 [v] u1) (fun _ u' => PshT ν c u u' (L ++ [t])) := by
  obtain ⟨ys, h1, h2, h3⟩ := h
  subst hv
  refine wp_mono (tX3_give hd h1 ⟨by omega, by omega⟩ h5) (fun _ u' hh => ⟨ys ++ [y], by rw [List.map_append]; exact hh, by rw [List.map_append, h2, ← ht]; rfl, fun z hz => ?_⟩)
  rcases List.mem_append.mp hz with q | q
  · exact h3 z q
  · simp at q; rw [q]; exact ⟨y0, hy⟩
theorem andT_L94 {d : Nat} (hd : 3 ≤ d) {ν : Nat → Nat} {c : Nat} {u0 : Sg} {x : Nat} {a1 a2 a3 a4 a5 : Int} {Q : Int → Sg → Prop} {L0 : List Nat} (x0 : 0 < x) (hx : x ≤ nT u0) (hn : nT u0 < 131072) (h17 : kd (trT ν u0 x) = 17) (hpos : ∀ t ∈ ps (trT ν u0 x), 0 < t) :
    ∀ (m i f : Nat) (u : Sg), i + m = (ps (trT ν u0 x)).length → m < f → PshT ν c u0 u (L0 ++ (ps (trT ν u0 x)).take i) → hT u0 + (L0.length + (ps (trT ν u0 x)).length) ≤ 30000 → ∀ xx, (∀ u', PshT ν c u0 u' (L0 ++ ps (trT ν u0 x)) → wp (xx a1 a2 a3 a4 a5 u') Q) → wp (bX3_and_2_L94 (runT d) f a1 a2 a3 a4 a5 (x : Int) (i : Int) u xx) Q := by
  have hw0 : nw (kd (trT ν u0 x)) = 0 := by rw [h17]; decide
  intro m
  induction m with
  | zero =>
    intro i f u hi hf hp hr xx k
    obtain ⟨f, rfl⟩ : ∃ f', f = f' + 1 := ⟨f - 1, by omega⟩
    obtain ⟨ys, hh, e1, e2⟩ := id hp
    have hs := hh.1
    have he := hh.2.1
    have hnd := nodeT hs x0 (by rw [he.n]; exact hx)
    rw [he.tr, hw0] at hnd
    have hl3 : x < gL u 3 := by rw [hs.1.1.2.2.2.1.2.1]; exact hs.k (by rw [he.n]; exact hx)
    rw [bX3_and_2_L94, ld_nat hl3, hnd.2.1, if_neg (by omega)]
    refine k u ?_
    rw [List.take_of_length_le (by omega)] at hp
    exact hp
  | succ m ih =>
    intro i f u hi hf hp hr xx k
    obtain ⟨f, rfl⟩ : ∃ f', f = f' + 1 := ⟨f - 1, by omega⟩
    obtain ⟨ys, hh, e1, e2⟩ := id hp
    have hs := hh.1
    have he := hh.2.1
    have hxu : x ≤ nT u := by rw [he.n]; exact hx
    have hnd := nodeT hs x0 hxu
    rw [he.tr, hw0] at hnd
    have hl3 : x < gL u 3 := by rw [hs.1.1.2.2.2.1.2.1]; exact hs.k hxu
    have hil : i < (ps (trT ν u0 x)).length := by omega
    have hget : (ps (trT ν u0 x))[i]? = some ((ps (trT ν u0 x))[i]) := List.getElem?_eq_getElem hil
    have hpc := partT hs x0 hxu (i := i) (t := (ps (trT ν u0 x))[i]) (by rw [he.tr]; exact hget)
    rw [he.tr, hw0, Nat.add_zero] at hpc
    have hpc2 := hpc.2.1 (Or.inl (by omega))
    rw [he.tr] at hpc2
    have htp : 0 < (dt u x i).toNat := by
      rcases Nat.eq_zero_or_pos (dt u x i).toNat with q | q
      · have e := hpc2.2
        rw [q, show trT ν u0 0 = 0 from rfl] at e
        have := hpos _ (List.mem_of_getElem? hget)
        omega
      · exact q
    have hlen := hp.len
    rw [List.length_append, List.length_take] at hlen
    rw [bX3_and_2_L94, ld_nat hl3, hnd.2.1, if_pos (by omega)]
    refine wp_eq (getT hd hs x0 hxu (by rw [he.tr, hw0]; omega)) ?_
    refine wp_call (hp.give (y := (dt u x i).toNat) hd (Int.toNat_of_nonneg hpc.1).symm htp (by omega) hpc2.2 (by omega) hn) (fun r u' hp' => ?_)
    rw [wp_ar]
    refine ⟨⟨by omega, by omega⟩, ?_⟩
    rw [show (i : Int) + 1 = ((i + 1 : Nat) : Int) by omega]
    refine ih (i + 1) f u' (by omega) (by omega) ?_ hr xx k
    rw [List.take_add_one, hget, ← List.append_assoc]
    exact hp'
def fltT (f : Nat) : List Nat := if kd f = 9 then [] else if kd f = 17 then ps f else [f]
/-- the hand from a place on holds nodes of these trees -/
def RowT (ν : Nat → Nat) (u : Sg) (a : Nat) (L : List Nat) : Prop := a + L.length = hT u ∧ ∀ (i t : Nat), L[i]? = some t → ∃ y : Nat, gN u 12 (a + i) = (y : Int) ∧ 0 < y ∧ y ≤ nT u ∧ trT ν u y = t
theorem tkT_16 {k : Nat} (h : tkT k = 16) : k = 17 := by unfold tkT at h; split at h <;> (try split at h) <;> (try split at h) <;> omega
theorem andT_L16 {d : Nat} (hd : 3 ≤ d) {ν : Nat → Nat} {c : Nat} {u0 : Sg} {a : Nat} {L : List Nat} {Q : Int → Sg → Prop} (hs0 : ST ν c u0) (hR : RowT ν u0 a L) (hn : nT u0 < 131072) (hpos : ∀ f ∈ L, kd f = 17 → ∀ t ∈ ps f, 0 < t) (hnot : ∀ f ∈ L, kd f = 16 → ∃ g, ps f = [g] ∧ 0 < g ∧ f = mk 16 0 [g] ∧ (kd g = 9 → g = yesT)) (hr : hT u0 + (L.flatMap fltT).length ≤ 30000) :
    ∀ (m i f : Nat) (nv : Int) (u : Sg), i + m = L.length → m < f → PshT ν c u0 u ((L.take i).flatMap fltT) → (noT ∈ L.take i → ∃ z : Nat, nv = (z : Int) ∧ 0 < z ∧ z ≤ nT u0 ∧ trT ν u0 z = noT) → (noT ∉ L.take i → nv = 0) → ∀ xx, (∀ u' nv', PshT ν c u0 u' (L.flatMap fltT) → (noT ∈ L → ∃ z : Nat, nv' = (z : Int) ∧ 0 < z ∧ z ≤ nT u0 ∧ trT ν u0 z = noT) → (noT ∉ L → nv' = 0) → wp (xx (a : Int) (hT u0 : Int) nv' u') Q) → wp (bX3_and_2_L16 (runT d) f (a : Int) (hT u0 : Int) (hT u0 : Int) nv ((a + i : Nat) : Int) u xx) Q := by
  intro m
  induction m with
  | zero =>
    intro i f nv u hi hf hp h1 h2 xx k
    obtain ⟨f, rfl⟩ : ∃ f', f = f' + 1 := ⟨f - 1, by omega⟩
    have hl := hR.1
    rw [bX3_and_2_L16, if_neg (by omega)]
    rw [List.take_of_length_le (by omega)] at hp h1 h2
    exact k u nv hp h1 h2
  | succ m ih =>
    intro i f nv u hi hf hp h1 h2 xx k
    obtain ⟨f, rfl⟩ : ∃ f', f = f' + 1 := ⟨f - 1, by omega⟩
    have hl := hR.1
    have hil : i < L.length := by omega
    have hget : L[i]? = some L[i] := List.getElem?_eq_getElem hil
    have hmem : L[i] ∈ L := List.getElem_mem hil
    obtain ⟨y, y1, y0, yn, yt⟩ := hR.2 i _ hget
    generalize hg : L[i] = g at *
    obtain ⟨ys, hh, e1, e2⟩ := id hp
    have hs := hh.1
    have he := hh.2.1
    have hyu : y ≤ nT u := by rw [he.n]; exact yn
    have hyt : trT ν u y = g := by rw [he.tr]; exact yt
    have hnd := nodeT hs y0 hyu
    rw [hyt] at hnd
    have hrw : gN u 12 (a + i) = (y : Int) := by rw [hh.2.2.2.2.1 _ (by omega), y1]
    have h12 : a + i < gL u 12 := by
      have := hs.r.2.1
      have := hh.2.2.1
      omega
    have htk : (L.take (i + 1)) = L.take i ++ [g] := by rw [List.take_add_one, hget]; rfl
    have hfl : (L.take (i + 1)).flatMap fltT = (L.take i).flatMap fltT ++ fltT g := by rw [htk, List.flatMap_append]; simp
    have hfle : ((L.take i).flatMap fltT).length + (fltT g).length ≤ (L.flatMap fltT).length := by
      have e : L.flatMap fltT = (L.take (i + 1)).flatMap fltT ++ (L.drop (i + 1)).flatMap fltT := by rw [← List.flatMap_append, List.take_append_drop]
      rw [e, hfl, List.length_append, List.length_append]; omega
    have hlen := hp.len
    have hsl := hs.r
    have go : ∀ (nv' : Int) (u' : Sg), PshT ν c u0 u' ((L.take (i + 1)).flatMap fltT) → (noT ∈ L.take (i + 1) → ∃ z : Nat, nv' = (z : Int) ∧ 0 < z ∧ z ≤ nT u0 ∧ trT ν u0 z = noT) → (noT ∉ L.take (i + 1) → nv' = 0) → wp (ar (((a + i : Nat) : Int) + 1) fun v3 => bX3_and_2_L16 (runT d) f (a : Int) (hT u0 : Int) (hT u0 : Int) nv' v3 u' xx) Q := by
      intro nv' u' q1 q2 q3
      rw [wp_ar]
      refine ⟨⟨by omega, by omega⟩, ?_⟩
      rw [show ((a + i : Nat) : Int) + 1 = ((a + (i + 1) : Nat) : Int) by omega]
      exact ih (i + 1) f nv' u' (by omega) (by omega) q1 q2 q3 xx k
    rw [bX3_and_2_L16, if_pos (by omega), ld_nat h12, hrw, ld_nat (hs.k hyu), hnd.1]
    refine wp_ite (fun h9 => ?_) (fun h9 => ?_)
    · have k9 := tkT_8 h9
      have hf0 : fltT g = [] := by unfold fltT; rw [if_pos k9]
      have hne : ¬ g = noT := fun q => by rw [q, kd_no] at k9; omega
      refine go nv u (by rw [hfl, hf0, List.append_nil]; exact hp) (fun q => h1 ?_) (fun q => h2 (fun q2 => q (by rw [htk]; exact List.mem_append_left _ q2)))
      rw [htk] at q
      rcases List.mem_append.mp q with q | q
      · exact q
      · simp at q; exact absurd q.symm hne
    · have k9 : ¬ kd g = 9 := fun q => h9 (by rw [q]; decide)
      rw [wp_jn]
      -- give what is to be given
      have giv : ∀ (nv' : Int), (noT ∈ L.take (i + 1) → ∃ z : Nat, nv' = (z : Int) ∧ 0 < z ∧ z ≤ nT u0 ∧ trT ν u0 z = noT) → (noT ∉ L.take (i + 1) → nv' = 0) → wp (ld u 1 (y : Int) fun v6 => if v6 = 16 then (bX3_and_2_L94 (runT d) KF (a : Int) (hT u0 : Int) (hT u0 : Int) nv' ((a + i : Nat) : Int) (y : Int) 0 u (fun v8 v9 v10 v11 v12 s7 => ar (v12 + 1) fun v13 => bX3_and_2_L16 (runT d) f v8 v9 v10 v11 v13 s7 xx)) else (cl (runT d 3 [(y : Int)] u) fun v14 s15 => ar (((a + i : Nat) : Int) + 1) fun v16 => bX3_and_2_L16 (runT d) f (a : Int) (hT u0 : Int) (hT u0 : Int) nv' v16 s15 xx)) Q := by
        intro nv' q2 q3
        rw [ld_nat (hs.k hyu), hnd.1]
        refine wp_ite (fun h17 => ?_) (fun h17 => ?_)
        · have k17 := tkT_16 h17
          have hf0 : fltT g = ps g := by unfold fltT; rw [if_neg k9, if_pos k17]
          rw [hf0] at hfle
          have hKF : 65536 < KF := by decide
          refine andT_L94 hd (L0 := (L.take i).flatMap fltT) y0 yn hn (by rw [yt]; exact k17) (by rw [yt]; exact hpos g hmem k17) ((ps g).length) 0 KF u (by rw [yt]; omega) (by omega) (by rw [List.take_zero, List.append_nil]; exact hp) (by rw [yt]; omega) _ (fun u' hp' => ?_)
          rw [yt] at hp'
          exact go nv' u' (by rw [hfl, hf0]; exact hp') q2 q3
        · have k17 : ¬ kd g = 17 := fun q => h17 (by rw [q]; decide)
          have hf0 : fltT g = [g] := by unfold fltT; rw [if_neg k9, if_neg k17]
          rw [hf0] at hfle
          refine wp_call (hp.give hd rfl y0 yn yt (by simp only [List.length_cons, List.length_nil] at hfle; omega) hn) (fun _ u' hp' => go nv' u' (by rw [hfl, hf0]; exact hp') q2 q3)
      have same : ¬ g = noT → (noT ∈ L.take (i + 1) → ∃ z : Nat, nv = (z : Int) ∧ 0 < z ∧ z ≤ nT u0 ∧ trT ν u0 z = noT) ∧ (noT ∉ L.take (i + 1) → nv = 0) := fun hne => by
        refine ⟨fun q => h1 ?_, fun q => h2 (fun q2 => q (by rw [htk]; exact List.mem_append_left _ q2))⟩
        rw [htk] at q
        rcases List.mem_append.mp q with q | q
        · exact q
        · simp at q; exact absurd q.symm hne
      rw [ld_nat (hs.k hyu), hnd.1]
      refine wp_ite (fun h15 => ?_) (fun h15 => ?_)
      · have k16 := tkT_eq h15
        obtain ⟨z, z1, z2, z3, z4⟩ := hnot g hmem k16
        have hw0 : nw (kd g) = 0 := by rw [k16]; decide
        have hpc := partT hs y0 hyu (i := 0) (t := z) (by rw [hyt, z1]; rfl)
        rw [hyt, hw0] at hpc
        obtain ⟨b1, b2⟩ := hpc.2.1 (Or.inr rfl)
        have b0 : 0 ≤ dt u y 0 := hpc.1
        have b1 : (dt u y 0).toNat < y := b1
        have b2 : trT ν u (dt u y 0).toNat = z := b2
        have bp : 0 < (dt u y 0).toNat := by
          rcases Nat.eq_zero_or_pos (dt u y 0).toNat with q | q
          · rw [q, show trT ν u 0 = 0 from rfl] at b2; omega
          · exact q
        refine wp_eq (getT hd hs y0 hyu (i := 0) (by rw [hyt, z1]; simp only [List.length_cons, List.length_nil]; omega)) ?_
        rw [wp_gd]
        refine ⟨by simp [keeps], ?_⟩
        have hnz := nodeT hs bp (by omega)
        rw [b2] at hnz
        rw [show dt u y 0 = (((dt u y 0).toNat : Nat) : Int) from (Int.toNat_of_nonneg b0).symm, ld_nat (hs.k (by omega)), hnz.1]
        refine wp_ite (fun h8 => ?_) (fun h8 => ?_)
        · have gno : g = noT := by rw [z3, z4 (tkT_8 h8)]; rfl
          exact giv (y : Int) (fun _ => ⟨y, rfl, y0, yn, by rw [yt, gno]⟩) (fun q => absurd (by rw [htk, gno]; simp) q)
        · have hne : ¬ g = noT := fun q => h8 (by
            have e := z3
            rw [q] at e
            have := (mk_inj e).2.2
            simp at this
            rw [← this, kd_yes]; decide)
          exact giv nv (same hne).1 (same hne).2
      · have hne : ¬ g = noT := fun q => h15 (by rw [q, kd_no]; decide)
        exact giv nv (same hne).1 (same hne).2
