/-! AND of what is in the row -/
def flt (f : Nat) : List Nat := if f = noT then [] else if kd f = 17 then ps f else if f = yesT then [] else [f]
def andT (L : List Nat) : Nat := if noT ∈ L then noT else match L.flatMap flt with
  | [] => yesT
  | [f] => f
  | l => mk 17 0 l
/-- the nodes of true and of not true -/
def YN (ν : Nat → Nat) (u : Sg) : Prop := ∃ y n : Nat, gI u 13 = (y : Int) ∧ gI u 14 = (n : Int) ∧ (0 < y ∧ y < nC u ∧ trC ν u y = yesT) ∧ 0 < n ∧ n < nC u ∧ trC ν u n = noT
theorem wfA {u : Sg} {id : Nat} {i v : Int} (hw : WF FC u) (hk : kdC id = 1) (hv : inR v) : WF FC (sA u id i v) := hw.sA (fun _ => hv) (fun h => by rw [show FC.2.1 id = kdC id from rfl, hk] at h; cases h) (fun h => by rw [show FC.2.1 id = kdC id from rfl, hk] at h; cases h)
theorem wfI {u : Sg} {id : Nat} {v : Int} (hw : WF FC u) (hk : kdC id = 0) (hv : inR v) : WF FC (sI u id v) := hw.sI hv (fun h => by rw [show FC.2.1 id = kdC id from rfl, hk] at h; cases h)
/-- nodes with the trees L have come to the row -/
def Psh (ν : Nat → Nat) (c : Nat) (u u' : Sg) (L : List Nat) : Prop := SC ν c u' ∧ EqS u u' ∧ rC u' = rC u + L.length ∧ (∀ i, i < rC u → gN u' 11 i = gN u 11 i) ∧ (∀ i t, L[i]? = some t → ∃ y : Nat, gN u' 11 (rC u + i) = (y : Int) ∧ 0 < y ∧ y < nC u ∧ trC ν u y = t) ∧ WF FC u' ∧ Gr FC DX2_push u u'
theorem Psh.nil {ν : Nat → Nat} {c : Nat} {u : Sg} (hs : SC ν c u) (hw : WF FC u) : Psh ν c u u [] := ⟨hs, EqS.rf, rfl, fun _ _ => rfl, (fun i t h => by simp at h), hw, Gr.rf⟩
theorem Psh.app {ν : Nat → Nat} {c : Nat} {u u1 u2 : Sg} {L1 L2 : List Nat} (h1 : Psh ν c u u1 L1) (h2 : Psh ν c u1 u2 L2) : Psh ν c u u2 (L1 ++ L2) := by
  obtain ⟨a1, a2, a3, a4, a5, a6, a7⟩ := h1
  obtain ⟨b1, b2, b3, b4, b5, b6, b7⟩ := h2
  refine ⟨b1, a2.trn b2, by rw [b3, a3, List.length_append]; omega, fun i hi => by rw [b4 i (by omega), a4 i hi], fun i t h => ?_, b6, a7.tr b7⟩
  by_cases hi : i < L1.length
  · rw [List.getElem?_append_left hi] at h
    rw [b4 _ (by omega)]
    exact a5 i t h
  · rw [List.getElem?_append_right (by omega)] at h
    obtain ⟨y, y1, y2, y3, y4⟩ := b5 _ t h
    rw [a3, show rC u + L1.length + (i - L1.length) = rC u + i by omega] at y1
    exact ⟨y, y1, y2, by rw [← a2.n]; exact y3, by rw [← a2.tr]; exact y4⟩
theorem Psh.one {ν : Nat → Nat} {c : Nat} {d : Nat} (hd : 3 ≤ d) {u : Sg} {y t : Nat} (hw : WF FC u) (hs : SC ν c u) (y0 : 0 < y) (hy : y < nC u) (ht : trC ν u y = t) (h5 : rC u ≤ 30000) (hn : nC u ≤ 90000) : wp (runC d 97 [(y : Int)] u) (fun _ u' => Psh ν c u u' [t]) := by
  refine wp_mono (tX2_push hd hw hs ⟨by omega, by omega⟩ h5) (fun r u' ⟨s1, e1, r1, p1, p2, w1, g1⟩ => ⟨s1, e1, r1, p1, fun i t' h => ?_, w1, g1⟩)
  cases i with
  | zero =>
    simp at h
    exact ⟨y, by rw [Nat.add_zero]; exact p2, y0, hy, by rw [ht]; exact h⟩
  | succ i => simp at h
theorem Psh.z {ν : Nat → Nat} {c : Nat} {d : Nat} (hd : 3 ≤ d) {u : Sg} {y t : Nat} {v : Int} (hv : v = (y : Int)) (hw : WF FC u) (hs : SC ν c u) (y0 : 0 < y) (hy : y < nC u) (ht : trC ν u y = t) (h5 : rC u ≤ 30000) (hn : nC u ≤ 90000) : wp (runC d 97 [v] u) (fun _ u' => Psh ν c u u' [t]) := by subst hv; exact Psh.one hd hw hs y0 hy ht h5 hn
/-- all parts of a node are pushed -/
theorem and_L54 {d : Nat} (hd : 3 ≤ d) {ν : Nat → Nat} {c : Nat} {u0 : Sg} {x : Nat} {a1 a2 a3 a4 : Int} {Q : Int → Sg → Prop} (x0 : 0 < x) (hx : x < nC u0) (hn : nC u0 ≤ 90000) (h8 : kd (trC ν u0 x) ≠ 8) (hpos : ∀ t ∈ ps (trC ν u0 x), 0 < t) :
    ∀ (m i f : Nat) (u : Sg), i + m = (ps (trC ν u0 x)).length → m < f → Psh ν c u0 u ((ps (trC ν u0 x)).take i) → rC u0 + (ps (trC ν u0 x)).length ≤ 30000 → ∀ x0, (∀ u', Psh ν c u0 u' (ps (trC ν u0 x)) → wp (x0 a1 a2 a3 a4 u') Q) → wp (bX2_and_2_L54 (runC d) f a1 a2 a3 a4 (x : Int) (i : Int) u x0) Q := by
  intro m
  induction m with
  | zero =>
    intro i f u hi hf hp hr xx k
    obtain ⟨f, rfl⟩ : ∃ f', f = f' + 1 := ⟨f - 1, by omega⟩
    obtain ⟨a1', a2', a3', a4', a5', a6', a7'⟩ := id hp
    have hnd := nodeC a1' x0 (by rw [a2'.n]; exact hx)
    rw [a2'.tr] at hnd
    obtain ⟨h1, -⟩ := a1'.1
    obtain ⟨⟨q1, q2, q3⟩, ⟨q4, q5⟩, ⟨q6, q7⟩, ⟨l1, l2, l3, l4, l5, l6⟩, l8, l11, l0, l7⟩ := h1
    rw [bX2_and_2_L54, ld_nat (by omega), if_neg (by omega)]
    refine k u ?_
    rw [List.take_of_length_le (by omega)] at hp
    exact hp
  | succ m ih =>
    intro i f u hi hf hp hr xx k
    obtain ⟨f, rfl⟩ : ∃ f', f = f' + 1 := ⟨f - 1, by omega⟩
    obtain ⟨a1', a2', a3', a4', a5', a6', a7'⟩ := id hp
    have hxu : x < nC u := by rw [a2'.n]; exact hx
    have hnd := nodeC a1' x0 hxu
    rw [a2'.tr] at hnd
    have hil : i < (ps (trC ν u0 x)).length := by omega
    have hget : (ps (trC ν u0 x))[i]? = some ((ps (trC ν u0 x))[i]) := List.getElem?_eq_getElem hil
    have hpc := partC a1' x0 hxu (i := i) (t := (ps (trC ν u0 x))[i]) (by rw [a2'.tr]; exact hget)
    have hpc2 := hpc.2.1 (Or.inl (by rw [a2'.tr]; exact h8))
    have htp : 0 < (pt u x i).toNat := by
      rcases Nat.eq_zero_or_pos (pt u x i).toNat with q | q
      · have e := hpc2.2
        rw [q, show trC ν u 0 = 0 from rfl] at e
        have := hpos _ (List.mem_of_getElem? hget)
        omega
      · exact q
    obtain ⟨h1, -⟩ := a1'.1
    obtain ⟨⟨q1, q2, q3⟩, ⟨q4, q5⟩, ⟨q6, q7⟩, ⟨l1, l2, l3, l4, l5, l6⟩, l8, l11, l0, l7⟩ := h1
    have htl : ((ps (trC ν u0 x)).take i).length = i := by rw [List.length_take]; omega
    rw [bX2_and_2_L54, ld_nat (by omega), if_pos (by omega)]
    refine wp_eq (atC hd a1' x0 hxu (by rw [a2'.tr]; exact hil)) ?_
    refine wp_call (Psh.z (y := (pt u x i).toNat) hd (by omega) a6' a1' htp (by omega) hpc2.2 (by omega) (by rw [a2'.n]; exact hn)) (fun r u' hp' => ?_)
    rw [wp_ar]
    refine ⟨⟨by omega, by omega⟩, ?_⟩
    rw [show (i : Int) + 1 = ((i + 1 : Nat) : Int) by omega]
    refine ih (i + 1) f u' (by omega) (by omega) ?_ hr xx k
    have := hp.app hp'
    rw [List.take_add_one, hget]
    exact this
