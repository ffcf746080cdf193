/-- the same numbers, in order perhaps -/
def AscL (L : List Nat) : Prop := ∀ (q a b : Nat), L[q]? = some a → L[q + 1]? = some b → a < b
def SameL (L L' : List Nat) : Prop := AscL L' ∧ L'.length = L.length ∧ (∀ v, v ∈ L' ↔ v ∈ L) ∧ L'.Nodup ∧ ((∀ (q a b : Nat), L[q]? = some a → L[q + 1]? = some b → a < b) → L' = L)
theorem nodup_at {L : List Nat} (h : L.Nodup) {i j a : Nat} (hi : L[i]? = some a) (hj : L[j]? = some a) : i = j := by
  obtain ⟨h1, e1⟩ := List.getElem?_eq_some_iff.mp hi
  obtain ⟨h2, e2⟩ := List.getElem?_eq_some_iff.mp hj
  have hp := List.pairwise_iff_getElem.mp h
  rcases Nat.lt_trichotomy i j with q | q | q
  · exact absurd (by rw [e1, e2]) (hp i j h1 h2 q)
  · exact q
  · exact absurd (by rw [e1, e2]) (hp j i h2 h1 q)
theorem same_PmR {b : Nat} {L : List Nat} {r0 r : Nat → Int} (hL : L.Nodup) (h0 : ∀ (q v : Nat), L[q]? = some v → r0 (b + q) = (v : Int)) (hP : PmR b L.length r0 r) (hS : ∀ q, q + 1 < L.length → r (b + q) ≤ r (b + q + 1)) : SameL L ((List.range L.length).map (fun q => (r (b + q)).toNat)) ∧ ∀ q, q < L.length → ∃ v : Nat, r (b + q) = (v : Int) ∧ v ∈ L := by
  obtain ⟨h1, h2, h3, h4, h5⟩ := hP
  have at0 : ∀ q, q < L.length → ∃ v, L[q]? = some v ∧ r0 (b + q) = (v : Int) := fun q hq => ⟨_, List.getElem?_eq_getElem hq, h0 q _ (List.getElem?_eq_getElem hq)⟩
  have hv : ∀ q, q < L.length → ∃ v : Nat, r (b + q) = (v : Int) ∧ v ∈ L := fun q hq => by
    obtain ⟨q', hq', e⟩ := h1 q hq
    obtain ⟨v, v1, v2⟩ := at0 q' hq'
    exact ⟨v, by rw [e, v2], List.mem_of_getElem? v1⟩
  have hd0 : ∀ q q', q < L.length → q' < L.length → r0 (b + q) = r0 (b + q') → q = q' := fun q q' hq hq' e => by
    obtain ⟨v, v1, v2⟩ := at0 q hq
    obtain ⟨w, w1, w2⟩ := at0 q' hq'
    rw [v2, w2] at e
    have : v = w := by omega
    subst this
    exact nodup_at hL v1 w1
  have hat : ∀ (q a : Nat), ((List.range L.length).map (fun q => (r (b + q)).toNat))[q]? = some a → q < L.length ∧ r (b + q) = (a : Int) := fun q a h => by
    have hq : q < L.length := by have := (List.getElem?_eq_some_iff.mp h).1; simpa using this
    rw [List.getElem?_map, List.getElem?_range hq] at h
    obtain ⟨v, v1, v2⟩ := hv q hq
    have h : some ((r (b + q)).toNat) = some a := h
    rw [v1] at h
    simp at h
    exact ⟨hq, by rw [v1, h]⟩
  refine ⟨⟨fun q a b' h1' h2' => ?_, by simp, fun v => ⟨fun hm => ?_, fun hm => ?_⟩, ?_, fun ha => ?_⟩, hv⟩
  · obtain ⟨z1, z2⟩ := hat q a h1'
    obtain ⟨z3, z4⟩ := hat (q + 1) b' h2'
    have hle := hS q z3
    rw [Nat.add_assoc, z2, z4] at hle
    have hne : a ≠ b' := fun e => by
      have := h4 hd0 q (q + 1) z1 z3 (by rw [z2, z4, e])
      omega
    omega
  · obtain ⟨q, hq, e⟩ := List.mem_map.mp hm
    obtain ⟨w, w1, w2⟩ := hv q (List.mem_range.mp hq)
    rw [w1] at e
    have : w = v := by simpa using e
    rw [← this]; exact w2
  · obtain ⟨q, hq⟩ := List.getElem?_of_mem hm
    have hql : q < L.length := (List.getElem?_eq_some_iff.mp hq).1
    obtain ⟨q', hq', e⟩ := h2 q hql
    refine List.mem_map.mpr ⟨q', List.mem_range.mpr hq', ?_⟩
    rw [← e, h0 q v hq]; simp
  · refine List.pairwise_iff_getElem.mpr (fun i j hi hj hij => ?_)
    simp at hi hj
    simp only [List.getElem_map, List.getElem_range]
    obtain ⟨v, v1, v2⟩ := hv i hi
    obtain ⟨w, w1, w2⟩ := hv j hj
    intro e
    have := h4 hd0 i j hi hj (by rw [v1, w1] at e ⊢; simp at e; rw [e])
    omega
  · have hr := h5 (fun q hq => by
      obtain ⟨v, v1, v2⟩ := at0 q (by omega)
      obtain ⟨w, w1, w2⟩ := at0 (q + 1) hq
      have := ha q v w v1 w1
      rw [v2, Nat.add_assoc, w2]; omega)
    refine List.ext_getElem? (fun q => ?_)
    by_cases hq : q < L.length
    · obtain ⟨v, v1, v2⟩ := at0 q hq
      rw [v1, List.getElem?_map, List.getElem?_range hq, hr]
      simp [v2]
    · rw [List.getElem?_eq_none (by simp; omega), List.getElem?_eq_none (by omega)]
theorem asc_head {a : Nat} : ∀ {l : List Nat}, AscL (a :: l) → ∀ x ∈ l, a < x
  | [], _, x, hx => by cases hx
  | b :: l, h, x, hx => by
    have hab : a < b := h 0 a b rfl rfl
    have ht : AscL (b :: l) := fun q y z h1 h2 => h (q + 1) y z h1 h2
    rcases List.mem_cons.mp hx with q | q
    · rw [q]; exact hab
    · have := asc_head ht x q
      omega
theorem asc_uniq : ∀ {L L' : List Nat}, AscL L → AscL L' → (∀ v, v ∈ L ↔ v ∈ L') → L = L'
  | [], [], _, _, _ => rfl
  | [], b :: l', _, _, h => by have := (h b).mpr List.mem_cons_self; cases this
  | a :: l, [], _, _, h => by have := (h a).mp List.mem_cons_self; cases this
  | a :: l, b :: l', h1, h2, h => by
    have e : a = b := by
      have ha := (h a).mp List.mem_cons_self
      have hb := (h b).mpr List.mem_cons_self
      rcases List.mem_cons.mp ha with q | q
      · exact q
      · rcases List.mem_cons.mp hb with z | z
        · exact z.symm
        · have := asc_head h2 a q
          have := asc_head h1 b z
          omega
    subst e
    have ht1 : AscL l := fun q y z h3 h4 => h1 (q + 1) y z h3 h4
    have ht2 : AscL l' := fun q y z h3 h4 => h2 (q + 1) y z h3 h4
    rw [asc_uniq ht1 ht2 (fun v => ⟨fun hv => ?_, fun hv => ?_⟩)]
    · have hlt := asc_head h1 v hv
      rcases List.mem_cons.mp ((h v).mp (List.mem_cons_of_mem _ hv)) with q | q
      · omega
      · exact q
    · have hlt := asc_head h2 v hv
      rcases List.mem_cons.mp ((h v).mpr (List.mem_cons_of_mem _ hv)) with q | q
      · omega
      · exact q
theorem tX1_typed {d : Nat} (hd : 7 ≤ d) {ν : Nat → Nat} {c : Nat} {u : Sg} {m arg b : Nat} {L : List Nat} {X : Nat → Prop} (hw : WF FC u) (hs : SC ν c u) (hrc : rC u = b + L.length) (hrow : ∀ (q v : Nat), L[q]? = some v → gN u 11 (b + q) = (v : Int)) (hL : L.Nodup) (hLn : L.length ≤ 900) (hb : rC u ≤ 29000) (ha : arg < nC u) (hm : m < 2147483648) (hX : ∀ L', SameL L L' → X (mk 8 m (trC ν u arg :: L'))) (hl : Lim ν u X) :
    wp (runC d 15 [(m : Int), (arg : Int), (b : Int)] u) (fun res u' => ∃ L', SameL L L' ∧ RsA ν c DX1_typed u b (mk 8 m (trC ν u arg :: L')) X res u') := by
  obtain ⟨d, rfl⟩ : ∃ d', d = d' + 1 := ⟨d - 1, by omega⟩
  rw [runC_eq (by omega)]
  show wp (bX1_typed (runC d) m arg b u) _
  unfold bX1_typed
  have hr := hs.r
  have hbd := hl.n hs
  have hKF := KF_gt
  rw [wp_un, hr.1, wp_ar]
  refine ⟨⟨by omega, by omega⟩, ?_⟩
  rw [show (rC u : Int) - (b : Int) = (L.length : Int) by omega]
  refine typed_L14 (r0 := fun p => gN u 11 p) (by omega) (by omega) (L.length - 1) 1 KF u (fun p => gN u 11 p) (by omega) (Nat.lt_of_le_of_lt (by omega : _ ≤ 65536) hKF) (Nat.le_refl _) (RwC.rf hw) (PmR.rf _ _ _) (fun q q1 q2 => by omega) _ (fun u2 r hR hP hS => ?_)
  obtain ⟨hsame, hval⟩ := same_PmR hL hrow hP hS
  have hd0 : ∀ q q', q < L.length → q' < L.length → r (b + q) = r (b + q') → q = q' := hP.2.2.2.1 (fun q q' hq hq' e => by
    have v1 := hrow q _ (List.getElem?_eq_getElem hq)
    have w1 := hrow q' _ (List.getElem?_eq_getElem hq')
    have e : gN u 11 (b + q) = gN u 11 (b + q') := e
    rw [v1, w1] at e
    have : L[q] = L[q'] := by omega
    exact nodup_at hL (List.getElem?_eq_getElem hq) (by rw [List.getElem?_eq_getElem hq', this]))
  refine typed_L121 (by omega) (by omega) hd0 L.length 0 KF u2 (by omega) (Nat.lt_of_le_of_lt (by omega : _ ≤ 65536) hKF) hR _ (fun u2 hR => ?_)
  rw [wp_ar]
  refine ⟨⟨by omega, by omega⟩, ?_⟩
  rw [show (b : Int) + (L.length : Int) = (rC u : Int) by omega, wp_un]
  have e3 : EqS u (sI u2 12 (rC u : Int)) := hR.1.trn ⟨fun _ _ => rfl, fun k hk => by rw [gI_sI, if_neg (by omega)]⟩
  have r3 : rC (sI u2 12 (rC u : Int)) = rC u := by unfold rC; rw [gI_sI, if_pos rfl]; omega
  have s3 : SC ν c (sI u2 12 (rC u : Int)) := e3.sc hs ⟨by rw [gI_sI, if_pos rfl, r3], by rw [r3, gL_sI, hR.2.2.1]; exact hr.2.1⟩ ⟨by rw [gL_sI, hR.2.2.1]; exact hr.2.2.1, by rw [gL_sI, hR.2.2.1]; exact hr.2.2.2⟩
  have w3 : WF FC (sI u2 12 (rC u : Int)) := wfI hR.2.2.2.2.1 rfl ⟨by omega, by omega⟩
  refine wp_call (tX2_push (by omega) w3 s3 (by decide) (by rw [r3]; omega)) (fun _ u4 ⟨s4, e4, r4, p4, z4, w4, g4⟩ => ?_)
  rw [r3] at r4 p4 z4
  have hr4 := s4.r
  refine typed_L221 (u := u4) (r0 := fun p => gN u4 11 p) (n := L.length) (by omega) (by omega) L.length KF u4 (fun p => gN u4 11 p) (Nat.le_refl _) (Nat.lt_of_le_of_lt (by omega : _ ≤ 65536) hKF) (RwC.rf w4) (fun _ _ => rfl) (fun p q1 q2 => by omega) _ (fun u5 r5 hR5 h51 h52 => ?_)
  have l5 : gL u5 11 = gL u4 11 := hR5.2.2.1
  rw [stA_pos ⟨by omega, by omega⟩]
  have hR6 := hR5.st (k := b) (v := (arg : Int)) ⟨by omega, by omega⟩
  generalize sA u5 11 (b : Int) (arg : Int) = u6 at hR6 ⊢
  have e6 : EqS u u6 := e3.trn (e4.trn hR6.1)
  have r6 : rC u6 = rC u + 1 := by unfold rC at r4 ⊢; rw [hR6.2.1]; exact r4
  have s6 : SC ν c u6 := hR6.1.sc s4 ⟨by rw [hR6.2.1, r6, ← r4]; exact hr4.1, by rw [r6, hR6.2.2.1, ← r4]; exact hr4.2.1⟩ ⟨by rw [hR6.2.2.1]; exact hr4.2.2.1, by rw [hR6.2.2.1]; exact hr4.2.2.2⟩
  have old4 : ∀ p, p < rC u → gN u4 11 p = r p := fun p hp => by rw [p4 p hp, gN_sI]; exact hR.2.2.2.1 p
  have val6 : ∀ p, gN u6 11 p = if p = b then (arg : Int) else r5 p := hR6.2.2.2.1
  have hrowl : rowC u6 b = (arg : Int) :: (List.range L.length).map (fun q => r (b + q)) := by
    refine List.ext_getElem? (fun k => ?_)
    by_cases hk : k < L.length + 1
    · rw [row_at u6 (by omega), val6]
      cases k with
      | zero => simp
      | succ k =>
        rw [if_neg (by omega), h52 _ (by omega) (by omega), show b + (k + 1) - 1 = b + k by omega, old4 _ (by omega), List.getElem?_cons_succ, List.getElem?_map, List.getElem?_range (by omega)]
        rfl
    · rw [List.getElem?_eq_none (by rw [row_len]; omega), List.getElem?_eq_none (by simp; omega)]
  have hnn : ∀ v ∈ rowC u6 b, 0 ≤ v := fun v hv => by
    rw [hrowl] at hv
    rcases List.mem_cons.mp hv with q | q
    · rw [q]; omega
    · obtain ⟨k, hk, e⟩ := List.mem_map.mp q
      obtain ⟨w, w1, _⟩ := hval k (List.mem_range.mp hk)
      rw [← e, w1]; omega
  have hrt : rowT ν u6 8 b = trC ν u arg :: (List.range L.length).map (fun q => (r (b + q)).toNat) := by
    unfold rowT pmp
    rw [if_pos rfl, hrowl, show trC ν u6 = trC ν u from funext fun x => e6.tr x]
    simp
  have hfm : ∀ p ∈ fptR (((8 : Nat) : Int), (m : Int), rowC u6 b), p < (nC u6 : Int) := fun p hp => by
    unfold fptR at hp
    rw [if_pos (by show ((8 : Nat) : Int) = 8; rfl)] at hp
    have hp : p ∈ List.take 1 (rowC u6 b) := hp
    rw [hrowl] at hp
    simp at hp
    rw [hp, e6.n]; omega
  have et : mk 8 (if (8 : Nat) = 1 then ν m else m) (rowT ν u6 8 b) = mk 8 m (trC ν u arg :: (List.range L.length).map (fun q => (r (b + q)).toNat)) := by rw [if_neg (by decide), hrt]
  refine wp_call (tX2_make (k := 8) (w := m) (X := X) (by omega) hR6.2.2.2.2.1 s6 (by omega) hm (by omega) (by omega) (by omega) hnn hfm (by omega) (by rw [et]; exact hX _ hsame) (e6.lim hl)) (fun res u7 ⟨x, b1, b2, b3, b4, b5, b6, b7, b8, b9, b10, b11, b12, b13⟩ => ?_)
  rw [wp_some]
  rw [et] at b5
  refine ⟨_, hsame, x, b1, b2, b3, b5, b4, by rw [← e6.st ν]; exact b8, fun t ht => (b9 t ht).imp (e6.nd t).mp id, b10, fun i hi => ?_, b12, ?_⟩
  · rw [b11 i hi, val6, if_neg (by omega), h51 i (by omega), old4 i (by omega)]
    exact hP.2.2.1 i (by omega)
  · exact (hR.2.2.2.2.2.tr (Gr_sI (by decide +kernel))).tr ((g4.sub (by decide +kernel)).tr (hR6.2.2.2.2.2.tr (b13.sub (by decide +kernel))))
theorem tX1_plain {d : Nat} (hd : 8 ≤ d) {ν : Nat → Nat} {c : Nat} {u : Sg} {m arg : Nat} {X : Nat → Prop} (hw : WF FC u) (hs : SC ν c u) (hb : rC u ≤ 29000) (ha : arg < nC u) (hm : m < 2147483648) (hX : X (mk 8 m [trC ν u arg])) (hl : Lim ν u X) :
    wp (runC d 57 [(m : Int), (arg : Int)] u) (RsT ν c DX1_plain u (mk 8 m [trC ν u arg]) X) := by
  obtain ⟨d, rfl⟩ : ∃ d', d = d' + 1 := ⟨d - 1, by omega⟩
  rw [runC_eq (by omega)]
  show wp (bX1_plain (runC d) m arg u) _
  unfold bX1_plain
  rw [wp_un, hs.r.1]
  refine wp_call (tX1_typed (L := []) (X := X) (by omega) hw hs (by simp) (fun q v h => by simp at h) List.nodup_nil (by simp) hb ha hm (fun L' hL' => ?_) hl) (fun res u' ⟨L', hL', x, b1, b2, b3, b4, b5, b6, b7, b8, b9, b10, b11⟩ => ?_)
  · have : L' = [] := List.length_eq_zero_iff.mp hL'.2.1
    rw [this]; exact hX
  · have : L' = [] := List.length_eq_zero_iff.mp hL'.2.1
    rw [this] at b4
    rw [wp_some]
    exact ⟨x, b1, b2, b3, b4, ⟨b5.1, b5.2.1, b5.2.2, b6, b7, b8, b9⟩, b10, b11.sub (by decide +kernel)⟩
