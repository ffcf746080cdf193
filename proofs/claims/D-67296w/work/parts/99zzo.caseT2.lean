/-! what is asked in a case of the model -/
/-- what the lists of the model say: SET is a mode of all that is at hand -/
def FsQ (l : Ls) : Fs := FsL l.1 l.2.1 (l.2.2.1 ++ l.1.map (fun t => (t, 0, 0))) l.2.2.2
theorem rt_eqX {H : List Nat} {p : Nat → Nat} {i j s t : Nat} (hn : H.Nodup) (hi : H[i]? = some s) (hj : H[j]? = some t) : rt p i = rt p j ↔ eqX H p s t := by
  constructor
  · exact fun z => Or.inr ⟨i, j, hi, hj, z⟩
  · rintro (z | ⟨i', j', z1, z2, z3⟩)
    · rw [z] at hi
      rw [nodup_at hn hi hj]
    · rw [nodup_at hn hi z1, nodup_at hn hj z2]; exact z3
theorem hasAdjT_L2 {d : Nat} (hd : 3 ≤ d) {ν : Nat → Nat} {u : Sg} {H : List Nat} {p : Nat → Nat} {J : List (Nat × Nat)} (h : HaT ν u H p) (hJ : FcJT u H J) (hJl : J.length ≤ 100000) {i0 t j : Nat} (hi0 : H[i0]? = some t) : ∀ (m i f : Nat), i + m = J.length → m < f → Yq (bX3_hasAdj_L2 (runT d) f (i0 : Int) (j : Int) (i : Int) u (fun s1 => some (0, s1)) (fun s2 => some (1, s2))) u (∃ k t', i ≤ k ∧ J[k]? = some (t', j) ∧ eqX H p t' t) := by
  obtain ⟨⟨j1, j2, j3, j4, j5⟩, j6⟩ := hJ
  obtain ⟨d, rfl⟩ : ∃ d', d = d' + 1 := ⟨d - 1, by omega⟩
  have hn := h.2.2.1
  have hl0 := (List.getElem?_eq_some_iff.mp hi0).1
  intro m
  induction m with
  | zero =>
    intro i f hi hf
    obtain ⟨f, rfl⟩ : ∃ f', f = f' + 1 := ⟨f - 1, by omega⟩
    rw [bX3_hasAdj_L2, un_eq, j1, if_neg (by omega)]
    exact ⟨fun ⟨k, t', q1, q2, _⟩ => by have := (List.getElem?_eq_some_iff.mp q2).1; omega, fun _ => rfl⟩
  | succ m ih =>
    intro i f hi hf
    obtain ⟨f, rfl⟩ : ∃ f', f = f' + 1 := ⟨f - 1, by omega⟩
    have hil : i < J.length := by omega
    obtain ⟨t', j', hget⟩ : ∃ t' j', J[i]? = some (t', j') := ⟨_, _, List.getElem?_eq_getElem hil⟩
    obtain ⟨⟨y, y1, y2⟩, e2⟩ := j6 i t' j' hget
    have hyl := (List.getElem?_eq_some_iff.mp y2).1
    have nxt := ih (i + 1) f (by omega) (by omega)
    have cont : ¬ (j' = j ∧ eqX H p t' t) → Yq (ar ((i : Int) + 1) fun v6 => bX3_hasAdj_L2 (runT (d + 1)) f (i0 : Int) (j : Int) v6 u (fun s1 => some (0, s1)) (fun s2 => some (1, s2))) u (∃ k t', i ≤ k ∧ J[k]? = some (t', j) ∧ eqX H p t' t) := fun hno => by
      rw [ar_pos ⟨by omega, by omega⟩, show (i : Int) + 1 = ((i + 1 : Nat) : Int) by omega]
      refine nxt.iff ⟨fun ⟨k, s, q1, q2, q3⟩ => ⟨k, s, by omega, q2, q3⟩, fun ⟨k, s, q1, q2, q3⟩ => ⟨k, s, ?_, q2, q3⟩⟩
      by_cases hk : k = i
      · rw [hk, hget] at q2
        have e := Option.some.inj q2
        simp only [Prod.mk.injEq] at e
        exact absurd ⟨e.2, by rw [e.1]; exact q3⟩ hno
      · omega
    rw [bX3_hasAdj_L2, un_eq, j1, if_pos (by omega), ld_nat (by omega), e2]
    by_cases hj : (j' : Int) = (j : Int)
    · rw [if_pos hj, ld_nat (by omega), y1, cl_eq (rX3_top (by omega) h hyl), cl_eq (rX3_top (by omega) h hl0)]
      by_cases he : eqX H p t' t
      · have := (rt_eqX hn y2 hi0).mpr he
        rw [if_pos (by omega)]
        exact ⟨fun _ => rfl, fun q => absurd ⟨i, t', Nat.le_refl _, by rw [hget, show j' = j by omega], he⟩ q⟩
      · rw [if_neg (fun q => he ((rt_eqX hn y2 hi0).mp (by omega)))]
        exact cont (fun q => he q.2)
    · rw [if_neg hj]
      exact cont (fun q => hj (by rw [q.1]))
theorem rX3_hasAdj {d : Nat} (hd : 4 ≤ d) {ν : Nat → Nat} {u : Sg} {l : Ls} (h : HaT ν u l.1 l.2.1) (hJ : FcJT u l.1 l.2.2.2) (hJl : l.2.2.2.length ≤ 100000) {i0 t j : Nat} (hi0 : l.1[i0]? = some t) : Yq (runT d 72 [(i0 : Int), (j : Int)] u) u (fA (FsQ l) t j) := by
  obtain ⟨d, rfl⟩ : ∃ d', d = d' + 1 := ⟨d - 1, by omega⟩
  rw [runT_eq (by omega)]
  refine (hasAdjT_L2 (d := d) (j := j) (by omega) h hJ hJl hi0 l.2.2.2.length 0 KF (by omega) (Nat.lt_of_le_of_lt (by omega : _ ≤ 300000) KF_300)).iff ⟨fun ⟨k, t', _, q2, q3⟩ => ⟨t', List.mem_of_getElem? q2, q3⟩, fun ⟨t', q2, q3⟩ => ?_⟩
  obtain ⟨k, hk⟩ := List.getElem?_of_mem q2
  exact ⟨k, t', Nat.zero_le _, hk, q3⟩
theorem hasHereT_L9 {d : Nat} (hd : 4 ≤ d) {ν : Nat → Nat} {c : Nat} {u : Sg} {H : List Nat} {p : Nat → Nat} {M : List (Nat × Nat × Nat)} (h : HaT ν u H p) (hs : ST ν c u) (hM : FcMT ν u H M) (hMl : M.length ≤ 100000) {i0 t m a : Nat} (hi0 : H[i0]? = some t) (ha : a ≤ nT u) : ∀ (n i f : Nat), i + n = M.length → n < f → Yq (bX3_hasHere_L9 (runT d) f (i0 : Int) (m : Int) (a : Int) (i : Int) u (fun s1 => some (0, s1)) (fun s2 => some (1, s2))) u (∃ k t' a', i ≤ k ∧ M[k]? = some (t', m, a') ∧ eqX H p t' t ∧ eqX H p a' (trT ν u a)) := by
  obtain ⟨⟨m1, m2, m3, m4, m5, m6⟩, m7⟩ := hM
  obtain ⟨d, rfl⟩ : ∃ d', d = d' + 1 := ⟨d - 1, by omega⟩
  have hn := h.2.2.1
  have hl0 := (List.getElem?_eq_some_iff.mp hi0).1
  intro n
  induction n with
  | zero =>
    intro i f hi hf
    obtain ⟨f, rfl⟩ : ∃ f', f = f' + 1 := ⟨f - 1, by omega⟩
    rw [bX3_hasHere_L9, un_eq, m1, if_neg (by omega)]
    exact ⟨fun ⟨k, t', a', q1, q2, _⟩ => by have := (List.getElem?_eq_some_iff.mp q2).1; omega, fun _ => rfl⟩
  | succ n ih =>
    intro i f hi hf
    obtain ⟨f, rfl⟩ : ∃ f', f = f' + 1 := ⟨f - 1, by omega⟩
    have hil : i < M.length := by omega
    obtain ⟨t', m', a', hget⟩ : ∃ t' m' a', M[i]? = some (t', m', a') := ⟨_, _, _, List.getElem?_eq_getElem hil⟩
    obtain ⟨⟨y, y1, y2⟩, e2, ⟨z, z1, z2, z3⟩⟩ := m7 i t' m' a' hget
    have hyl := (List.getElem?_eq_some_iff.mp y2).1
    have nxt := ih (i + 1) f (by omega) (by omega)
    have cont : ¬ (m' = m ∧ eqX H p t' t ∧ eqX H p a' (trT ν u a)) → Yq (ar ((i : Int) + 1) fun v6 => bX3_hasHere_L9 (runT (d + 1)) f (i0 : Int) (m : Int) (a : Int) v6 u (fun s1 => some (0, s1)) (fun s2 => some (1, s2))) u (∃ k t' a', i ≤ k ∧ M[k]? = some (t', m, a') ∧ eqX H p t' t ∧ eqX H p a' (trT ν u a)) := fun hno => by
      rw [ar_pos ⟨by omega, by omega⟩, show (i : Int) + 1 = ((i + 1 : Nat) : Int) by omega]
      refine nxt.iff ⟨fun ⟨k, s, b, q1, q2, q3⟩ => ⟨k, s, b, by omega, q2, q3⟩, fun ⟨k, s, b, q1, q2, q3⟩ => ⟨k, s, b, ?_, q2, q3⟩⟩
      by_cases hk : k = i
      · rw [hk, hget] at q2
        have e := Option.some.inj q2
        simp only [Prod.mk.injEq] at e
        exact absurd ⟨e.2.1, by rw [e.1]; exact q3.1, by rw [e.2.2]; exact q3.2⟩ hno
      · omega
    rw [bX3_hasHere_L9, un_eq, m1, if_pos (by omega), ld_nat (by omega), e2]
    by_cases hm : (m' : Int) = (m : Int)
    · rw [if_pos hm, ld_nat (by omega), y1, cl_eq (rX3_top (by omega) h hyl), cl_eq (rX3_top (by omega) h hl0)]
      by_cases he : eqX H p t' t
      · have := (rt_eqX hn y2 hi0).mpr he
        rw [if_pos (by omega), ld_nat (by omega), z1]
        obtain ⟨b1, b2⟩ := rX3_equal (d := d + 1) (by omega) h hs z2 ha
        rw [z3] at b1 b2
        by_cases he2 : eqX H p a' (trT ν u a)
        · rw [cl_eq (b1 he2), if_neg (by decide)]
          exact ⟨fun _ => rfl, fun q => absurd ⟨i, t', a', Nat.le_refl _, by rw [hget, show m' = m by omega], he, he2⟩ q⟩
        · rw [cl_eq (b2 he2), if_pos rfl]
          exact cont (fun q => he2 q.2.2)
      · rw [if_neg (fun q => he ((rt_eqX hn y2 hi0).mp (by omega)))]
        exact cont (fun q => he q.2.1)
    · rw [if_neg hm]
      exact cont (fun q => hm (by rw [q.1]))
theorem fMQ {l : Ls} (hn : l.1.Nodup) (h0 : 0 ∉ l.1) {t m a : Nat} (hm : ∀ q ∈ l.2.2.1, q.2.1 ≠ 0) (ht : t ∈ l.1) : fM (FsQ l) t m a ↔ (m = 0 ∧ a = 0) ∨ ∃ t' a', (t', m, a') ∈ l.2.2.1 ∧ eqX l.1 l.2.1 t' t ∧ eqX l.1 l.2.1 a' a := by
  constructor
  · rintro ⟨t', a', q1, q2, q3⟩
    rcases List.mem_append.mp q1 with q | q
    · exact Or.inr ⟨t', a', q, q2, q3⟩
    · obtain ⟨s, s1, s2⟩ := List.mem_map.mp q
      simp only [Prod.mk.injEq] at s2
      rw [← s2.2.2, (eqX_0 h0).2] at q3
      exact Or.inl ⟨s2.2.1.symm, q3⟩
  · rintro (⟨e1, e2⟩ | ⟨t', a', q1, q2, q3⟩)
    · exact ⟨t, 0, List.mem_append_right _ (List.mem_map.mpr ⟨t, ht, by rw [e1]⟩), Or.inl rfl, Or.inl e2.symm⟩
    · exact ⟨t', a', List.mem_append_left _ q1, q2, q3⟩
theorem rX3_hasHere {d : Nat} (hd : 5 ≤ d) {ν : Nat → Nat} {c : Nat} {u : Sg} {l : Ls} (h : HaT ν u l.1 l.2.1) (hs : ST ν c u) (hM : FcMT ν u l.1 l.2.2.1) (hMl : l.2.2.1.length ≤ 100000) (hm : ∀ q ∈ l.2.2.1, q.2.1 ≠ 0) {i0 t m a : Nat} (hi0 : l.1[i0]? = some t) (ha : a ≤ nT u) (hma : m = 0 → trT ν u a = 0) : Yq (runT d 75 [(i0 : Int), (m : Int), (a : Int)] u) u (fM (FsQ l) t m (trT ν u a)) := by
  obtain ⟨d, rfl⟩ : ∃ d', d = d' + 1 := ⟨d - 1, by omega⟩
  rw [runT_eq (by omega)]
  show Yq (bX3_hasHere (runT d) i0 m a u) u _
  unfold bX3_hasHere
  have key := fMQ (t := t) (m := m) (a := trT ν u a) h.2.2.1 (h.h0 hs) hm (List.mem_of_getElem? hi0)
  by_cases h0 : (m : Int) = 0
  · rw [if_pos h0]
    have e0 : m = 0 := by omega
    exact ⟨fun _ => rfl, fun q => absurd (key.mpr (Or.inl ⟨e0, hma e0⟩)) q⟩
  · rw [if_neg h0]
    refine (hasHereT_L9 (d := d) (m := m) (by omega) h hs hM hMl hi0 ha l.2.2.1.length 0 KF (by omega) (Nat.lt_of_le_of_lt (by omega : _ ≤ 300000) KF_300)).iff ⟨fun ⟨k, t', a', _, q2, q3⟩ => key.mpr (Or.inr ⟨t', a', List.mem_of_getElem? q2, q3⟩), fun q => ?_⟩
    rcases key.mp q with ⟨e, _⟩ | ⟨t', a', q2, q3⟩
    · omega
    · obtain ⟨k, hk⟩ := List.getElem?_of_mem q2
      exact ⟨k, t', a', Nat.zero_le _, hk, q3⟩
theorem fitsT_L42 {d : Nat} (hd : 4 ≤ d) {ν : Nat → Nat} {c : Nat} {u : Sg} {l : Ls} (h : HaT ν u l.1 l.2.1) (hs : ST ν c u) (hJ : FcJT u l.1 l.2.2.2) (hJl : l.2.2.2.length ≤ 100000) {i0 t y : Nat} (hi0 : l.1[i0]? = some t) (y0 : 0 < y) (hy : y ≤ nT u) (h8 : kd (trT ν u y) = 8) (ho : okT (trT ν u y)) : ∀ (n i f : Nat), i + n = (ps (trT ν u y)).length → n < f → 1 ≤ i → Yq (bX3_fitsHere_L42 (runT d) f (y : Int) (i0 : Int) ((i + 1 : Nat) : Int) u (fun s6 => some (1, s6)) (fun s7 => some (0, s7))) u (∀ j ∈ (ps (trT ν u y)).drop i, fA (FsQ l) t j) := by
  have hn := nodeT hs y0 hy
  have nw1 : nw (kd (trT ν u y)) = 1 := by rw [h8]; decide
  have hl3 : y < gL u 3 := by rw [hs.1.1.2.2.2.1.2.1]; exact hs.k hy
  have hpt := ps_type ho h8
  intro n
  induction n with
  | zero =>
    intro i f hi hf h1
    obtain ⟨f, rfl⟩ : ∃ f', f = f' + 1 := ⟨f - 1, by omega⟩
    rw [bX3_fitsHere_L42, ld_nat hl3, hn.2.1, if_neg (by omega), List.drop_of_length_le (by omega)]
    exact ⟨fun _ => rfl, fun q => absurd (fun j hj => by cases hj) q⟩
  | succ n ih =>
    intro i f hi hf h1
    obtain ⟨f, rfl⟩ : ∃ f', f = f' + 1 := ⟨f - 1, by omega⟩
    have hil : i < (ps (trT ν u y)).length := by omega
    rw [bX3_fitsHere_L42, ld_nat hl3, hn.2.1, if_pos (by omega), cl_eq (adjNT (by omega) hs y0 hy h8 hil h1), drop_pa hil]
    obtain ⟨b1, b2⟩ := rX3_hasAdj (d := d) (j := pa (trT ν u y) i) (by omega) h hJ hJl hi0
    by_cases he : fA (FsQ l) t (pa (trT ν u y) i)
    · rw [cl_eq (b1 he), if_neg (by decide), ar_pos ⟨by omega, by omega⟩]
      refine (ih (i + 1) f (by omega) (by omega) (by omega)).iff ⟨fun q j hj => ?_, fun q j hj => q j (List.mem_cons_of_mem _ hj)⟩
      rcases List.mem_cons.mp hj with w | w
      · rw [w]; exact he
      · exact q j w
    · rw [cl_eq (b2 he), if_pos rfl]
      exact ⟨fun q => absurd (q _ List.mem_cons_self) he, fun _ => rfl⟩
/-- whether a term at hand fits a type -/
theorem rX3_fitsHere {d : Nat} (hd : 6 ≤ d) {ν : Nat → Nat} {c : Nat} {u : Sg} {l : Ls} (h : HaT ν u l.1 l.2.1) (hs : ST ν c u) (hM : FcMT ν u l.1 l.2.2.1) (hMl : l.2.2.1.length ≤ 100000) (hm : ∀ q ∈ l.2.2.1, q.2.1 ≠ 0) (hJ : FcJT u l.1 l.2.2.2) (hJl : l.2.2.2.length ≤ 100000) {x y : Nat} (hx : x ≤ nT u) (hxH : trT ν u x ∈ l.1) (y0 : 0 < y) (hy : y ≤ nT u) (h8 : kd (trT ν u y) = 8) (ho : okT (trT ν u y)) (hma : wh (trT ν u y) = 0 → pa (trT ν u y) 0 = 0) : Yq (runT d 87 [(x : Int), (y : Int)] u) u (fitS (FsQ l) (trT ν u x) (trT ν u y)) := by
  obtain ⟨d, rfl⟩ : ∃ d', d = d' + 2 := ⟨d - 2, by omega⟩
  rw [runT_eq (by omega)]
  show Yq (bX3_fitsHere (runT (d + 1)) x y u) u _
  unfold bX3_fitsHere
  obtain ⟨i, i1, i2⟩ := (rX3_indexOf (d := d) (by omega) h hs hx).1 hxH
  have hpt := ps_type ho h8
  obtain ⟨a, a1, a2, a3⟩ := rX3_arg (d := d + 1) (by omega) hs y0 hy h8 (by omega)
  have nw1 : nw (kd (trT ν u y)) = 1 := by rw [h8]; decide
  rw [cl_eq i2, if_neg (by omega), cl_eq (headNT (by omega) hs y0 hy nw1 (by omega)), cl_eq a1]
  obtain ⟨m1, m2⟩ := rX3_hasHere (d := d + 1) (m := wh (trT ν u y)) (a := a) (by omega) h hs hM hMl hm i1 (by omega) (fun q => by rw [a3]; exact hma q)
  rw [a3] at m1 m2
  by_cases hf : fM (FsQ l) (trT ν u x) (wh (trT ν u y)) (pa (trT ν u y) 0)
  · rw [cl_eq (m1 hf), if_neg (by decide)]
    have hlen : (ps (trT ν u y)).length ≤ 60000 := by omega
    have hKF := KF_big
    refine (fitsT_L42 (d := d + 1) (by omega) h hs hJ hJl i1 y0 hy h8 ho ((ps (trT ν u y)).length - 1) 1 KF (by omega) (by omega) (Nat.le_refl _)).iff ⟨fun q => ⟨hf, fun j hj => q j (by rw [hpt.2.2]; exact hj)⟩, fun q j hj => q.2 j (by rw [← hpt.2.2]; exact hj)⟩
  · rw [cl_eq (m2 hf), if_pos rfl]
    exact ⟨fun q => absurd q.1 hf, fun _ => rfl⟩
