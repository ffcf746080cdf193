/-! a case in the class: terms at hand, modes, adjectives; what is asked -/
def Yq (o : Option (Int × Sg)) (u : Sg) (P : Prop) : Prop := (P → o = some (1, u)) ∧ (¬ P → o = some (0, u))
theorem Yq.iff {o : Option (Int × Sg)} {u : Sg} {P P' : Prop} (h : Yq o u P) (e : P ↔ P') : Yq o u P' := ⟨fun q => h.1 (e.mpr q), fun q => h.2 (fun z => q (e.mp z))⟩
def eqX (H : List Nat) (p : Nat → Nat) (s t : Nat) : Prop := s = t ∨ eqL H p s t
def FsL (H : List Nat) (p : Nat → Nat) (M : List (Nat × Nat × Nat)) (J : List (Nat × Nat)) : Fs := (fun t => t ∈ H, fun s t => eqL H p s t, fun t m a => ∃ t' a', (t', m, a') ∈ M ∧ eqX H p t' t ∧ eqX H p a' a, fun t j => ∃ t', (t', j) ∈ J ∧ eqX H p t' t)
def HaC (ν : Nat → Nat) (u : Sg) (H : List Nat) (p : Nat → Nat) : Prop := (gI u 43 = (H.length : Int) ∧ H.length ≤ 100 ∧ gL u 40 = 101 ∧ gL u 41 = 101) ∧ (gL u 39 = gL u 42 ∧ gL u 37 = gL u 42 ∧ gL u 38 = gL u 42 ∧ (gL u 42 = 60000 ∨ gL u 42 = 90000) ∧ gL u 42 ≤ 140000) ∧ H.Nodup ∧ (∀ (i t : Nat), H[i]? = some t → ∃ x : Nat, gN u 40 i = (x : Int) ∧ 0 < x ∧ x < nC u ∧ trC ν u x = t ∧ x < gL u 42 ∧ gN u 42 x = gI u 36 ∧ gN u 39 x = (i : Int)) ∧ (∀ x : Nat, x < gL u 42 → gN u 42 x ≤ gI u 36 ∧ (gN u 42 x = gI u 36 → ∃ i, i < H.length ∧ gN u 40 i = (x : Int))) ∧ (∀ i, i < H.length → gN u 41 i = (p i : Int)) ∧ DecP p H.length
def FcM (ν : Nat → Nat) (u : Sg) (M : List (Nat × Nat × Nat)) : Prop := (gI u 51 = (M.length : Int) ∧ M.length ≤ gL u 46 ∧ gL u 47 = gL u 46 ∧ gL u 48 = gL u 46 ∧ 512 ≤ gL u 46 ∧ gL u 46 ≤ 131072) ∧ ∀ (k t m a : Nat), M[k]? = some (t, m, a) → inC ν u (gN u 46 k) t ∧ gN u 47 k = (m : Int) ∧ inC ν u (gN u 48 k) a
def FcJ (ν : Nat → Nat) (u : Sg) (J : List (Nat × Nat)) : Prop := (gI u 52 = (J.length : Int) ∧ J.length ≤ gL u 49 ∧ gL u 50 = gL u 49 ∧ 512 ≤ gL u 49 ∧ gL u 49 ≤ 131072) ∧ ∀ (k t j : Nat), J[k]? = some (t, j) → inC ν u (gN u 49 k) t ∧ gN u 50 k = (j : Int)
theorem HaC.node {ν : Nat → Nat} {c : Nat} {u : Sg} {H : List Nat} {p : Nat → Nat} (h : HaC ν u H p) (hs : SC ν c u) {x : Nat} (hx : x < nC u) : (trC ν u x ∈ H → ∃ i, H[i]? = some (trC ν u x) ∧ gN u 40 i = (x : Int) ∧ 0 < x ∧ x < gL u 42 ∧ gN u 42 x = gI u 36 ∧ gN u 39 x = (i : Int)) ∧ (x < gL u 42 → gN u 42 x = gI u 36 → trC ν u x ∈ H) := by
  obtain ⟨h1, h2, h3, h4, h5, h6, h7⟩ := h
  refine ⟨fun hm => ?_, fun hl he => ?_⟩
  · obtain ⟨i, hi⟩ := List.getElem?_of_mem hm
    obtain ⟨y, y1, y2, y3, y4, y5, y6, y7⟩ := h4 i _ hi
    have e := trC_inj hs y3 hx y4
    subst e
    exact ⟨i, hi, y1, y2, y5, y6, y7⟩
  · obtain ⟨i, hi, e⟩ := (h5 x hl).2 he
    obtain ⟨y, y1, y2, y3, y4, y5⟩ := h4 i _ (List.getElem?_eq_getElem hi)
    have : y = x := by omega
    subst this
    rw [y4]; exact List.getElem_mem hi
theorem rX1_isAtHand {d : Nat} (hd : 2 ≤ d) {ν : Nat → Nat} {c : Nat} {u : Sg} {H : List Nat} {p : Nat → Nat} (h : HaC ν u H p) (hs : SC ν c u) {x : Nat} (hx : x < nC u) : Yq (runC (d + 1) 46 [(x : Int)] u) u (trC ν u x ∈ H) := by
  obtain ⟨a, b⟩ := h.node hs hx
  rw [runC_eq (by omega)]
  show Yq (bX1_isAtHand (runC d) x u) u _
  unfold bX1_isAtHand
  rw [jn_eq, un_eq]
  refine ⟨fun q => ?_, fun q => ?_⟩
  · obtain ⟨i, a1, a2, a3, a4, a5, a6⟩ := a q
    rw [if_pos (by omega), ld_nat a4, un_eq, if_pos a5]
  · by_cases hl : x < gL u 42
    · rw [if_pos (by omega), ld_nat hl, un_eq, if_neg (fun z => q (b hl z))]
    · rw [if_neg (by omega)]
theorem root_L2 {d : Nat} {ν : Nat → Nat} {u : Sg} {H : List Nat} {p : Nat → Nat} (h : HaC ν u H p) {xx : Int → Sg → Option (Int × Sg)} : ∀ (i f : Nat), i < H.length → i < f → bX1_root_L2 (runC d) f (i : Int) u xx = xx ((rt p i : Nat) : Int) u := by
  obtain ⟨⟨h1, h1b, h1c, h1d⟩, h2, h3, h4, h5, h6, h7⟩ := h
  intro i
  induction i using Nat.strongRecOn with
  | ind i ih =>
    intro f hi hf
    obtain ⟨f, rfl⟩ : ∃ f', f = f' + 1 := ⟨f - 1, by omega⟩
    rw [bX1_root_L2, ld_nat (by omega), h6 i hi, rt_eq h7 hi]
    by_cases he : p i = i
    · rw [if_pos (by omega), if_pos he]
    · rw [if_neg (by omega), if_neg he, ld_nat (by omega), h6 i hi]
      have := h7 i hi
      exact ih (p i) (by omega) f (by omega) (by omega)
theorem rX1_root {d : Nat} (hd : 2 ≤ d) {ν : Nat → Nat} {u : Sg} {H : List Nat} {p : Nat → Nat} (h : HaC ν u H p) {i : Nat} (hi : i < H.length) : runC (d + 1) 56 [(i : Int)] u = some (((rt p i : Nat) : Int), u) := by
  rw [runC_eq (by omega)]
  show bX1_root (runC d) i u = _
  unfold bX1_root
  have := h.1.2.1
  exact root_L2 h i KF hi (Nat.lt_of_le_of_lt (by omega : _ ≤ 65536) KF_gt)
theorem rX1_equal {d : Nat} (hd : 4 ≤ d) {ν : Nat → Nat} {c : Nat} {u : Sg} {H : List Nat} {p : Nat → Nat} (h : HaC ν u H p) (hs : SC ν c u) {x y : Nat} (hx : x < nC u) (hy : y < nC u) : Yq (runC d 59 [(x : Int), (y : Int)] u) u (eqX H p (trC ν u x) (trC ν u y)) := by
  obtain ⟨d, rfl⟩ : ∃ d', d = d' + 1 := ⟨d - 1, by omega⟩
  rw [runC_eq (by omega)]
  show Yq (bX1_equal (runC d) x y u) u _
  unfold bX1_equal
  rw [jn_eq]
  by_cases hxy : (x : Int) = (y : Int)
  · rw [if_pos hxy]
    have e : x = y := by omega
    subst e
    exact ⟨fun _ => rfl, fun q => absurd (Or.inl rfl) q⟩
  · rw [if_neg hxy, jn_eq]
    have hne : trC ν u x ≠ trC ν u y := fun e => hxy (by rw [trC_inj hs hx hy e])
    obtain ⟨d, rfl⟩ : ∃ d', d = d' + 1 := ⟨d - 1, by omega⟩
    obtain ⟨a1, a2⟩ := rX1_isAtHand (d := d) (by omega) h hs hx
    obtain ⟨b1, b2⟩ := rX1_isAtHand (d := d) (by omega) h hs hy
    by_cases hmx : trC ν u x ∈ H
    · rw [cl_eq (a1 hmx), if_neg (by decide)]
      by_cases hmy : trC ν u y ∈ H
      · rw [cl_eq (b1 hmy), if_neg (by decide)]
        obtain ⟨i, i1, i2, i3, i4, i5, i6⟩ := (h.node hs hx).1 hmx
        obtain ⟨j, j1, j2, j3, j4, j5, j6⟩ := (h.node hs hy).1 hmy
        have hi := (List.getElem?_eq_some_iff.mp i1).1
        have hj := (List.getElem?_eq_some_iff.mp j1).1
        have l39 : gL u 39 = gL u 42 := h.2.1.1
        rw [ld_nat (by omega), i6, cl_eq (rX1_root (d := d) (by omega) h hi), ld_nat (by omega), j6, cl_eq (rX1_root (d := d) (by omega) h hj)]
        have hiff : ((rt p i : Nat) : Int) = ((rt p j : Nat) : Int) ↔ eqX H p (trC ν u x) (trC ν u y) := by
          constructor
          · intro e
            exact Or.inr ⟨i, j, i1, j1, by omega⟩
          · rintro (e | ⟨i', j', e1, e2, e3⟩)
            · exact absurd e hne
            · have := nodup_at h.2.2.1 e1 i1
              have := nodup_at h.2.2.1 e2 j1
              subst_vars
              rw [e3]
        by_cases he : ((rt p i : Nat) : Int) = ((rt p j : Nat) : Int)
        · rw [if_pos he]
          exact ⟨fun _ => rfl, fun q => absurd (hiff.mp he) q⟩
        · rw [if_neg he]
          exact ⟨fun q => absurd (hiff.mpr q) he, fun _ => rfl⟩
      · rw [cl_eq (b2 hmy), if_pos rfl]
        exact ⟨fun q => q.elim (fun e => absurd e hne) (fun e => absurd e.mem.2 hmy), fun _ => rfl⟩
    · rw [cl_eq (a2 hmx), if_pos rfl]
      exact ⟨fun q => q.elim (fun e => absurd e hne) (fun e => absurd e.mem.1 hmx), fun _ => rfl⟩
theorem classHas_L2 {d : Nat} (hd : 4 ≤ d) {ν : Nat → Nat} {c : Nat} {u : Sg} {H : List Nat} {p : Nat → Nat} {J : List (Nat × Nat)} (h : HaC ν u H p) (hJ : FcJ ν u J) (hs : SC ν c u) {x j : Nat} (hx : x < nC u) : ∀ (m i f : Nat), i + m = J.length → m < f → Yq (bX1_classHas_L2 (runC d) f (x : Int) (j : Int) (i : Int) u (fun s1 => some (0, s1)) (fun s2 => some (1, s2))) u (∃ k t', i ≤ k ∧ J[k]? = some (t', j) ∧ eqX H p t' (trC ν u x)) := by
  obtain ⟨⟨j1, j2, j3, j4, j5⟩, j6⟩ := hJ
  intro m
  induction m with
  | zero =>
    intro i f hi hf
    obtain ⟨f, rfl⟩ : ∃ f', f = f' + 1 := ⟨f - 1, by omega⟩
    rw [bX1_classHas_L2, un_eq, j1, if_neg (by omega)]
    exact ⟨fun ⟨k, t', q1, q2, _⟩ => by have := (List.getElem?_eq_some_iff.mp q2).1; omega, fun _ => rfl⟩
  | succ m ih =>
    intro i f hi hf
    obtain ⟨f, rfl⟩ : ∃ f', f = f' + 1 := ⟨f - 1, by omega⟩
    have hil : i < J.length := by omega
    obtain ⟨t', j', hget⟩ : ∃ t' j', J[i]? = some (t', j') := ⟨_, _, List.getElem?_eq_getElem hil⟩
    obtain ⟨⟨y, y1, y2, y3⟩, e2⟩ := j6 i t' j' hget
    have nxt := ih (i + 1) f (by omega) (by omega)
    have cont : ¬ (j' = j ∧ eqX H p t' (trC ν u x)) → Yq (ar ((i : Int) + 1) fun v6 => bX1_classHas_L2 (runC d) f (x : Int) (j : Int) v6 u (fun s1 => some (0, s1)) (fun s2 => some (1, s2))) u (∃ k t', i ≤ k ∧ J[k]? = some (t', j) ∧ eqX H p t' (trC ν u x)) := fun hno => by
      rw [ar_pos ⟨by omega, by omega⟩, show (i : Int) + 1 = ((i + 1 : Nat) : Int) by omega]
      refine nxt.iff ⟨fun ⟨k, s, q1, q2, q3⟩ => ⟨k, s, by omega, q2, q3⟩, fun ⟨k, s, q1, q2, q3⟩ => ⟨k, s, ?_, q2, q3⟩⟩
      by_cases hk : k = i
      · rw [hk, hget] at q2
        have e := Option.some.inj q2
        simp only [Prod.mk.injEq] at e
        exact absurd ⟨e.2, by rw [e.1]; exact q3⟩ hno
      · omega
    rw [bX1_classHas_L2, un_eq, j1, if_pos (by omega), ld_nat (by omega), e2]
    by_cases hj : (j' : Int) = (j : Int)
    · rw [if_pos hj, ld_nat (by omega), y1]
      obtain ⟨a1, a2⟩ := rX1_equal hd h hs y2 hx
      rw [y3] at a1 a2
      by_cases he : eqX H p t' (trC ν u x)
      · rw [cl_eq (a1 he), if_neg (by decide)]
        exact ⟨fun _ => rfl, fun q => absurd ⟨i, t', Nat.le_refl _, by rw [hget, show j' = j by omega], he⟩ q⟩
      · rw [cl_eq (a2 he), if_pos rfl]
        exact cont (fun q => he q.2)
    · rw [if_neg hj]
      exact cont (fun q => hj (by rw [q.1]))
theorem rX1_classHas {d : Nat} (hd : 5 ≤ d) {ν : Nat → Nat} {c : Nat} {u : Sg} {H : List Nat} {p : Nat → Nat} {M : List (Nat × Nat × Nat)} {J : List (Nat × Nat)} (h : HaC ν u H p) (hJ : FcJ ν u J) (hs : SC ν c u) {x j : Nat} (hx : x < nC u) : Yq (runC d 63 [(x : Int), (j : Int)] u) u (fA (FsL H p M J) (trC ν u x) j) := by
  obtain ⟨d, rfl⟩ : ∃ d', d = d' + 1 := ⟨d - 1, by omega⟩
  rw [runC_eq (by omega)]
  have hl := hJ.1
  refine (classHas_L2 (d := d) (j := j) (by omega) h hJ hs hx J.length 0 KF (by omega) (Nat.lt_of_le_of_lt (by omega : _ ≤ 300000) KF_300)).iff ⟨fun ⟨k, t', _, q2, q3⟩ => ⟨t', List.mem_of_getElem? q2, q3⟩, fun ⟨t', q2, q3⟩ => ?_⟩
  obtain ⟨k, hk⟩ := List.getElem?_of_mem q2
  exact ⟨k, t', Nat.zero_le _, hk, q3⟩
theorem eqX_0 {H : List Nat} {p : Nat → Nat} (h0 : 0 ∉ H) {a : Nat} : (eqX H p a 0 ↔ a = 0) ∧ (eqX H p 0 a ↔ a = 0) := by
  refine ⟨⟨fun q => q.elim id (fun z => absurd z.mem.2 h0), fun q => Or.inl q⟩, ⟨fun q => q.elim (fun z => z.symm) (fun z => absurd z.mem.1 h0), fun q => Or.inl q.symm⟩⟩
theorem classHasMode_L3 {d : Nat} (hd : 4 ≤ d) {ν : Nat → Nat} {c : Nat} {u : Sg} {H : List Nat} {p : Nat → Nat} {M : List (Nat × Nat × Nat)} (h : HaC ν u H p) (h0 : 0 ∉ H) (hM : FcM ν u M) (hs : SC ν c u) {x m a : Nat} (hx : x < nC u) (ha : a < nC u) : ∀ (n i f : Nat), i + n = M.length → n < f → Yq (bX1_classHasMode_L3 (runC d) f (x : Int) (m : Int) (a : Int) (i : Int) u (fun s1 => some (0, s1)) (fun s2 => some (1, s2)) (fun s3 => some (1, s3))) u (∃ k t' a', i ≤ k ∧ M[k]? = some (t', m, a') ∧ eqX H p t' (trC ν u x) ∧ eqX H p a' (trC ν u a)) := by
  obtain ⟨⟨m1, m2, m3, m4, m5, m6⟩, m7⟩ := hM
  intro n
  induction n with
  | zero =>
    intro i f hi hf
    obtain ⟨f, rfl⟩ : ∃ f', f = f' + 1 := ⟨f - 1, by omega⟩
    rw [bX1_classHasMode_L3, un_eq, m1, if_neg (by omega)]
    exact ⟨fun ⟨k, t', a', q1, q2, _⟩ => by have := (List.getElem?_eq_some_iff.mp q2).1; omega, fun _ => rfl⟩
  | succ n ih =>
    intro i f hi hf
    obtain ⟨f, rfl⟩ : ∃ f', f = f' + 1 := ⟨f - 1, by omega⟩
    have hil : i < M.length := by omega
    obtain ⟨t', m', a', hget⟩ : ∃ t' m' a', M[i]? = some (t', m', a') := ⟨_, _, _, List.getElem?_eq_getElem hil⟩
    obtain ⟨⟨y, y1, y2, y3⟩, e2, ⟨z, z1, z2, z3⟩⟩ := m7 i t' m' a' hget
    have nxt := ih (i + 1) f (by omega) (by omega)
    have cont : ¬ (m' = m ∧ eqX H p t' (trC ν u x) ∧ eqX H p a' (trC ν u a)) → Yq (ar ((i : Int) + 1) fun v6 => bX1_classHasMode_L3 (runC d) f (x : Int) (m : Int) (a : Int) v6 u (fun s1 => some (0, s1)) (fun s2 => some (1, s2)) (fun s3 => some (1, s3))) u (∃ k t' a', i ≤ k ∧ M[k]? = some (t', m, a') ∧ eqX H p t' (trC ν u x) ∧ eqX H p a' (trC ν u a)) := fun hno => by
      rw [ar_pos ⟨by omega, by omega⟩, show (i : Int) + 1 = ((i + 1 : Nat) : Int) by omega]
      refine nxt.iff ⟨fun ⟨k, s, b, q1, q2, q3⟩ => ⟨k, s, b, by omega, q2, q3⟩, fun ⟨k, s, b, q1, q2, q3⟩ => ⟨k, s, b, ?_, q2, q3⟩⟩
      by_cases hk : k = i
      · rw [hk, hget] at q2
        have e := Option.some.inj q2
        simp only [Prod.mk.injEq] at e
        exact absurd ⟨e.2.1, by rw [e.1]; exact q3.1, by rw [e.2.2]; exact q3.2⟩ hno
      · omega
    have yes : m' = m → eqX H p t' (trC ν u x) → eqX H p a' (trC ν u a) → Yq (some ((1 : Int), u)) u (∃ k t' a', i ≤ k ∧ M[k]? = some (t', m, a') ∧ eqX H p t' (trC ν u x) ∧ eqX H p a' (trC ν u a)) := fun em et ea => ⟨fun _ => rfl, fun q => absurd ⟨i, t', a', Nat.le_refl _, by rw [hget, em], et, ea⟩ q⟩
    have tz : ∀ {w : Nat}, w < nC u → (trC ν u w = 0 ↔ w = 0) := fun {w} hw => by
      constructor
      · intro e
        rcases Nat.eq_zero_or_pos w with q | q
        · exact q
        · have : 0 < trC ν u w := tr_pos (okp_C (ν := ν) hs.1) q (by show w ≤ nC u - 1; omega)
          omega
      · intro e
        rw [e]; rfl
    rw [bX1_classHasMode_L3, un_eq, m1, if_pos (by omega), ld_nat (by omega), e2]
    by_cases hm : (m' : Int) = (m : Int)
    · rw [if_pos hm, ld_nat (by omega), y1]
      obtain ⟨a1, a2⟩ := rX1_equal hd h hs y2 hx
      rw [y3] at a1 a2
      by_cases he : eqX H p t' (trC ν u x)
      · rw [cl_eq (a1 he), if_neg (by decide)]
        by_cases hz : (a : Int) = 0
        · have ea0 : trC ν u a = 0 := (tz ha).mpr (by omega)
          rw [if_pos hz, ld_nat (by omega), z1]
          by_cases hz2 : (z : Int) = 0
          · rw [if_pos hz2]
            refine yes (by omega) he ?_
            rw [ea0, ← z3]
            exact Or.inl ((tz z2).mpr (by omega))
          · rw [if_neg hz2]
            refine cont (fun q => hz2 ?_)
            have := q.2.2
            rw [ea0, (eqX_0 h0).1, ← z3] at this
            have := (tz z2).mp this
            omega
        · rw [if_neg hz, ld_nat (by omega), z1]
          by_cases hz2 : (z : Int) = 0
          · rw [if_pos hz2]
            refine cont (fun q => hz ?_)
            have h1 := q.2.2
            have e0 : a' = 0 := by rw [← z3]; exact (tz z2).mpr (by omega)
            rw [e0, (eqX_0 h0).2] at h1
            have := (tz ha).mp h1
            omega
          · rw [if_neg hz2, ld_nat (by omega), z1]
            obtain ⟨b1, b2⟩ := rX1_equal hd h hs z2 ha
            rw [z3] at b1 b2
            by_cases he2 : eqX H p a' (trC ν u a)
            · rw [cl_eq (b1 he2), if_neg (by decide)]
              exact yes (by omega) he he2
            · rw [cl_eq (b2 he2), if_pos rfl]
              exact cont (fun q => he2 q.2.2)
      · rw [cl_eq (a2 he), if_pos rfl]
        exact cont (fun q => he q.2.1)
    · rw [if_neg hm]
      exact cont (fun q => hm (by rw [q.1]))
theorem rX1_classHasMode {d : Nat} (hd : 5 ≤ d) {ν : Nat → Nat} {c : Nat} {u : Sg} {H : List Nat} {p : Nat → Nat} {M : List (Nat × Nat × Nat)} {J : List (Nat × Nat)} (h : HaC ν u H p) (h0 : 0 ∉ H) (hM : FcM ν u M) (hs : SC ν c u) {x m a : Nat} (hx : x < nC u) (ha : a < nC u) : Yq (runC d 62 [(x : Int), (m : Int), (a : Int)] u) u (fM (FsL H p M J) (trC ν u x) m (trC ν u a)) := by
  obtain ⟨d, rfl⟩ : ∃ d', d = d' + 1 := ⟨d - 1, by omega⟩
  rw [runC_eq (by omega)]
  have hl := hM.1
  refine (classHasMode_L3 (d := d) (m := m) (by omega) h h0 hM hs hx ha M.length 0 KF (by omega) (Nat.lt_of_le_of_lt (by omega : _ ≤ 300000) KF_300)).iff ⟨fun ⟨k, t', a', _, q2, q3⟩ => ⟨t', a', List.mem_of_getElem? q2, q3⟩, fun ⟨t', a', q2, q3⟩ => ?_⟩
  obtain ⟨k, hk⟩ := List.getElem?_of_mem q2
  exact ⟨k, t', a', Nat.zero_le _, hk, q3⟩
theorem rX1_classFits {d : Nat} (hd : 7 ≤ d) {ν : Nat → Nat} {c : Nat} {u : Sg} {H : List Nat} {p : Nat → Nat} {M : List (Nat × Nat × Nat)} {J : List (Nat × Nat)} (h : HaC ν u H p) (h0 : 0 ∉ H) (hM : FcM ν u M) (hJ : FcJ ν u J) (hs : SC ν c u) {x y : Nat} (hx : x < nC u) (y0 : 0 < y) (hy : y < nC u) (h8 : kd (trC ν u y) = 8) (ho : okT (trC ν u y)) : Yq (runC d 61 [(x : Int), (y : Int)] u) u (fitS (FsL H p M J) (trC ν u x) (trC ν u y)) := by
  obtain ⟨d, rfl⟩ : ∃ d', d = d' + 1 := ⟨d - 1, by omega⟩
  rw [runC_eq (by omega)]
  show Yq (bX1_classFits (runC d) x y u) u _
  unfold bX1_classFits
  have hn := nodeC hs y0 hy
  have l1 : gL u 1 = gL u 0 := hs.1.1.2.2.2.1.1
  have l3 : gL u 3 = gL u 0 := hs.1.1.2.2.2.1.2.2.1
  have hpt := ps_type ho h8
  obtain ⟨a, a1, a2, a3⟩ := rX1_argOf (d := d) (by omega) hs y0 hy (by omega)
  obtain ⟨m1, m2⟩ := rX1_classHasMode (d := d) (m := wh (trC ν u y)) (J := J) (by omega) h h0 hM hs hx (by omega : a < nC u)
  rw [a3] at m1 m2
  have loop : ∀ (n i f : Nat), i + n = (ps (trC ν u y)).length → n < f → 1 ≤ i → Yq (bX1_classFits_L26 (runC d) f (x : Int) (y : Int) (i : Int) u (fun s6 => some (1, s6)) (fun s7 => some (0, s7))) u (∀ j ∈ (ps (trC ν u y)).drop i, fA (FsL H p M J) (trC ν u x) j) := by
    intro n
    induction n with
    | zero =>
      intro i f hi hf h1
      obtain ⟨f, rfl⟩ : ∃ f', f = f' + 1 := ⟨f - 1, by omega⟩
      rw [bX1_classFits_L26, ld_nat (by omega), hn.2.2.1, if_neg (by omega), List.drop_of_length_le (by omega)]
      exact ⟨fun _ => rfl, fun q => absurd (fun j hj => by cases hj) q⟩
    | succ n ih =>
      intro i f hi hf h1
      obtain ⟨f, rfl⟩ : ∃ f', f = f' + 1 := ⟨f - 1, by omega⟩
      have hil : i < (ps (trC ν u y)).length := by omega
      rw [bX1_classFits_L26, ld_nat (by omega), hn.2.2.1, if_pos (by omega), cl_eq (adjN (by omega) hs y0 hy h8 hil h1), drop_pa hil]
      obtain ⟨b1, b2⟩ := rX1_classHas (d := d) (j := pa (trC ν u y) i) (M := M) (by omega) h hJ hs hx
      by_cases he : fA (FsL H p M J) (trC ν u x) (pa (trC ν u y) i)
      · rw [cl_eq (b1 he), if_neg (by decide), ar_pos ⟨by omega, by omega⟩, show (i : Int) + 1 = ((i + 1 : Nat) : Int) by omega]
        refine (ih (i + 1) f (by omega) (by omega) (by omega)).iff ⟨fun q j hj => ?_, fun q j hj => q j (List.mem_cons_of_mem _ hj)⟩
        rcases List.mem_cons.mp hj with w | w
        · rw [w]; exact he
        · exact q j w
      · rw [cl_eq (b2 he), if_pos rfl]
        exact ⟨fun q => absurd (q _ List.mem_cons_self) he, fun _ => rfl⟩
  rw [ld_nat (by omega), hn.2.1 (by omega), cl_eq a1]
  by_cases hm : fM (FsL H p M J) (trC ν u x) (wh (trC ν u y)) (pa (trC ν u y) 0)
  · rw [cl_eq (m1 hm), if_neg (by decide)]
    refine (loop ((ps (trC ν u y)).length - 1) 1 KF (by omega) (Nat.lt_of_le_of_lt (by omega : _ ≤ 65536) KF_gt) (Nat.le_refl _)).iff ?_
    rw [hpt.2.2]
    exact ⟨fun q => ⟨hm, q⟩, fun q => q.2⟩
  · rw [cl_eq (m2 hm), if_pos rfl]
    exact ⟨fun q => absurd q.1 hm, fun _ => rfl⟩
