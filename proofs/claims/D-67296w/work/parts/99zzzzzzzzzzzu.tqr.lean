/-! what the model's opening asks for, out of what the class's asks for -/
theorem tqRL_up {G1 G2 : Nat → Nat → Prop} {F1 F2 : Nat → Nat → List (List Nat) × Nat} : ∀ {l : List Nat} {c : Nat}, (∀ p ∈ l, ∀ c, (G1 p c → G2 p c) ∧ (F1 p c).2 = (F2 p c).2) → tqRL G1 F1 l c → tqRL G2 F2 l c
  | [], _, _, _ => trivial
  | p :: l, c, h, q => by
    obtain ⟨a, b⟩ := h p List.mem_cons_self c
    exact ⟨a q.1, by rw [← b]; exact tqRL_up (fun x hx => h x (List.mem_cons_of_mem _ hx)) q.2⟩
theorem opRL_tq {G1 G2 : Nat → Nat → Prop} {F1 : Nat → Nat → Nat × Nat} {F2 : Nat → Nat → List (List Nat) × Nat} : ∀ {l : List Nat} {c : Nat}, (∀ p ∈ l, ∀ c, (G1 p c → G2 p c) ∧ (F1 p c).2 = (F2 p c).2) → opRL G1 F1 l c → tqRL G2 F2 l c
  | [], _, _, _ => trivial
  | p :: l, c, h, q => by
    obtain ⟨a, b⟩ := h p List.mem_cons_self c
    exact ⟨a q.1, by rw [← b]; exact opRL_tq (fun x hx => h x (List.mem_cons_of_mem _ hx)) q.2⟩
section TQR
variable {W : Wd} {X : Nat → Prop}
theorem op_tqR : ∀ n f c, htT f < n → okT f → isFo f → (opR W X n f c → tqR W X n f c) := by
  refine op_ind ?_ ?_ ?_ ?_
  · intro n f c ho hf hL _
    exact ⟨fun q => absurd q hL.1, fun q q2 => absurd ⟨q, Or.inl q2⟩ hL.2, fun q q2 => absurd ⟨q, Or.inr q2⟩ hL.2⟩
  · intro n f c ho hf h17 h2 hI h
    refine ⟨fun k => opRL_tq (fun p hp c' => ⟨(hI p hp).2.2.2.2.2 c', ?_⟩) (h.1 k).1, fun q => by omega, fun q => by omega⟩
    exact ((op_tq n p (hI p hp).2.2.2.2.1 (hI p hp).2.1 (hI p hp).2.2.1 c').1).symm
  · intro n f c ho hf h16 g17 og mg h2 hI h
    refine ⟨fun q => by omega, fun k k2 => ⟨(h.2.1 k k2).1, opRL_tq (fun q hq c' => ?_) (h.2.1 k k2).2.1⟩, fun _ q => by omega⟩
    obtain ⟨p, hp, e⟩ := List.mem_map.mp hq
    obtain ⟨_, i2, i3, _, i5, i6⟩ := hI p hp
    rw [← e]
    exact ⟨i6 c', ((op_tq n _ i5 (okT_not i2 i3).1 (okT_not i2 i3).2 c').1).symm⟩
  · intro n f c ho hf h16 g18 og mg ob fb mb hn hh hi hI h
    exact ⟨fun q => by omega, fun _ q => by omega, fun k k2 => ⟨(h.2.2 k k2).1, hI (h.2.2 k k2).2⟩⟩
theorem tqR_fuel : ∀ n f c, htT f < n → okT f → isFo f → ∀ m, htT f < m → tqR W X n f c → tqR W X m f c := by
  refine op_ind ?_ ?_ ?_ ?_
  · intro n f c ho hf hL m hm _
    obtain ⟨m, rfl⟩ : ∃ m', m = m' + 1 := ⟨m - 1, by omega⟩
    exact ⟨fun q => absurd q hL.1, fun q q2 => absurd ⟨q, Or.inl q2⟩ hL.2, fun q q2 => absurd ⟨q, Or.inr q2⟩ hL.2⟩
  · intro n f c ho hf h17 h2 hI m hm h
    obtain ⟨m, rfl⟩ : ∃ m', m = m' + 1 := ⟨m - 1, by omega⟩
    refine ⟨fun k => tqRL_up (fun p hp c' => ?_) (h.1 k), fun q => by omega, fun q => by omega⟩
    obtain ⟨i1, i2, i3, _, i5, i6⟩ := hI p hp
    have h1 := ht_c i1
    exact ⟨i6 c' m (by omega), by rw [tq_fuel n m p i5 (by omega) i2 i3 c']⟩
  · intro n f c ho hf h16 g17 og mg h2 hI m hm h
    obtain ⟨m, rfl⟩ : ∃ m', m = m' + 1 := ⟨m - 1, by omega⟩
    have hg := ht_c mg
    refine ⟨fun q => by omega, fun k k2 => ⟨(h.2.1 k k2).1, tqRL_up (fun q hq c' => ?_) (h.2.1 k k2).2⟩, fun _ q => by omega⟩
    obtain ⟨p, hp, e⟩ := List.mem_map.mp hq
    obtain ⟨i1, i2, i3, _, i5, i6⟩ := hI p hp
    have h1 := ht_c i1
    have h3 := ht_not i2
    rw [← e]
    exact ⟨i6 c' m (by omega), by rw [tq_fuel n m (notT p) i5 (by omega) (okT_not i2 i3).1 (okT_not i2 i3).2 c']⟩
  · intro n f c ho hf h16 g18 og mg ob fb mb hn hh hi hI m hm h
    obtain ⟨m, rfl⟩ : ∃ m', m = m' + 1 := ⟨m - 1, by omega⟩
    have hg := ht_c mg
    have h1 := ht_c mb
    have h2 := ht_put_le (ht_con (2 * c)) (pa (pa f 0) 1) ob 0
    have h3 := ht_not hi.1
    exact ⟨fun q => by omega, fun _ q => by omega, fun k k2 => ⟨(h.2.2 k k2).1, hI m (by omega) (h.2.2 k k2).2⟩⟩
theorem tqRL_sp {G : Nat → Nat → Prop} {F : Nat → Nat → List (List Nat) × Nat} : ∀ {l l' : List Nat} {c : Nat}, tqRL G F (l ++ l') c → tqRL G F l c ∧ tqRL G F l' (tqL F l c).2
  | [], _, _, h => ⟨trivial, h⟩
  | p :: l, l', c, h => by
    obtain ⟨a, b⟩ := tqRL_sp (l := l) (l' := l') (c := (F p c).2) h.2
    exact ⟨⟨h.1, a⟩, b⟩
theorem tqR_flt {n p c : Nat} (ho : okT p) (hf : isFo p) (hh : htT p < n) (hno : p ≠ noT) (h : tqRL (tqR W X n) (tqF n) (flt p) c) : tqR W X n p c := by
  unfold flt at h
  rw [if_neg hno] at h
  obtain ⟨n, rfl⟩ : ∃ n', n = n' + 1 := ⟨n - 1, by omega⟩
  by_cases h17 : kd p = 17
  · rw [if_pos h17] at h
    refine ⟨fun _ => tqRL_up (fun q hq c' => ?_) h, fun q => by omega, fun q => by omega⟩
    obtain ⟨fq, mq⟩ := ps_and1 ho h17 q hq
    have h1 := ht_c mq
    exact ⟨tqR_fuel (n + 1) q c' (by omega) (ho.c mq) fq n (by omega), by rw [tq_fuel (n + 1) n q (by omega) (by omega) (ho.c mq) fq c']⟩
  · rw [if_neg h17] at h
    by_cases hy : p = yesT
    · have k9 : kd p = 9 := by rw [hy]; exact kd_yes9
      exact ⟨fun q => by omega, fun q => by omega, fun q => by omega⟩
    · rw [if_neg hy] at h
      exact h.1
theorem tqR_flts {n : Nat} : ∀ {Ps : List Nat} {c : Nat}, (∀ p ∈ Ps, okT p ∧ isFo p ∧ htT p < n) → noT ∉ Ps → tqRL (tqR W X n) (tqF n) (Ps.flatMap flt) c → tqRL (tqR W X n) (tqF n) Ps c
  | [], _, _, _, _ => trivial
  | p :: Ps, c, h, hn, q => by
    rw [List.flatMap_cons] at q
    obtain ⟨a, b⟩ := tqRL_sp q
    obtain ⟨o1, o2, o3⟩ := h p List.mem_cons_self
    have hp : p ≠ noT := fun z => hn (by rw [z]; exact List.mem_cons_self)
    rw [(tq_flt o1 o2 o3 hp c).1] at b
    exact ⟨tqR_flt o1 o2 o3 hp a, tqR_flts (fun z hz => h z (List.mem_cons_of_mem _ hz)) (fun z => hn (List.mem_cons_of_mem _ z)) b⟩
theorem flts_ok {n : Nat} {Ps : List Nat} (h : ∀ p ∈ Ps, okT p ∧ isFo p ∧ htT p < n) : ∀ q ∈ Ps.flatMap flt, okT q ∧ isFo q ∧ htT q < n := fun q hq => by
  obtain ⟨p, hp, w⟩ := List.mem_flatMap.mp hq
  obtain ⟨o1, o2, o3⟩ := h p hp
  rcases flt_in w with e | ⟨e, z⟩
  · rw [e]; exact ⟨o1, o2, o3⟩
  · obtain ⟨fq, mq⟩ := ps_and1 o1 e q z
    have := ht_c mq
    exact ⟨o1.c mq, fq, by omega⟩
/-- the premises one by one -/
theorem tqR_and {n c : Nat} {Ps : List Nat} (h : ∀ p ∈ Ps, okT p ∧ isFo p ∧ htT p < n) (hno : noT ∉ Ps) (q : tqR W X (n + 1) (andT Ps) c) : tqRL (tqR W X n) (tqF n) Ps c := by
  have hM := flts_ok h
  refine tqR_flts h hno ?_
  cases hl : Ps.flatMap flt with
  | nil => exact trivial
  | cons a l =>
    cases l with
    | nil =>
      have e : andT Ps = a := by unfold andT; rw [if_neg hno, hl]
      rw [e] at q
      obtain ⟨o1, o2, o3⟩ := hM a (by rw [hl]; exact List.mem_cons_self)
      exact ⟨tqR_fuel (n + 1) a c (by omega) o1 o2 n o3 q, trivial⟩
    | cons b l =>
      have e : andT Ps = mk 17 0 (a :: b :: l) := by unfold andT; rw [if_neg hno, hl]
      rw [e] at q
      have := q.1 (kd_mk _ _ _)
      rw [ps_mk] at this
      exact this
end TQR
