/-! the types of the new constants, premise by premise -/
theorem opYL_c {Y Y' : Nat → Nat → List Nat} {F F' : Nat → Nat → Nat × Nat} : ∀ {l : List Nat} {c : Nat}, (∀ p ∈ l, ∀ c, Y p c = Y' p c ∧ (F p c).2 = (F' p c).2) → opYL Y F l c = opYL Y' F' l c
  | [], _, _ => rfl
  | p :: l, c, h => by
    obtain ⟨a, b⟩ := h p List.mem_cons_self c
    show Y p c ++ opYL Y F l (F p c).2 = Y' p c ++ opYL Y' F' l (F' p c).2
    rw [a, b, opYL_c (fun x hx => h x (List.mem_cons_of_mem _ hx))]
theorem opYL_app {Y : Nat → Nat → List Nat} {F : Nat → Nat → Nat × Nat} : ∀ {l l' : List Nat} {c : Nat}, opYL Y F (l ++ l') c = opYL Y F l c ++ opYL Y F l' (opL F l c).2
  | [], _, _ => rfl
  | p :: l, l', c => by
    show Y p c ++ opYL Y F (l ++ l') (F p c).2 = (Y p c ++ opYL Y F l (F p c).2) ++ opYL Y F l' (opL F l (F p c).2).2
    rw [opYL_app, List.append_assoc]
theorem opY_lf {n f c : Nat} (h : LfK f) : opY (n + 1) f c = [] := by
  rw [opY, if_neg h.1]
  by_cases k : kd f = 16
  · rw [if_pos k, if_neg (fun q => h.2 ⟨k, Or.inl q⟩), if_neg (fun q => h.2 ⟨k, Or.inr q⟩)]
  · rw [if_neg k]
theorem opY_a {n f c : Nat} (h : kd f = 17) : opY (n + 1) f c = opYL (opY n) (opF n) (ps f) c := by
  rw [opY, if_pos h]
theorem opY_na {n f c : Nat} (h16 : kd f = 16) (h17 : kd (pa f 0) = 17) : opY (n + 1) f c = opYL (opY n) (opF n) ((ps (pa f 0)).map notT) c := by
  have h : ¬ kd f = 17 := by omega
  rw [opY, if_neg h, if_pos h16, if_pos h17]
theorem opY_nl {n f c : Nat} (h16 : kd f = 16) (h18 : kd (pa f 0) = 18) : opY (n + 1) f c = pa (pa f 0) 0 :: opY n (notT (sbT (putg (mk 1 (2 * c) [])) 0 (pa (pa f 0) 1))) (c + 1) := by
  have h : ¬ kd f = 17 := by omega
  have h' : ¬ kd (pa f 0) = 17 := by omega
  rw [opY, if_neg h, if_pos h16, if_neg h', if_pos h18]
theorem opY_fuel : ∀ n f c, htT f < n → okT f → isFo f → ∀ m, htT f < m → opY n f c = opY m f c := by
  refine op_ind ?_ ?_ ?_ ?_
  · intro n f c ho hf hL m hm
    obtain ⟨m, rfl⟩ : ∃ m', m = m' + 1 := ⟨m - 1, by omega⟩
    rw [opY_lf hL, opY_lf hL]
  · intro n f c ho hf h17 h2 hI m hm
    obtain ⟨m, rfl⟩ : ∃ m', m = m' + 1 := ⟨m - 1, by omega⟩
    rw [opY_a h17, opY_a h17]
    refine opYL_c (fun p hp c' => ?_)
    obtain ⟨i1, i2, i3, _, i5, i6⟩ := hI p hp
    have h1 := ht_c i1
    have e := i6 c' m (by omega)
    exact ⟨e, by rw [opY_len, opY_len, e]⟩
  · intro n f c ho hf h16 g17 og mg h2 hI m hm
    obtain ⟨m, rfl⟩ : ∃ m', m = m' + 1 := ⟨m - 1, by omega⟩
    have hg := ht_c mg
    rw [opY_na h16 g17, opY_na h16 g17]
    refine opYL_c (fun q hq c' => ?_)
    obtain ⟨p, hp, e0⟩ := List.mem_map.mp hq
    obtain ⟨i1, i2, i3, _, i5, i6⟩ := hI p hp
    have h1 := ht_c i1
    have h3 := ht_not i2
    rw [← e0]
    have e := i6 c' m (by omega)
    exact ⟨e, by rw [opY_len, opY_len, e]⟩
  · intro n f c ho hf h16 g18 og mg ob fb mb hn hh hi hI m hm
    obtain ⟨m, rfl⟩ : ∃ m', m = m' + 1 := ⟨m - 1, by omega⟩
    have hg := ht_c mg
    have h1 := ht_c mb
    have h2 := ht_put_le (ht_con (2 * c)) (pa (pa f 0) 1) ob 0
    have h3 := ht_not hi.1
    rw [opY_nl h16 g18, opY_nl h16 g18, hI m (by omega)]
theorem opY_flt {n p c : Nat} (ho : okT p) (hf : isFo p) (hh : htT p < n) (hno : p ≠ noT) : opYL (opY n) (opF n) (flt p) c = opY n p c := by
  unfold flt
  rw [if_neg hno]
  obtain ⟨n, rfl⟩ : ∃ n', n = n' + 1 := ⟨n - 1, by omega⟩
  by_cases h17 : kd p = 17
  · rw [if_pos h17, opY_a h17]
    refine opYL_c (fun q hq c' => ?_)
    obtain ⟨fq, mq⟩ := ps_and1 ho h17 q hq
    have h1 := ht_c mq
    have e := opY_fuel (n + 1) q c' (by omega) (ho.c mq) fq n (by omega)
    exact ⟨e, by rw [opY_len, opY_len, e]⟩
  · rw [if_neg h17]
    by_cases hy : p = yesT
    · have k9 : kd p = 9 := by rw [hy]; exact kd_yes9
      have h16 : ¬ kd p = 16 := by omega
      rw [if_pos hy, opY, if_neg h17, if_neg h16]
      rfl
    · rw [if_neg hy]
      show opY (n + 1) p c ++ [] = _
      rw [List.append_nil]
theorem opY_flts {n : Nat} : ∀ {Ps : List Nat} {c : Nat}, (∀ p ∈ Ps, okT p ∧ isFo p ∧ htT p < n) → noT ∉ Ps → opYL (opY n) (opF n) (Ps.flatMap flt) c = opYL (opY n) (opF n) Ps c
  | [], _, _, _ => rfl
  | p :: Ps, c, h, hn => by
    obtain ⟨o1, o2, o3⟩ := h p List.mem_cons_self
    have hp : p ≠ noT := fun z => hn (by rw [z]; exact List.mem_cons_self)
    have e := opY_flt (c := c) o1 o2 o3 hp
    have e2 : (opL (opF n) (flt p) c).2 = (opF n p c).2 := by rw [opYL_len (opY_len n), e, opY_len]
    rw [List.flatMap_cons, opYL_app, e, e2, opY_flts (fun z hz => h z (List.mem_cons_of_mem _ hz)) (fun z => hn (List.mem_cons_of_mem _ z))]
    rfl
/-- the AND of all brings the constants of all -/
theorem opY_and {n c : Nat} {Ps : List Nat} (h : ∀ p ∈ Ps, okT p ∧ isFo p ∧ htT p < n) (hno : noT ∉ Ps) : opYL (opY n) (opF n) Ps c = opY (n + 1) (andT Ps) c := by
  have hM := flts_ok h
  rw [← opY_flts h hno]
  cases hl : Ps.flatMap flt with
  | nil =>
    have e : andT Ps = yesT := by unfold andT; rw [if_neg hno, hl]
    have k9 : kd (andT Ps) = 9 := by rw [e]; exact kd_yes9
    have h17 : ¬ kd (andT Ps) = 17 := by omega
    have h16 : ¬ kd (andT Ps) = 16 := by omega
    rw [opY, if_neg h17, if_neg h16]
    rfl
  | cons a l =>
    cases l with
    | nil =>
      have e : andT Ps = a := by unfold andT; rw [if_neg hno, hl]
      obtain ⟨o1, o2, o3⟩ := hM a (by rw [hl]; exact List.mem_cons_self)
      rw [e]
      show opY n a c ++ [] = _
      rw [List.append_nil]
      exact opY_fuel n a c o3 o1 o2 (n + 1) (by omega)
    | cons b l =>
      have e : andT Ps = mk 17 0 (a :: b :: l) := by unfold andT; rw [if_neg hno, hl]
      have k : kd (mk 17 0 (a :: b :: l)) = 17 := kd_mk _ _ _
      rw [e, opY_a k, ps_mk]
