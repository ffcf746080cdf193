theorem tqL_append {F : Nat → Nat → List (List Nat) × Nat} : ∀ (l l' : List Nat) (c : Nat), tqL F (l ++ l') c = ((tqL F l c).1 ++ (tqL F l' (tqL F l c).2).1, (tqL F l' (tqL F l c).2).2)
  | [], _, _ => rfl
  | p :: l, l', c => by
    show ((F p c).1 :: (tqL F (l ++ l') (F p c).2).1, (tqL F (l ++ l') (F p c).2).2) = _
    rw [tqL_append l l']
    rfl
theorem tqL_mem {F : Nat → Nat → List (List Nat) × Nat} {p : Nat} : ∀ {l : List Nat} {c : Nat}, p ∈ l → ∃ c', (F p c').1 ∈ (tqL F l c).1
  | [], _, h => by cases h
  | q :: l, c, h => by
    rcases List.mem_cons.mp h with e | e
    · exact ⟨c, by rw [e]; exact List.mem_cons_self⟩
    · obtain ⟨c', h'⟩ := tqL_mem (F := F) (c := (F q c).2) e
      exact ⟨c', List.mem_cons_of_mem _ h'⟩
theorem tq_no {n t : Nat} (ht : t = noT) (c : Nat) : tqF (n + 1) t c = ([], c) := by
  have k : kd t = 16 := by rw [ht]; exact kd_no
  have p : kd (pa t 0) = 9 := by
    rw [ht]
    unfold noT
    rw [pa_mk0]; exact kd_yes
  rw [tqF, if_neg (by omega), if_neg (by omega), if_pos k, if_pos p]
theorem tq_yes {n t : Nat} (ht : t = yesT) (c : Nat) : tqF (n + 1) t c = ([[]], c) := by
  have k : kd t = 9 := by rw [ht]; exact kd_yes
  rw [tqF, if_pos k]
theorem tq_flt {n p : Nat} (ho : okT p) (hf : isFo p) (hh : htT p < n) (hn : p ≠ noT) (c : Nat) : (tqL (tqF n) (flt p) c).2 = (tqF n p c).2 ∧ prodL (tqL (tqF n) (flt p) c).1 = (tqF n p c).1 := by
  obtain ⟨n, rfl⟩ : ∃ n', n = n' + 1 := ⟨n - 1, by omega⟩
  unfold flt
  rw [if_neg hn]
  by_cases h17 : kd p = 17
  · rw [if_pos h17]
    have hall : ∀ q ∈ ps p, isFo q := by
      rcases ho.n.2 with q | q | q | q | q | q | q | q | q | q | q | q | q | q <;> try omega
      exact fun x hx => (q.2.2.2 x hx).1
    have e : tqL (tqF (n + 1)) (ps p) c = tqL (tqF n) (ps p) c := tqL_c (fun q hq c => by
      have hfm : q ∈ fms p := fms_mem hq (by omega) (isFo_pos (hall q hq))
      have := ht_c hfm
      exact tq_fuel (n + 1) n q (by omega) (by omega) (ho.c hfm) (hall q hq) c)
    rw [e, tqF, if_neg (by omega), if_pos h17]
    exact ⟨rfl, rfl⟩
  · rw [if_neg h17]
    by_cases hy : p = yesT
    · rw [if_pos hy, tq_yes hy]
      exact ⟨rfl, rfl⟩
    · rw [if_neg hy]
      exact ⟨rfl, prodL_one _⟩
theorem tq_flts {n : Nat} : ∀ (Ps : List Nat) (c : Nat), (∀ p ∈ Ps, okT p ∧ isFo p ∧ htT p < n) → noT ∉ Ps → (tqL (tqF n) (Ps.flatMap flt) c).2 = (tqL (tqF n) Ps c).2 ∧ prodL (tqL (tqF n) (Ps.flatMap flt) c).1 = prodL (tqL (tqF n) Ps c).1
  | [], _, _, _ => ⟨rfl, rfl⟩
  | p :: Ps, c, h, hn => by
    obtain ⟨o1, o2, o3⟩ := h p List.mem_cons_self
    have hp : p ≠ noT := fun q => hn (by rw [q]; exact List.mem_cons_self)
    obtain ⟨a1, a2⟩ := tq_flt o1 o2 o3 hp c
    obtain ⟨b1, b2⟩ := tq_flts Ps (tqF n p c).2 (fun q hq => h q (List.mem_cons_of_mem _ hq)) (fun q => hn (List.mem_cons_of_mem _ q))
    have e1 : tqL (tqF n) (p :: Ps) c = ((tqF n p c).1 :: (tqL (tqF n) Ps (tqF n p c).2).1, (tqL (tqF n) Ps (tqF n p c).2).2) := rfl
    rw [List.flatMap_cons, tqL_append, e1, a1]
    refine ⟨b1, ?_⟩
    show prodL ((tqL (tqF n) (flt p) c).1 ++ (tqL (tqF n) (Ps.flatMap flt) (tqF n p c).2).1) = prodL ((tqF n p c).1 :: (tqL (tqF n) Ps (tqF n p c).2).1)
    rw [prodL_app, a2, b2]
    rfl
/-- the AND of all has the cases of all -/
theorem tq_and {n t : Nat} {Ps : List Nat} {c : Nat} (h : ∀ p ∈ Ps, okT p ∧ isFo p ∧ htT p < n) (hn : 0 < n) (ht : t = andT Ps) : (tqF (n + 1) t c).1 = tqP n Ps c ∧ (noT ∉ Ps → (tqF (n + 1) t c).2 = (tqL (tqF n) Ps c).2) := by
  unfold andT at ht
  by_cases hno : noT ∈ Ps
  · rw [if_pos hno] at ht
    refine ⟨?_, fun q => absurd hno q⟩
    rw [tq_no ht]
    obtain ⟨c', hc'⟩ := tqL_mem (F := tqF n) (c := c) hno
    obtain ⟨n, rfl⟩ : ∃ n', n = n' + 1 := ⟨n - 1, by omega⟩
    rw [tq_no (rfl : noT = noT)] at hc'
    exact (prodL_nil hc').symm
  · rw [if_neg hno] at ht
    obtain ⟨f1, f2⟩ := tq_flts Ps c h hno
    have hM : ∀ q ∈ Ps.flatMap flt, okT q ∧ isFo q ∧ htT q < n := fun q hq => by
      obtain ⟨p, hp, hq'⟩ := List.mem_flatMap.mp hq
      obtain ⟨o1, o2, o3⟩ := h p hp
      unfold flt at hq'
      rw [if_neg (fun z => hno (by rw [← z]; exact hp))] at hq'
      by_cases h17 : kd p = 17
      · rw [if_pos h17] at hq'
        have hall : ∀ q ∈ ps p, isFo q := by
          rcases o1.n.2 with q | q | q | q | q | q | q | q | q | q | q | q | q | q <;> try omega
          exact fun x hx => (q.2.2.2 x hx).1
        have hfm : q ∈ fms p := fms_mem hq' (by omega) (isFo_pos (hall q hq'))
        have := ht_c hfm
        exact ⟨o1.c hfm, hall q hq', by omega⟩
      · rw [if_neg h17] at hq'
        by_cases hy : p = yesT
        · rw [if_pos hy] at hq'; cases hq'
        · rw [if_neg hy] at hq'
          rw [List.mem_singleton.mp hq']
          exact ⟨o1, o2, o3⟩
    unfold tqP
    rw [← f2, ← f1]
    generalize Ps.flatMap flt = M at ht hM
    match M, ht, hM with
    | [], ht, _ =>
      rw [tq_yes ht]
      exact ⟨rfl, fun _ => rfl⟩
    | [x], ht, hM =>
      have ht : t = x := ht
      obtain ⟨o1, o2, o3⟩ := hM x List.mem_cons_self
      rw [ht, tq_fuel (n + 1) n x (by omega) o3 o1 o2 c]
      exact ⟨(prodL_one _).symm, fun _ => rfl⟩
    | x :: y :: r, ht, hM =>
      have ht : t = mk 17 0 (x :: y :: r) := ht
      have k : kd t = 17 := by rw [ht]; exact kd_mk _ _ _
      have e : ps t = x :: y :: r := by rw [ht]; exact ps_mk _ _ _
      rw [tqF, if_neg (by omega), if_pos k, e]
      exact ⟨rfl, fun _ => rfl⟩
theorem ht_and {B t : Nat} {Ps : List Nat} (h : ∀ p ∈ Ps, okT p ∧ isFo p ∧ htT p ≤ B) (hB : 1 ≤ B) (ht : t = andT Ps) : htT t ≤ B + 1 := by
  have leaf : ∀ z, kd z = 9 → ps z = [] → htT z = 1 := fun z k e => by
    rw [htT_eq]
    unfold fms
    rw [if_neg (by omega), e]
    rfl
  unfold andT at ht
  by_cases hno : noT ∈ Ps
  · have := (h noT hno).2.2
    rw [if_pos hno] at ht
    rw [ht]; omega
  · rw [if_neg hno] at ht
    have hM : ∀ q ∈ Ps.flatMap flt, htT q ≤ B := fun q hq => by
      obtain ⟨p, hp, hq'⟩ := List.mem_flatMap.mp hq
      obtain ⟨o1, o2, o3⟩ := h p hp
      unfold flt at hq'
      rw [if_neg (fun z => hno (by rw [← z]; exact hp))] at hq'
      by_cases h17 : kd p = 17
      · rw [if_pos h17] at hq'
        have hall : ∀ q ∈ ps p, isFo q := by
          rcases o1.n.2 with q | q | q | q | q | q | q | q | q | q | q | q | q | q <;> try omega
          exact fun x hx => (q.2.2.2 x hx).1
        have hfm : q ∈ fms p := fms_mem hq' (by omega) (isFo_pos (hall q hq'))
        have := ht_c hfm
        omega
      · rw [if_neg h17] at hq'
        by_cases hy : p = yesT
        · rw [if_pos hy] at hq'; cases hq'
        · rw [if_neg hy] at hq'
          rw [List.mem_singleton.mp hq']
          exact o3
    generalize Ps.flatMap flt = M at ht hM
    match M, ht, hM with
    | [], ht, _ =>
      have ht : t = yesT := ht
      have k : kd t = 9 := by rw [ht]; exact kd_yes
      have e : ps t = [] := by rw [ht]; unfold yesT; exact ps_mk _ _ _
      rw [leaf t k e]; omega
    | [x], ht, hM =>
      have ht : t = x := ht
      have := hM x List.mem_cons_self
      rw [ht]; omega
    | x :: y :: r, ht, hM =>
      have ht : t = mk 17 0 (x :: y :: r) := ht
      have e : ps t = x :: y :: r := by rw [ht]; exact ps_mk _ _ _
      rw [htT_eq]
      have : ((fms t).map htT).foldl max 0 ≤ B := foldl_le 0 (Nat.zero_le _) (fun z hz => by
        obtain ⟨q, q1, q2⟩ := List.mem_map.mp hz
        have := (fms_ps q1).1
        rw [e] at this
        rw [← q2]
        exact hM q this)
      omega
theorem csR_1t {t : Nat} {S : Nat → Prop} : csR [] [t] S ↔ csT t S := by
  constructor
  · rintro ⟨S2, a, e⟩
    have : S = S2 := by
      rw [e]
      funext f
      exact propext ⟨fun q => q.elim (fun z => by cases z) id, Or.inr⟩
    rw [this]
    exact csL_one.mp a
  · intro h
    exact ⟨S, csL_one.mpr h, funext fun f => propext ⟨Or.inr, fun q => q.elim (fun z => by cases z) id⟩⟩
/-- class and model: the same cases, as many, the same constants -/
theorem cases_eq {n G : Nat} {Ps : List Nat} {c : Nat} (h : ∀ p ∈ Ps, okT p ∧ isFo p ∧ htT p < n) (hn : 2 ≤ n) (hG : G = andT Ps) (hGo : okT G ∧ isFo G) : cnF (htT G + 1) G 0 = (tqP n Ps c).length ∧ csR [] [(opF (n + 1) G c).1] = famL (tqP n Ps c) ∧ (noT ∉ Ps → (opF (n + 1) G c).2 = (tqL (tqF n) Ps c).2) := by
  have hh := ht_and (B := n - 1) (fun p hp => ⟨(h p hp).1, (h p hp).2.1, by have := (h p hp).2.2; omega⟩) (by omega) hG
  obtain ⟨e1, e2⟩ := tq_and (c := c) h (by omega) hG
  obtain ⟨s1, s2⟩ := op_tq (n + 1) G (by omega) hGo.1 hGo.2 c
  refine ⟨?_, ?_, fun q => by rw [← s1]; exact e2 q⟩
  · rw [← e1]
    exact (tq_cn (n + 1) G (by omega) hGo.1 hGo.2 (htT G + 1) (Nat.lt_succ_self _) c).symm
  · funext S
    exact propext (csR_1t.trans (by rw [← s2 S, e1]))
theorem Ans.u {W : Wd} {C : (Nat → Prop) → Prop} {r r' : Int} (h : Ans (RfC W) 1 C r) (h' : Ans (RfC W) 1 C r') : r = r' := by
  rcases h with ⟨e, q⟩ | ⟨e, _, n0, q⟩ | ⟨e, _, q⟩
  · obtain ⟨S, s1, s2⟩ := q.resolve_left (by omega)
    rcases h' with ⟨e', _⟩ | ⟨_, _, n0, _⟩ | ⟨_, _, q'⟩
    · omega
    · exact absurd s2 (n0 S s1)
    · have := RfC.un s2 (q' S s1)
      omega
  · obtain ⟨S, s1, s2⟩ := q.resolve_left (by omega)
    rcases h' with ⟨_, q'⟩ | ⟨e', _⟩ | ⟨_, _, q'⟩
    · obtain ⟨S', t1, t2⟩ := q'.resolve_left (by omega)
      exact absurd t2 (n0 S' t1)
    · omega
    · have := RfC.un s2 (q' S s1)
      omega
  · rcases h' with ⟨_, q'⟩ | ⟨_, _, _, q'⟩ | ⟨e', _⟩
    · obtain ⟨S', t1, t2⟩ := q'.resolve_left (by omega)
      have := RfC.un t2 (q S' t1)
      omega
    · obtain ⟨S', t1, t2⟩ := q'.resolve_left (by omega)
      have := RfC.un t2 (q S' t1)
      omega
    · omega
