/-! both checkers take the same cases: pure -/
theorem prodL_app : ∀ (L1 L2 : List (List (List Nat))), prodL (L1 ++ L2) = (prodL L2).flatMap (fun y => (prodL L1).map (fun x => x ++ y))
  | [], L2 => by
    show prodL L2 = (prodL L2).flatMap (fun y => [[] ++ y])
    simp
  | A :: L1, L2 => by
    show (prodL (L1 ++ L2)).flatMap (fun z => A.map (fun a => a ++ z)) = (prodL L2).flatMap (fun y => ((prodL L1).flatMap (fun x => A.map (fun a => a ++ x))).map (fun w => w ++ y))
    rw [prodL_app L1 L2, List.flatMap_assoc]
    congr 1
    funext y
    rw [List.map_flatMap, List.flatMap_map]
    congr 1
    funext x
    rw [List.map_map]
    congr 1
    funext a
    simp
theorem prodL_one (A : List (List Nat)) : prodL [A] = A := by
  show [([] : List Nat)].flatMap (fun y => A.map (fun x => x ++ y)) = A
  simp
theorem prodL_nil {L : List (List (List Nat))} (h : [] ∈ L) : prodL L = [] := List.length_eq_zero_iff.mp (prodL_z ⟨[], h, rfl⟩)
theorem tqL_c {F F' : Nat → Nat → List (List Nat) × Nat} : ∀ {l : List Nat} {c : Nat}, (∀ p ∈ l, ∀ c, F p c = F' p c) → tqL F l c = tqL F' l c
  | [], _, _ => rfl
  | p :: l, c, h => by
    rw [tqL, tqL, h p List.mem_cons_self c, tqL_c (fun q hq => h q (List.mem_cons_of_mem _ hq))]
/-- more room for opening changes nothing -/
theorem tq_fuel : ∀ (n m f : Nat), htT f < n → htT f < m → okT f → isFo f → ∀ c, tqF n f c = tqF m f c := by
  intro n
  induction n with
  | zero => intro m f h; omega
  | succ n ih =>
    intro m f hn hm ho hf c
    obtain ⟨m, rfl⟩ : ∃ m', m = m' + 1 := ⟨m - 1, by omega⟩
    rw [tqF, tqF]
    by_cases h9 : kd f = 9
    · rw [if_pos h9, if_pos h9]
    rw [if_neg h9, if_neg h9]
    by_cases h17 : kd f = 17
    · have hall : ∀ p ∈ ps f, isFo p := by
        rcases ho.n.2 with q | q | q | q | q | q | q | q | q | q | q | q | q | q <;> try omega
        exact fun p hp => (q.2.2.2 p hp).1
      have e : tqL (tqF n) (ps f) c = tqL (tqF m) (ps f) c := tqL_c (fun p hp c => by
        have hfm : p ∈ fms f := fms_mem hp (by omega) (isFo_pos (hall p hp))
        have := ht_c hfm
        exact ih m p (by omega) (by omega) (ho.c hfm) (hall p hp) c)
      rw [if_pos h17, if_pos h17, e]
    rw [if_neg h17, if_neg h17]
    by_cases h16 : kd f = 16
    · rw [if_pos h16, if_pos h16]
      obtain ⟨g, q3, hg⟩ : ∃ g, ps f = [g] ∧ isFo g := by
        rcases ho.n.2 with q | q | q | q | q | q | q | q | q | q | q | q | q | q <;> try omega
        obtain ⟨_, _, g, q3, hg, _⟩ := q
        exact ⟨g, q3, hg⟩
      have hp : pa f 0 = g := pa_at (by rw [q3]; rfl)
      have hgm : g ∈ fms f := fms_at.mpr ⟨0, Or.inr rfl, by rw [q3]; rfl, isFo_pos hg⟩
      have hog := ho.c hgm
      have hhg := ht_c hgm
      rw [hp]
      by_cases g9 : kd g = 9
      · rw [if_pos g9, if_pos g9]
      rw [if_neg g9, if_neg g9]
      by_cases g17 : kd g = 17
      · have hall : ∀ p ∈ ps g, isFo p := by
          rcases hog.n.2 with q | q | q | q | q | q | q | q | q | q | q | q | q | q <;> try omega
          exact fun p hp => (q.2.2.2 p hp).1
        have e : tqL (tqF n) ((ps g).map notT) c = tqL (tqF m) ((ps g).map notT) c := tqL_c (fun p hp c => by
          obtain ⟨p', hp', e⟩ := List.mem_map.mp hp
          have hfm : p' ∈ fms g := fms_mem hp' (by omega) (isFo_pos (hall p' hp'))
          have h1 := ht_c hfm
          have hop := hog.c hfm
          have h2 := ht_not hop
          rw [← e]
          exact ih m _ (by omega) (by omega) (okT_not hop (hall p' hp')).1 (okT_not hop (hall p' hp')).2 c)
        rw [if_pos g17, if_pos g17, e]
      rw [if_neg g17, if_neg g17]
      by_cases g18 : kd g = 18
      · rw [if_pos g18, if_pos g18]
        obtain ⟨ty, b, e, py, pb, k8, hbf, my, mb, _⟩ := all_parts hog g18
        obtain ⟨oc, tc⟩ := okT_const (2 * c)
        have hob := hog.c mb
        have hok : okT (sbT (putg (mk 1 (2 * c) [])) 0 b) := okT_sb b hob (gOn_put hob oc tc) 0
        have hof : isFo (sbT (putg (mk 1 (2 * c) [])) 0 b) := (sb_fo hbf).1
        have h1 := ht_c mb
        have h2 := ht_put_le (ht_con (2 * c)) b hob 0
        have h3 := ht_not hok
        rw [pb]
        exact ih m _ (by omega) (by omega) (okT_not hok hof).1 (okT_not hok hof).2 (c + 1)
      · rw [if_neg g18, if_neg g18]
    · rw [if_neg h16, if_neg h16]
/-- how many cases: putting a term in the place of a variable changes nothing -/
theorem cnL_c {F F' : Nat → Nat} {b : Nat} : ∀ {l l' : List Nat} {a : Nat}, l'.map F' = l.map F → cnL F b l a = cnL F' b l' a
  | [], [], _, _ => rfl
  | [], _ :: _, _, h => by cases h
  | _ :: _, [], _, h => by cases h
  | p :: l, p' :: l', a, h => by
    have h1 : F' p' = F p := (List.cons.inj h).1
    have h2 : l'.map F' = l.map F := (List.cons.inj h).2
    rw [cnL, cnL, h1]
    exact cnL_c h2
theorem cn_put {s : Nat} (hs : okT s) (ht : isTm s) : ∀ (n t : Nat), okT t → isFo t → ∀ e b, cnF n (sbT (putg s) e t) b = cnF n t b := by
  intro n
  induction n with
  | zero => intro t _ _ e b; rfl
  | succ n ih =>
    intro t ho hf e b
    have hk : ¬ kd t ≤ 3 := by unfold isFo at hf; omega
    have hkd := (sb_fo (g := putg s) (d := e) hf).2
    obtain ⟨_, _, hps⟩ := sb_kd (g := putg s) (d := e) hk
    have hgo := gOn_put ho hs ht
    rw [cnF, cnF, hkd]
    by_cases h9 : kd t = 9
    · rw [if_pos h9, if_pos h9]
    rw [if_neg h9, if_neg h9]
    by_cases h16 : kd t = 16
    · rw [if_pos h16, if_pos h16]
      obtain ⟨g, q3, hg⟩ : ∃ g, ps t = [g] ∧ isFo g := by
        rcases ho.n.2 with q | q | q | q | q | q | q | q | q | q | q | q | q | q <;> try omega
        obtain ⟨_, _, g, q3, hg, _⟩ := q
        exact ⟨g, q3, hg⟩
      have hp : pa t 0 = g := pa_at (by rw [q3]; rfl)
      have hgm : g ∈ fms t := fms_at.mpr ⟨0, Or.inr rfl, by rw [q3]; rfl, isFo_pos hg⟩
      have hps0 := (pa_sb (g := putg s) (d := e) (i := 0) hgo ho hk (Or.inr rfl)).2 (by rw [hp]; exact isFo_pos hg)
      rw [if_neg (fun q => by omega), hp] at hps0
      rw [hps0, hp]
      exact ih g (ho.c hgm) hg e (1 - b)
    rw [if_neg h16, if_neg h16]
    by_cases h17 : kd t = 17
    · have hall : ∀ p ∈ ps t, isFo p := by
        rcases ho.n.2 with q | q | q | q | q | q | q | q | q | q | q | q | q | q <;> try omega
        exact fun p hp => (q.2.2.2 p hp).1
      rw [if_pos h17, if_pos h17]
      refine cnL_c ?_
      rw [hps, h17]
      have ec : chm (sbT (putg s)) 17 e (ps t) = (ps t).map (fun c => sbT (putg s) e c) := by
        unfold chm
        rw [if_neg (by decide), if_neg (by decide)]
        refine List.map_congr_left (fun c hc => ?_)
        unfold zf
        rw [if_neg (isFo_pos (hall c hc))]
      rw [ec, List.map_map]
      refine List.map_congr_left (fun c hc => ?_)
      exact (ih c (ho.c (fms_mem hc (by omega) (isFo_pos (hall c hc)))) (hall c hc) e b).symm
    rw [if_neg h17, if_neg h17]
    by_cases h18 : kd t = 18
    · rw [if_pos h18, if_pos h18]
      obtain ⟨ty, bd, e1, py, pb, k8, hbf, my, mb, _⟩ := all_parts ho h18
      have hps1 := (pa_sb (g := putg s) (d := e) (i := 1) hgo ho hk (Or.inl (by omega))).2 (by rw [pb]; exact isFo_pos hbf)
      rw [if_pos ⟨h18, by omega⟩, pb] at hps1
      rw [hps1, pb, ih bd (ho.c mb) hbf (e + 1) 1]
    rw [if_neg h18, if_neg h18]
theorem cnL_mul {F : Nat → Nat} {G : Nat → Nat → List (List Nat) × Nat} : ∀ {l : List Nat} {c a : Nat}, (∀ p ∈ l, ∀ c, (G p c).1.length = F p) → cnL F 0 l a = a * (prodL (tqL G l c).1).length
  | [], c, a, _ => by
    show a = a * 1
    rw [Nat.mul_one]
  | p :: l, c, a, h => by
    rw [cnL, if_pos rfl, cnL_mul (c := (G p c).2) (fun q hq => h q (List.mem_cons_of_mem _ hq))]
    show _ = a * (prodL ((G p c).1 :: (tqL G l (G p c).2).1)).length
    rw [prodL_len, h p List.mem_cons_self c, Nat.mul_assoc]
theorem cnL_add {F : Nat → Nat} {G : Nat → Nat → List (List Nat) × Nat} : ∀ {l : List Nat} {c a : Nat}, (∀ p ∈ l, ∀ c, (G p c).1.length = F p) → cnL F 1 l a = a + (tqL G l c).1.flatten.length
  | [], c, a, _ => rfl
  | p :: l, c, a, h => by
    rw [cnL, if_neg (by decide), cnL_add (c := (G p c).2) (fun q hq => h q (List.mem_cons_of_mem _ hq))]
    show _ = a + ((G p c).1 :: (tqL G l (G p c).2).1).flatten.length
    rw [List.flatten_cons, List.length_append, h p List.mem_cons_self c, Nat.add_assoc]
theorem cnL_map {F : Nat → Nat} {b : Nat} {h : Nat → Nat} : ∀ {l : List Nat} {a : Nat}, cnL F b (l.map h) a = cnL (fun p => F (h p)) b l a
  | [], _ => rfl
  | p :: l, a => by
    rw [List.map_cons, cnL, cnL]
    exact cnL_map
/-- the model's cases are as many as the class counts -/
theorem tq_cn : ∀ (n f : Nat), htT f < n → okT f → isFo f → ∀ m, htT f < m → ∀ c, (tqF n f c).1.length = cnF m f 0 := by
  intro n
  induction n with
  | zero => intro f h; omega
  | succ n ih =>
    intro f hn ho hf m hm c
    obtain ⟨m, rfl⟩ : ∃ m', m = m' + 1 := ⟨m - 1, by omega⟩
    -- NOT of a formula
    have nt : ∀ (p : Nat), okT p → isFo p → htT p < n → htT (notT p) < n → ∀ m', htT p < m' → ∀ c, (tqF n (notT p) c).1.length = cnF m' p 1 := fun p hop hfp h1 h2 m' hm' c => by
      obtain ⟨hon, hfn⟩ := okT_not hop hfp
      by_cases k : kd p = 16
      · obtain ⟨m', rfl⟩ : ∃ z, m' = z + 1 := ⟨m' - 1, by omega⟩
        obtain ⟨g, e, hg⟩ := not_wf hop k
        have pg : pa p 0 = g := pa_at (by rw [e]; rfl)
        have eg : notT p = g := by unfold notT; rw [if_pos k, e]; rfl
        have hm2 : g ∈ fms p := fms_at.mpr ⟨0, Or.inr rfl, by rw [e]; rfl, by omega⟩
        have := ht_c hm2
        rw [ih (notT p) h2 hon hfn m' (by rw [eg]; omega) c, cnF, if_neg (by omega), if_pos k, pg, eg]
      · have eg : notT p = mk 16 0 [p] := by unfold notT; rw [if_neg k]
        have hk : kd (notT p) = 16 := by rw [eg, kd_mk]
        have pk : pa (notT p) 0 = p := by rw [eg, pa_mk0]
        have hh := ht_not hop
        rw [ih (notT p) h2 hon hfn (m' + 1) (by omega) c, cnF, if_neg (by omega), if_pos hk, pk]
    rw [tqF, cnF]
    by_cases h9 : kd f = 9
    · rw [if_pos h9, if_pos h9]
      rfl
    rw [if_neg h9, if_neg h9]
    by_cases h17 : kd f = 17
    · have hall : ∀ p ∈ ps f, isFo p := by
        rcases ho.n.2 with q | q | q | q | q | q | q | q | q | q | q | q | q | q <;> try omega
        exact fun p hp => (q.2.2.2 p hp).1
      rw [if_pos h17, if_neg (by omega), if_pos h17, if_pos rfl]
      have := cnL_mul (F := fun p => cnF m p 0) (G := tqF n) (l := ps f) (c := c) (a := 1) (fun p hp c => by
        have hfm : p ∈ fms f := fms_mem hp (by omega) (isFo_pos (hall p hp))
        have := ht_c hfm
        exact ih p (by omega) (ho.c hfm) (hall p hp) m (by omega) c)
      rw [Nat.one_mul] at this
      exact this.symm
    rw [if_neg h17]
    by_cases h16 : kd f = 16
    · rw [if_pos h16, if_pos h16]
      obtain ⟨g, q3, hg, hgn⟩ : ∃ g, ps f = [g] ∧ isFo g ∧ kd g ≠ 16 := by
        rcases ho.n.2 with q | q | q | q | q | q | q | q | q | q | q | q | q | q <;> try omega
        obtain ⟨_, _, g, q3, hg, hn⟩ := q
        exact ⟨g, q3, hg, hn⟩
      have hp : pa f 0 = g := pa_at (by rw [q3]; rfl)
      have hgm : g ∈ fms f := fms_at.mpr ⟨0, Or.inr rfl, by rw [q3]; rfl, isFo_pos hg⟩
      have hog := ho.c hgm
      have hhg := ht_c hgm
      obtain ⟨m, rfl⟩ : ∃ m', m = m' + 1 := ⟨m - 1, by omega⟩
      rw [hp, cnF]
      by_cases g9 : kd g = 9
      · rw [if_pos g9, if_pos g9]
        rfl
      rw [if_neg g9, if_neg g9, if_neg hgn]
      by_cases g17 : kd g = 17
      · have hall : ∀ p ∈ ps g, isFo p := by
          rcases hog.n.2 with q | q | q | q | q | q | q | q | q | q | q | q | q | q <;> try omega
          exact fun p hp => (q.2.2.2 p hp).1
        rw [if_pos g17, if_pos g17]
        have h2 := cnL_add (F := fun p => (tqF n p c).1.length) (G := tqF n) (l := (ps g).map notT) (c := c) (a := 0) (fun p hp c' => by
          obtain ⟨p', hp', e⟩ := List.mem_map.mp hp
          have hfm : p' ∈ fms g := fms_mem hp' (by omega) (isFo_pos (hall p' hp'))
          have h1 := ht_c hfm
          have hop := hog.c hfm
          have h2 := ht_not hop
          have h3 := fun c'' => nt p' hop (hall p' hp') (by omega) (by omega) m (by omega) c''
          rw [← e, h3 c', h3 c])
        rw [Nat.zero_add, cnL_map] at h2
        rw [← h2]
        show cnL _ 1 (ps g) 0 = cnL (fun p => cnF m p 1) 1 (ps g) 0
        refine cnL_c (List.map_congr_left (fun p' hp' => ?_))
        have hfm : p' ∈ fms g := fms_mem hp' (by omega) (isFo_pos (hall p' hp'))
        have h1 := ht_c hfm
        have hop := hog.c hfm
        have h2 := ht_not hop
        exact (nt p' hop (hall p' hp') (by omega) (by omega) m (by omega) c).symm
      rw [if_neg g17, if_neg g17]
      by_cases g18 : kd g = 18
      · rw [if_pos g18, if_pos g18]
        obtain ⟨ty, b, e, py, pb, k8, hbf, my, mb, _⟩ := all_parts hog g18
        obtain ⟨oc, tc⟩ := okT_const (2 * c)
        have hob := hog.c mb
        have hok : okT (sbT (putg (mk 1 (2 * c) [])) 0 b) := okT_sb b hob (gOn_put hob oc tc) 0
        have hof : isFo (sbT (putg (mk 1 (2 * c) [])) 0 b) := (sb_fo hbf).1
        have h1 := ht_c mb
        have h2 := ht_put_le (ht_con (2 * c)) b hob 0
        have h3 := ht_not hok
        rw [pb, nt _ hok hof (by omega) (by omega) m (by omega) (c + 1), cn_put oc tc m b hob hbf 0 1]
        rfl
      · rw [if_neg g18, if_neg g18]
        rfl
    · rw [if_neg h16, if_neg h16, if_neg h17]
      by_cases h18 : kd f = 18
      · rw [if_pos h18]
        rfl
      · rw [if_neg h18]
        rfl
