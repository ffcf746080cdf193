/-! the cases of a formula as the model counts them, and as the class takes them apart -/
def prodL : List (List (List Nat)) → List (List Nat)
  | [] => [[]]
  | A :: r => (prodL r).flatMap (fun y => A.map (fun x => x ++ y))
def tqL (F : Nat → Nat → List (List Nat) × Nat) : List Nat → Nat → List (List (List Nat)) × Nat
  | [], c => ([], c)
  | p :: l, c => ((F p c).1 :: (tqL F l (F p c).2).1, (tqL F l (F p c).2).2)
/-- the cases of a formula, with new constants from c on -/
def tqF : Nat → Nat → Nat → List (List Nat) × Nat
  | 0, f, c => ([[f]], c)
  | n + 1, f, c => if kd f = 9 then ([[]], c) else if kd f = 17 then (prodL (tqL (tqF n) (ps f) c).1, (tqL (tqF n) (ps f) c).2) else if kd f = 16 then (if kd (pa f 0) = 9 then ([], c) else if kd (pa f 0) = 17 then ((tqL (tqF n) ((ps (pa f 0)).map notT) c).1.flatten, (tqL (tqF n) ((ps (pa f 0)).map notT) c).2) else if kd (pa f 0) = 18 then tqF n (notT (sbT (putg (mk 1 (2 * c) [])) 0 (pa (pa f 0) 1))) (c + 1) else ([[f]], c)) else ([[f]], c)
/-- the cases as sets -/
def famL (L : List (List Nat)) (S : Nat → Prop) : Prop := ∃ x ∈ L, S = fun f => f ∈ x
theorem csT_s (t : Nat) (S : Nat → Prop) : csT t S ↔ (if kd t = 17 then csL csT (ps t) S else if kd t = 30 then ∃ p, p ∈ ps t ∧ csT p S else if t = noT then False else if t = yesT then S = (fun _ => False) else S = fun f => f = t) := by
  rw [csT_eq]
  exact Iff.rfl
theorem yes_no : yesT ≠ noT := fun q => by
  have h1 := kd_yes
  rw [q, kd_no] at h1
  omega
theorem csT_no {t : Nat} (ht : t = noT) {S : Nat → Prop} : ¬ csT t S := fun h => by
  have k : kd t = 16 := by rw [ht]; exact kd_no
  rw [csT_s, if_neg (by omega), if_neg (by omega), if_pos ht] at h
  exact h
theorem csT_yes {t : Nat} (ht : t = yesT) {S : Nat → Prop} : csT t S ↔ S = fun _ => False := by
  have k : kd t = 9 := by rw [ht]; exact kd_yes
  have hn : t ≠ noT := fun q => yes_no (by rw [← ht, q])
  rw [csT_s, if_neg (by omega), if_neg (by omega), if_neg hn, if_pos ht]
theorem csL_one {t : Nat} {S : Nat → Prop} : csL csT [t] S ↔ csT t S := by
  constructor
  · rintro ⟨S1, S2, a, b, e⟩
    have b : S2 = fun _ => False := b
    have : S = S1 := by
      rw [e, b]
      funext f
      exact propext ⟨fun q => q.elim id False.elim, Or.inl⟩
    rw [this]; exact a
  · intro h
    exact ⟨S, fun _ => False, h, rfl, funext fun f => propext ⟨Or.inl, fun q => q.elim id False.elim⟩⟩
theorem csL_no {l : List Nat} (h : noT ∈ l) {S : Nat → Prop} : ¬ csL csT l S := by
  induction l generalizing S with
  | nil => cases h
  | cons p l ih =>
    rintro ⟨S1, S2, a, b, _⟩
    rcases List.mem_cons.mp h with q | q
    · exact csT_no q.symm a
    · exact ih q b
theorem csT_flt {t : Nat} (hn : t ≠ noT) {S : Nat → Prop} : csL csT (flt t) S ↔ csT t S := by
  unfold flt
  rw [if_neg hn]
  by_cases h17 : kd t = 17
  · rw [if_pos h17, csT_s, if_pos h17]
  · rw [if_neg h17]
    by_cases hy : t = yesT
    · rw [if_pos hy, csT_yes hy]
      exact Iff.rfl
    · rw [if_neg hy]
      exact csL_one
theorem csL_flt : ∀ {l : List Nat} {S : Nat → Prop}, noT ∉ l → (csL csT (l.flatMap flt) S ↔ csL csT l S)
  | [], _, _ => Iff.rfl
  | p :: l, S, h => by
    have hp : p ≠ noT := fun q => h (by rw [q]; exact List.mem_cons_self)
    have hl : noT ∉ l := fun q => h (List.mem_cons_of_mem _ q)
    rw [List.flatMap_cons, csL_app]
    constructor
    · rintro ⟨S1, S2, a, b, e⟩
      exact ⟨S1, S2, (csT_flt hp).mp a, (csL_flt hl).mp b, e⟩
    · rintro ⟨S1, S2, a, b, e⟩
      exact ⟨S1, S2, (csT_flt hp).mpr a, (csL_flt hl).mpr b, e⟩
/-- the cases of an AND -/
theorem csT_and {L : List Nat} {t : Nat} (ht : t = andT L) {S : Nat → Prop} : csT t S ↔ csL csT L S := by
  unfold andT at ht
  by_cases h : noT ∈ L
  · rw [if_pos h] at ht
    exact ⟨fun q => absurd q (csT_no ht), fun q => absurd q (csL_no h)⟩
  · rw [if_neg h] at ht
    rw [← csL_flt h]
    generalize L.flatMap flt = M at ht ⊢
    match M, ht with
    | [], ht => exact csT_yes ht
    | [x], ht =>
      have ht : t = x := ht
      rw [ht]
      exact csL_one.symm
    | x :: y :: r, ht =>
      have ht : t = mk 17 0 (x :: y :: r) := ht
      have k : kd t = 17 := by rw [ht]; exact kd_mk _ _ _
      have e : ps t = x :: y :: r := by rw [ht]; exact ps_mk _ _ _
      rw [csT_s, if_pos k, e]
theorem csT_ei {L : List Nat} {S : Nat → Prop} : csT (mk 30 0 L) S ↔ ∃ p, p ∈ L ∧ csT p S := by
  rw [csT_s, kd_mk, if_neg (by omega), if_pos rfl, ps_mk]
theorem yes_of {f : Nat} (h : okT f) (h9 : kd f = 9) : f = yesT := by
  rcases h.n.2 with q | q | q | q | q | q | q | q | q | q | q | q | q | q <;> try omega
  have := h.n.1
  obtain ⟨_, q2, q3⟩ := q
  rw [this, h9, q2, q3]
  rfl
theorem no_of {f : Nat} (h : okT f) (h16 : kd f = 16) (h9 : kd (pa f 0) = 9) : f = noT := by
  have e := h.n.1
  rcases h.n.2 with q | q | q | q | q | q | q | q | q | q | q | q | q | q <;> try omega
  obtain ⟨_, q2, g, q3, hg, _⟩ := q
  have hp : pa f 0 = g := pa_at (by rw [q3]; rfl)
  have hog : okT g := h.c (fms_at.mpr ⟨0, Or.inr rfl, by rw [q3]; rfl, isFo_pos hg⟩)
  have hy := yes_of hog (by rw [← hp]; exact h9)
  rw [e, h16, q2, q3, hy]
  rfl
theorem csT_leaf {f : Nat} (h17 : kd f ≠ 17) (h30 : kd f ≠ 30) (hn : f ≠ noT) (hy : f ≠ yesT) {S : Nat → Prop} : csT f S ↔ S = fun g => g = f := by
  rw [csT_s, if_neg h17, if_neg h30, if_neg hn, if_neg hy]
theorem fam_one {f : Nat} {S : Nat → Prop} : famL [[f]] S ↔ S = fun g => g = f := by
  have e : (fun g => g ∈ [f]) = fun g => g = f := funext fun g => propext List.mem_singleton
  constructor
  · rintro ⟨x, hx, q⟩
    rw [List.mem_singleton.mp hx, e] at q
    exact q
  · intro q
    exact ⟨[f], List.mem_cons_self, by rw [e]; exact q⟩
theorem fam_prod {A : List (List Nat)} {r : List (List (List Nat))} {S : Nat → Prop} : famL (prodL (A :: r)) S ↔ ∃ S1 S2, famL A S1 ∧ famL (prodL r) S2 ∧ S = fun f => S1 f ∨ S2 f := by
  constructor
  · rintro ⟨z, hz, e⟩
    rw [prodL] at hz
    obtain ⟨y, hy, hz⟩ := List.mem_flatMap.mp hz
    obtain ⟨x, hx, hz⟩ := List.mem_map.mp hz
    refine ⟨fun f => f ∈ x, fun f => f ∈ y, ⟨x, hx, rfl⟩, ⟨y, hy, rfl⟩, ?_⟩
    rw [e, ← hz]
    funext f
    exact propext List.mem_append
  · rintro ⟨S1, S2, ⟨x, hx, e1⟩, ⟨y, hy, e2⟩, e⟩
    refine ⟨x ++ y, ?_, ?_⟩
    · rw [prodL]
      exact List.mem_flatMap.mpr ⟨y, hy, List.mem_map.mpr ⟨x, hx, rfl⟩⟩
    · rw [e, e1, e2]
      funext f
      exact propext List.mem_append.symm
/-- both ways the same cases, and the same constants used -/
def SmC (F : Nat → Nat → List (List Nat) × Nat) (G : Nat → Nat → Nat × Nat) (p : Nat) : Prop := ∀ c, (F p c).2 = (G p c).2 ∧ ∀ S, famL (F p c).1 S ↔ csT (G p c).1 S
theorem SmC.L {F : Nat → Nat → List (List Nat) × Nat} {G : Nat → Nat → Nat × Nat} : ∀ {l : List Nat}, (∀ p ∈ l, SmC F G p) → ∀ c, (tqL F l c).2 = (opL G l c).2 ∧ (∀ S, famL (prodL (tqL F l c).1) S ↔ csL csT (opL G l c).1 S) ∧ ∀ S, famL (tqL F l c).1.flatten S ↔ ∃ p, p ∈ (opL G l c).1 ∧ csT p S
  | [], _, c => by
    refine ⟨rfl, fun S => ⟨fun ⟨x, hx, e⟩ => ?_, fun q => ⟨[], List.mem_cons_self, ?_⟩⟩, fun S => ⟨fun ⟨x, hx, _⟩ => (by cases hx), fun ⟨p, hp, _⟩ => (by cases hp)⟩⟩
    · have : x = [] := List.mem_singleton.mp hx
      show S = fun _ => False
      rw [e, this]
      funext f
      exact propext ⟨fun q => (by cases q), False.elim⟩
    · have q : S = fun _ => False := q
      rw [q]
      funext f
      exact propext ⟨False.elim, fun q => (by cases q)⟩
  | p :: l, h, c => by
    obtain ⟨a1, a2⟩ := h p List.mem_cons_self c
    obtain ⟨b1, b2, b3⟩ := SmC.L (fun q hq => h q (List.mem_cons_of_mem _ hq)) (F p c).2
    have e1 : tqL F (p :: l) c = ((F p c).1 :: (tqL F l (F p c).2).1, (tqL F l (F p c).2).2) := rfl
    have e2 : opL G (p :: l) c = ((G p c).1 :: (opL G l (G p c).2).1, (opL G l (G p c).2).2) := rfl
    rw [e1, e2, ← a1]
    refine ⟨b1, fun S => ?_, fun S => ?_⟩
    · rw [fam_prod]
      constructor
      · rintro ⟨S1, S2, x, y, e⟩
        exact ⟨S1, S2, (a2 S1).mp x, (b2 S2).mp y, e⟩
      · rintro ⟨S1, S2, x, y, e⟩
        exact ⟨S1, S2, (a2 S1).mpr x, (b2 S2).mpr y, e⟩
    · constructor
      · rintro ⟨x, hx, e⟩
        rw [List.flatten_cons] at hx
        rcases List.mem_append.mp hx with q | q
        · exact ⟨_, List.mem_cons_self, (a2 S).mp ⟨x, q, e⟩⟩
        · obtain ⟨z, z1, z2⟩ := (b3 S).mp ⟨x, q, e⟩
          exact ⟨z, List.mem_cons_of_mem _ z1, z2⟩
      · rintro ⟨z, hz, q⟩
        rcases List.mem_cons.mp hz with w | w
        · rw [w] at q
          obtain ⟨x, hx, e⟩ := (a2 S).mpr q
          exact ⟨x, by rw [List.flatten_cons]; exact List.mem_append_left _ hx, e⟩
        · obtain ⟨x, hx, e⟩ := (b3 S).mpr ⟨z, w, q⟩
          exact ⟨x, by rw [List.flatten_cons]; exact List.mem_append_right _ hx, e⟩
theorem ht_con (n : Nat) : htT (mk 1 n []) = 1 := by
  rw [htT_eq]
  unfold fms
  rw [kd_mk, if_neg (by omega), ps_mk]
  rfl
theorem ht_put_le {s : Nat} (h1 : htT s = 1) : ∀ (t : Nat), okT t → ∀ e, htT (sbT (putg s) e t) ≤ htT t := by
  intro t
  induction t using Nat.strongRecOn with
  | ind t ih =>
    intro ho e
    have hp : 1 ≤ htT t := by rw [htT_eq]; omega
    by_cases hk : kd t ≤ 3
    · have es : sbT (putg s) e t = putg s e t := by rw [sbT_eq, if_pos hk]
      rw [es]
      unfold putg
      split
      · omega
      · exact Nat.le_refl _
    · rw [htT_eq (sbT (putg s) e t)]
      have key : ((fms (sbT (putg s) e t)).map htT).foldl max 0 + 1 ≤ htT t := by
        have : ((fms (sbT (putg s) e t)).map htT).foldl max 0 ≤ htT t - 1 := by
          refine foldl_le 0 (Nat.zero_le _) (fun x hx => ?_)
          obtain ⟨c', c1, c2⟩ := List.mem_map.mp hx
          obtain ⟨c, d1, i, d2, d3, d4⟩ := fms_sb hk c1
          have h2 := ih c (fms_lt d1) (ho.c d1) (if kd t = 18 ∧ 0 < i then e + 1 else e)
          have h3 := ht_c d1
          rw [← c2, d4]
          omega
        omega
      omega
/-- a formula opened by the class, and counted by the model -/
theorem op_tq : ∀ (n f : Nat), htT f < n → okT f → isFo f → SmC (tqF n) (opF n) f := by
  intro n
  induction n with
  | zero => intro f h; omega
  | succ n ih =>
    intro f hh ho hf c
    unfold isFo at hf
    have leaf : kd f ≠ 9 → kd f ≠ 17 → ¬ (kd f = 16 ∧ (kd (pa f 0) = 9 ∨ kd (pa f 0) = 17 ∨ kd (pa f 0) = 18)) → (([[f]], c) : List (List Nat) × Nat).2 = ((f, c) : Nat × Nat).2 ∧ ∀ S, famL (([[f]], c) : List (List Nat) × Nat).1 S ↔ csT ((f, c) : Nat × Nat).1 S := fun h9 h17 h16 => by
      refine ⟨rfl, fun S => ?_⟩
      show famL [[f]] S ↔ csT f S
      rw [fam_one, csT_leaf h17 (by omega) (fun q => ?_) (fun q => ?_)]
      · apply h16
        rw [q]
        refine ⟨kd_no, Or.inl ?_⟩
        unfold noT
        rw [pa_mk0]; exact kd_yes
      · exact h9 (by rw [q]; exact kd_yes)
    rw [tqF, opF]
    by_cases h9 : kd f = 9
    · rw [if_pos h9, if_neg (by omega), if_neg (by omega)]
      refine ⟨rfl, fun S => ?_⟩
      show famL [[]] S ↔ csT f S
      rw [csT_yes (yes_of ho h9)]
      constructor
      · rintro ⟨x, hx, e⟩
        rw [e, List.mem_singleton.mp hx]
        funext g
        exact propext ⟨fun q => (by cases q), False.elim⟩
      · intro q
        refine ⟨[], List.mem_cons_self, ?_⟩
        rw [q]
        funext g
        exact propext ⟨False.elim, fun q => (by cases q)⟩
    rw [if_neg h9]
    by_cases h17 : kd f = 17
    · rw [if_pos h17, if_pos h17]
      have hall : ∀ p ∈ ps f, isFo p := by
        rcases ho.n.2 with q | q | q | q | q | q | q | q | q | q | q | q | q | q <;> try omega
        exact fun p hp => (q.2.2.2 p hp).1
      obtain ⟨b1, b2, _⟩ := SmC.L (F := tqF n) (G := opF n) (l := ps f) (fun p hp => by
        have hfm : p ∈ fms f := fms_mem hp (by omega) (isFo_pos (hall p hp))
        have := ht_c hfm
        exact ih p (by omega) (ho.c hfm) (hall p hp)) c
      exact ⟨b1, fun S => (b2 S).trans (csT_and rfl).symm⟩
    rw [if_neg h17, if_neg h17]
    by_cases h16 : kd f = 16
    · rw [if_pos h16, if_pos h16]
      obtain ⟨g, q3, hg⟩ : ∃ g, ps f = [g] ∧ isFo g := by
        rcases ho.n.2 with q | q | q | q | q | q | q | q | q | q | q | q | q | q <;> try omega
        obtain ⟨_, _, g, q3, hg, _⟩ := q
        exact ⟨g, q3, hg⟩
      have hp : pa f 0 = g := pa_at (by rw [q3]; rfl)
      have hgm : g ∈ fms f := fms_at.mpr ⟨0, Or.inr rfl, by rw [q3]; rfl, isFo_pos hg⟩
      have hog := ho.c hgm
      have hhg := ht_c hgm
      rw [hp]
      by_cases g9 : kd g = 9
      · rw [if_pos g9, if_neg (by omega), if_neg (by omega)]
        refine ⟨rfl, fun S => ?_⟩
        show famL [] S ↔ csT f S
        exact ⟨fun ⟨x, hx, _⟩ => (by cases hx), fun q => absurd q (csT_no (no_of ho h16 (by rw [hp]; exact g9)))⟩
      rw [if_neg g9]
      by_cases g17 : kd g = 17
      · rw [if_pos g17, if_pos g17]
        have hall : ∀ p ∈ ps g, isFo p := by
          rcases hog.n.2 with q | q | q | q | q | q | q | q | q | q | q | q | q | q <;> try omega
          exact fun p hp => (q.2.2.2 p hp).1
        obtain ⟨b1, _, b3⟩ := SmC.L (F := tqF n) (G := opF n) (l := (ps g).map notT) (fun p hp => by
          obtain ⟨p', hp', e⟩ := List.mem_map.mp hp
          have hfm : p' ∈ fms g := fms_mem hp' (by omega) (isFo_pos (hall p' hp'))
          have h1 := ht_c hfm
          have hop := hog.c hfm
          have h2 := ht_not hop
          rw [← e]
          exact ih _ (by omega) (okT_not hop (hall p' hp')).1 (okT_not hop (hall p' hp')).2) c
        exact ⟨b1, fun S => (b3 S).trans csT_ei.symm⟩
      rw [if_neg g17, if_neg g17]
      by_cases g18 : kd g = 18
      · rw [if_pos g18, if_pos g18]
        obtain ⟨ty, b, e, py, pb, k8, hbf, my, mb, _⟩ := all_parts hog g18
        obtain ⟨oc, tc⟩ := okT_const (2 * c)
        have hob := hog.c mb
        have hok : okT (sbT (putg (mk 1 (2 * c) [])) 0 b) := okT_sb b hob (gOn_put hob oc tc) 0
        have hof : isFo (sbT (putg (mk 1 (2 * c) [])) 0 b) := by
          have := (sb_kd (g := putg (mk 1 (2 * c) [])) (d := 0) (t := b) (by unfold isFo at hbf; omega)).1
          unfold isFo at hbf ⊢
          rw [this]; exact hbf
        have h1 := ht_c mb
        have h2 := ht_put_le (ht_con (2 * c)) b hob 0
        have h3 := ht_not hok
        rw [pb]
        exact ih _ (by omega) (okT_not hok hof).1 (okT_not hok hof).2 (c + 1)
      · rw [if_neg g18, if_neg g18]
        exact leaf h9 h17 (fun q => by rw [hp] at q; omega)
    · rw [if_neg h16, if_neg h16]
      exact leaf h9 h17 (fun q => h16 q.1)
