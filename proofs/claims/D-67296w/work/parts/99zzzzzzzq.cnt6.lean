/-! counting: what a put makes anew in a formula, by its form -/
section CNT
variable {t : Nat} {E : Nat → Nat} {χ : Prop} {n N M K cA cP : Nat} {Sh : List Nat}
def ZxP (Sh : List Nat) (t : Nat) (Zx : List Nat) : Prop := ∀ s ∈ Zx, ∃ h ∈ Sh, kd h ≤ 8 ∧ s = sbT (fun _ _ => t) 0 h
def ZaP (Sh : List Nat) (t : Nat) (Za : List Nat) : Prop := ∀ s ∈ Za, ∃ h ∈ Sh, 9 ≤ kd h ∧ (iL h).length = 1 ∧ s = sbT (fun _ _ => t) 0 h
theorem ZxP.ap {A B : List Nat} (h1 : ZxP Sh t A) (h2 : ZxP Sh t B) : ZxP Sh t (A ++ B) := fun s hs => (List.mem_append.mp hs).elim (h1 s) (h2 s)
theorem ZaP.ap {A B : List Nat} (h1 : ZaP Sh t A) (h2 : ZaP Sh t B) : ZaP Sh t (A ++ B) := fun s hs => (List.mem_append.mp hs).elim (h1 s) (h2 s)
theorem cov_li {e : Nat} (hM : cP ≤ M) : ∀ {l : List Nat}, (∀ p ∈ l, nwT t E e p ≠ odT E e p → Pq M K χ Sh t E e p cP) → (∀ p ∈ l, 1 ≤ szT p) → ∃ L Zx Za, (∀ p ∈ l, Cov χ Sh t E e p L Zx Za ∧ (nwT t E e p ≠ odT E e p → χ → loT (nwT t E e p) = 0 → kd p ≠ 16 → notT (nwT t E e p) ∈ L ∨ nwT t E e p ∈ Za)) ∧ (ZxP Sh t Zx ∧ ZaP Sh t Za) ∧ (M + 2) * L.length + K * Za.length + M * Zx.length + cP * l.length ≤ M * (l.map szT).sum
  | [], _, _ => ⟨[], [], [], (fun p hp => by cases hp), ⟨(fun s hs => by cases hs), (fun s hs => by cases hs)⟩, by simp⟩
  | p :: l, h, hs => by
    obtain ⟨L, Zx, Za, a1, ⟨a2, a3⟩, a4⟩ := cov_li hM (l := l) (fun q hq => h q (List.mem_cons_of_mem _ hq)) (fun q hq => hs q (List.mem_cons_of_mem _ hq))
    have s1 := hs p List.mem_cons_self
    have hsz : M * 1 ≤ M * szT p := Nat.mul_le_mul_left M s1
    have e1 : M * ((p :: l).map szT).sum = M * szT p + M * (l.map szT).sum := by simp only [List.map_cons, List.sum_cons, Nat.mul_add]
    by_cases hc : nwT t E e p = odT E e p
    · refine ⟨L, Zx, Za, fun q hq => ?_, ⟨a2, a3⟩, ?_⟩
      · rcases List.mem_cons.mp hq with w | w
        · rw [w]
          exact ⟨(Cov.old hc).mono (fun s hs => by cases hs) (fun s hs => by cases hs) (fun s hs => by cases hs) a2 a3, fun z => absurd hc z⟩
        · exact a1 q w
      · rw [e1, List.length_cons, Nat.mul_add]; omega
    · obtain ⟨L1, Zx1, Za1, b1, b2, b3⟩ := h p List.mem_cons_self hc
      have b4 : ZxP Sh t Zx1 := b1.2.2.1
      have b5 : ZaP Sh t Za1 := b1.2.2.2
      have c4 := b4.ap a2
      have c5 := b5.ap a3
      refine ⟨L1 ++ L, Zx1 ++ Zx, Za1 ++ Za, fun q hq => ?_, ⟨c4, c5⟩, ?_⟩
      · rcases List.mem_cons.mp hq with w | w
        · rw [w]
          exact ⟨b1.mono (fun s hs => List.mem_append_left _ hs) (fun s hs => List.mem_append_left _ hs) (fun s hs => List.mem_append_left _ hs) c4 c5, fun _ x y z => (b2 x y z).imp (List.mem_append_left _) (List.mem_append_left _)⟩
        · obtain ⟨d1, d2⟩ := a1 q w
          exact ⟨d1.mono (fun s hs => List.mem_append_right _ hs) (fun s hs => List.mem_append_right _ hs) (fun s hs => List.mem_append_right _ hs) c4 c5, fun v x y z => (d2 v x y z).imp (List.mem_append_right _) (List.mem_append_right _)⟩
      · rw [e1, List.length_append, List.length_append, List.length_append, List.length_cons]
        simp only [Nat.mul_add]
        omega
theorem kd_od {e b : Nat} (hk : ¬ kd b ≤ 3) : kd (odT E e b) = kd b := (sb_kd hk).1
/-- what is within a part is within the whole -/
theorem cov_in (ht : clT1 t) (hE : clE1 E) {e b p : Nat} {L Zx Za : List Nat} (hk : ¬ kd b ≤ 3) (h18 : kd b ≠ 18) (hp : p ∈ fms b) (h : Cov χ Sh t E e p L Zx Za) {s : Nat} (hs : subT s (nwT t E e p)) : (subT s (odT E e b) ∨ subT s t ∨ s ∈ L ∨ s ∈ Zx ∨ (∃ z ∈ Za, s = z ∨ s = notT z) ∨ (χ ∧ ∃ r, subT r (nwT t E e b) ∧ isTm r ∧ loT r = 0 ∧ subT s r)) ∧ (χ → ∀ q, kd s = 17 → q ∈ ps s → loT q = 0 → kd q ≠ 16 → (∃ s', subT s' (odT E e b) ∧ kd s' = 17 ∧ q ∈ ps s') ∨ notT q ∈ L ∨ q ∈ Za) := by
  have m1 : nwT t E e p ∈ fms (nwT t E e b) := by
    unfold nwT
    rw [fms_sbn (gv_0 (clE1.c ht hE)) hk h18]
    exact List.mem_map.mpr ⟨p, hp, rfl⟩
  have m2 : odT E e p ∈ fms (odT E e b) := by
    unfold odT
    rw [fms_sbn (gv_0 hE) hk h18]
    exact List.mem_map.mpr ⟨p, hp, rfl⟩
  refine ⟨?_, fun hχ q k hq l0 k16 => ?_⟩
  · rcases h.1 s hs with q | q | q | q | q | ⟨q, r, r1, r2⟩
    · exact Or.inl (sub_c m2 q)
    · exact Or.inr (Or.inl q)
    · exact Or.inr (Or.inr (Or.inl q))
    · exact Or.inr (Or.inr (Or.inr (Or.inl q)))
    · exact Or.inr (Or.inr (Or.inr (Or.inr (Or.inl q))))
    · exact Or.inr (Or.inr (Or.inr (Or.inr (Or.inr ⟨q, r, sub_c m1 r1, r2⟩))))
  · rcases h.2.1 hχ s q hs k hq l0 k16 with ⟨s', w1, w2⟩ | w
    · exact Or.inl ⟨s', sub_c m2 w1, w2⟩
    · exact Or.inr w
theorem ps_all1 {b : Nat} (ho : okT b) (h18 : kd b = 18) : ∃ y f, ps b = [y, f] ∧ kd y = 8 ∧ isFo f ∧ y ∈ fms b ∧ f ∈ fms b := by
  rcases ho.n.2 with q | q | q | q | q | q | q | q | q | q | q | q | q | q <;> try omega
  obtain ⟨q1, q2, y, f, q3, q4, q5, q6⟩ := q
  have y0 : y ≠ 0 := fun e => by rw [e, kd0] at q4; omega
  exact ⟨y, f, q3, q4, q5, fms_mem (by rw [q3]; simp) (by omega) y0, fms_mem (by rw [q3]; simp) (by omega) (isFo_pos q5)⟩
/-- THE COUNT: a formula in which something is put for a variable -/
theorem cov_fo (ht : clT1 t) (hE : clE1 E) (hM : MOK M n N) (hK : K + 12 = 2 * M) (hcr : CrK χ cA cP) : ∀ (b : Nat), okT b → isFo b → Alls (AtP n N Sh) b → ∀ e, nwT t E e b ≠ odT E e b → (((kd b = 16 ∨ (isZ b ∧ kd b ≤ 14)) ∧ Fq M K χ Sh t E e b (cA - 2)) ∨ Fq M K χ Sh t E e b cA) ∧ (kd b ≠ 17 → Pq M K χ Sh t E e b cP) := by
  have m1 := hM.1
  have hcc : 2 ≤ cA ∧ cA ≤ 14 ∧ cP ≤ 8 ∧ cP + 2 ≤ cA ∧ cA + 2 ≤ 2 * cP := by unfold CrK at hcr; omega
  intro b
  induction b using Nat.strongRecOn with
  | ind b ih =>
    intro ho hf hA e hc
    have b0 := okT_0 ho
    by_cases k14 : kd b ≤ 14
    · have h9 : 9 ≤ kd b := by unfold isFo at hf; omega
      obtain ⟨h1, h2⟩ := at_fq (χ := χ) ht hE hM hK hcr ho h9 k14 hA hc
      exact ⟨h1.imp (fun ⟨a, b⟩ => ⟨Or.inr ⟨a, k14⟩, b⟩) id, fun _ => h2⟩
    by_cases k16 : kd b = 16
    · -- NOT
      obtain ⟨f, hp, ff, kf, mf⟩ := ps_not1 ho k16
      have of := ho.c mf
      have f0 := okT_0 of
      have Af := hA.sub (sub_c mf (sub_rf f))
      have pn : ps (nwT t E e b) = [nwT t E e f] := by
        unfold nwT
        rw [ps_map (Or.inl k16) (fun c hc => by rw [hp, List.mem_singleton] at hc; rw [hc]; exact f0), hp]; rfl
      have po : ps (odT E e b) = [odT E e f] := by
        unfold odT
        rw [ps_map (Or.inl k16) (fun c hc => by rw [hp, List.mem_singleton] at hc; rw [hc]; exact f0), hp]; rfl
      have kn : kd (nwT t E e b) = 16 := by rw [kd_nw ht hE (by omega)]; exact k16
      have on := okT_nw ht hE (e := e) ho
      have oo := okT_od hE (e := e) ho
      have wn : wh (nwT t E e b) = wh (odT E e b) := by
        have h1 := (sb_kd (g := gv (cE t E)) (d := e) (t := b) (by omega)).2.1
        have h2 := (sb_kd (g := gv E) (d := e + 1) (t := b) (by omega)).2.1
        unfold nwT odT
        rw [h1, h2]
      have hcf : nwT t E e f ≠ odT E e f := fun q => hc (by
        rw [on.n.1, oo.n.1, pn, po, q, wn, kn, kd_od (by omega), k16])
      have hs1 : szT b = 1 + szT f := by rw [sz_pl b0 (by omega), hp]; simp
      have hms : M * szT b = M + M * szT f := by rw [hs1, Nat.mul_add, Nat.mul_one]
      have fmn : fms (nwT t E e b) = [nwT t E e f] := by
        unfold nwT
        rw [fms_sbn (gv_0 (clE1.c ht hE)) (by omega) (by omega)]
        have : fms b = [f] := by
          unfold fms
          rw [if_neg (by omega), hp]
          simp [f0]
        rw [this]; rfl
      have kfn : kd (nwT t E e f) ≠ 16 := by
        have : ¬ kd f ≤ 3 := by unfold isFo at ff; omega
        rw [kd_nw ht hE this]; exact kf
      have nn : nwT t E e b = notT (nwT t E e f) := by
        unfold notT
        rw [if_neg kfn]
        have w0 : wh (nwT t E e b) = 0 := by
          rcases on.n.2 with q | q | q | q | q | q | q | q | q | q | q | q | q | q <;> first | omega | exact q.2.1
        have := on.n.1
        rw [pn, kn, w0] at this
        exact this
      have lift : ∀ {L Zx Za : List Nat}, Cov χ Sh t E e f L Zx Za → (nwT t E e b ∈ L ∨ nwT t E e f ∈ Za) → Cov χ Sh t E e b L Zx Za := fun {L Zx Za} hC hin => by
        refine ⟨fun s hs => ?_, fun hχ s p hs k hq l0 k16' => ?_, hC.2.2.1, hC.2.2.2⟩
        · rw [subT_eq] at hs
          rcases hs with q | ⟨c, hc', q⟩
          · rcases hin with w | w
            · exact Or.inr (Or.inr (Or.inl (by rw [q]; exact w)))
            · exact Or.inr (Or.inr (Or.inr (Or.inr (Or.inl ⟨_, w, Or.inr (by rw [q]; exact nn)⟩))))
          · rw [fmn, List.mem_singleton] at hc'
            rw [hc'] at q
            exact (cov_in ht hE (by omega) (by omega) mf hC q).1
        · rw [subT_eq] at hs
          rcases hs with q | ⟨c, hc', q⟩
          · rw [q, kn] at k; omega
          · rw [fmn, List.mem_singleton] at hc'
            rw [hc'] at q
            exact (cov_in ht hE (by omega) (by omega) mf hC q).2 hχ p k hq l0 k16'
      have F : Fq M K χ Sh t E e b (cA - 2) := by
        have old : ∀ {cr : Nat}, cA ≤ cr → Fq M K χ Sh t E e f cr → Fq M K χ Sh t E e b (cA - 2) := fun {cr} h14 ⟨L, Zx, Za, c1, c2⟩ => by
          refine ⟨nwT t E e b :: L, Zx, Za, lift (c1.mono (fun s hs => List.mem_cons_of_mem _ hs) (fun _ h => h) (fun _ h => h) c1.2.2.1 c1.2.2.2) (Or.inl List.mem_cons_self), ?_⟩
          rw [List.length_cons, Nat.mul_add, hms]
          omega
        rcases (ih f (fms_lt mf) of ff Af e hcf).1 with ⟨q | ⟨q1, q2⟩, q3⟩ | q
        · exact absurd q kf
        · have cz := cov_z (χ := χ) ht hE of (by unfold isFo at ff; omega) q2 Af q1 hcf
          refine ⟨[], [], [nwT t E e f], lift cz (Or.inr List.mem_cons_self), ?_⟩
          have z3 := (sz_atm (t := t) (E := E) (e := e) of (by unfold isFo at ff; omega)).2.2
          have hsz : M * 2 ≤ M * szT f := Nat.mul_le_mul_left M (by have := q1.1; have := q1.2; omega)
          rw [hms]
          simp only [List.length_cons, List.length_nil]
          omega
        · exact old (Nat.le_refl _) q
      exact ⟨Or.inl ⟨Or.inl k16, F⟩, fun _ => F.p (by omega) (fun _ _ => k16)⟩
    by_cases k17 : kd b = 17
    · -- AND
      have hl : 2 ≤ (ps b).length ∧ ∀ f ∈ ps b, isFo f ∧ kd f ≠ 17 ∧ f ≠ yesT ∧ f ≠ noT := by
        rcases ho.n.2 with q | q | q | q | q | q | q | q | q | q | q | q | q | q <;> first | omega | exact q.2.2
      have mf : ∀ p ∈ ps b, p ∈ fms b := fun p hp => fms_mem hp (by omega) (isFo_pos (hl.2 p hp).1)
      obtain ⟨L, Zx, Za, a1, ⟨a2, a3⟩, a4⟩ := cov_li (χ := χ) (Sh := Sh) (t := t) (E := E) (K := K) (cP := cP) (e := e) (M := M) (by omega) (l := ps b) (fun p hp hcp => (ih p (fms_lt (mf p hp)) (ho.c (mf p hp)) (hl.2 p hp).1 (hA.sub (sub_c (mf p hp) (sub_rf p))) e hcp).2 (hl.2 p hp).2.1) (fun p hp => by
        have := sz_fms (okT_0 (ho.c (mf p hp)))
        omega)
      have pn : ps (nwT t E e b) = (ps b).map (nwT t E e) := ps_map (Or.inr k17) (fun c hc => isFo_pos (hl.2 c hc).1)
      have po : ps (odT E e b) = (ps b).map (odT E e) := ps_map (Or.inr k17) (fun c hc => isFo_pos (hl.2 c hc).1)
      have hms : M * szT b = M + M * ((ps b).map szT).sum := by rw [sz_pl b0 (by omega), Nat.mul_add, Nat.mul_one]
      refine ⟨Or.inr ⟨nwT t E e b :: L, Zx, Za, ⟨fun s hs => ?_, fun hχ s p hs k hq l0 k16' => ?_, a2, a3⟩, ?_⟩, fun q => absurd k17 q⟩
      · rw [subT_eq] at hs
        rcases hs with q | ⟨c, hc', q⟩
        · exact Or.inr (Or.inr (Or.inl (by rw [q]; exact List.mem_cons_self)))
        · have := (fms_ps hc').1
          rw [pn] at this
          obtain ⟨p, hp, e1⟩ := List.mem_map.mp this
          rw [← e1] at q
          rcases (cov_in ht hE (by omega) (by omega) (mf p hp) (a1 p hp).1 q).1 with w | w | w | w
          · exact Or.inl w
          · exact Or.inr (Or.inl w)
          · exact Or.inr (Or.inr (Or.inl (List.mem_cons_of_mem _ w)))
          · exact Or.inr (Or.inr (Or.inr w))
      · rw [subT_eq] at hs
        rcases hs with q | ⟨c, hc', q⟩
        · rw [q, pn] at hq
          obtain ⟨p0, hp0, e1⟩ := List.mem_map.mp hq
          by_cases hcp : nwT t E e p0 = odT E e p0
          · refine Or.inl ⟨odT E e b, sub_rf _, by rw [kd_od (by omega)]; exact k17, ?_⟩
            rw [po, ← e1, hcp]
            exact List.mem_map.mpr ⟨p0, hp0, rfl⟩
          · have kp : kd (nwT t E e p0) = kd p0 := kd_nw ht hE (by have := (hl.2 p0 hp0).1; unfold isFo at this; omega)
            rw [← e1] at l0 k16' ⊢
            rw [kp] at k16'
            exact Or.inr (((a1 p0 hp0).2 hcp hχ l0 k16').imp (List.mem_cons_of_mem _) id)
        · have := (fms_ps hc').1
          rw [pn] at this
          obtain ⟨p0, hp0, e1⟩ := List.mem_map.mp this
          rw [← e1] at q
          rcases (cov_in ht hE (by omega) (by omega) (mf p0 hp0) (a1 p0 hp0).1 q).2 hχ p k hq l0 k16' with w | w | w
          · exact Or.inl w
          · exact Or.inr (Or.inl (List.mem_cons_of_mem _ w))
          · exact Or.inr (Or.inr w)
      · rw [List.length_cons, Nat.mul_add, hms]
        have : cP * 2 ≤ cP * (ps b).length := Nat.mul_le_mul_left cP hl.1
        omega
    · -- ALL
      have k18 : kd b = 18 := by unfold isFo at hf; omega
      obtain ⟨y, f, hp, y8, ff, my, mf⟩ := ps_all1 ho k18
      have oy := ho.c my
      have of := ho.c mf
      have y0 := okT_0 oy
      have f0 := okT_0 of
      have Ay := hA.sub (sub_c my (sub_rf y))
      have Af := hA.sub (sub_c mf (sub_rf f))
      obtain ⟨fn, pn⟩ := fms_all (d := e) (gv_0 (clE1.c ht hE)) k18 hp y0 f0
      obtain ⟨fo, po⟩ := fms_all (d := e + 1) (gv_0 hE) k18 hp y0 f0
      have fn : fms (nwT t E e b) = [nwT t E e y, nwT t E (e + 1) f] := fn
      have pn : ps (nwT t E e b) = [nwT t E e y, nwT t E (e + 1) f] := pn
      have fo : fms (odT E e b) = [odT E e y, odT E (e + 1) f] := fo
      have hms : M * szT b = M + M * szT y + M * szT f := by
        rw [sz_pl b0 (by omega), hp]
        simp only [List.map_cons, List.map_nil, List.sum_cons, List.sum_nil, Nat.mul_add, Nat.mul_one, Nat.mul_zero]
        omega
      have kn : kd (nwT t E e b) = 18 := by rw [kd_nw ht hE (by omega)]; exact k18
      obtain ⟨Ly, Xy, y1, y2, y3⟩ := ty_fq (χ := χ) (t := t) (E := E) (e := e) ht hE hM oy y8 Ay
      -- the body
      have B : Fq M K χ Sh t E (e + 1) f (cA - 2) := by
        by_cases hcf : nwT t E (e + 1) f = odT E (e + 1) f
        · refine ⟨[], [], [], Cov.old hcf, ?_⟩
          have := sz_fms f0
          have hsz : M * 1 ≤ M * szT f := Nat.mul_le_mul_left M (by omega)
          simp only [List.length_nil]
          omega
        · rcases (ih f (fms_lt mf) of ff Af (e + 1) hcf).1 with ⟨_, q⟩ | ⟨L, Zx, Za, c1, c2⟩
          · exact q
          · exact ⟨L, Zx, Za, c1, by omega⟩
      obtain ⟨Lf, Xf, Zf, f1, f2⟩ := B
      have mny : nwT t E e y ∈ fms (nwT t E e b) := by rw [fn]; exact List.mem_cons_self
      have mnf : nwT t E (e + 1) f ∈ fms (nwT t E e b) := by rw [fn]; exact List.mem_cons_of_mem _ List.mem_cons_self
      have moy : odT E e y ∈ fms (odT E e b) := by rw [fo]; exact List.mem_cons_self
      have mof : odT E (e + 1) f ∈ fms (odT E e b) := by rw [fo]; exact List.mem_cons_of_mem _ List.mem_cons_self
      have lift : ∀ {Ly Xy : List Nat} (R : List Nat), Cov χ Sh t E e y Ly Xy [] → nwT t E e b ∈ R → Cov χ Sh t E e b (R ++ (Ly ++ Lf)) (Xy ++ Xf) Zf := fun {Ly Xy} R hy hR => by
        refine ⟨fun s hs => ?_, fun hχ s p hs k hq l0 k16' => ?_, ZxP.ap hy.2.2.1 f1.2.2.1, f1.2.2.2⟩
        · rw [subT_eq] at hs
          rcases hs with q | ⟨c, hc', q⟩
          · exact Or.inr (Or.inr (Or.inl (by rw [q]; exact List.mem_append_left _ hR)))
          · rw [fn] at hc'
            rcases List.mem_cons.mp hc' with w | w
            · rw [w] at q
              rcases hy.1 s q with z | z | z | z | ⟨_, z, _⟩ | ⟨z, r, r1, r2⟩
              · exact Or.inl (sub_c moy z)
              · exact Or.inr (Or.inl z)
              · exact Or.inr (Or.inr (Or.inl (List.mem_append_right _ (List.mem_append_left _ z))))
              · exact Or.inr (Or.inr (Or.inr (Or.inl (List.mem_append_left _ z))))
              · cases z
              · exact Or.inr (Or.inr (Or.inr (Or.inr (Or.inr ⟨z, r, sub_c mny r1, r2⟩))))
            · rw [List.mem_singleton.mp w] at q
              rcases f1.1 s q with z | z | z | z | z | ⟨z, r, r1, r2⟩
              · exact Or.inl (sub_c mof z)
              · exact Or.inr (Or.inl z)
              · exact Or.inr (Or.inr (Or.inl (List.mem_append_right _ (List.mem_append_right _ z))))
              · exact Or.inr (Or.inr (Or.inr (Or.inl (List.mem_append_right _ z))))
              · exact Or.inr (Or.inr (Or.inr (Or.inr (Or.inl z))))
              · exact Or.inr (Or.inr (Or.inr (Or.inr (Or.inr ⟨z, r, sub_c mnf r1, r2⟩))))
        · rw [subT_eq] at hs
          rcases hs with q | ⟨c, hc', q⟩
          · rw [q, kn] at k; omega
          · rw [fn] at hc'
            rcases List.mem_cons.mp hc' with w | w
            · rw [w] at q
              exact absurd k (no17 ht hE oy (by omega) (by omega) q)
            · rw [List.mem_singleton.mp w] at q
              rcases f1.2.1 hχ s p q k hq l0 k16' with ⟨s', z1, z2⟩ | z | z
              · exact Or.inl ⟨s', sub_c mof z1, z2⟩
              · exact Or.inr (Or.inl (List.mem_append_right _ (List.mem_append_right _ z)))
              · exact Or.inr (Or.inr z)
      have F : Fq M K χ Sh t E e b cA := by
        refine ⟨_, _, _, lift [nwT t E e b] y1 List.mem_cons_self, ?_⟩
        rw [hms]
        simp only [List.length_append, List.length_cons, List.length_nil, Nat.mul_add]
        omega
      refine ⟨Or.inr F, fun _ => ?_⟩
      rcases Classical.em (χ ∧ loT (nwT t E e b) = 0) with ⟨q1, q2⟩ | q
      · have ly : loT (nwT t E e y) = 0 := by have := lo_ally kn pn; omega
        obtain ⟨Ly', Xy', y4, y5⟩ := y3 q1 ly
        have hc14 : cA = 14 ∧ cP = 8 := by
          rcases hcr with q | q
          · exact q.2
          · exact absurd q1 q.1
        refine ⟨_, _, _, lift [nwT t E e b, notT (nwT t E e b)] y4 List.mem_cons_self, fun _ _ _ => Or.inl (List.mem_append_left _ (by simp)), ?_⟩
        rw [hms]
        simp only [List.length_append, List.length_cons, List.length_nil, Nat.mul_add]
        omega
      · exact F.p (by omega) (fun a b => absurd ⟨a, b⟩ q)
end CNT
