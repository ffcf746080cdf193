/-! counting: a put outside binders, long units with two leaves without doubles -/
section CNX
variable {t : Nat} {E : Nat → Nat} {M K : Nat} {Sh : List Nat}
def TopV (M K : Nat) (Sh : List Nat) (t : Nat) (E : Nat → Nat) (e b cr : Nat) : Prop := ∃ L Zx Za Zu : List Nat, CovB True Sh t E e b (L ++ Zu.flatMap (unL t E)) Zx Za ∧ NtC t E e b L Za ∧ (∀ z ∈ Zu, z ∈ cdT M b e) ∧ (M + 2) * L.length + K * Za.length + M * Zx.length + (Zu.map (cst M)).sum + cr ≤ M * szT b
def TopW (M K : Nat) (Sh : List Nat) (t : Nat) (E : Nat → Nat) (e b cr : Nat) : Prop := ∃ L Zx Za Zu : List Nat, CovB True Sh t E e b (L ++ Zu.flatMap (unL t E)) Zx Za ∧ NtC t E e b L Za ∧ (kd b ≠ 16 → notT (nwT t E e b) ∈ L ∨ nwT t E e b ∈ Za ∨ szT (nwT t E e b) = 1) ∧ (∀ z ∈ Zu, z ∈ cdT M b e) ∧ (M + 2) * L.length + K * Za.length + M * Zx.length + (Zu.map (cst M)).sum + cr ≤ M * szT b
theorem TopV.le {e b cr cr' : Nat} (h : TopV M K Sh t E e b cr) (hc : cr' ≤ cr) : TopV M K Sh t E e b cr' := by
  obtain ⟨L, Zx, Za, Zu, h1, h2, h4, h3⟩ := h
  exact ⟨L, Zx, Za, Zu, h1, h2, h4, by omega⟩
theorem topu_li {e : Nat} : ∀ {l : List Nat}, (∀ p ∈ l, TopW M K Sh t E e p 4) → ∃ L Zx Za Zu : List Nat, (∀ p ∈ l, CovB True Sh t E e p (L ++ Zu.flatMap (unL t E)) Zx Za ∧ NtC t E e p L Za ∧ (kd p ≠ 16 → notT (nwT t E e p) ∈ L ∨ nwT t E e p ∈ Za ∨ szT (nwT t E e p) = 1)) ∧ (ZxP Sh t Zx ∧ ZaQ Sh t Za) ∧ (∀ z ∈ Zu, ∃ p ∈ l, z ∈ cdT M p e) ∧ (M + 2) * L.length + K * Za.length + M * Zx.length + (Zu.map (cst M)).sum + 4 * l.length ≤ M * (l.map szT).sum
  | [], _ => ⟨[], [], [], [], (fun p hp => by cases hp), ⟨ZxP.nil, ZaQ.nil⟩, (fun z hz => by cases hz), by simp⟩
  | p :: l, h => by
    obtain ⟨L, Zx, Za, Zu, a1, ⟨a2, a3⟩, a5, a4⟩ := topu_li (l := l) (fun q hq => h q (List.mem_cons_of_mem _ hq))
    obtain ⟨L1, Zx1, Za1, Zu1, b1, b2, b3, b5, b4⟩ := h p List.mem_cons_self
    have c4 := b1.2.1.ap a2
    have c5 := b1.2.2.ap a3
    refine ⟨L1 ++ L, Zx1 ++ Zx, Za1 ++ Za, Zu1 ++ Zu, fun q hq => ?_, ⟨c4, c5⟩, fun z hz => ?_, ?_⟩
    · rcases List.mem_cons.mp hq with w | w
      · rw [w]
        exact ⟨b1.mono (fun s hs => app_u (Or.inl hs)) (fun s hs => List.mem_append_left _ hs) (fun s hs => List.mem_append_left _ hs) c4 c5, b2.mono (fun s hs => List.mem_append_left _ hs) (fun s hs => List.mem_append_left _ hs), fun z => (b3 z).imp (List.mem_append_left _) (fun q => q.imp (List.mem_append_left _) id)⟩
      · obtain ⟨d1, d2, d3⟩ := a1 q w
        exact ⟨d1.mono (fun s hs => app_u (Or.inr hs)) (fun s hs => List.mem_append_right _ hs) (fun s hs => List.mem_append_right _ hs) c4 c5, d2.mono (fun s hs => List.mem_append_right _ hs) (fun s hs => List.mem_append_right _ hs), fun z => (d3 z).imp (List.mem_append_right _) (fun q => q.imp (List.mem_append_right _) id)⟩
    · rcases List.mem_append.mp hz with w | w
      · exact ⟨p, List.mem_cons_self, b5 z w⟩
      · obtain ⟨q, q1, q2⟩ := a5 z w
        exact ⟨q, List.mem_cons_of_mem _ q1, q2⟩
    · simp only [List.map_cons, List.sum_cons, List.length_append, List.length_cons, Nat.mul_add, List.map_append, List.sum_append]
      omega
/-- a closed type -/
theorem tycu (ht : clT1 t) (hE : clE1 E) {e y : Nat} (hM : 8 ≤ M) (ho : okT y) (h8 : kd y = 8) (hA : Alls (AtE0 M Sh) y) (hc0 : loT (nwT t E e y) = 0) : ∃ L Zx, CovB True Sh t E e y L Zx [] ∧ (M + 2) * L.length + M * Zx.length + M ≤ M * szT y := by
  have hk : ¬ kd y ≤ 3 := by omega
  obtain ⟨z1, z2, z3⟩ := sz_atm (t := t) (E := E) (e := e) ho hk
  have hP := AtE0.p ho hA
  by_cases hc : nwT t E e y = odT E e y
  · have hsz : M * 1 ≤ M * szT y := Nat.mul_le_mul_left M (by omega)
    exact ⟨[], [], CovB.old hc, by simp only [List.length_nil]; omega⟩
  · have l1 := ch_1 ho (by omega) hc
    rcases Nat.lt_or_ge (lf y) 2 with w | w
    · have e1 : lf y = 1 := by omega
      refine ⟨[], nwT t E e y :: sgL t E e y, ⟨fun s hs => ?_, fun s hs => ?_, ZaQ.nil⟩, ?_⟩
      · exact (cov_s (χ := True) ht hE (e := e) ho (by omega) (by omega) hP e1).1 s hs |>.imp id (fun q => q.imp id (fun q => q.elim (fun w => Or.inr (Or.inl (by rw [List.mem_singleton.mp w]; exact List.mem_cons_self))) (fun q => q.elim (fun w => Or.inr (Or.inl (List.mem_cons_of_mem _ w))) (fun w => Or.inr (Or.inr w)))))
      · rcases List.mem_cons.mp hs with q | q
        · rw [q]
          exact ⟨imL y, (hA y (sub_rf y)).2 (by omega) (by omega) e1, by rw [kd_imL hk]; omega, nw_one ho (by omega) e1 hc⟩
        · exact sg_sh ho (by omega) hP q
      · have hsz : M * ((sgL t E e y).length + 2) ≤ M * szT y := Nat.mul_le_mul_left M (by omega)
        rw [Nat.mul_add] at hsz
        rw [List.length_cons, List.length_nil, Nat.mul_add]
        omega
    · refine ⟨_, _, (cov_cl (χ := True) (Sh := Sh) ht hE ho (by omega) (by omega) trivial hc0).b, ?_⟩
      have hsz : M * 3 ≤ M * szT y := Nat.mul_le_mul_left M (by omega)
      simp only [List.length_cons, List.length_nil]
      omega
/-- THE COUNT outside binders -/
theorem topu_fo (ht : clT1 t) (hE : clE1 E) (hM : 8 ≤ M) (hK : K + 10 = 2 * M) (e : Nat) : ∀ (b : Nat), okT b → isFo b → Alls (AtE0 M Sh) b → loT (nwT t E e b) = 0 → (kd b ≠ 16 → TopV M K Sh t E e b 6) ∧ TopV M K Sh t E e b 4 ∧ (kd b ≠ 17 → TopW M K Sh t E e b 4) := by
  intro b
  induction b using Nat.strongRecOn with
  | ind b ih =>
    intro ho hf hA hlo
    have b0 := okT_0 ho
    have hk : ¬ kd b ≤ 3 := by unfold isFo at hf; omega
    have kn := kd_nw ht hE (e := e) hk
    by_cases k14 : kd b ≤ 14
    · have h9 : 9 ≤ kd b := by unfold isFo at hf; omega
      obtain ⟨z1, z2, z3⟩ := sz_atm (t := t) (E := E) (e := e) ho hk
      have hP := AtE0.p ho hA
      have nt : ∀ L Za, NtC t E e b L Za := fun L Za s p hs k17 => absurd k17 (no17 ht hE ho k14 hk (subN_T _ hs))
      by_cases hc : nwT t E e b = odT E e b
      · have hsz : M * 1 ≤ M * szT b := Nat.mul_le_mul_left M (by omega)
        have Q : TopV M K Sh t E e b 6 := ⟨[], [], [], [], CovB.old hc, nt _ _, fun z hz => (by cases hz), by simp only [List.length_nil, List.map_nil, List.sum_nil]; omega⟩
        refine ⟨fun _ => Q, Q.le (by omega), fun _ => ?_⟩
        rcases Nat.lt_or_ge (szT b) 2 with w | w
        · have hfm : fms b = [] := by
            have h1 := sz_fms b0
            cases hfe : fms b with
            | nil => rfl
            | cons c l =>
              exfalso
              have mc : c ∈ fms b := by rw [hfe]; exact List.mem_cons_self
              have h2 := sz_fms (okT_0 (ho.c mc))
              rw [hfe] at h1
              simp only [List.map_cons, List.sum_cons] at h1
              omega
          exact ⟨[], [], [], [], CovB.old hc, nt _ _, fun _ => Or.inr (Or.inr (by rw [nw_z ho k14 hk hfm]; omega)), fun z hz => (by cases hz), by simp only [List.length_nil, List.map_nil, List.sum_nil]; omega⟩
        · have hsz2 : M * 2 ≤ M * szT b := Nat.mul_le_mul_left M w
          exact ⟨[notT (nwT t E e b)], [], [], [], (CovB.old hc).mono (fun s hs => by cases hs) (fun s hs => by cases hs) (fun s hs => by cases hs) ZxP.nil ZaQ.nil, nt _ _, fun _ => Or.inl List.mem_cons_self, fun z hz => (by cases hz), by simp only [List.length_cons, List.length_nil, List.map_nil, List.sum_nil]; omega⟩
      by_cases hz : isZ b
      · have hsz : M * 2 ≤ M * szT b := Nat.mul_le_mul_left M (by have := hz.1; have := hz.2; omega)
        have cz := (cov_z (χ := True) ht hE ho h9 k14 hP hz hc).b
        have Q : TopV M K Sh t E e b 6 := ⟨[], [], [nwT t E e b], [], cz, nt _ _, fun z hz => (by cases hz), by simp only [List.length_cons, List.length_nil, List.map_nil, List.sum_nil]; omega⟩
        exact ⟨fun _ => Q, Q.le (by omega), fun _ => ⟨[], [], [nwT t E e b], [], cz, nt _ _, fun _ => Or.inr (Or.inl List.mem_cons_self), fun z hz => (by cases hz), by simp only [List.length_cons, List.length_nil, List.map_nil, List.sum_nil]; omega⟩⟩
      · have l1 := ch_1 ho k14 hc
        have h3 : 3 ≤ szT b := by
          rcases Nat.lt_or_ge (lf b) 2 with w | w
          · have e1 : lf b = 1 := by omega
            have i2 : 2 ≤ (iL b).length := by
              rcases Nat.lt_or_ge (iL b).length 2 with q | q
              · exact absurd ⟨e1, by omega⟩ hz
              · exact q
            omega
          · omega
        have hsz : M * 3 ≤ M * szT b := Nat.mul_le_mul_left M h3
        have cc := (cov_cl (χ := True) (Sh := Sh) ht hE ho (by omega) k14 trivial hlo).b
        have Q : TopV M K Sh t E e b 6 := ⟨[nwT t E e b], [], [], [], cc, nt _ _, fun z hz => (by cases hz), by simp only [List.length_cons, List.length_nil, List.map_nil, List.sum_nil]; omega⟩
        exact ⟨fun _ => Q, Q.le (by omega), fun _ => ⟨[nwT t E e b, notT (nwT t E e b)], [], [], [], cc.mono (fun s hs => by rw [List.mem_singleton.mp hs]; exact List.mem_cons_self) (fun _ h => h) (fun _ h => h) ZxP.nil ZaQ.nil, nt _ _, fun _ => Or.inl (by simp), fun z hz => (by cases hz), by simp only [List.length_cons, List.length_nil, List.map_nil, List.sum_nil]; omega⟩⟩
    by_cases k16 : kd b = 16
    · obtain ⟨f, hp, ff, kf, mf⟩ := ps_not1 ho k16
      have of := ho.c mf
      have f0 := okT_0 of
      have fb : fms b = [f] := by
        unfold fms
        rw [if_neg (by omega), hp]
        simp [f0]
      have fn : fms (nwT t E e b) = [nwT t E e f] := by
        unfold nwT
        rw [fms_sbn (gv_0 (clE1.c ht hE)) hk (by omega), fb]; rfl
      have on := okT_nw ht hE (e := e) ho
      have lf0 : loT (nwT t E e f) = 0 := by
        have := lo_part on.n (by omega) (c := nwT t E e f) (by rw [fn]; exact List.mem_cons_self)
        omega
      obtain ⟨L, Zx, Za, Zu, c1, c2, c4, c3⟩ := (ih f (fms_lt mf) of ff (hA.sub (sub_c mf (sub_rf f))) lf0).1 kf
      have hs1 : szT b = 1 + szT f := by rw [sz_pl b0 (by omega), hp]; simp
      have cb := CovB.node (L := L ++ Zu.flatMap (unL t E)) (Zx := Zx) (Za := Za) ht hE hk (by omega) (fun p hp' => by rw [fb, List.mem_singleton] at hp'; rw [hp']; exact c1) c1.2.1 c1.2.2
      have nb : NtC t E e b (nwT t E e b :: L) Za := fun s p hs k17 hps k16' => by
        rw [subN_eq] at hs
        rcases hs with q | ⟨_, c, hc', q⟩
        · rw [q, kn] at k17; omega
        · rw [fn, List.mem_singleton] at hc'
          rw [hc'] at q
          exact (c2 s p q k17 hps k16').imp (List.mem_cons_of_mem _) id
      have zb : ∀ z ∈ Zu, z ∈ cdT M b e := fun z hz => (cd_pl (Or.inl k16)).mpr ⟨f, by rw [hp]; simp, c4 z hz⟩
      have hl : (M + 2) * (nwT t E e b :: L).length + K * Za.length + M * Zx.length + (Zu.map (cst M)).sum + 4 ≤ M * szT b := by
        rw [List.length_cons, hs1]
        simp only [Nat.mul_add, Nat.mul_one]
        omega
      exact ⟨fun q => absurd k16 q, ⟨nwT t E e b :: L, Zx, Za, Zu, cb, nb, zb, hl⟩, fun _ => ⟨nwT t E e b :: L, Zx, Za, Zu, cb, nb, fun q => absurd k16 q, zb, hl⟩⟩
    by_cases k17 : kd b = 17
    · have hl : 2 ≤ (ps b).length ∧ ∀ f ∈ ps b, isFo f ∧ kd f ≠ 17 := by
        rcases ho.n.2 with q | q | q | q | q | q | q | q | q | q | q | q | q | q <;> first | omega | exact ⟨q.2.2.1, fun p hp => ⟨(q.2.2.2 p hp).1, (q.2.2.2 p hp).2.1⟩⟩
      have mf : ∀ p ∈ ps b, p ∈ fms b := fun p hp => fms_mem hp (by omega) (isFo_pos (hl.2 p hp).1)
      have on := okT_nw ht hE (e := e) ho
      have pn : ps (nwT t E e b) = (ps b).map (nwT t E e) := ps_map (Or.inr k17) (fun c hc => isFo_pos (hl.2 c hc).1)
      have fn : fms (nwT t E e b) = (fms b).map (nwT t E e) := fms_sbn (gv_0 (clE1.c ht hE)) hk (by omega)
      obtain ⟨L, Zx, Za, Zu, a1, ⟨a2, a3⟩, a5, a4⟩ := topu_li (M := M) (K := K) (Sh := Sh) (t := t) (E := E) (e := e) (l := ps b) (fun p hp => by
        have lp : loT (nwT t E e p) = 0 := by
          have := lo_part on.n (by omega) (c := nwT t E e p) (by rw [fn]; exact List.mem_map.mpr ⟨p, mf p hp, rfl⟩)
          omega
        exact (ih p (fms_lt (mf p hp)) (ho.c (mf p hp)) (hl.2 p hp).1 (hA.sub (sub_c (mf p hp) (sub_rf p))) lp).2.2 (hl.2 p hp).2)
      have Q : TopV M K Sh t E e b 6 := by
        refine ⟨nwT t E e b :: L, Zx, Za, Zu, CovB.node ht hE hk (by omega) (fun p hp => (a1 p (fms_ps hp).1).1) a2 a3, fun s p hs k17' hps k16' => ?_, fun z hz => (cd_pl (Or.inr k17)).mpr (a5 z hz), ?_⟩
        · rw [subN_eq] at hs
          rcases hs with q | ⟨_, c, hc', q⟩
          · rw [q, pn] at hps
            obtain ⟨p0, hp0, e1⟩ := List.mem_map.mp hps
            have kp : kd (nwT t E e p0) = kd p0 := kd_nw ht hE (by have := (hl.2 p0 hp0).1; unfold isFo at this; omega)
            rw [← e1] at k16' ⊢
            rw [kp] at k16'
            exact ((a1 p0 hp0).2.2 k16').imp (List.mem_cons_of_mem _) id
          · rw [fn] at hc'
            obtain ⟨p0, hp0, e1⟩ := List.mem_map.mp hc'
            rw [← e1] at q
            exact ((a1 p0 (fms_ps hp0).1).2.1 s p q k17' hps k16').imp (List.mem_cons_of_mem _) id
        · rw [List.length_cons, sz_pl b0 (by omega)]
          simp only [Nat.mul_add, Nat.mul_one]
          have : 4 * 2 ≤ 4 * (ps b).length := Nat.mul_le_mul_left 4 hl.1
          omega
      exact ⟨fun _ => Q, Q.le (by omega), fun q => absurd k17 q⟩
    · have k18 : kd b = 18 := by unfold isFo at hf; omega
      obtain ⟨y, f, hp, y8, ff, my, mf⟩ := ps_all1 ho k18
      have oy := ho.c my
      have of := ho.c mf
      have nt : ∀ L Za, NtC t E e b L Za := fun L Za s p hs k17' => by
        rw [subN_eq] at hs
        rcases hs with q | q
        · rw [q, kn] at k17'; omega
        · exact absurd (by rw [kn]; exact k18) q.1
      have hsz : szT b = 1 + (szT y + szT f) := by rw [sz_pl b0 (by omega), hp]; simp
      have sy := sz_fms (okT_0 oy)
      have sf := sz_fms (okT_0 of)
      by_cases hc : nwT t E e b = odT E e b
      · have h3 : M * 3 ≤ M * szT b := Nat.mul_le_mul_left M (by omega)
        have Q : TopV M K Sh t E e b 6 := ⟨[], [], [], [], CovB.old hc, nt _ _, fun z hz => (by cases hz), by simp only [List.length_nil, List.map_nil, List.sum_nil]; omega⟩
        exact ⟨fun _ => Q, Q.le (by omega), fun _ => ⟨[notT (nwT t E e b)], [], [], [], (CovB.old hc).mono (fun s hs => by cases hs) (fun s hs => by cases hs) (fun s hs => by cases hs) ZxP.nil ZaQ.nil, nt _ _, fun _ => Or.inl List.mem_cons_self, fun z hz => (by cases hz), by simp only [List.length_cons, List.length_nil, List.map_nil, List.sum_nil]; omega⟩⟩
      · obtain ⟨-, pn⟩ := fms_all (d := e) (gv_0 (clE1.c ht hE)) k18 hp (okT_0 oy) (okT_0 of)
        have pn : ps (nwT t E e b) = [nwT t E e y, nwT t E (e + 1) f] := pn
        have ly : loT (nwT t E e y) = 0 := by have := lo_ally (by rw [kn]; exact k18) pn; omega
        obtain ⟨Ly, Xy, y1, y2⟩ := tycu ht hE hM oy y8 (hA.sub (sub_c my (sub_rf y))) ly
        have B : FqU M K True Sh t E (e + 1) f 8 := by
          by_cases hcf : nwT t E (e + 1) f = odT E (e + 1) f
          · exact FqU.old hcf (okT_0 of) (by omega)
          · exact (covu_fo ht hE hM hK f of ff (hA.sub (sub_c mf (sub_rf f))) (e + 1) hcf).2
        obtain ⟨Lf, Xf, Zf, Uf, f1, f3, f2⟩ := B
        have cb0 := CovB.all ht hE k18 hp (okT_0 oy) (okT_0 of) y1 f1
        have cb : CovB True Sh t E e b ((nwT t E e b :: (Ly ++ Lf)) ++ Uf.flatMap (unL t E)) (Xy ++ Xf) Zf := cb0.mono (fun s hs => by
          rcases List.mem_cons.mp hs with q | q
          · rw [q]; exact List.mem_append_left _ List.mem_cons_self
          · rcases List.mem_append.mp q with w | w
            · exact List.mem_append_left _ (List.mem_cons_of_mem _ (List.mem_append_left _ w))
            · rcases List.mem_append.mp w with v | v
              · exact List.mem_append_left _ (List.mem_cons_of_mem _ (List.mem_append_right _ v))
              · exact List.mem_append_right _ v) (fun _ h => h) (fun _ h => h) cb0.2.1 cb0.2.2
        have zb : ∀ z ∈ Uf, z ∈ cdT M b e := fun z hz => (cd_all k18 hp).mpr (Or.inr (f3 z hz))
        have Q : TopV M K Sh t E e b 6 := by
          refine ⟨nwT t E e b :: (Ly ++ Lf), Xy ++ Xf, Zf, Uf, cb, nt _ _, zb, ?_⟩
          rw [hsz]
          simp only [List.length_append, List.length_cons, Nat.mul_add, Nat.mul_one]
          omega
        refine ⟨fun _ => Q, Q.le (by omega), fun _ => ⟨notT (nwT t E e b) :: (nwT t E e b :: (Ly ++ Lf)), Xy ++ Xf, Zf, Uf, cb.mono (fun s hs => List.mem_cons_of_mem _ hs) (fun _ h => h) (fun _ h => h) cb.2.1 cb.2.2, nt _ _, fun _ => Or.inl List.mem_cons_self, zb, ?_⟩⟩
        rw [hsz]
        simp only [List.length_append, List.length_cons, Nat.mul_add, Nat.mul_one]
        omega
end CNX
