theorem nd_part {ν : Nat → Nat} {c : Nat} {u : Sg} (hs : SC ν c u) {k w i p : Nat} {L : List Nat} (h : ndC ν u (mk k w L)) (h8 : k ≠ 8 ∨ i = 0) (hi : L[i]? = some p) (p0 : p ≠ 0) : ndC ν u p := by
  obtain ⟨z, z0, hz, ez⟩ := h
  have hp := partC hs z0 hz (i := i) (t := p) (by rw [ez, ps_mk]; exact hi)
  rw [ez, kd_mk] at hp
  obtain ⟨q1, q2⟩ := hp.2.1 h8
  refine ⟨(pt u z i).toNat, Nat.pos_of_ne_zero (fun q => p0 ?_), by omega, q2⟩
  rw [← q2, q]; rfl
theorem tm_bd_ex : ∀ (t : Nat), okT t → (isTm t ∨ kd t = 8) → 0 < loT t → ∃ s, subT s t ∧ kd s = 2 ∧ wh s + 1 = loT t := by
  intro t
  induction t using Nat.strongRecOn with
  | ind t ih =>
    intro ho ht h0
    by_cases h2 : kd t = 2
    · refine ⟨t, sub_rf t, h2, ?_⟩
      rw [loT_eq]; unfold loS; rw [if_pos h2]
    · have key : ∃ c ∈ fms t, loT c = loT t := by
        have e : loT t = loS loT t := loT_eq t
        unfold loS loX at e
        rw [if_neg h2] at e
        have mx : ∀ (l : List Nat) (a : Nat), (l.map loT).foldl max a = a ∨ ∃ c ∈ l, (l.map loT).foldl max a = loT c := by
          intro l
          induction l with
          | nil => intro a; exact Or.inl rfl
          | cons b l ihl =>
            intro a
            rw [List.map_cons, List.foldl_cons]
            rcases ihl (max a (loT b)) with q | ⟨c, c1, c2⟩
            · rw [q]
              by_cases z : loT b ≤ a
              · exact Or.inl (by omega)
              · exact Or.inr ⟨b, List.mem_cons_self, by omega⟩
            · exact Or.inr ⟨c, List.mem_cons_of_mem _ c1, c2⟩
        by_cases h8 : kd t = 8
        · rw [if_pos h8] at e
          rcases mx ((ps t).take 1) 0 with q | ⟨c, c1, c2⟩
          · omega
          · refine ⟨c, ?_, by omega⟩
            unfold fms
            rw [if_pos h8]
            refine List.mem_filter.mpr ⟨c1, ?_⟩
            have : c ≠ 0 := fun q => by rw [q, loT0] at c2; omega
            simpa using this
        · have h18 : kd t ≠ 18 := by unfold isTm at ht; omega
          rw [if_neg h8, if_neg h18] at e
          rcases mx (ps t) 0 with q | ⟨c, c1, c2⟩
          · omega
          · exact ⟨c, fms_mem c1 h8 (fun q => by rw [q, loT0] at c2; omega), by omega⟩
      obtain ⟨c, c1, c2⟩ := key
      obtain ⟨s, s1, s2, s3⟩ := ih c (fms_lt c1) (ho.c c1) (tt_part ho ht c1) (by omega)
      exact ⟨s, sub_c c1 s1, s2, by omega⟩
def Dpl : Nat := 2 ^ 11 + 2 ^ 12 + 2 ^ 58 + 2 ^ 59
/-- only the row above and the two marks have changed -/
def PlS (ν : Nat → Nat) (c : Nat) (u u' : Sg) : Prop := SC ν c u' ∧ EqS u u' ∧ (∀ i, i < rC u → gN u' 11 i = gN u 11 i) ∧ WF FC u' ∧ Gr FC Dpl u u'
theorem PlS.rf {ν : Nat → Nat} {c : Nat} {u : Sg} (hs : SC ν c u) (hw : WF FC u) : PlS ν c u u := ⟨hs, EqS.rf, fun _ _ => rfl, hw, Gr.rf⟩
theorem PlS.tr {ν : Nat → Nat} {c : Nat} {u u1 u2 : Sg} (h : PlS ν c u u1) (h' : PlS ν c u1 u2) (hr : rC u ≤ rC u1) : PlS ν c u u2 :=
  ⟨h'.1, h.2.1.trn h'.2.1, fun i hi => by rw [h'.2.2.1 i (by omega), h.2.2.1 i hi], h'.2.2.2.1, h.2.2.2.2.tr h'.2.2.2.2⟩
def Flg (u u' : Sg) (F M : Prop) : Prop := ((F → gI u' 58 = 1) ∧ (¬ F → gI u' 58 = gI u 58)) ∧ (M → gI u' 59 = 1) ∧ (¬ M → gI u' 59 = gI u 59)
theorem Flg.rf {u u' : Sg} {F M : Prop} (h1 : gI u' 58 = gI u 58) (h2 : gI u' 59 = gI u 59) (hF : ¬ F) (hM : ¬ M) : Flg u u' F M := ⟨⟨fun q => absurd q hF, fun _ => h1⟩, fun q => absurd q hM, fun _ => h2⟩
theorem Flg.seq {u u1 u2 : Sg} {F M F' M' : Prop} (h : Flg u u1 F M) (h' : Flg u1 u2 F' M') : Flg u u2 (F ∨ F') (M ∨ M') := by
  refine ⟨⟨fun q => ?_, fun q => ?_⟩, fun q => ?_, fun q => ?_⟩
  · by_cases z : F'
    · exact h'.1.1 z
    · rw [h'.1.2 z]; exact h.1.1 (q.resolve_right z)
  · rw [h'.1.2 (fun z => q (Or.inr z))]; exact h.1.2 (fun z => q (Or.inl z))
  · by_cases z : M'
    · exact h'.2.1 z
    · rw [h'.2.2 z]; exact h.2.1 (q.resolve_right z)
  · rw [h'.2.2 (fun z => q (Or.inr z))]; exact h.2.2 (fun z => q (Or.inl z))
theorem Flg.iff {u u' : Sg} {F M F' M' : Prop} (h : Flg u u' F M) (hF : F ↔ F') (hM : M ↔ M') : Flg u u' F' M' :=
  ⟨⟨fun q => h.1.1 (hF.mpr q), fun q => h.1.2 (fun z => q (hF.mp z))⟩, fun q => h.2.1 (hM.mpr q), fun q => h.2.2 (fun z => q (hM.mp z))⟩
def atI (H : List Nat) (ts : Nat) (s e : Nat) : Prop := sbT (putg ts) e s ∈ H
def PlV (ν : Nat → Nat) (u : Sg) (ts t e z : Nat) : Prop := (isTm t ∧ onlyB t e → z < nC u ∧ ((z = 0 ∧ ¬ ndC ν u (sbT (putg ts) e t)) ∨ (0 < z ∧ trC ν u z = sbT (putg ts) e t))) ∧ (¬ (isTm t ∧ onlyB t e) → z = 0)
def PlSp (ν : Nat → Nat) (c : Nat) (H : List Nat) (p : Nat → Nat) (s ts t : Nat) : Prop := ∀ (d : Nat) (u : Sg) (x e : Nat), 14 + htQ t ≤ d → WF FC u → SC ν c u → HaC ν u H p → 0 < s → s < nC u → trC ν u s = ts → 0 < x → x < nC u → trC ν u x = t → nC u ≤ 90000 → rC u + szQ t ≤ 29000 → e + htQ t ≤ 100000 → wp (runC d 74 [(x : Int), (s : Int), (e : Int)] u) (fun r u' => PlS ν c u u' ∧ rC u' = rC u ∧ Flg u u' (exW (atI H ts) t e) (exW (fun s e => ¬ atI H ts s e) t e) ∧ ∃ z : Nat, r = (z : Int) ∧ PlV ν u ts t e z)
theorem HaC.pl {ν : Nat → Nat} {c : Nat} {H : List Nat} {p : Nat → Nat} {u u' : Sg} (h : HaC ν u H p) (hs : SC ν c u) (hp : PlS ν c u u') : HaC ν u' H p :=
  h.up hs (Ux.eqs (X := fun _ => False) hp.2.1 hp.1) hp.2.2.2.2 (fun k a b => by
    have : Nat.testBit Dpl k = false := (by decide +kernel : ∀ k, k ≤ 43 → 36 ≤ k → Nat.testBit Dpl k = false) k (by omega) (by omega)
    exact this)
def PlM (ν : Nat → Nat) (c : Nat) (H : List Nat) (ts t e wl i th : Nat) (u0 u1 : Sg) : Prop := PlS ν c u0 u1 ∧ rC u1 = rC u0 + i ∧ Flg u0 u1 (∃ j p, j < i ∧ (ps t)[j]? = some p ∧ p ≠ 0 ∧ exW (atI H ts) p (dpT t e j)) (∃ j p, j < i ∧ (ps t)[j]? = some p ∧ p ≠ 0 ∧ exW (fun s e => ¬ atI H ts s e) p (dpT t e j)) ∧ (wl = 1 → (th = 1 ∧ RowE ν u1 (rC u0) 4 (((ps t).take i).map (sbT (putg ts) e))) ∨ (th = 0 ∧ ∃ j p, j < i ∧ (ps t)[j]? = some p ∧ p ≠ 0 ∧ ¬ ndC ν u0 (sbT (putg ts) e p)))
theorem placed_L290 {ν : Nat → Nat} {c : Nat} {H : List Nat} {p : Nat → Nat} {s ts t e wl lim x d : Nat} {u0 : Sg} {Q : Int → Sg → Prop} (ho : okT t) (hd : 13 + htQ t ≤ d) (he : e < loT t) (hs0 : SC ν c u0) (hH0 : HaC ν u0 H p) (ih : ∀ c1 ∈ fms t, PlSp ν c H p s ts c1) (s0 : 0 < s) (hsn : s < nC u0) (ets : trC ν u0 s = ts) (x0 : 0 < x) (hx : x < nC u0) (et : trC ν u0 x = t) (hn9 : nC u0 ≤ 90000) (hr : rC u0 + szQ t ≤ 29000) (hee : e + htQ t ≤ 100000) (hl : lim ≤ (ps t).length) (hl8 : kd t = 8 → lim ≤ 1) (hwl : wl = 1 → kd t = 4 ∧ onlyB t e) : ∀ (m i f th : Nat) (u1 : Sg), i + m = lim → m < f → PlM ν c H ts t e wl i th u0 u1 → ∀ xx : Int → Int → Int → Int → Int → Sg → Option (Int × Sg), (∀ (u2 : Sg) (th2 : Nat), PlM ν c H ts t e wl lim th2 u0 u2 → wp (xx (x : Int) (kd t : Int) (wl : Int) ((rC u0 : Nat) : Int) (th2 : Int) u2) Q) → wp (bX1_placed_L290 (runC d) f (x : Int) (s : Int) (e : Int) (kd t : Int) (wl : Int) ((rC u0 : Nat) : Int) (lim : Int) (th : Int) (i : Int) u1 xx) Q := by
  intro m
  induction m with
  | zero =>
    intro i f th u1 hi hf hM xx k
    obtain ⟨f, rfl⟩ : ∃ f', f = f' + 1 := ⟨f - 1, by omega⟩
    rw [bX1_placed_L290, if_neg (by omega)]
    rw [show i = lim by omega] at hM
    exact k u1 th hM
  | succ m ihm =>
    intro i f th u1 hi hf hM xx k
    obtain ⟨f, rfl⟩ : ∃ f', f = f' + 1 := ⟨f - 1, by omega⟩
    obtain ⟨m1, m2, m3, m4⟩ := hM
    have hs1 := m1.1
    have e1 := m1.2.1
    have t0 : t ≠ 0 := fun q => by rw [q, loT0] at he; omega
    have hms := (Ms_Q t ho t0).2 e (fun _ => by omega)
    have hil : i < (ps t).length := by omega
    have hgi := pa_get hil
    have h8 : kd t ≠ 8 ∨ i = 0 := by
      by_cases q : kd t = 8
      · have := hl8 q; exact Or.inr (by omega)
      · exact Or.inl q
    have et1 : trC ν u1 x = t := by rw [e1.tr]; exact et
    have hn1 : nC u1 = nC u0 := e1.n
    have hlen := hms.1
    obtain ⟨y, y1, y2, y3⟩ := partN (d := d) (by omega) hs1 x0 (by omega : x < nC u1) (by rw [et1]; exact hil) (by rw [et1]; exact h8)
    rw [et1] at y3
    rw [bX1_placed_L290, if_pos (by omega)]
    -- what comes to the row
    refine wp_jnG (fun j => ∀ (z : Nat) (u2 : Sg), z < 100000 → PlS ν c u1 u2 → rC u2 = rC u1 → Flg u1 u2 (pa t i ≠ 0 ∧ exW (atI H ts) (pa t i) (dpT t e i)) (pa t i ≠ 0 ∧ exW (fun s e => ¬ atI H ts s e) (pa t i) (dpT t e i)) → (wl = 1 → pa t i ≠ 0 ∧ z < nC u1 ∧ ((z = 0 ∧ ¬ ndC ν u1 (sbT (putg ts) e (pa t i))) ∨ (0 < z ∧ trC ν u1 z = sbT (putg ts) e (pa t i)))) → wp (j (x : Int) (s : Int) (e : Int) (kd t : Int) (wl : Int) ((rC u0 : Nat) : Int) (lim : Int) (th : Int) (i : Int) (z : Int) u2) Q) (fun z u2 hz p1 p2 p3 p4 => ?_) (fun j1 hj1 => ?_)
    · have nxt : ∀ th2 : Nat, (wl = 1 → (th2 = 1 ∧ th = 1 ∧ 0 < z) ∨ (th2 = 0 ∧ (th = 0 ∨ z = 0))) → wp (cl (runC d 97 [(z : Int)] u2) fun v5 s6 => ar ((i : Int) + 1) fun v7 => bX1_placed_L290 (runC d) f (x : Int) (s : Int) (e : Int) (kd t : Int) (wl : Int) ((rC u0 : Nat) : Int) (lim : Int) (th2 : Int) v7 s6 xx) Q := fun th2 hth => by
        refine wp_call (tX2_push (by omega) p1.2.2.2.1 p1.1 ⟨by omega, by omega⟩ (by omega)) (fun r u3 ⟨a1, a2, a3, a4, a5, a6, a7⟩ => ?_)
        rw [wp_ar]
        refine ⟨⟨by omega, by omega⟩, ?_⟩
        rw [show (i : Int) + 1 = ((i + 1 : Nat) : Int) by omega]
        have e2 := p1.2.1
        have g3 : PlS ν c u2 u3 := ⟨a1, a2, a4, a6, a7.sub (by decide +kernel)⟩
        have g13 : PlS ν c u1 u3 := p1.tr g3 (by omega)
        have hfl : Flg u2 u3 False False := Flg.rf (a7.I 58 (by decide +kernel)) (a7.I 59 (by decide +kernel)) id id
        refine ihm (i + 1) f th2 u3 (by omega) (by omega) ⟨m1.tr g13 (by omega), by omega, ((m3.seq p3).seq hfl).iff ?_ ?_, fun hw1 => ?_⟩ xx k
        · constructor
          · rintro ((⟨j, q, q1, q2, q3, q4⟩ | ⟨q1, q2⟩) | q)
            · exact ⟨j, q, by omega, q2, q3, q4⟩
            · exact ⟨i, pa t i, by omega, hgi, q1, q2⟩
            · cases q
          · rintro ⟨j, q, q1, q2, q3, q4⟩
            by_cases hji : j = i
            · rw [hji] at q2 q4
              rw [hgi] at q2
              have e := Option.some.inj q2
              rw [← e] at q3 q4
              exact Or.inl (Or.inr ⟨q3, q4⟩)
            · exact Or.inl (Or.inl ⟨j, q, by omega, q2, q3, q4⟩)
        · constructor
          · rintro ((⟨j, q, q1, q2, q3, q4⟩ | ⟨q1, q2⟩) | q)
            · exact ⟨j, q, by omega, q2, q3, q4⟩
            · exact ⟨i, pa t i, by omega, hgi, q1, q2⟩
            · cases q
          · rintro ⟨j, q, q1, q2, q3, q4⟩
            by_cases hji : j = i
            · rw [hji] at q2 q4
              rw [hgi] at q2
              have e := Option.some.inj q2
              rw [← e] at q3 q4
              exact Or.inl (Or.inr ⟨q3, q4⟩)
            · exact Or.inl (Or.inl ⟨j, q, by omega, q2, q3, q4⟩)
        · obtain ⟨r0, r1, r2⟩ := p4 hw1
          rcases hth hw1 with ⟨b1, b2, b3⟩ | ⟨b1, b2⟩
          · refine Or.inl ⟨b1, ?_⟩
            have hz2 := r2.resolve_left (fun q => by omega)
            have hE := (m4 hw1).resolve_right (fun q => by omega)
            have hE2 : RowE ν u2 (rC u0) 4 (((ps t).take i).map (sbT (putg ts) e)) := by
              refine ⟨by rw [p2]; exact hE.2.1, fun j q hq => ?_⟩
              have hjl := (List.getElem?_eq_some_iff.mp hq).1
              obtain ⟨w, w1, w2, w3⟩ := hE.2.2 j q hq
              have hrr := hE.2.1
              exact ⟨w, by rw [p1.2.2.1 _ (by omega)]; exact w1, w2, fun z => ⟨by rw [e2.n]; exact (w3 z).1, by rw [e2.tr]; exact (w3 z).2⟩⟩
            have := hE2.push a2 a3 a4 (t := sbT (putg ts) e (pa t i)) (y := z) (by rw [a5]) (fun q => by omega) (fun _ => ⟨by rw [e2.n]; exact r1, by rw [e2.tr]; exact hz2.2⟩)
            rw [List.take_add_one, hgi, List.map_append]
            exact this
          · refine Or.inr ⟨b1, ?_⟩
            by_cases hth0 : th = 0
            · obtain ⟨_, j, q, q1, q2⟩ := (m4 hw1).resolve_left (fun q => by omega)
              exact ⟨j, q, by omega, q2⟩
            · have hz0 : z = 0 := b2.resolve_left hth0
              have := (r2.resolve_right (fun q => by omega)).2
              exact ⟨i, pa t i, by omega, hgi, r0, fun q => this ((e1.nd _).mpr q)⟩
      show wp (jn _ _) Q
      rw [wp_jn]
      refine wp_ite (fun h0 => ?_) (fun h0 => ?_)
      · exact nxt 0 (fun _ => Or.inr ⟨rfl, Or.inr (by omega)⟩)
      · refine nxt th (fun hw1 => ?_)
        rcases m4 hw1 with ⟨q, _⟩ | ⟨q, _⟩
        · exact Or.inl ⟨q, q, by omega⟩
        · exact Or.inr ⟨q, Or.inl q⟩
    · refine wp_eq y1 ?_
      refine wp_ite (fun hy0 => ?_) (fun hy0 => ?_)
      · have hp0 : pa t i = 0 := by rw [← y3, show y = 0 by omega]; rfl
        refine hj1 0 u1 (by omega) (PlS.rf hs1 m1.2.2.2.1) rfl (Flg.rf rfl rfl (fun q => q.1 hp0) (fun q => q.1 hp0)) (fun hw1 => ?_)
        have := (hwl hw1).1
        rcases ho.n.2 with z | z | z | z | z | z | z | z | z | z | z | z | z | z <;> try omega
        have := z.2.2 (pa t i) (List.mem_of_getElem? hgi)
        exact absurd hp0 (isTm_pos this)
      · have hp0 : pa t i ≠ 0 := fun q => by
          have := tr_pos (okp_C (ν := ν) hs1.1) (x := y) (by omega) (by show y ≤ nC u1 - 1; omega)
          rw [show tr (stC ν u1) y = trC ν u1 y from rfl, y3, q] at this
          omega
        have hfm : pa t i ∈ fms t := fms_at.mpr ⟨i, h8, hgi, hp0⟩
        have hmc := hms.2.1 _ hfm
        have hat := hms.2.2 i _ hgi hp0 h8
        -- one part
        have part : ∀ e' : Nat, e' = dpT t e i → wp (cl (runC d 74 [(y : Int), (s : Int), (e' : Int)] u1) fun v12 s13 => j1 (x : Int) (s : Int) (e : Int) (kd t : Int) (wl : Int) ((rC u0 : Nat) : Int) (lim : Int) (th : Int) (i : Int) v12 s13) Q := fun e' he' => by
          have hde : dpT t e i ≤ e + 1 := by unfold dpT; split <;> omega
          refine wp_call (ih _ hfm d u1 y e' (by omega) m1.2.2.2.1 hs1 (hH0.pl hs0 m1) s0 (by omega) (by rw [e1.tr]; exact ets) (by omega) (by omega) y3 (by omega) (by omega) (by omega)) (fun r u2 ⟨q1, q2, q3, z, q4, q5⟩ => ?_)
          rw [q4]
          rw [he'] at q3 q5
          have hz9 : z < 100000 := by
            by_cases q : isTm (pa t i) ∧ onlyB (pa t i) (dpT t e i)
            · have := (q5.1 q).1; omega
            · have := q5.2 q; omega
          refine hj1 z u2 hz9 q1 q2 (q3.iff ⟨fun q => ⟨hp0, q⟩, fun q => q.2⟩ ⟨fun q => ⟨hp0, q⟩, fun q => q.2⟩) (fun hw1 => ?_)
          obtain ⟨k4, kb⟩ := hwl hw1
          have hde2 : dpT t e i = e := by unfold dpT; rw [if_neg (by omega)]
          rw [hde2] at q5
          have htm : isTm (pa t i) := by
            rcases ho.n.2 with z | z | z | z | z | z | z | z | z | z | z | z | z | z <;> try omega
            exact z.2.2 (pa t i) (List.mem_of_getElem? hgi)
          obtain ⟨b1, b2⟩ := q5.1 ⟨htm, (onlyB_eq (by omega)).mp kb _ hfm⟩
          exact ⟨hp0, b1, b2⟩
        rw [wp_jn, wp_jn]
        refine wp_ite (fun h18 => ?_) (fun h18 => ?_)
        · refine wp_ite (fun hi1 => ?_) (fun hi1 => ?_)
          · rw [wp_ar]
            refine ⟨⟨by omega, by omega⟩, ?_⟩
            rw [show (e : Int) + 1 = ((e + 1 : Nat) : Int) by omega]
            exact part (e + 1) (by unfold dpT; rw [if_pos ⟨by omega, by omega⟩])
          · have hi0 : i = 0 := by
              have : (ps t).length = 2 := by
                rcases ho.n.2 with z | z | z | z | z | z | z | z | z | z | z | z | z | z <;> try omega
                obtain ⟨_, _, y, g, e, _⟩ := z
                rw [e]; rfl
              omega
            exact part e (by unfold dpT; rw [if_neg (by omega)])
        · exact part e (by unfold dpT; rw [if_neg (by omega)])
