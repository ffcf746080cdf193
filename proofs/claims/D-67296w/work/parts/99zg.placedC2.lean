theorem PlS.cut {ν : Nat → Nat} {c : Nat} {u u1 : Sg} (hs : SC ν c u) (h : PlS ν c u u1) (hr : rC u ≤ rC u1) : PlS ν c u (sI u1 12 ((rC u : Nat) : Int)) ∧ rC (sI u1 12 ((rC u : Nat) : Int)) = rC u := by
  obtain ⟨h1, h2, h3, h4, h5⟩ := h
  have r1 := h1.r
  have er : rC (sI u1 12 ((rC u : Nat) : Int)) = rC u := by show (gI (sI u1 12 ((rC u : Nat) : Int)) 12).toNat = _; rw [gI_sI, if_pos rfl]; omega
  have e : EqS u1 (sI u1 12 ((rC u : Nat) : Int)) := ⟨fun _ _ => rfl, fun k hk => by rw [gI_sI, if_neg (by omega)]⟩
  have l1 := r1.2.2.2
  refine ⟨⟨e.sc h1 ⟨by rw [gI_sI, if_pos rfl, er], by rw [er, gL_sI]; omega⟩ ⟨r1.2.2.1, r1.2.2.2⟩, h2.trn e, fun i hi => by rw [gN_sI]; exact h3 i hi, wfI h4 rfl ⟨by omega, by omega⟩, h5.tr (Gr_sI (by decide +kernel))⟩, er⟩
theorem Flg.ci {u u' : Sg} {F M : Prop} {v : Int} (h : Flg u u' F M) : Flg u (sI u' 12 v) F M := h
theorem placed_L166 {ν : Nat → Nat} {c : Nat} {d yn yt a' : Nat} {u0 : Sg} {F M : Prop} {Q : Int → Sg → Prop} (hd : 3 ≤ d) (y0 : 0 < yn) (hy : yn < nC u0) (ey : trC ν u0 yn = yt) (h8 : kd yt = 8) (hj : ∀ j ∈ (ps yt).drop 1, j < 1000) (hlen : (ps yt).length ≤ 40) (hr : rC u0 ≤ 29000) : ∀ (m i f : Nat) (u1 : Sg), i + m = (ps yt).length → m < f → 1 ≤ i → PlS ν c u0 u1 → Flg u0 u1 F M → RowE ν u1 (rC u0) 8 (a' :: ((ps yt).take i).drop 1) → ∀ xx : Int → Int → Int → Sg → Option (Int × Sg), (∀ u2 : Sg, PlS ν c u0 u2 → Flg u0 u2 F M → RowE ν u2 (rC u0) 8 (a' :: (ps yt).drop 1) → wp (xx ((rC u0 : Nat) : Int) (yn : Int) 0 u2) Q) → wp (bX1_placed_L166 (runC d) f ((rC u0 : Nat) : Int) (yn : Int) 0 (i : Int) u1 xx) Q := by
  intro m
  induction m with
  | zero =>
    intro i f u1 hi hf h1 hp hF hE xx k
    obtain ⟨f, rfl⟩ : ∃ f', f = f' + 1 := ⟨f - 1, by omega⟩
    have e1 := hp.2.1
    have hn := nodeC hp.1 y0 (by rw [e1.n]; exact hy)
    rw [e1.tr, ey] at hn
    have l3 : gL u1 3 = gL u1 0 := hp.1.1.1.2.2.2.1.2.2.1
    rw [bX1_placed_L166, ld_nat (by omega), hn.2.2.1, if_neg (by omega)]
    refine k u1 hp hF ?_
    rw [List.take_of_length_le (by omega)] at hE
    exact hE
  | succ m ih =>
    intro i f u1 hi hf h1 hp hF hE xx k
    obtain ⟨f, rfl⟩ : ∃ f', f = f' + 1 := ⟨f - 1, by omega⟩
    have e1 := hp.2.1
    have hy1 : yn < nC u1 := by rw [e1.n]; exact hy
    have hn := nodeC hp.1 y0 hy1
    rw [e1.tr, ey] at hn
    have l3 : gL u1 3 = gL u1 0 := hp.1.1.1.2.2.2.1.2.2.1
    have hil : i < (ps yt).length := by omega
    have hgi := pa_get hil
    have hpc := partC hp.1 y0 hy1 (i := i) (t := pa yt i) (by rw [e1.tr, ey]; exact hgi)
    rw [e1.tr, ey] at hpc
    have hpt : pt u1 yn i = ((pa yt i : Nat) : Int) := by have := hpc.2.2 h8 (by omega); omega
    have hjb : pa yt i < 1000 := hj _ (List.mem_of_getElem? (i := i - 1) (by rw [List.getElem?_drop, show 1 + (i - 1) = i by omega]; exact hgi))
    have hE1 := hE.1
    have hlen2 : (a' :: ((ps yt).take i).drop 1).length = i := by rw [List.length_cons, List.length_drop, List.length_take]; omega
    rw [bX1_placed_L166, ld_nat (by omega), hn.2.2.1, if_pos (by omega)]
    refine wp_eq (atC (by omega) hp.1 y0 hy1 (by rw [e1.tr, ey]; exact hil)) ?_
    rw [hpt]
    refine wp_call (tX2_push (by omega) hp.2.2.2.1 hp.1 ⟨by omega, by omega⟩ (by omega)) (fun r u2 ⟨a1, a2, a3, a4, a5, a6, a7⟩ => ?_)
    rw [wp_ar]
    refine ⟨⟨by omega, by omega⟩, ?_⟩
    rw [show (i : Int) + 1 = ((i + 1 : Nat) : Int) by omega]
    have g : PlS ν c u1 u2 := ⟨a1, a2, a4, a6, a7.sub (by decide +kernel)⟩
    refine ih (i + 1) f u2 (by omega) (by omega) (by omega) (hp.tr g (by omega)) ((hF.seq (Flg.rf (F := False) (M := False) (a7.I 58 (by decide +kernel)) (a7.I 59 (by decide +kernel)) id id)).iff (by simp) (by simp)) ?_ xx k
    have := hE.push a2 a3 a4 (t := pa yt i) (y := pa yt i) (by rw [a5]) (fun _ => rfl) (fun q => absurd ⟨rfl, by rw [hlen2]; omega⟩ q)
    rw [List.take_add_one, hgi]
    have hd1 : ((ps yt).take i ++ [pa yt i]).drop 1 = ((ps yt).take i).drop 1 ++ [pa yt i] := by
      rw [List.drop_append_of_le_length (by rw [List.length_take]; omega)]
    rw [show (some (pa yt i)).toList = [pa yt i] from rfl, hd1]
    exact this
theorem sb_the {g : Nat → Nat → Nat} {t y a e : Nat} {js : List Nat} (h5 : kd t = 5) (hw : wh t = 0) (hp : ps t = [y]) (h8 : kd y = 8) (hy : ps y = a :: js) (ha : a ≠ 0) : sbT g e t = mk 5 0 [mk 8 (wh y) (sbT g e a :: js)] := by
  have y0 : y ≠ 0 := fun q => by rw [q, kd0] at h8; omega
  rw [sbT_eq, if_neg (by omega), h5, hw, hp]
  unfold chm
  rw [if_neg (by decide), if_neg (by decide), List.map_cons, List.map_nil]
  unfold zf
  rw [if_neg y0, sbT_eq g e y, if_neg (by omega), h8, hy]
  unfold chm
  rw [if_pos rfl]
  unfold zf
  simp [ha]
theorem sb_fun {g : Nat → Nat → Nat} {t e : Nat} (ho : okT t) (h4 : kd t = 4) : sbT g e t = mk 4 (wh t) ((ps t).map (sbT g e)) := by
  rw [sbT_eq, if_neg (by omega), h4]
  unfold chm
  rw [if_neg (by decide), if_neg (by decide)]
  congr 1
  refine List.map_congr_left (fun q hq => ?_)
  unfold zf
  rw [if_neg]
  rcases ho.n.2 with z | z | z | z | z | z | z | z | z | z | z | z | z | z <;> try omega
  exact isTm_pos (z.2.2 q hq)
theorem exW_lim {A : Nat → Nat → Prop} {t e lim : Nat} (h2 : kd t ≠ 2) (he : e < loT t) (hl8 : kd t = 8 → lim = 1) (hl : kd t ≠ 8 → lim = (ps t).length) : exW A t e ↔ (isTm t ∧ onlyB t e ∧ A t e) ∨ ∃ j p, j < lim ∧ (ps t)[j]? = some p ∧ p ≠ 0 ∧ exW A p (dpT t e j) := by
  rw [exW_eq]
  constructor
  · rintro ⟨_, _, q | ⟨i, p, p1, p2, p3, p4⟩⟩
    · exact Or.inl q
    · refine Or.inr ⟨i, p, ?_, p2, p3, p4⟩
      by_cases h8 : kd t = 8
      · rw [hl8 h8]; have := p1.resolve_left (fun q => q h8); omega
      · rw [hl h8]; exact (List.getElem?_eq_some_iff.mp p2).1
  · rintro (q | ⟨j, p, p1, p2, p3, p4⟩)
    · exact ⟨h2, he, Or.inl q⟩
    · refine ⟨h2, he, Or.inr ⟨j, p, ?_, p2, p3, p4⟩⟩
      by_cases h8 : kd t = 8
      · rw [hl8 h8] at p1; exact Or.inr (by omega)
      · exact Or.inl h8
theorem Flg.up1 (u : Sg) : Flg u (sI u 58 1) True False := ⟨⟨fun _ => rfl, fun q => absurd trivial q⟩, fun q => q.elim, fun _ => rfl⟩
theorem Flg.up2 (u : Sg) : Flg u (sI u 59 1) False True := ⟨⟨fun q => q.elim, fun _ => rfl⟩, fun _ => rfl, fun q => absurd trivial q⟩
theorem PlS.fl {ν : Nat → Nat} {c : Nat} {u u1 : Sg} {k : Nat} (hk : k = 58 ∨ k = 59) (h : PlS ν c u u1) : PlS ν c u (sI u1 k 1) ∧ rC (sI u1 k 1) = rC u1 := by
  have es : EqS u1 (sI u1 k 1) := ⟨fun _ _ => rfl, fun j hj => by rw [gI_sI, if_neg (by omega)]⟩
  have er : rC (sI u1 k 1) = rC u1 := by show (gI (sI u1 k 1) 12).toNat = (gI u1 12).toNat; rw [gI_sI, if_neg (by omega)]
  have r1 := h.1.r
  have hD : Nat.testBit Dpl k = true := by rcases hk with q | q <;> (rw [q]; decide +kernel)
  exact ⟨⟨es.sc h.1 ⟨by rw [er, gI_sI, if_neg (by omega)]; exact r1.1, by rw [er, gL_sI]; exact r1.2.1⟩ ⟨r1.2.2.1, r1.2.2.2⟩, h.2.1.trn es, fun i hi => by rw [gN_sI]; exact h.2.2.1 i hi, h.2.2.2.1.sI ⟨by omega, by omega⟩ (fun _ => Or.inr rfl), h.2.2.2.2.tr (Gr_sI hD)⟩, er⟩
/-- a whole term is counted -/
theorem placed_end {ν : Nat → Nat} {c : Nat} {H : List Nat} {p : Nat → Nat} {ts t e d zz : Nat} {u u2 : Sg} {R : (Nat → Nat → Prop) → Prop} (hd : 4 ≤ d) (hs : SC ν c u) (hH : HaC ν u H p) (htm : isTm t) (hob : onlyB t e) (hex : ∀ A : Nat → Nat → Prop, exW A t e ↔ (isTm t ∧ onlyB t e ∧ A t e) ∨ R A) (g1 : PlS ν c u u2) (g2 : rC u2 = rC u) (g3 : Flg u u2 (R (atI H ts)) (R (fun s e => ¬ atI H ts s e))) (g4 : zz < nC u) (g5 : (zz = 0 ∧ ¬ ndC ν u (sbT (putg ts) e t)) ∨ (0 < zz ∧ trC ν u zz = sbT (putg ts) e t)) : wp (cl (runC d 76 [(zz : Int)] u2) fun v s => some (v, s)) (fun r u' => PlS ν c u u' ∧ rC u' = rC u ∧ Flg u u' (exW (atI H ts) t e) (exW (fun s e => ¬ atI H ts s e) t e) ∧ ∃ z : Nat, r = (z : Int) ∧ PlV ν u ts t e z) := by
  have e2 := g1.2.1
  obtain ⟨d', rfl⟩ : ∃ d', d = d' + 1 := ⟨d - 1, by omega⟩
  refine counted_C (by omega) (hH.pl hs g1) g1.1 (by rw [e2.n]; exact g4) (fun z0 hm => ?_) (fun hm => ?_)
  · rw [wp_some]
    have hz := (g5.resolve_left (fun q => by omega)).2
    rw [e2.tr, hz] at hm
    obtain ⟨f1, f2⟩ := g1.fl (k := 58) (Or.inl rfl)
    refine ⟨f1, by rw [f2]; exact g2, ?_, zz, rfl, fun _ => ⟨g4, g5⟩, fun q => absurd ⟨htm, hob⟩ q⟩
    refine (g3.seq (Flg.up1 u2)).iff ⟨fun _ => (hex _).mpr (Or.inl ⟨htm, hob, hm⟩), fun _ => Or.inr trivial⟩ ?_
    rw [hex]
    exact ⟨fun q => Or.inr (q.resolve_right id), fun q => Or.inl (q.resolve_left (fun z => z.2.2 hm))⟩
  · rw [wp_some]
    have hnm : ¬ atI H ts t e := fun q => by
      obtain ⟨i, hi⟩ := List.getElem?_of_mem q
      obtain ⟨w, w1, w2, w3, w4, _⟩ := hH.2.2.2.1 i _ hi
      rcases g5 with z | z
      · exact z.2 ⟨w, w2, w3, w4⟩
      · rcases hm with y | y
        · omega
        · rw [e2.tr, z.2] at y; exact y q
    obtain ⟨f1, f2⟩ := g1.fl (k := 59) (Or.inr rfl)
    refine ⟨f1, by rw [f2]; exact g2, ?_, zz, rfl, fun _ => ⟨g4, g5⟩, fun q => absurd ⟨htm, hob⟩ q⟩
    refine (g3.seq (Flg.up2 u2)).iff ?_ ⟨fun _ => (hex _).mpr (Or.inl ⟨htm, hob, hnm⟩), fun _ => Or.inr trivial⟩
    rw [hex]
    exact ⟨fun q => Or.inr (q.resolve_right id), fun q => Or.inl (q.resolve_left (fun z => hnm z.2.2))⟩
theorem tX1_placed {ν : Nat → Nat} {c : Nat} {H : List Nat} {p : Nat → Nat} {s ts : Nat} (hots : okT ts) (htts : isTm ts) : ∀ (t : Nat), okT t → PlSp ν c H p s ts t := by
  intro t
  induction t using Nat.strongRecOn with
  | ind t ih =>
    intro ho d u x e hd hw hs hH s0 hsn ets x0 hx et hn9 hr hee
    obtain ⟨d, rfl⟩ : ∃ d', d = d' + 1 := ⟨d - 1, by omega⟩
    rw [runC_eq (by omega)]
    show wp (bX1_placed (runC d) x s e u) _
    unfold bX1_placed
    have hn := nodeC hs x0 hx
    rw [et] at hn
    have hlo := lo_C hs x x0 hx (by rw [et]; exact ho)
    rw [et] at hlo
    obtain ⟨⟨q1, q2, q3⟩, ⟨q4, q5⟩, ⟨q6, q7⟩, ⟨l1, l2, l3, l4, l5, l6⟩, l8, l11, l0, l7⟩ := id hs.1.1
    have t0 : t ≠ 0 := fun q => by
      have := okN_kd ho.n
      rw [q] at this
      unfold isTm isFo at this
      rw [kd0] at this
      omega
    rw [ld_nat (by omega), hn.1]
    by_cases h2 : kd t = 2
    · have nex : ∀ A : Nat → Nat → Prop, ¬ exW A t e := fun A q => by rw [exW_eq] at q; exact q.1 h2
      have hob : onlyB t e ↔ wh t = e := by
        have ps0 : ps t = [] := by
          rcases ho.n.2 with z | z | z | z | z | z | z | z | z | z | z | z | z | z <;> first | omega | exact z.2
        constructor
        · exact fun q => q t (sub_rf t) h2
        · intro q s' hs' _
          rw [subT_eq] at hs'
          rcases hs' with z | ⟨c1, z, _⟩
          · rw [z]; exact q
          · have := (fms_ps z).1
            rw [ps0] at this; cases this
      rw [if_pos (by omega), ld_nat (by omega), hn.2.1 (by omega)]
      by_cases hwe : wh t = e
      · rw [if_pos (by omega), wp_some]
        refine ⟨PlS.rf hs hw, rfl, Flg.rf rfl rfl (nex _) (nex _), s, rfl, fun _ => ⟨hsn, Or.inr ⟨s0, ?_⟩⟩, fun q => absurd ⟨Or.inr (Or.inl h2), hob.mpr hwe⟩ q⟩
        rw [ets, sbT_eq, if_pos (by omega)]
        unfold putg
        rw [if_pos ⟨h2, hwe⟩]
      · rw [if_neg (by omega), wp_some]
        exact ⟨PlS.rf hs hw, rfl, Flg.rf rfl rfl (nex _) (nex _), 0, rfl, fun q => absurd (hob.mp q.2) hwe, fun _ => rfl⟩
    rw [if_neg (by omega), ld_nat (by omega), hlo]
    by_cases hle : loT t ≤ e
    · have nex : ∀ A : Nat → Nat → Prop, ¬ exW A t e := fun A q => by rw [exW_eq] at q; omega
      rw [if_pos (by omega)]
      have hit := rX1_isTerm (d := d - 3) (u := u) (k := kd t)
      rw [show d - 3 + 3 = d by omega] at hit
      rw [wp_jn]
      refine wp_eq hit ?_
      by_cases h5 : kd t ≤ 5
      · rw [if_pos h5, if_neg (by decide), ld_nat (by omega), hlo]
        have htm : isTm t := by
          have := okN_kd ho.n
          unfold isTm isFo at *
          omega
        by_cases hl0 : loT t = 0
        · rw [if_pos (by omega), wp_some]
          refine ⟨PlS.rf hs hw, rfl, Flg.rf rfl rfl (nex _) (nex _), x, rfl, fun _ => ⟨hx, Or.inr ⟨x0, ?_⟩⟩, fun q => absurd ⟨htm, onlyB_cl ho (Or.inl htm) hl0⟩ q⟩
          rw [et, sb_id t ho e (by omega)]
        · rw [if_neg (by omega), wp_some]
          refine ⟨PlS.rf hs hw, rfl, Flg.rf rfl rfl (nex _) (nex _), 0, rfl, fun q => ?_, fun _ => rfl⟩
          obtain ⟨b, b1, b2, b3⟩ := tm_bd_ex t ho (Or.inl htm) (by omega)
          have := q.2 b b1 b2
          omega
      · rw [if_neg h5, if_pos rfl, wp_some]
        exact ⟨PlS.rf hs hw, rfl, Flg.rf rfl rfl (nex _) (nex _), 0, rfl, fun q => by have := q.1; unfold isTm at this; omega, fun _ => rfl⟩
    · have he : e < loT t := by omega
      have hms := (Ms_Q t ho t0).2 e (fun _ => by omega)
      have hpos := (Ms_Q t ho t0).1
      have k13 : kd t ≠ 1 ∧ kd t ≠ 3 := by
        constructor <;> (intro q; have := (lo_leaf ho.n (by omega)).2; omega)
      rw [if_neg (by omega)]
      -- whole or not
      refine wp_jnG (fun j => ∀ wl : Nat, (wl = 1 ∧ isTm t ∧ onlyB t e) ∨ (wl = 0 ∧ ¬ (isTm t ∧ onlyB t e)) → wp (j (x : Int) (s : Int) (e : Int) (kd t : Int) (wl : Int) u) (fun r u' => PlS ν c u u' ∧ rC u' = rC u ∧ Flg u u' (exW (atI H ts) t e) (exW (fun s e => ¬ atI H ts s e) t e) ∧ ∃ z : Nat, r = (z : Int) ∧ PlV ν u ts t e z)) (fun wl hwl => ?_) (fun j9 hj9 => ?_)
      · show wp (un _ _) _
        rw [wp_un, q6]
        by_cases h5 : kd t = 5
        · rw [if_pos (by omega)]
          obtain ⟨y, hwh, hps, hk8⟩ : ∃ y, wh t = 0 ∧ ps t = [y] ∧ kd y = 8 := by
            rcases ho.n.2 with z | z | z | z | z | z | z | z | z | z | z | z | z | z <;> try omega
            obtain ⟨_, z1, y, z2, z3⟩ := z
            exact ⟨y, z1, z2, z3⟩
          have yz : y ≠ 0 := fun q => by rw [q, kd0] at hk8; omega
          have hyf : y ∈ fms t := fms_at.mpr ⟨0, Or.inr rfl, by rw [hps]; rfl, yz⟩
          have hoy := ho.c hyf
          obtain ⟨a, js, hpy, ha, hjl, hjb⟩ : ∃ a js, ps y = a :: js ∧ (a = 0 ∨ isTm a) ∧ js.length ≤ 30 ∧ ∀ j ∈ js, j < 30 := by
            rcases hoy.n.2 with z | z | z | z | z | z | z | z | z | z | z | z | z | z <;> try omega
            exact z.2
          have hly : loT t = loT y := by
            rw [loT_eq t]; unfold loS loX
            rw [if_neg h2, if_neg (by omega), if_neg (by omega), hps]
            show max 0 (loT y) = _
            omega
          have hlya : loT y = loT a := by
            rw [loT_eq y]; unfold loS loX
            rw [if_neg (by omega), if_pos hk8, hpy]
            show max 0 (loT a) = _
            omega
          have a0 : a ≠ 0 := fun q => by rw [q, loT0] at hlya; omega
          have haf : a ∈ fms y := fms_at.mpr ⟨0, Or.inr rfl, by rw [hpy]; rfl, a0⟩
          have htma : isTm a := ha.resolve_left a0
          have hmsy := (Ms_Q y hoy yz).2 e (fun _ => by omega)
          have hay := hmsy.2.1 a haf
          have hyt := hms.2.1 y hyf
          have hlenY := hmsy.1
          obtain ⟨yn, y1, y2, y3⟩ := partN (d := d) (i := 0) (by omega) hs x0 hx (by rw [et, hps]; simp) (Or.inr rfl)
          rw [et, show pa t 0 = y from pa_at (by rw [hps]; rfl)] at y3
          have yn0 : 0 < yn := Nat.pos_of_ne_zero (fun q => yz (by rw [← y3, q]; rfl))
          obtain ⟨an, a1, a2, a3⟩ := rX1_argOf (d := d) (by omega) hs yn0 (by omega) (by rw [y3, hpy]; simp)
          rw [y3, show pa y 0 = a from pa_at (by rw [hpy]; rfl)] at a3
          have an0 : 0 < an := Nat.pos_of_ne_zero (fun q => a0 (by rw [← a3, q]; rfl))
          have hex : ∀ A : Nat → Nat → Prop, exW A t e ↔ (isTm t ∧ onlyB t e ∧ A t e) ∨ exW A a e := fun A => by
            rw [exW_lim (lim := 1) h2 he (fun _ => rfl) (fun _ => by rw [hps]; rfl)]
            refine or_congr Iff.rfl ⟨?_, fun q => ⟨0, y, by omega, by rw [hps]; rfl, yz, ?_⟩⟩
            · rintro ⟨j, p', p1, p2, p3, p4⟩
              have hj0 : j = 0 := by omega
              rw [hj0, hps] at p2
              have ep : y = p' := Option.some.inj p2
              rw [← ep, exW_lim (lim := 1) (by omega) (by unfold dpT; rw [if_neg (by omega)]; omega) (fun _ => rfl) (fun q => absurd hk8 q)] at p4
              rcases p4 with z | ⟨j2, p5, z1, z2, z3, z4⟩
              · have := z.1; unfold isTm at this; omega
              · have hj2 : j2 = 0 := by omega
                rw [hj2, hpy] at z2
                have ep2 : a = p5 := Option.some.inj z2
                rw [← ep2] at z4
                unfold dpT at z4
                rw [if_neg (by omega), if_neg (by omega)] at z4
                exact z4
            · rw [exW_lim (lim := 1) (by omega) (by unfold dpT; rw [if_neg (by omega)]; omega) (fun _ => rfl) (fun q => absurd hk8 q)]
              refine Or.inr ⟨0, a, by omega, by rw [hpy]; rfl, a0, ?_⟩
              unfold dpT
              rw [if_neg (by omega), if_neg (by omega)]
              exact q
          refine wp_eq y1 (wp_eq a1 ?_)
          refine wp_call (ih a (by have := fms_lt haf; have := fms_lt hyf; omega) (hoy.c haf) d u an e (by omega) hw hs hH s0 hsn ets an0 (by omega) a3 hn9 (by omega) (by omega)) (fun r u1 ⟨p1, p2, p3, z, p4, p5⟩ => ?_)
          rw [p4]
          have e1 := p1.2.1
          rcases hwl with ⟨w1, w2, w3⟩ | ⟨w1, w2⟩
          · rw [w1, if_neg (by decide)]
            have hoa : onlyB a e := (onlyB_eq (by omega)).mp ((onlyB_eq h2).mp w3 y hyf) a haf
            obtain ⟨b1, b2⟩ := p5.1 ⟨htma, hoa⟩
            have hsb : sbT (putg ts) e t = mk 5 0 [mk 8 (wh y) (sbT (putg ts) e a :: js)] := sb_the h5 hwh hps hk8 hpy a0
            -- the end: it is counted
            refine wp_jnG (fun j => ∀ (zz : Nat) (u2 : Sg), PlS ν c u u2 → rC u2 = rC u → Flg u u2 (exW (atI H ts) a e) (exW (fun s e => ¬ atI H ts s e) a e) → zz < nC u → (zz = 0 ∧ ¬ ndC ν u (sbT (putg ts) e t)) ∨ (0 < zz ∧ trC ν u zz = sbT (putg ts) e t) → wp (j (zz : Int) u2) (fun r u' => PlS ν c u u' ∧ rC u' = rC u ∧ Flg u u' (exW (atI H ts) t e) (exW (fun s e => ¬ atI H ts s e) t e) ∧ ∃ z : Nat, r = (z : Int) ∧ PlV ν u ts t e z)) (fun zz u2 g1 g2 g3 g4 g5 => placed_end (R := fun A => exW A a e) (by omega) hs hH w2 w3 hex g1 g2 g3 g4 g5) (fun j18 hj18 => ?_)
            have sba : sbT (putg ts) e a ≠ 0 := isTm_pos (sb_tm (gOn_put (hoy.c haf) hots htts) htma)
            refine wp_ite (fun hz0 => ?_) (fun hz0 => ?_)
            · refine hj18 0 u1 p1 p2 p3 (by omega) (Or.inl ⟨rfl, fun q => ?_⟩)
              have hz := (b2.resolve_right (fun w => by omega)).2
              rw [hsb] at q
              have h1 := nd_part hs q (i := 0) (Or.inr rfl) rfl (Nat.pos_iff_ne_zero.mp (mk_pos _ _ _))
              exact hz (nd_part hs h1 (i := 0) (Or.inr rfl) rfl sba)
            · have hz := (b2.resolve_left (fun w => by omega)).2
              have hrl := hs.r
              refine wp_call (tX2_push (by omega) p1.2.2.2.1 p1.1 ⟨by omega, by omega⟩ (by omega)) (fun r2 u2 ⟨c1, c2, c3, c4, c5, c6, c7⟩ => ?_)
              have g12 : PlS ν c u1 u2 := ⟨c1, c2, c4, c6, c7.sub (by decide +kernel)⟩
              have hE0 : RowE ν u1 (rC u) 8 [] := ⟨by rw [p2]; rfl, fun i q hq => by simp at hq⟩
              have hE1 : RowE ν u2 (rC u) 8 [sbT (putg ts) e a] := hE0.push c2 c3 c4 (t := sbT (putg ts) e a) (y := z) (by rw [c5]) (fun q => by simp at q) (fun _ => ⟨by rw [e1.n]; exact b1, by rw [e1.tr]; exact hz⟩)
              refine placed_L166 (a' := sbT (putg ts) e a) (yt := y) (F := exW (atI H ts) a e) (M := exW (fun s e => ¬ atI H ts s e) a e) (by omega) yn0 (by omega) y3 hk8 (fun j hj => by rw [hpy] at hj; have := hjb j hj; omega) (by rw [hpy, List.length_cons]; omega) (by omega) ((ps y).length - 1) 1 KF u2 (by rw [hpy, List.length_cons]; omega) (Nat.lt_of_le_of_lt (by rw [hpy, List.length_cons]; omega : _ ≤ 65536) KF_gt) (Nat.le_refl _) (p1.tr g12 (by omega)) ((p3.seq (Flg.rf (F := False) (M := False) (c7.I 58 (by decide +kernel)) (c7.I 59 (by decide +kernel)) id id)).iff (by simp) (by simp)) (by rw [hpy]; exact hE1) _ (fun u3 o1 o2 o3 => ?_)
              have e3 := o1.2.1
              have hny := nodeC o1.1 yn0 (by rw [e3.n]; omega : yn < nC u3)
              rw [e3.tr, y3] at hny
              have l13 : gL u3 1 = gL u3 0 := o1.1.1.1.2.2.2.1.1
              rw [ld_nat (by omega), hny.2.1 (by omega)]
              rw [hpy] at o3
              have o3' : RowE ν u3 (rC u) 8 (sbT (putg ts) e a :: js) := o3
              have o31 := o3'.1
              obtain ⟨v, v1, v2⟩ := tX2_seek (d := d) (w := wh y) (by omega) o1.1 (by decide) o3'
              obtain ⟨o4, o5⟩ := PlS.cut hs o1 (by omega)
              refine wp_eq v1 ?_
              rcases v2 with ⟨v2, v3⟩ | ⟨z2, v2, v3, v4, v5⟩
              · rw [if_pos v2]
                refine hj18 0 _ o4 o5 (Flg.ci o2) (by omega) (Or.inl ⟨rfl, fun q => v3 ?_⟩)
                rw [hsb] at q
                exact (e3.nd _).mpr (nd_part hs q (i := 0) (Or.inr rfl) rfl (Nat.pos_iff_ne_zero.mp (mk_pos _ _ _)))
              · rw [if_neg (by omega), v2]
                have e4 := o4.2.1
                have hn3 := e3.n
                refine wp_call (tX2_push (by omega) o4.2.2.2.1 o4.1 ⟨by omega, by omega⟩ (by omega)) (fun r5 u5 ⟨f1, f2, f3, f4, f5, f6, f7⟩ => ?_)
                have g45 : PlS ν c (sI u3 12 ((rC u : Nat) : Int)) u5 := ⟨f1, f2, f4, f6, f7.sub (by decide +kernel)⟩
                have hE5 : RowE ν (sI u3 12 ((rC u : Nat) : Int)) (rC u) 5 [] := ⟨by rw [o5]; rfl, fun i q hq => by simp at hq⟩
                have hE6 : RowE ν u5 (rC u) 5 [mk 8 (wh y) (sbT (putg ts) e a :: js)] := hE5.push f2 f3 f4 (t := mk 8 (wh y) (sbT (putg ts) e a :: js)) (y := z2) (by rw [f5]) (fun q => by omega) (fun _ => ⟨v4, v5⟩)
                have o6 := o4.tr g45 (by omega)
                obtain ⟨w, x1, x2⟩ := tX2_seek (d := d) (w := 0) (by omega) o6.1 (by decide) hE6
                obtain ⟨o7, o8⟩ := PlS.cut hs o6 (by omega)
                refine wp_eq x1 ?_
                have hF6 : Flg u (sI u5 12 ((rC u : Nat) : Int)) (exW (atI H ts) a e) (exW (fun s e => ¬ atI H ts s e) a e) := Flg.ci ((o2.ci.seq (Flg.rf (F := False) (M := False) (f7.I 58 (by decide +kernel)) (f7.I 59 (by decide +kernel)) id id)).iff (by simp) (by simp))
                rcases x2 with ⟨x2, x3⟩ | ⟨z3, x2, x3, x4, x5⟩
                · rw [x2]
                  exact hj18 0 _ o7 o8 hF6 (by omega) (Or.inl ⟨rfl, fun q => x3 (by rw [← hsb]; exact (o6.2.1.nd _).mpr q)⟩)
                · rw [x2]
                  exact hj18 z3 _ o7 o8 hF6 (by rw [← o6.2.1.n]; exact x4) (Or.inr ⟨x3, by rw [hsb, ← x5, o6.2.1.tr]⟩)
          · rw [w1, if_pos (by decide), wp_some]
            refine ⟨p1, p2, p3.iff ?_ ?_, 0, rfl, fun q => absurd q w2, fun _ => rfl⟩
            · rw [hex]; exact ⟨Or.inr, fun q => q.resolve_left (fun z => w2 ⟨z.1, z.2.1⟩)⟩
            · rw [hex]; exact ⟨Or.inr, fun q => q.resolve_left (fun z => w2 ⟨z.1, z.2.1⟩)⟩
        · rw [if_neg (by omega)]
          have fin : ∀ lim : Nat, lim ≤ (ps t).length → (kd t = 8 → lim = 1) → (kd t ≠ 8 → lim = (ps t).length) → wp (bX1_placed_L290 (runC d) KF (x : Int) (s : Int) (e : Int) (kd t : Int) (wl : Int) ((rC u : Nat) : Int) (lim : Int) 1 0 u (fun v38 v39 v40 v41 v42 s37 => jn (fun (a5 a6 : Int) (s44 : Sg) => un (sI s44 12 a6) fun s45 => if a5 = 0 then (some (0, s45)) else (cl (runC d 76 [0] s45) fun v46 s47 => some (v46, s47))) fun j43 => if v40 = 0 then (j43 v40 v41 s37) else (if v42 = 0 then (j43 v40 v41 s37) else (ld s37 1 v38 fun v48 => cl (runC d 113 [v39, v48, v41] s37) fun v49 s50 => cl (runC d 76 [v49] s50) fun v51 s52 => some (v51, s52))))) (fun r u' => PlS ν c u u' ∧ rC u' = rC u ∧ Flg u u' (exW (atI H ts) t e) (exW (fun s e => ¬ atI H ts s e) t e) ∧ ∃ z : Nat, r = (z : Int) ∧ PlV ν u ts t e z) := fun lim b1 b2 b3 => by
            have hwl4 : wl = 1 → kd t = 4 ∧ onlyB t e := fun q => by
              rcases hwl with ⟨_, w2, w3⟩ | ⟨w1, _⟩
              · unfold isTm at w2; exact ⟨by omega, w3⟩
              · omega
            have hex : ∀ A : Nat → Nat → Prop, exW A t e ↔ (isTm t ∧ onlyB t e ∧ A t e) ∨ ∃ j p, j < lim ∧ (ps t)[j]? = some p ∧ p ≠ 0 ∧ exW A p (dpT t e j) := fun A => exW_lim h2 he b2 b3
            have hlz := hms.1
            have hrl := hs.r
            refine placed_L290 (H := H) (p := p) (ts := ts) (wl := wl) ho (by omega) he hs hH (fun c1 h1 => ih c1 (fms_lt h1) (ho.c h1)) s0 hsn ets x0 hx et hn9 hr hee b1 (fun q => by rw [b2 q]; omega) hwl4 lim 0 KF 1 u (by omega) (Nat.lt_of_le_of_lt (by omega : _ ≤ 65536) KF_gt) ⟨PlS.rf hs hw, rfl, Flg.rf rfl rfl (fun ⟨j, _, q, _⟩ => by omega) (fun ⟨j, _, q, _⟩ => by omega), fun _ => Or.inl ⟨rfl, rfl, fun i q hq => by simp at hq⟩⟩ _ (fun u2 th2 ⟨n1, n2, n3, n4⟩ => ?_)
            obtain ⟨o4, o5⟩ := PlS.cut hs n1 (by omega)
            have e2 := n1.2.1
            have notn : wl = 1 → th2 = 0 → ¬ ndC ν u (sbT (putg ts) e t) := fun hw1 hth q => by
              obtain ⟨_, j, p', j1, j2, j3, j4⟩ := (n4 hw1).resolve_left (fun q => by omega)
              obtain ⟨k4, _⟩ := hwl4 hw1
              rw [sb_fun ho k4] at q
              have hp' : isTm p' := by
                rcases ho.n.2 with z | z | z | z | z | z | z | z | z | z | z | z | z | z <;> try omega
                exact z.2.2 p' (List.mem_of_getElem? j2)
              have hoc := ho.c (fms_mem (List.mem_of_getElem? j2) (by omega) j3)
              exact j4 (nd_part hs q (i := j) (Or.inl (by decide)) (by rw [List.getElem?_map, j2]; rfl) (isTm_pos (sb_tm (gOn_put hoc hots htts) hp')))
            show wp (jn _ _) _
            refine wp_jnG (fun j => (wl = 0 ∨ th2 = 0) → wp (j (wl : Int) ((rC u : Nat) : Int) u2) (fun r u' => PlS ν c u u' ∧ rC u' = rC u ∧ Flg u u' (exW (atI H ts) t e) (exW (fun s e => ¬ atI H ts s e) t e) ∧ ∃ z : Nat, r = (z : Int) ∧ PlV ν u ts t e z)) (fun hz => ?_) (fun j43 h43 => ?_)
            · show wp (un _ _) _
              rw [wp_un]
              refine wp_ite (fun hw0 => ?_) (fun hw0 => ?_)
              · rw [wp_some]
                have hnw : ¬ (isTm t ∧ onlyB t e) := (hwl.resolve_left (fun q => by omega)).2
                refine ⟨o4, o5, (Flg.ci n3).iff ?_ ?_, 0, rfl, fun q => absurd q hnw, fun _ => rfl⟩
                · rw [hex]; exact ⟨Or.inr, fun q => q.resolve_left (fun z => hnw ⟨z.1, z.2.1⟩)⟩
                · rw [hex]; exact ⟨Or.inr, fun q => q.resolve_left (fun z => hnw ⟨z.1, z.2.1⟩)⟩
              · have hw1 : wl = 1 := by rcases hwl with q | q <;> omega
                obtain ⟨_, w2, w3⟩ := hwl.resolve_right (fun q => by omega)
                exact placed_end (zz := 0) (R := fun A => ∃ j p, j < lim ∧ (ps t)[j]? = some p ∧ p ≠ 0 ∧ exW A p (dpT t e j)) (by omega) hs hH w2 w3 hex o4 o5 (Flg.ci n3) (by omega) (Or.inl ⟨rfl, notn hw1 (hz.resolve_left (by omega))⟩)
            · refine wp_ite (fun hw0 => h43 (Or.inl (by omega))) (fun hw0 => ?_)
              refine wp_ite (fun ht0 => h43 (Or.inr (by omega))) (fun ht0 => ?_)
              have hw1 : wl = 1 := by rcases hwl with q | q <;> omega
              obtain ⟨_, w2, w3⟩ := hwl.resolve_right (fun q => by omega)
              obtain ⟨k4, _⟩ := hwl4 hw1
              obtain ⟨_, hE⟩ := (n4 hw1).resolve_right (fun q => by omega)
              rw [b3 (by omega), List.take_length] at hE
              have hn2 := nodeC n1.1 x0 (by rw [e2.n]; exact hx)
              rw [e2.tr, et] at hn2
              have l13 : gL u2 1 = gL u2 0 := n1.1.1.1.2.2.2.1.1
              rw [ld_nat (by omega), hn2.2.1 (by omega)]
              obtain ⟨v, v1, v2⟩ := tX2_seek (d := d) (w := wh t) (by omega) n1.1 (by decide) hE
              rw [show (kd t : Int) = ((4 : Nat) : Int) by omega]
              refine wp_eq v1 ?_
              rw [← sb_fun ho k4] at v2
              rcases v2 with ⟨v2, v3⟩ | ⟨z3, v2, v3, v4, v5⟩
              · rw [v2]
                exact placed_end (zz := 0) (R := fun A => ∃ j p, j < lim ∧ (ps t)[j]? = some p ∧ p ≠ 0 ∧ exW A p (dpT t e j)) (by omega) hs hH w2 w3 hex o4 o5 (Flg.ci n3) (by omega) (Or.inl ⟨rfl, fun q => v3 ((e2.nd _).mpr q)⟩)
              · rw [v2]
                exact placed_end (zz := z3) (R := fun A => ∃ j p, j < lim ∧ (ps t)[j]? = some p ∧ p ≠ 0 ∧ exW A p (dpT t e j)) (by omega) hs hH w2 w3 hex o4 o5 (Flg.ci n3) (by rw [← e2.n]; exact v4) (Or.inr ⟨v3, by rw [← v5, e2.tr]⟩)
          rw [wp_jn]
          by_cases k8 : kd t = 8
          · rw [if_pos (by omega)]
            refine fin 1 ?_ (fun _ => rfl) (fun q => absurd k8 q)
            rcases ho.n.2 with z | z | z | z | z | z | z | z | z | z | z | z | z | z <;> try omega
            obtain ⟨_, a, js, ee, _⟩ := z
            rw [ee]; simp
          · rw [if_neg (by omega), ld_nat (by omega), hn.2.2.1]
            exact fin _ (Nat.le_refl _) (fun q => absurd q k8) (fun _ => rfl)
      · have hit := rX1_isTerm (d := d - 3) (u := u) (k := kd t)
        rw [show d - 3 + 3 = d by omega] at hit
        rw [wp_jn]
        refine wp_eq hit ?_
        by_cases h5 : kd t ≤ 5
        · have htm : isTm t := by
            have := okN_kd ho.n
            unfold isTm isFo at *
            omega
          rw [if_pos h5, if_neg (by decide)]
          obtain ⟨k1, k2⟩ := rX1_isWithin (e := e) hs hn9 t ho (Or.inl htm) d x (by omega) x0 hx et
          by_cases hob : onlyB t e
          · refine wp_eq (k2 (fun q => q hob)) ?_
            rw [if_pos rfl]
            exact hj9 1 (Or.inl ⟨rfl, htm, hob⟩)
          · refine wp_eq (k1 hob) ?_
            rw [if_neg (by decide)]
            exact hj9 0 (Or.inr ⟨rfl, fun q => hob q.2⟩)
        · rw [if_neg h5, if_pos rfl]
          exact hj9 0 (Or.inr ⟨rfl, fun q => by have := q.1; unfold isTm at this; omega⟩)
