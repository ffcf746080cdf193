theorem Yq.rb {ν : Nat → Nat} {c D : Nat} {u : Sg} {X : Nat → Prop} {o : Option (Int × Sg)} {P : Prop} (h : Yq o u P) (hs : SC ν c u) (hw : WF FC u) : wp (cl o fun v s => some (v, s)) (RbC ν c D u X P) := by
  by_cases q : P
  · exact wp_eq (h.1 q) ⟨1, u, rfl, Or.inl ⟨rfl, q⟩, Up.rf hs, hw, Gr.rf⟩
  · exact wp_eq (h.2 q) ⟨0, u, rfl, Or.inr ⟨rfl, q⟩, Up.rf hs, hw, Gr.rf⟩
theorem Yq.rb1 {ν : Nat → Nat} {c D : Nat} {u : Sg} {X : Nat → Prop} {o : Option (Int × Sg)} {P : Prop} (h : Yq o u P) (hs : SC ν c u) (hw : WF FC u) : wp o (RbC ν c D u X P) := by
  by_cases q : P
  · exact ⟨1, u, h.1 q, Or.inl ⟨rfl, q⟩, Up.rf hs, hw, Gr.rf⟩
  · exact ⟨0, u, h.2 q, Or.inr ⟨rfl, q⟩, Up.rf hs, hw, Gr.rf⟩
theorem RbC.iff {ν : Nat → Nat} {c D : Nat} {u : Sg} {X : Nat → Prop} {P P' : Prop} {r : Int} {u' : Sg} (h : RbC ν c D u X P r u') (e : P ↔ P') : RbC ν c D u X P' r u' := ⟨h.1.imp (fun q => ⟨q.1, e.mp q.2⟩) (fun q => ⟨q.1, fun z => q.2 (e.mpr z)⟩), h.2⟩
/-- a step of the store, before an answer -/
theorem RbC.seq {ν : Nat → Nat} {c D : Nat} {u u1 : Sg} {X : Nat → Prop} {P : Prop} {r : Int} {u' : Sg} (hU : Up ν c u u1 X) (hg : Gr FC D u u1) (h : RbC ν c D u1 X P r u') : RbC ν c D u X P r u' := ⟨h.1, hU.join h.2.1, h.2.2.1, hg.tr h.2.2.2⟩
theorem ht_not {p : Nat} (h : okT p) : htT (notT p) ≤ htT p + 1 := by
  unfold notT
  by_cases h16 : kd p = 16
  · rw [if_pos h16]
    rcases h.n.2 with q | q | q | q | q | q | q | q | q | q | q | q | q | q <;> try omega
    obtain ⟨_, _, f, e, hf, _⟩ := q
    rw [e]
    have : f ∈ fms p := fms_at.mpr ⟨0, Or.inr rfl, by rw [e]; rfl, isFo_pos hf⟩
    have := ht_c this
    show htT f ≤ _
    omega
  · rw [if_neg h16, htT_eq]
    unfold fms
    rw [kd_mk, if_neg (by omega), ps_mk]
    have hp : p ≠ 0 := fun q => by
      have := okN_kd h.n
      rw [q] at this
      unfold isTm isFo at this
      rw [kd0] at this
      omega
    rw [show [p].filter (fun c => decide (c ≠ 0)) = [p] by simp [hp]]
    show 1 + max 0 (htT p) ≤ htT p + 1
    omega
/-- within, but not under a binder -/
def snS (s : Nat) (f : Nat → Prop) (t : Nat) : Prop := s = t ∨ (kd t ≠ 18 ∧ ∃ c ∈ fms t, f c)
def subN (s t : Nat) : Prop := rcT (snS s) False t
theorem subN_eq (s t : Nat) : subN s t = (s = t ∨ (kd t ≠ 18 ∧ ∃ c ∈ fms t, subN s c)) := rc_eq (fun f f' t h => by
  unfold snS
  refine propext ⟨fun q => q.imp id (fun ⟨a, c, b, d⟩ => ⟨a, c, b, ?_⟩), fun q => q.imp id (fun ⟨a, c, b, d⟩ => ⟨a, c, b, ?_⟩)⟩
  · rw [← h c (fms_ps b).1]; exact d
  · rw [h c (fms_ps b).1]; exact d) t
theorem subN_rf (t : Nat) : subN t t := by rw [subN_eq]; exact Or.inl rfl
theorem subN_c {s t c : Nat} (h18 : kd t ≠ 18) (hc : c ∈ fms t) (h : subN s c) : subN s t := by rw [subN_eq]; exact Or.inr ⟨h18, c, hc, h⟩
theorem subN_T : ∀ (t : Nat) {s : Nat}, subN s t → subT s t := by
  intro t
  induction t using Nat.strongRecOn with
  | ind t ih =>
    intro s h
    rw [subN_eq] at h
    rcases h with q | ⟨_, c, hc, q⟩
    · rw [q]; exact sub_rf t
    · exact sub_c hc (ih c (fms_lt hc) q)
theorem subN_not {p s : Nat} (h : okT p) (hs : subN s (notT p)) (h17 : kd s = 17) : subN s p := by
  unfold notT at hs
  by_cases h16 : kd p = 16
  · rw [if_pos h16] at hs
    rcases h.n.2 with q | q | q | q | q | q | q | q | q | q | q | q | q | q <;> try omega
    obtain ⟨_, _, f, e, hf, _⟩ := q
    rw [e] at hs
    exact subN_c (by omega) (fms_at.mpr ⟨0, Or.inr rfl, by rw [e]; rfl, isFo_pos hf⟩) hs
  · rw [if_neg h16, subN_eq] at hs
    rcases hs with q | ⟨_, c, c1, c2⟩
    · rw [q, kd_mk] at h17; omega
    · have := (fms_ps c1).1
      rw [ps_mk, List.mem_singleton] at this
      rw [← this]; exact c2
theorem sub_not {p s : Nat} (h : okT p) (hs : subT s (notT p)) (h17 : kd s = 17) : subT s p := by
  unfold notT at hs
  by_cases h16 : kd p = 16
  · rw [if_pos h16] at hs
    rcases h.n.2 with q | q | q | q | q | q | q | q | q | q | q | q | q | q <;> try omega
    obtain ⟨_, _, f, e, hf, _⟩ := q
    rw [e] at hs
    exact sub_c (fms_at.mpr ⟨0, Or.inr rfl, by rw [e]; rfl, isFo_pos hf⟩) hs
  · rw [if_neg h16, subT_eq] at hs
    rcases hs with q | ⟨c, c1, c2⟩
    · rw [q, kd_mk] at h17; omega
    · have := (fms_ps c1).1
      rw [ps_mk] at this
      rw [List.mem_singleton.mp this] at c2
      exact c2
theorem frW_not {W : Wd} {N : Nat → Prop} {p : Nat} (h : frW W N p) (hf : isFo p) : frW W N (notT p) := by
  refine ⟨(okT_not h.1 hf).1, fun s hs => ?_⟩
  unfold notT at hs
  by_cases h16 : kd p = 16
  · rw [if_pos h16] at hs
    rcases h.1.n.2 with q | q | q | q | q | q | q | q | q | q | q | q | q | q <;> try omega
    obtain ⟨_, _, f, e, hf', _⟩ := q
    rw [e] at hs
    exact h.2 s (sub_c (fms_at.mpr ⟨0, Or.inr rfl, by rw [e]; rfl, isFo_pos hf'⟩) hs)
  · rw [if_neg h16, subT_eq] at hs
    rcases hs with q | ⟨c, c1, c2⟩
    · rw [q]
      refine ⟨fun z => ?_, fun z => ?_, fun z => ?_, fun z => ?_, fun z => ?_, fun z => ?_⟩ <;> (rw [kd_mk] at z; omega)
    · have := (fms_ps c1).1
      rw [ps_mk] at this
      rw [List.mem_singleton.mp this] at c2
      exact h.2 s c2
/-- asked of a closed case -/
def AsC (ν : Nat → Nat) (c : Nat) (W : Wd) (S : Fs) (Kl : List Nat) (l : Ls) (u : Sg) : Prop := CaL ν c W S Kl u l ∧ KnS ν u Kl
theorem AsC.up {ν : Nat → Nat} {c D : Nat} {W : Wd} {S : Fs} {Kl : List Nat} {l : Ls} {u u' : Sg} {X : Nat → Prop} (h : AsC ν c W S Kl l u) (hU : Up ν c u u' X) (hw : WF FC u') (hg : Gr FC D u u') (hD : D &&& mkCa = 0) (hD2 : D &&& DX1_atHand = D) : AsC ν c W S Kl l u' :=
  ⟨CaP.up h.1 hU.ux hw hg hD, h.2.up h.1.1.1 hU.ux (hg.gh ⟨hD2, maskCa hD 37 (by omega), maskCa hD 38 (by omega)⟩) h.1.2.2.1.2⟩
def HoSp (ν : Nat → Nat) (c : Nat) (W : Wd) (S : Fs) (X : Nat → Prop) (Kl : List Nat) (l : Ls) (n : Nat) : Prop := ∀ (d : Nat) (u : Sg) (x f : Nat), 20 + 3 * n ≤ d → AsC ν c W S Kl l u → 0 < x → x < nC u → trC ν u x = f → htT f < n → isFo f → frW W (Nm ν c) f → rC u ≤ 20000 → (∀ s, subN s f → kd s = 17 → ∀ p ∈ ps s, X (notT p)) → Lim ν u X → wp (runC d 67 [(x : Int)] u) (RbC ν c 8191 u X (hldN (FsO l) (fun f => f ∈ Kl) n f))
theorem holds_L148 {d n : Nat} {ν : Nat → Nat} {c : Nat} {W : Wd} {S : Fs} {X : Nat → Prop} {Kl : List Nat} {l : Ls} {u0 : Sg} {x f : Nat} (hH : HoSp ν c W S X Kl l n) (hd : 20 + 3 * n ≤ d) (hs0 : SC ν c u0) (hw0 : WF FC u0) (x0 : 0 < x) (hx : x < nC u0) (ef : trC ν u0 x = f) (h17 : kd f = 17) (hn : htT f ≤ n) (hfr : frW W (Nm ν c) f) (hr : rC u0 ≤ 20000) (hX : ∀ s, subN s f → kd s = 17 → ∀ p ∈ ps s, X (notT p)) (hl : Lim ν u0 X) : ∀ (m i fu : Nat) (u : Sg), i + m = (ps f).length → m < fu → AsC ν c W S Kl l u → Up ν c u0 u X → Gr FC 8191 u0 u → (∀ j, j < i → hldN (FsO l) (fun f => f ∈ Kl) n (pa f j)) → wp (bX1_holds_L148 (runC d) fu (x : Int) (i : Int) u (fun s => some (1, s)) (fun s => some (0, s))) (RbC ν c 8191 u0 X (∀ p ∈ ps f, hldN (FsO l) (fun f => f ∈ Kl) n p)) := by
  have hall : ∀ p ∈ ps f, isFo p := by
    rcases hfr.1.n.2 with q | q | q | q | q | q | q | q | q | q | q | q | q | q <;> try omega
    exact fun p hp => (q.2.2.2 p hp).1
  intro m
  induction m with
  | zero =>
    intro i fu u hi hf hA hU hg hall'
    obtain ⟨fu, rfl⟩ : ∃ f', fu = f' + 1 := ⟨fu - 1, by omega⟩
    have hs := hA.1.1.1
    have hnn := hU.ux.n hs0
    have et : trC ν u x = f := by rw [hU.ux.tr hs0 hx]; exact ef
    have hnx := nodeC hs x0 (by omega : x < nC u)
    rw [et] at hnx
    have l3 : gL u 3 = gL u 0 := hs.1.1.2.2.2.1.2.2.1
    rw [bX1_holds_L148, ld_nat (by omega), hnx.2.2.1, if_neg (by omega), wp_some]
    refine ⟨Or.inl ⟨rfl, fun p hp => ?_⟩, hU, hA.1.2.1, hg⟩
    obtain ⟨j, hj⟩ := List.getElem?_of_mem hp
    have := hall' j (by have := (List.getElem?_eq_some_iff.mp hj).1; omega)
    rw [pa_at hj] at this
    exact this
  | succ m ih =>
    intro i fu u hi hf hA hU hg hall'
    obtain ⟨fu, rfl⟩ : ∃ f', fu = f' + 1 := ⟨fu - 1, by omega⟩
    have hs := hA.1.1.1
    have hnn := hU.ux.n hs0
    have hx1 : x < nC u := by omega
    have et : trC ν u x = f := by rw [hU.ux.tr hs0 hx]; exact ef
    have hnx := nodeC hs x0 hx1
    rw [et] at hnx
    have l3 : gL u 3 = gL u 0 := hs.1.1.2.2.2.1.2.2.1
    have hil : i < (ps f).length := by omega
    have hbd := (hU.ux.lim hl).n hs
    obtain ⟨y, y1, y2, y3⟩ := partN (d := d) (i := i) (by omega) hs x0 hx1 (by rw [et]; exact hil) (Or.inl (by rw [et]; omega))
    rw [et] at y3
    have hpf := hall _ (List.mem_of_getElem? (pa_get hil))
    have hfm : pa f i ∈ fms f := fms_at.mpr ⟨i, Or.inl (by omega), pa_get hil, isFo_pos hpf⟩
    have hht := ht_c hfm
    have y0 : 0 < y := Nat.pos_of_ne_zero (fun q => isFo_pos hpf (by rw [← y3, q]; rfl))
    have hrr : rC u = rC u0 := hU.2.2.2.2.2.1
    rw [bX1_holds_L148, ld_nat (by omega), hnx.2.2.1, if_pos (by omega)]
    refine wp_eq y1 ?_
    refine wp_call (hH d u y (pa f i) hd hA y0 (by omega) y3 (by omega) hpf (hfr.part hfm) (by omega) (fun s q1 q2 => hX s (subN_c (by omega) hfm q1) q2) (hU.ux.lim hl)) (fun r u1 ⟨z1, z2, z3, z4⟩ => ?_)
    rcases z1 with ⟨e1, e2⟩ | ⟨e1, e2⟩
    · rw [e1, if_neg (by decide), wp_ar]
      refine ⟨⟨by omega, by omega⟩, ?_⟩
      rw [show (i : Int) + 1 = ((i + 1 : Nat) : Int) by omega]
      refine ih (i + 1) fu u1 (by omega) (by omega) (hA.up z2 z3 z4 (by decide +kernel) (by decide +kernel)) (hU.join z2) (hg.tr z4) (fun j hj => ?_)
      by_cases hji : j = i
      · rw [hji]; exact e2
      · exact hall' j (by omega)
    · rw [e1, if_pos rfl, wp_some]
      exact ⟨Or.inr ⟨rfl, fun q => e2 (q _ (List.mem_of_getElem? (pa_get hil)))⟩, hU.join z2, z3, hg.tr z4⟩
theorem fails_L274 {d n : Nat} {ν : Nat → Nat} {c : Nat} {W : Wd} {S : Fs} {X : Nat → Prop} {Kl : List Nat} {l : Ls} {u0 : Sg} {x f : Nat} (hH : HoSp ν c W S X Kl l n) (hd : 20 + 3 * n ≤ d) (hs0 : SC ν c u0) (hw0 : WF FC u0) (x0 : 0 < x) (hx : x < nC u0) (ef : trC ν u0 x = f) (h17 : kd f = 17) (hn : htT f < n) (hfr : frW W (Nm ν c) f) (hr : rC u0 ≤ 20000) (hX : ∀ s, subN s f → kd s = 17 → ∀ p ∈ ps s, X (notT p)) (hl : Lim ν u0 X) : ∀ (m i fu : Nat) (u : Sg), i + m = (ps f).length → m < fu → AsC ν c W S Kl l u → Up ν c u0 u X → Gr FC 8191 u0 u → (∀ j, j < i → ¬ hldN (FsO l) (fun f => f ∈ Kl) n (notT (pa f j))) → wp (bX1_fails_L274 (runC d) fu (x : Int) (i : Int) u (fun s => some (0, s)) (fun s => some (1, s))) (RbC ν c 8191 u0 X (∃ p ∈ ps f, hldN (FsO l) (fun f => f ∈ Kl) n (notT p))) := by
  have hall : ∀ p ∈ ps f, isFo p := by
    rcases hfr.1.n.2 with q | q | q | q | q | q | q | q | q | q | q | q | q | q <;> try omega
    exact fun p hp => (q.2.2.2 p hp).1
  intro m
  induction m with
  | zero =>
    intro i fu u hi hf hA hU hg hall'
    obtain ⟨fu, rfl⟩ : ∃ f', fu = f' + 1 := ⟨fu - 1, by omega⟩
    have hs := hA.1.1.1
    have hnn := hU.ux.n hs0
    have et : trC ν u x = f := by rw [hU.ux.tr hs0 hx]; exact ef
    have hnx := nodeC hs x0 (by omega : x < nC u)
    rw [et] at hnx
    have l3 : gL u 3 = gL u 0 := hs.1.1.2.2.2.1.2.2.1
    rw [bX1_fails_L274, ld_nat (by omega), hnx.2.2.1, if_neg (by omega), wp_some]
    refine ⟨Or.inr ⟨rfl, fun ⟨p, hp, q⟩ => ?_⟩, hU, hA.1.2.1, hg⟩
    obtain ⟨j, hj⟩ := List.getElem?_of_mem hp
    have := hall' j (by have := (List.getElem?_eq_some_iff.mp hj).1; omega)
    rw [pa_at hj] at this
    exact this q
  | succ m ih =>
    intro i fu u hi hf hA hU hg hall'
    obtain ⟨fu, rfl⟩ : ∃ f', fu = f' + 1 := ⟨fu - 1, by omega⟩
    have hs := hA.1.1.1
    have hnn := hU.ux.n hs0
    have hx1 : x < nC u := by omega
    have et : trC ν u x = f := by rw [hU.ux.tr hs0 hx]; exact ef
    have hnx := nodeC hs x0 hx1
    rw [et] at hnx
    have l3 : gL u 3 = gL u 0 := hs.1.1.2.2.2.1.2.2.1
    have hil : i < (ps f).length := by omega
    have hbd := (hU.ux.lim hl).n hs
    obtain ⟨y, y1, y2, y3⟩ := partN (d := d) (i := i) (by omega) hs x0 hx1 (by rw [et]; exact hil) (Or.inl (by rw [et]; omega))
    rw [et] at y3
    have hmem := List.mem_of_getElem? (pa_get hil)
    have hpf := hall _ hmem
    have hfm : pa f i ∈ fms f := fms_at.mpr ⟨i, Or.inl (by omega), pa_get hil, isFo_pos hpf⟩
    have hht := ht_c hfm
    have y0 : 0 < y := Nat.pos_of_ne_zero (fun q => isFo_pos hpf (by rw [← y3, q]; rfl))
    have hrr : rC u = rC u0 := hU.2.2.2.2.2.1
    have hpo := (hfr.part hfm).1
    have hno := ht_not hpo
    rw [bX1_fails_L274, ld_nat (by omega), hnx.2.2.1, if_pos (by omega)]
    refine wp_eq y1 ?_
    refine wp_call (tX2_not (d := d) (x := y) (X := X) (by omega) hA.1.2.1 hs y0 (by omega) (by omega) (fun q16 => ?_) (by rw [y3]; exact hX f (subN_rf _) h17 _ hmem) (hU.ux.lim hl)) (fun r u1 ⟨z, z1, z2, z3, z4, z5, z6, z7⟩ => ?_)
    · rw [y3] at q16 ⊢
      rcases hpo.n.2 with q | q | q | q | q | q | q | q | q | q | q | q | q | q <;> try omega
      obtain ⟨_, _, g, e, hg', _⟩ := q
      exact ⟨g, e, Nat.pos_of_ne_zero (isFo_pos hg')⟩
    · subst z1
      rw [y3] at z4
      have hA1 := hA.up z5 z6 z7 (by decide +kernel) (by decide +kernel)
      have hU1 := hU.join z5
      have hrr1 : rC u1 = rC u0 := hU1.2.2.2.2.2.1
      refine wp_call (hH d u1 z (notT (pa f i)) hd hA1 z2 z3 z4 (by omega) (okT_not hpo hpf).2 (frW_not (hfr.part hfm) hpf) (by omega) (fun s q1 q2 => hX s (subN_c (by omega) hfm (subN_not hpo q1 q2)) q2) (hU1.ux.lim hl)) (fun r u2 ⟨w1, w2, w3, w4⟩ => ?_)
      rcases w1 with ⟨e1, e2⟩ | ⟨e1, e2⟩
      · rw [e1, if_neg (by decide), wp_some]
        exact ⟨Or.inl ⟨rfl, _, hmem, e2⟩, hU1.join w2, w3, (hg.tr z7).tr w4⟩
      · rw [e1, if_pos rfl, wp_ar]
        refine ⟨⟨by omega, by omega⟩, ?_⟩
        rw [show (i : Int) + 1 = ((i + 1 : Nat) : Int) by omega]
        refine ih (i + 1) fu u2 (by omega) (by omega) (hA1.up w2 w3 w4 (by decide +kernel) (by decide +kernel)) (hU1.join w2) ((hg.tr z7).tr w4) (fun j hj => ?_)
        by_cases hji : j = i
        · rw [hji]; exact e2
        · exact hall' j (by omega)
