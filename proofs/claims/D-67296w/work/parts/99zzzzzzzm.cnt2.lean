/-! counting: what kept formulas are made of -/
def Alls (P : Nat → Prop) (f : Nat) : Prop := ∀ s, subT s f → P s
theorem Alls.sub {P : Nat → Prop} {f s : Nat} (h : Alls P f) (hs : subT s f) : Alls P s := fun r hr => h r (sub_tr f hr hs)
theorem Alls.mk {P : Nat → Prop} {k w : Nat} {l : List Nat} (h0 : P (mk k w l)) (hc : ∀ c ∈ l, Alls P c) : Alls P (mk k w l) := fun s hs => by
  rw [subT_eq] at hs
  rcases hs with e | ⟨c, h1, h2⟩
  · rw [e]; exact h0
  · have := (fms_ps h1).1
    rw [ps_mk] at this
    exact hc c this s h2
theorem Alls.yes {P : Nat → Prop} (h : P yesT) : Alls P yesT := Alls.mk h (fun c hc => by cases hc)
theorem ps_not1 {f : Nat} (ho : okT f) (h16 : kd f = 16) : ∃ g, ps f = [g] ∧ isFo g ∧ kd g ≠ 16 ∧ g ∈ fms f := by
  rcases ho.n.2 with q | q | q | q | q | q | q | q | q | q | q | q | q | q <;> try omega
  obtain ⟨q1, q2, g, q3, q4, q5⟩ := q
  exact ⟨g, q3, q4, q5, fms_mem (by rw [q3]; simp) (by omega) (isFo_pos q4)⟩
theorem Alls.no {P : Nat → Prop} (hP : ∀ s, 15 ≤ kd s → P s) (hy : P yesT) : Alls P noT := Alls.mk (hP _ (by rw [kd_mk]; decide)) (fun c hc => by rw [List.mem_singleton.mp hc]; exact Alls.yes hy)
theorem Alls.not {P : Nat → Prop} (hP : ∀ s, 15 ≤ kd s → P s) {f : Nat} (ho : okT f) (h : Alls P f) : Alls P (notT f) := by
  unfold notT
  by_cases h16 : kd f = 16
  · rw [if_pos h16]
    obtain ⟨g, e, _, _, hg⟩ := ps_not1 ho h16
    rw [e]
    exact h.sub (sub_c hg (sub_rf g))
  · rw [if_neg h16]
    exact Alls.mk (hP _ (by rw [kd_mk]; decide)) (fun c hc => by rw [List.mem_singleton.mp hc]; exact h)
theorem Alls.and {P : Nat → Prop} (hP : ∀ s, 15 ≤ kd s → P s) (hy : P yesT) {L : List Nat} (h : ∀ f ∈ L, okT f ∧ Alls P f) : Alls P (andT L) := by
  have hfl : ∀ g ∈ L.flatMap flt, Alls P g := fun g hg => by
    obtain ⟨f, hf, q⟩ := List.mem_flatMap.mp hg
    rcases flt_in q with e | ⟨e, z⟩
    · rw [e]; exact (h f hf).2
    · have hfo : isFo g := by
        rcases (h f hf).1.n.2 with q | q | q | q | q | q | q | q | q | q | q | q | q | q <;> try omega
        exact (q.2.2.2 g z).1
      exact (h f hf).2.sub (sub_c (fms_mem z (by omega) (isFo_pos hfo)) (sub_rf g))
  unfold andT
  by_cases hn : noT ∈ L
  · rw [if_pos hn]; exact Alls.no hP hy
  · rw [if_neg hn]
    cases hl : L.flatMap flt with
    | nil => exact Alls.yes hy
    | cons a l =>
      rw [hl] at hfl
      cases l with
      | nil => exact hfl a List.mem_cons_self
      | cons b l => exact Alls.mk (hP _ (by rw [kd_mk]; decide)) hfl
theorem Alls.imp {P : Nat → Prop} (hP : ∀ s, 15 ≤ kd s → P s) (hy : P yesT) {f g : Nat} (hf : okT f ∧ isFo f ∧ Alls P f) (hg : okT g ∧ isFo g ∧ Alls P g) : Alls P (impT f g) := by
  have n1 := okT_not hg.1 hg.2.1
  have hL : ∀ x ∈ [f, notT g], okT x ∧ isFo x := fun x hx => by
    rcases List.mem_cons.mp hx with q | q
    · rw [q]; exact ⟨hf.1, hf.2.1⟩
    · rw [List.mem_singleton.mp q]; exact n1
  have hL2 : ∀ x ∈ [f, notT g], okT x ∧ Alls P x := fun x hx => by
    rcases List.mem_cons.mp hx with q | q
    · rw [q]; exact ⟨hf.1, hf.2.2⟩
    · rw [List.mem_singleton.mp q]; exact ⟨n1.1, Alls.not hP hg.1 hg.2.2⟩
  exact Alls.not hP (okT_and hL).1 (Alls.and hP hy hL2)
theorem okT_imp {f g : Nat} (hf : okT f ∧ isFo f) (hg : okT g ∧ isFo g) : okT (impT f g) ∧ isFo (impT f g) := by
  have n1 := okT_not hg.1 hg.2
  have hL : ∀ x ∈ [f, notT g], okT x ∧ isFo x := fun x hx => by
    rcases List.mem_cons.mp hx with q | q
    · rw [q]; exact hf
    · rw [List.mem_singleton.mp q]; exact n1
  exact okT_not (okT_and hL).1 (okT_and hL).2
theorem Alls.jn {P : Nat → Prop} (hP : ∀ s, 15 ≤ kd s → P s) (hy : P yesT) {k : Int} {x y : Nat} (hx : okT x ∧ isFo x ∧ Alls P x) (hk : k ≠ 0 → okT y ∧ isFo y ∧ Alls P y) : Alls P (jnT k x y) := by
  unfold jnT
  by_cases k0 : k = 0
  · rw [if_pos k0]; exact Alls.not hP hx.1 hx.2.2
  rw [if_neg k0]
  have hY := hk k0
  have two : ∀ {a b : Nat}, okT a ∧ isFo a ∧ Alls P a → okT b ∧ isFo b ∧ Alls P b → (okT (andT [a, b]) ∧ isFo (andT [a, b])) ∧ Alls P (andT [a, b]) := fun {a b} ha hb => by
    refine ⟨okT_and (fun z hz => ?_), Alls.and hP hy (fun z hz => ?_)⟩
    · rcases List.mem_cons.mp hz with q | q
      · rw [q]; exact ⟨ha.1, ha.2.1⟩
      · rw [List.mem_singleton.mp q]; exact ⟨hb.1, hb.2.1⟩
    · rcases List.mem_cons.mp hz with q | q
      · rw [q]; exact ⟨ha.1, ha.2.2⟩
      · rw [List.mem_singleton.mp q]; exact ⟨hb.1, hb.2.2⟩
  have nt : ∀ {a : Nat}, okT a ∧ isFo a ∧ Alls P a → okT (notT a) ∧ isFo (notT a) ∧ Alls P (notT a) := fun {a} ha => ⟨(okT_not ha.1 ha.2.1).1, (okT_not ha.1 ha.2.1).2, Alls.not hP ha.1 ha.2.2⟩
  by_cases k1 : k = 1
  · rw [if_pos k1]; exact (two hx hY).2
  rw [if_neg k1]
  by_cases k2 : k = 2
  · rw [if_pos k2]
    have := two (nt hx) (nt hY)
    exact Alls.not hP this.1.1 this.2
  rw [if_neg k2]
  by_cases k3 : k = 3
  · rw [if_pos k3]; exact Alls.imp hP hy hx hY
  rw [if_neg k3]
  have i1 := okT_imp ⟨hx.1, hx.2.1⟩ ⟨hY.1, hY.2.1⟩
  have i2 := okT_imp ⟨hY.1, hY.2.1⟩ ⟨hx.1, hx.2.1⟩
  exact (two ⟨i1.1, i1.2, Alls.imp hP hy hx hY⟩ ⟨i2.1, i2.2, Alls.imp hP hy hY hx⟩).2
/-- an atom or a type has few inner forms (with two leaves or more), fewer if it has few leaves -/
def AtK (n N : Nat) (A : Nat) : Prop := (dQ A).length ≤ n ∧ (lf A ≤ 3 → (dQ A).length ≤ N)
/-- and what has one leaf has a known shape -/
def AtP (n N : Nat) (Sh : List Nat) (s : Nat) : Prop := (8 ≤ kd s → kd s ≤ 14 → AtK n N s) ∧ (4 ≤ kd s → kd s ≤ 14 → lf s = 1 → imL s ∈ Sh)
theorem AtP_hi {n N s : Nat} {Sh : List Nat} (h : 15 ≤ kd s) : AtP n N Sh s := ⟨fun _ q => by omega, fun _ q => by omega⟩
theorem AtP_yes {n N : Nat} {Sh : List Nat} : AtP n N Sh yesT := by
  have e1 : fms yesT = [] := by unfold yesT; exact fms_nil
  have e2 : dQ yesT = [] := by
    unfold dQ
    rw [e1]; rfl
  have e3 : lf yesT = 0 := by rw [lf_fms (by unfold yesT; rw [kd_mk]; decide), e1]; rfl
  refine ⟨fun _ _ => ?_, fun _ _ q => by omega⟩
  unfold AtK
  rw [e2]
  exact ⟨Nat.zero_le _, fun _ => Nat.zero_le _⟩
theorem AtK.mono {n N n' N' A : Nat} (h : AtK n N A) (h1 : n ≤ n') (h2 : N ≤ N') : AtK n' N' A := ⟨Nat.le_trans h.1 h1, fun q => Nat.le_trans (h.2 q) h2⟩
theorem gLf_bind {x e : Nat} : gLf (bindg x) e := fun l hl h0 => by
  unfold bindg
  by_cases q : l = x
  · rw [if_pos q]
    refine ⟨by rw [kd_mk]; decide, fun z => ?_⟩
    have := kd_mk 2 e []
    rw [z, kd0] at this
    omega
  · rw [if_neg q]; exact ⟨hl, h0⟩
/-- leaves for leaves: as few inner forms -/
theorem Alls.sb {n N : Nat} {Sh : List Nat} {g : Nat → Nat → Nat} (hg : ∀ e, gLf g e) (hgo : ∀ d c, okT c → kd c ≤ 3 → okT (g d c)) {f e : Nat} (ho : okT f) (h : Alls (AtP n N Sh) f) : Alls (AtP n N Sh) (sbT g e f) := fun s hs => by
  rcases sub_sb f hs with ⟨c, d', hc, q⟩ | ⟨c, d', hc, hk, q⟩
  · obtain ⟨o, k3, _⟩ := lv_ok f ho c hc
    have k4 := (hg d' c k3 (okT_0 o)).1
    have : s = g d' c ∨ ∃ z ∈ fms (g d' c), subT s z := by rw [subT_eq] at q; exact q
    rcases this with z | ⟨z, hz, _⟩
    · rw [z]; exact ⟨fun q => by omega, fun q => by omega⟩
    · rw [fms_lf (hgo d' c o k3).n k4] at hz; cases hz
  · have hoc := sub_ok f ho hc
    have k1 := (sb_kd (g := g) (d := d') hk).1
    rw [q]
    refine ⟨fun h8 h14 => ?_, fun h4 h14 h1 => ?_⟩
    · rw [k1] at h8 h14
      have hA := (h c hc).1 h8 h14
      have h1 := dQ_sbf (hg d') hoc h14 hk
      have h2 := (iL_sbf (hg d') c hoc h14).2
      exact ⟨Nat.le_trans h1 hA.1, fun w => Nat.le_trans h1 (hA.2 (by rw [← h2]; exact w))⟩
    · rw [k1] at h4 h14
      rw [(iL_sbf (hg d') c hoc h14).2] at h1
      rw [im_sbf (hg d') hoc h14]
      exact (h c hc).2 h4 h14 h1
theorem okT_bindg {x d c : Nat} (h : okT c) : okT (bindg x d c) := by
  unfold bindg
  split
  · exact (okT_bound d).1
  · exact h
theorem Alls.bind {n N x e f : Nat} {Sh : List Nat} (ho : okT f) (h : Alls (AtP n N Sh) f) : Alls (AtP n N Sh) (sbT (bindg x) e f) := Alls.sb (fun e => gLf_bind) (fun _ _ o _ => okT_bindg o) ho h
/-- inner forms among the forms: with two leaves or more, with two or three, with one (and atoms) -/
def isI (t : Nat) : Bool := decide (4 ≤ kd t ∧ kd t ≤ 8)
def nF2 (Fo : List Nat) : Nat := (Fo.filter (fun t => isI t && decide (2 ≤ lf t))).length
def nF3 (Fo : List Nat) : Nat := (Fo.filter (fun t => isI t && decide (2 ≤ lf t ∧ lf t ≤ 3))).length
def ShF (Fo : List Nat) : List Nat := (Fo.filter (fun t => decide (4 ≤ kd t ∧ kd t ≤ 14 ∧ lf t = 1))).map imL
/-- few, among the forms -/
def AtF (Fo : List Nat) : Nat → Prop := AtP (nF2 Fo) (nF3 Fo) (ShF Fo)
/-- what is within a form is a form -/
def KpT (Fo : List Nat) (f : Nat) : Prop := ∀ s, subT s f → 4 ≤ kd s → kd s ≤ 8 → s ∈ Fo
theorem KpT.at {Fo : List Nat} {f : Nat} (ho : okT f) (hk : ¬ kd f ≤ 3) (h14 : kd f ≤ 14) (h : ∀ c ∈ fms f, KpT Fo c) : AtK (nF2 Fo) (nF3 Fo) f := by
  have hm : ∀ s ∈ dQ f, s ∈ Fo ∧ isI s = true ∧ 2 ≤ lf s ∧ lf s ≤ lf f := fun s hs => by
    obtain ⟨⟨c, hc, h1, h2⟩, h3⟩ := (dQ_mem ho).mp hs
    have k8 : kd s ≤ 8 := by
      have k1 := kd_14 ho.n h14 hc
      have oc := ho.c hc
      have h1' := h1
      rw [subT_eq] at h1'
      rcases h1' with q | ⟨z, hz, q⟩
      · rw [q]; exact k1
      · exact kd_sub8 oc k1 hz q
    exact ⟨h c hc s h1 (by omega) k8, by unfold isI; simp; omega, h3, lf_sub f ho (sub_c hc h1)⟩
  refine ⟨nd_lenL _ _ (dd_nd _) (fun s hs => ?_), fun q => nd_lenL _ _ (dd_nd _) (fun s hs => ?_)⟩
  · obtain ⟨h1, h2, h3, h4⟩ := hm s hs
    exact List.mem_filter.mpr ⟨h1, by rw [h2]; simp; omega⟩
  · obtain ⟨h1, h2, h3, h4⟩ := hm s hs
    exact List.mem_filter.mpr ⟨h1, by rw [h2]; simp; omega⟩
theorem Sh_mem {Fo : List Nat} {t : Nat} (h : t ∈ Fo) (h4 : 4 ≤ kd t) (h14 : kd t ≤ 14) (h1 : lf t = 1) : imL t ∈ ShF Fo := List.mem_map.mpr ⟨t, List.mem_filter.mpr ⟨h, by simp; omega⟩, rfl⟩
theorem nF_le {Fo : List Nat} {t : Nat} : nF2 Fo ≤ nF2 (Fo ++ [t]) ∧ nF3 Fo ≤ nF3 (Fo ++ [t]) ∧ ∀ s ∈ ShF Fo, s ∈ ShF (Fo ++ [t]) := by
  unfold nF2 nF3 ShF
  rw [List.filter_append, List.filter_append, List.filter_append, List.length_append, List.length_append, List.map_append]
  exact ⟨Nat.le_add_right _ _, Nat.le_add_right _ _, fun s hs => List.mem_append_left _ hs⟩
/-- kept terms and types are made of kept ones; kept formulas of atoms with few inner forms; constants' types are kept -/
def KfI (W : Wd) (c : Nat) (Fo : List Nat) : Prop := (∀ f ∈ Fo, kd f ≤ 8 → KpT Fo f) ∧ (∀ f ∈ Fo, isFo f → Alls (AtF Fo) f) ∧ ∀ n, Nm nu2 c n → wcT W n ∈ Fo
theorem AtF.mono {Fo : List Nat} {t f : Nat} (h : Alls (AtF Fo) f) : Alls (AtF (Fo ++ [t])) f := fun s hs => ⟨fun a b => ((h s hs).1 a b).mono nF_le.1 nF_le.2.1, fun a b c => nF_le.2.2 _ ((h s hs).2 a b c)⟩
theorem KpT.mono {Fo Fo' : List Nat} {f : Nat} (h : KpT Fo f) (hs : ∀ t ∈ Fo, t ∈ Fo') : KpT Fo' f := fun s a b c => hs s (h s a b c)
theorem KfI.ap {W : Wd} {c : Nat} {Fo : List Nat} {t : Nat} (h : KfI W c Fo) (h8 : kd t ≤ 8 → KpT (Fo ++ [t]) t) (hF : isFo t → Alls (AtF (Fo ++ [t])) t) : KfI W c (Fo ++ [t]) := by
  have hs : ∀ x ∈ Fo, x ∈ Fo ++ [t] := fun x hx => List.mem_append_left _ hx
  refine ⟨fun f hf k => ?_, fun f hf k => ?_, fun n hn => hs _ (h.2.2 n hn)⟩
  · rcases List.mem_append.mp hf with q | q
    · exact (h.1 f q k).mono hs
    · rw [List.mem_singleton.mp q] at k ⊢; exact h8 k
  · rcases List.mem_append.mp hf with q | q
    · exact AtF.mono (h.2.1 f q k)
    · rw [List.mem_singleton.mp q] at k ⊢; exact hF k
theorem KfI.tm {W : Wd} {c : Nat} {Fo : List Nat} {t : Nat} (h : KfI W c Fo) (ho : okT t) (hk : kd t ≤ 8) (hc : ∀ z ∈ fms t, z ∈ Fo) : KfI W c (Fo ++ [t]) := by
  refine h.ap (fun _ s hs h4 h8 => ?_) (fun q => by unfold isFo at q; omega)
  rw [subT_eq] at hs
  rcases hs with q | ⟨z, hz, q⟩
  · rw [q]; exact List.mem_append_right _ List.mem_cons_self
  · exact List.mem_append_left _ (h.1 z (hc z hz) (kd_14 ho.n (by omega) hz) s q h4 h8)
theorem KfI.atm {W : Wd} {c : Nat} {Fo : List Nat} {t : Nat} (h : KfI W c Fo) (ho : okT t) (hk : 9 ≤ kd t ∧ kd t ≤ 14) (hc : ∀ z ∈ fms t, z ∈ Fo) : KfI W c (Fo ++ [t]) := by
  have hkp : ∀ z ∈ fms t, KpT Fo z := fun z hz => h.1 z (hc z hz) (kd_14 ho.n hk.2 hz)
  refine h.ap (fun q => by omega) (fun _ s hs => ?_)
  rw [subT_eq] at hs
  rcases hs with q | ⟨z, hz, q⟩
  · rw [q]
    exact ⟨fun _ _ => (KpT.at ho (by omega) hk.2 hkp).mono nF_le.1 nF_le.2.1, fun a b w => Sh_mem (List.mem_append_right _ List.mem_cons_self) a b w⟩
  · have oz := ho.c hz
    have k8 : kd s ≤ 8 := by
      rw [subT_eq] at q
      rcases q with w | ⟨y, hy, w⟩
      · rw [w]; exact kd_14 ho.n hk.2 hz
      · exact kd_sub8 oz (kd_14 ho.n hk.2 hz) hy w
    have os := sub_ok z oz q
    exact ⟨fun a b => (KpT.at os (by omega) (by omega) (fun y hy r hr a b => hkp z hz r (sub_tr z (sub_c hy hr) q) a b)).mono nF_le.1 nF_le.2.1, fun a b w => nF_le.2.2 _ (Sh_mem (hkp z hz s q a k8) a b w)⟩
theorem KfI.fo {W : Wd} {c : Nat} {Fo : List Nat} {t : Nat} (h : KfI W c Fo) (hf : isFo t) (ha : Alls (AtF Fo) t) : KfI W c (Fo ++ [t]) := h.ap (fun q => by unfold isFo at hf; omega) (fun _ => AtF.mono ha)
theorem KfI.wd {W W' : Wd} {c : Nat} {Fo : List Nat} (h : KfI W c Fo) (hx : ∀ n, Nm nu2 c n → wcT W' n = wcT W n) : KfI W' c Fo := ⟨h.1, h.2.1, fun n hn => by rw [hx n hn]; exact h.2.2 n hn⟩
theorem KfI.cn {W : Wd} {c : Nat} {Fo : List Nat} {y : Nat} (h : KfI W c Fo) (hy : y ∈ Fo) : KfI (wCn W c y) (c + 1) (Fo ++ [mk 1 (2 * c) []]) := by
  have h1 : KfI W c (Fo ++ [mk 1 (2 * c) []]) := h.tm (okT_const _).1 (by rw [kd_mk]; decide) (fun z hz => by rw [fms_nil] at hz; cases hz)
  refine ⟨h1.1, h1.2.1, fun n hn => ?_⟩
  rcases Classical.em (Nm nu2 c n) with w | w
  · rw [wcT_cn, if_neg (nm_ne w)]; exact h1.2.2 n w
  · obtain ⟨i, i1, i2⟩ := hn
    have : n = 2 * c := by
      rcases Nat.lt_or_ge i c with z | z
      · exact absurd ⟨i, z, i2⟩ w
      · rw [← i2]; unfold nu2; omega
    rw [wcT_cn, if_pos this]
    exact List.mem_append_left _ hy
/-- a binder -/
theorem Alls.al {n N y f : Nat} {Sh : List Nat} (hy : Alls (AtP n N Sh) y) (hf : Alls (AtP n N Sh) f) : Alls (AtP n N Sh) (alT y f) := by
  unfold alT
  split
  · exact Alls.yes AtP_yes
  · refine Alls.mk (AtP_hi (by rw [kd_mk]; decide)) (fun c hc => ?_)
    rcases List.mem_cons.mp hc with q | q
    · rw [q]; exact hy
    · rw [List.mem_singleton.mp q]; exact hf
theorem KfI.ty {W : Wd} {c : Nat} {Fo : List Nat} {y : Nat} (h : KfI W c Fo) (hy : y ∈ Fo) (ho : okT y) (h8 : kd y = 8) : Alls (AtF Fo) y := fun s hs => by
  have os := sub_ok y ho hs
  have k8 : kd s ≤ 8 := by
    have hs' := hs
    rw [subT_eq] at hs'
    rcases hs' with w | ⟨z, hz, w⟩
    · rw [w]; omega
    · exact kd_sub8 ho (by omega) hz w
  exact ⟨fun a b => KpT.at os (by omega) (by omega) (fun z hz r hr p q => h.1 y hy (by omega) r (sub_tr y (sub_c hz hr) hs) p q), fun a b w => Sh_mem (h.1 y hy (by omega) s hs a k8) a b w⟩
theorem KfI.bd {W : Wd} {c : Nat} {Fo : List Nat} {o : Int} {x y : Nat} (h : KfI W c Fo) (hy : y ∈ Fo) (oy : okT y) (fy : isFo y) (hx : wcT W (wh x) ∈ Fo) (ox : okT (wcT W (wh x))) (x8 : kd (wcT W (wh x)) = 8) (hbo : okT (bdA W o x y)) : Alls (AtF Fo) (bdT W o x y) := by
  have hP : ∀ s, 15 ≤ kd s → AtF Fo s := fun s q => AtP_hi q
  have a1 := h.2.1 y hy fy
  have a2 : Alls (AtF Fo) (bdF o y) ∧ okT (bdF o y) := by
    unfold bdF
    split
    · exact ⟨a1, oy⟩
    · exact ⟨Alls.not hP oy a1, (okT_not oy fy).1⟩
  have a3 : Alls (AtF Fo) (bdA W o x y) := Alls.al (h.ty hx ox x8) (Alls.bind a2.2 a2.1)
  unfold bdT
  split
  · exact a3
  · exact Alls.not hP hbo a3
