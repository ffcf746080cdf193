/-! names in the types of binders: constants speak of earlier ones alone -/
theorem AllsB.no {P : Nat → Prop} (hP : ∀ s, kd s = 16 ∨ kd s = 17 → P s) (hy : P yesT) : Alls P noT := Alls.mk (hP _ (by rw [kd_mk]; decide)) (fun c hc => by rw [List.mem_singleton.mp hc]; exact Alls.yes hy)
theorem AllsB.not {P : Nat → Prop} (hP : ∀ s, kd s = 16 ∨ kd s = 17 → P s) {f : Nat} (ho : okT f) (h : Alls P f) : Alls P (notT f) := by
  unfold notT
  by_cases h16 : kd f = 16
  · rw [if_pos h16]
    obtain ⟨g, e, _, _, hg⟩ := ps_not1 ho h16
    rw [e]
    exact h.sub (sub_c hg (sub_rf g))
  · rw [if_neg h16]
    exact Alls.mk (hP _ (by rw [kd_mk]; decide)) (fun c hc => by rw [List.mem_singleton.mp hc]; exact h)
theorem AllsB.and {P : Nat → Prop} (hP : ∀ s, kd s = 16 ∨ kd s = 17 → P s) (hy : P yesT) {L : List Nat} (h : ∀ f ∈ L, okT f ∧ Alls P f) : Alls P (andT L) := by
  have hfl : ∀ g ∈ L.flatMap flt, Alls P g := fun g hg => by
    obtain ⟨f, hf, q⟩ := List.mem_flatMap.mp hg
    rcases flt_in q with e | ⟨e, z⟩
    · rw [e]; exact (h f hf).2
    · have hfo : isFo g := by
        rcases (h f hf).1.n.2 with q | q | q | q | q | q | q | q | q | q | q | q | q | q <;> try omega
        exact (q.2.2.2 g z).1
      exact (h f hf).2.sub (sub_c (fms_mem z (by omega) (isFo_pos hfo)) (sub_rf g))
  unfold andT
  by_cases hn : noT ∈ L
  · rw [if_pos hn]; exact AllsB.no hP hy
  · rw [if_neg hn]
    cases hl : L.flatMap flt with
    | nil => exact Alls.yes hy
    | cons a l =>
      rw [hl] at hfl
      cases l with
      | nil => exact hfl a List.mem_cons_self
      | cons b l => exact Alls.mk (hP _ (by rw [kd_mk]; decide)) hfl
theorem AllsB.imp {P : Nat → Prop} (hP : ∀ s, kd s = 16 ∨ kd s = 17 → P s) (hy : P yesT) {f g : Nat} (hf : okT f ∧ isFo f ∧ Alls P f) (hg : okT g ∧ isFo g ∧ Alls P g) : Alls P (impT f g) := by
  have n1 := okT_not hg.1 hg.2.1
  have hL : ∀ x ∈ [f, notT g], okT x ∧ isFo x := fun x hx => by
    rcases List.mem_cons.mp hx with q | q
    · rw [q]; exact ⟨hf.1, hf.2.1⟩
    · rw [List.mem_singleton.mp q]; exact n1
  have hL2 : ∀ x ∈ [f, notT g], okT x ∧ Alls P x := fun x hx => by
    rcases List.mem_cons.mp hx with q | q
    · rw [q]; exact ⟨hf.1, hf.2.2⟩
    · rw [List.mem_singleton.mp q]; exact ⟨n1.1, AllsB.not hP hg.1 hg.2.2⟩
  exact AllsB.not hP (okT_and hL).1 (AllsB.and hP hy hL2)
theorem AllsB.jn {P : Nat → Prop} (hP : ∀ s, kd s = 16 ∨ kd s = 17 → P s) (hy : P yesT) {k : Int} {x y : Nat} (hx : okT x ∧ isFo x ∧ Alls P x) (hk : k ≠ 0 → okT y ∧ isFo y ∧ Alls P y) : Alls P (jnT k x y) := by
  unfold jnT
  by_cases k0 : k = 0
  · rw [if_pos k0]; exact AllsB.not hP hx.1 hx.2.2
  rw [if_neg k0]
  have hY := hk k0
  have two : ∀ {a b : Nat}, okT a ∧ isFo a ∧ Alls P a → okT b ∧ isFo b ∧ Alls P b → (okT (andT [a, b]) ∧ isFo (andT [a, b])) ∧ Alls P (andT [a, b]) := fun {a b} ha hb => by
    refine ⟨okT_and (fun z hz => ?_), AllsB.and hP hy (fun z hz => ?_)⟩
    · rcases List.mem_cons.mp hz with q | q
      · rw [q]; exact ⟨ha.1, ha.2.1⟩
      · rw [List.mem_singleton.mp q]; exact ⟨hb.1, hb.2.1⟩
    · rcases List.mem_cons.mp hz with q | q
      · rw [q]; exact ⟨ha.1, ha.2.2⟩
      · rw [List.mem_singleton.mp q]; exact ⟨hb.1, hb.2.2⟩
  have nt : ∀ {a : Nat}, okT a ∧ isFo a ∧ Alls P a → okT (notT a) ∧ isFo (notT a) ∧ Alls P (notT a) := fun {a} ha => ⟨(okT_not ha.1 ha.2.1).1, (okT_not ha.1 ha.2.1).2, AllsB.not hP ha.1 ha.2.2⟩
  by_cases k1 : k = 1
  · rw [if_pos k1]; exact (two hx hY).2
  rw [if_neg k1]
  by_cases k2 : k = 2
  · rw [if_pos k2]
    have := two (nt hx) (nt hY)
    exact AllsB.not hP this.1.1 this.2
  rw [if_neg k2]
  by_cases k3 : k = 3
  · rw [if_pos k3]; exact AllsB.imp hP hy hx hY
  rw [if_neg k3]
  have i1 := okT_imp ⟨hx.1, hx.2.1⟩ ⟨hY.1, hY.2.1⟩
  have i2 := okT_imp ⟨hY.1, hY.2.1⟩ ⟨hx.1, hx.2.1⟩
  exact (two ⟨i1.1, i1.2, AllsB.imp hP hy hx hY⟩ ⟨i2.1, i2.2, AllsB.imp hP hy hY hx⟩).2

def BtN (n s : Nat) : Prop := kd s = 18 → NmL n (pa s 0)
theorem BtN_hi {n s : Nat} (h : kd s ≠ 18) : BtN n s := fun q => absurd q h
theorem BtN.mono {n n' f : Nat} (h : Alls (BtN n) f) (hn : n ≤ n') : Alls (BtN n') f := fun s hs k => (h s hs k).mono hn
theorem BtN.sb {n x f e : Nat} (ho : okT f) (hx : kd x = 1) (h : Alls (BtN n) f) : Alls (BtN n) (sbT (bindg x) e f) := fun s hs k18 => by
  rcases sub_sb f hs with ⟨l, d', hc, q⟩ | ⟨z, d', hc, hk, q⟩
  · obtain ⟨o, k3, _⟩ := lv_ok f ho l hc
    have k4 := (gLf_bind (x := x) (e := d') l k3 (okT_0 o)).1
    have : s = bindg x d' l ∨ ∃ z ∈ fms (bindg x d' l), subT s z := by rw [subT_eq] at q; exact q
    rcases this with w | ⟨z, hz, _⟩
    · rw [w] at k18; omega
    · rw [fms_lf (okT_bindg o).n k4] at hz; cases hz
  · have oz := sub_ok f ho hc
    have k1 := (sb_kd (g := bindg x) (d := d') hk).1
    rw [q] at k18 ⊢
    have kz : kd z = 18 := by omega
    obtain ⟨y, b, hp, y8, ff, my, mf⟩ := ps_all1 oz kz
    have pn := (fms_all (d := d') (bindg_0 (x := x)) kz hp (okT_0 (oz.c my)) (okT_0 (oz.c mf))).2
    have e1 : pa (sbT (bindg x) d' z) 0 = sbT (bindg x) d' y := by unfold pa; rw [pn]; rfl
    have e2 : pa z 0 = y := by unfold pa; rw [hp]; rfl
    have h1 := h z hc kz
    rw [e2] at h1
    rw [e1]
    exact NmL.bd (oz.c my) hx h1
/-- the types of constants speak of earlier constants -/
def TyO (W : Wd) (c : Nat) : Prop := ∀ i, i < c → ∀ l ∈ lvT (wcT W (2 * i)), kd l = 1 → ∃ j, j < i ∧ wh l = 2 * j
theorem TyO.nm {W : Wd} {c i : Nat} (h : TyO W c) (hi : i < c) (ho : okT (wcT W (2 * i))) (hlo : loT (wcT W (2 * i)) = 0) : NmL i (wcT W (2 * i)) := by
  have h1 := NmL.of (Λ := (List.range i).map (fun j => mk 1 (2 * j) [])) ho hlo (fun l hl k1 => by
    obtain ⟨j, j1, j2⟩ := h i hi l hl k1
    refine List.mem_map.mpr ⟨j, List.mem_range.mpr j1, ?_⟩
    rw [← j2]
    exact (c1_mk (lv_ok _ ho l hl).1 k1).symm)
  rwa [List.length_map, List.length_range] at h1
def KfT (c : Nat) (Fo : List Nat) : Prop := ∀ f ∈ Fo, isFo f → Alls (BtN (c - 1)) f
theorem KfT.ap {c c' : Nat} {Fo : List Nat} {t : Nat} (h : KfT c Fo) (hc : c ≤ c') (ht : isFo t → Alls (BtN (c' - 1)) t) : KfT c' (Fo ++ [t]) := fun f hf k => by
  rcases List.mem_append.mp hf with q | q
  · exact BtN.mono (h f q k) (by omega)
  · rw [List.mem_singleton.mp q] at k ⊢; exact ht k
theorem no18 {f s : Nat} (ho : okT f) (h14 : kd f ≤ 14) (hs : subT s f) : kd s ≠ 18 := by
  have := kd_sub14 ho h14 hs
  omega
theorem KfT.tm {c : Nat} {Fo : List Nat} {t : Nat} (h : KfT c Fo) (ho : okT t) (hk : kd t ≤ 14) : KfT c (Fo ++ [t]) := h.ap (Nat.le_refl _) (fun _ s hs => BtN_hi (no18 ho hk hs))
theorem KfT.cn {c : Nat} {Fo : List Nat} {t : Nat} (h : KfT c Fo) (ho : okT t) (hk : kd t ≤ 14) : KfT (c + 1) (Fo ++ [t]) := h.ap (by omega) (fun _ s hs => BtN_hi (no18 ho hk hs))
theorem BtN_yes {n : Nat} : BtN n yesT := BtN_hi (by unfold yesT; rw [kd_mk]; decide)
theorem KfT.jn {c : Nat} {Fo : List Nat} {k : Int} {x y : Nat} (h : KfT c Fo) (hx : x ∈ Fo) (ox : okT x ∧ isFo x) (hy : k ≠ 0 → y ∈ Fo) (oy : k ≠ 0 → okT y ∧ isFo y) : KfT c (Fo ++ [jnT k x y]) := h.ap (Nat.le_refl _) (fun _ => AllsB.jn (P := BtN (c - 1)) (fun s q => BtN_hi (by omega)) BtN_yes ⟨ox.1, ox.2, h x hx ox.2⟩ (fun q => ⟨(oy q).1, (oy q).2, h y (hy q) (oy q).2⟩))
theorem KfT.bd {W : Wd} {c : Nat} {Fo : List Nat} {o : Int} {x y i : Nat} (h : KfT c Fo) (hT : TyO W c) (hy : y ∈ Fo) (oy : okT y) (fy : isFo y) (hx : kd x = 1) (hi : i < c) (ei : wh x = 2 * i) (ot : okT (wcT W (wh x))) (t8 : kd (wcT W (wh x)) = 8) (lt : loT (wcT W (wh x)) = 0) (hbo : okT (bdA W o x y)) : KfT c (Fo ++ [bdT W o x y]) := by
  have y1 := h y hy fy
  have hP : ∀ s, kd s = 16 ∨ kd s = 17 → BtN (c - 1) s := fun s q => BtN_hi (by omega)
  have a2 : Alls (BtN (c - 1)) (bdF o y) ∧ okT (bdF o y) := by
    unfold bdF
    split
    · exact ⟨y1, oy⟩
    · exact ⟨AllsB.not hP oy y1, (okT_not oy fy).1⟩
  have tn : NmL (c - 1) (wcT W (wh x)) := by
    rw [ei] at ot lt ⊢
    exact (hT.nm hi ot lt).mono (by omega)
  have a3 : Alls (BtN (c - 1)) (bdA W o x y) := by
    unfold bdA bdG alT
    split
    · exact Alls.yes BtN_yes
    · refine Alls.mk (fun _ => ?_) (fun z hz => ?_)
      · have : pa (mk 18 0 [wcT W (wh x), sbT (bindg x) 0 (bdF o y)]) 0 = wcT W (wh x) := by unfold pa; rw [ps_mk]; rfl
        rw [this]; exact tn
      · rcases List.mem_cons.mp hz with q | q
        · rw [q]; exact fun s hs => BtN_hi (no18 ot (by omega) hs)
        · rw [List.mem_singleton.mp q]; exact BtN.sb a2.2 hx a2.1
  refine h.ap (Nat.le_refl _) (fun _ => ?_)
  unfold bdT
  split
  · exact a3
  · exact AllsB.not hP hbo a3
