/-! names of what puts together: kept by all calls; what atoms and types cost -/
theorem Alls.bindG {Fo : List Nat} {x e f : Nat} (ho : okT f) (h : Alls (AtG Fo) f) : Alls (AtG Fo) (sbT (bindg x) e f) := fun s hs => by
  rcases sub_sb f hs with ⟨c, d', hc, q⟩ | ⟨c, d', hc, hk, q⟩
  · obtain ⟨o, k3, _⟩ := lv_ok f ho c hc
    have k4 := (gLf_bind (x := x) (e := d') c k3 (okT_0 o)).1
    have : s = bindg x d' c ∨ ∃ z ∈ fms (bindg x d' c), subT s z := by rw [subT_eq] at q; exact q
    rcases this with z | ⟨z, hz, _⟩
    · rw [z]; exact fun q => by omega
    · rw [fms_lf (okT_bindg o).n k4] at hz; cases hz
  · have hoc := sub_ok f ho hc
    have k1 := (sb_kd (g := bindg x) (d := d') hk).1
    rw [q]
    intro h8 h14 inc hi
    rw [k1] at h8 h14
    exact Nat.le_trans (mg_sbf gLf_bind hoc h14 hk hi) (h c hc h8 h14 inc hi)
def KfG (Fo : List Nat) : Prop := ∀ f ∈ Fo, isFo f → Alls (AtG Fo) f
theorem KfG.ap {Fo : List Nat} {t : Nat} (h : KfG Fo) (ht : isFo t → Alls (AtG Fo) t) : KfG (Fo ++ [t]) := fun f hf k => by
  rcases List.mem_append.mp hf with q | q
  · exact AtG.mono (h f q k)
  · rw [List.mem_singleton.mp q] at k ⊢; exact AtG.mono (ht k)
theorem KfG.tm {Fo : List Nat} {t : Nat} (h : KfG Fo) (hk : kd t ≤ 8) : KfG (Fo ++ [t]) := h.ap (fun q => by unfold isFo at q; omega)
theorem KfG.atm {W : Wd} {c : Nat} {Fo : List Nat} {t : Nat} (h : KfG Fo) (hI : KfI W c Fo) (ho : okT t) (hk : 9 ≤ kd t ∧ kd t ≤ 14) (hc : ∀ z ∈ fms t, z ∈ Fo) : KfG (Fo ++ [t]) := by
  have hkp : ∀ z ∈ fms t, KpT Fo z := fun z hz => hI.1 z (hc z hz) (kd_14 ho.n hk.2 hz)
  refine h.ap (fun _ s hs a b inc hi => ?_)
  rw [subT_eq] at hs
  rcases hs with q | ⟨z, hz, q⟩
  · rw [q]; exact KpT.atG ho hk.2 hkp hi
  · have oz := ho.c hz
    have os := sub_ok z oz q
    have ks := kd_sub14 ho hk.2 (sub_c hz q)
    exact KpT.atG os ks (fun y hy r hr p q' => hkp z hz r (sub_tr z (sub_c hy hr) q) p q') hi
theorem KfG.jn {Fo : List Nat} {k : Int} {x y : Nat} (h : KfG Fo) (hx : x ∈ Fo) (ox : okT x ∧ isFo x) (hy : k ≠ 0 → y ∈ Fo) (oy : k ≠ 0 → okT y ∧ isFo y) : KfG (Fo ++ [jnT k x y]) := h.ap (fun _ => Alls.jn (P := AtG Fo) (fun s q => AtG_hi q) AtG_yes ⟨ox.1, ox.2, h x hx ox.2⟩ (fun q => ⟨(oy q).1, (oy q).2, h y (hy q) (oy q).2⟩))
theorem KfG.bd {W : Wd} {c : Nat} {Fo : List Nat} {o : Int} {x y : Nat} (h : KfG Fo) (hI : KfI W c Fo) (hy : y ∈ Fo) (oy : okT y) (fy : isFo y) (hx : wcT W (wh x) ∈ Fo) (ox : okT (wcT W (wh x))) (x8 : kd (wcT W (wh x)) = 8) (hbo : okT (bdA W o x y)) : KfG (Fo ++ [bdT W o x y]) := by
  have y1 := h y hy fy
  have hP : ∀ s, 15 ≤ kd s → AtG Fo s := fun s q => AtG_hi q
  have a2 : Alls (AtG Fo) (bdF o y) ∧ okT (bdF o y) := by
    unfold bdF
    split
    · exact ⟨y1, oy⟩
    · exact ⟨Alls.not hP oy y1, (okT_not oy fy).1⟩
  have ty : Alls (AtG Fo) (wcT W (wh x)) := fun s hs a b inc hi => by
    have os := sub_ok _ ox hs
    exact KpT.atG os (kd_sub14 ox (by omega) hs) (fun z hz r hr p q => hI.1 _ hx (by omega) r (sub_tr _ (sub_c hz hr) hs) p q) hi
  have a3 : Alls (AtG Fo) (bdA W o x y) := by
    unfold bdA bdG alT
    split
    · exact Alls.yes AtG_yes
    · refine Alls.mk (AtG_hi (by rw [kd_mk]; decide)) (fun c hc => ?_)
      rcases List.mem_cons.mp hc with q | q
      · rw [q]; exact ty
      · rw [List.mem_singleton.mp q]; exact Alls.bindG a2.2 a2.1
  refine h.ap (fun _ => ?_)
  unfold bdT
  split
  · exact a3
  · exact Alls.not hP hbo a3

theorem nonM_in {Fo : List Nat} {inc : Nat → Nat} {A : Nat} (hi : IncOK inc) (ho : okT A) (h8 : 8 ≤ kd A) (h14 : kd A ≤ 14) (hU : AtU Fo A) : (((dP A).filter (fun s => !isM s)).map (fun s => inc (lf s))).sum ≤ uSm inc Fo (lf A) := by
  have s2 := (sum_split (f := fun s => inc (lf s)) (p := fun s => decide (2 ≤ lf s)) ((dP A).filter (fun s => !isM s))).1
  have h3 : ((((dP A).filter (fun s => !isM s)).filter (fun s => decide (2 ≤ lf s))).map (fun s => inc (lf s))).sum ≤ ((dU A).map (fun s => inc (lf s))).sum := sum_sub (((dd_nd _).filter _).filter _) (fun s hs => by
    obtain ⟨q1, q2⟩ := List.mem_filter.mp hs
    obtain ⟨q3, q4⟩ := List.mem_filter.mp q1
    obtain ⟨c, hc, h1, h2⟩ := (dP_mem ho).mp q3
    exact List.mem_filter.mpr ⟨(dQ_mem ho).mpr ⟨⟨c, hc, h1, h2⟩, by simpa using q2⟩, q4⟩)
  have h4 := hU h8 h14 inc
  have h5 : ((((dP A).filter (fun s => !isM s)).filter (fun s => !decide (2 ≤ lf s))).map (fun s => inc (lf s))).sum ≤ 0 * (((dP A).filter (fun s => !isM s)).filter (fun s => !decide (2 ≤ lf s))).length := sum_le_c (fun s hs => by
    have q := (List.mem_filter.mp hs).2
    have l1 : lf s ≤ 1 := by simp at q; omega
    have := hi.le l1
    rw [hi.2.1] at this
    exact this)
  omega
section ATG
variable {Fo : List Nat} {k kl kt m P Q Y : Nat}
theorem wk_atG {A d i : Nat} (ho : okT A) (h8 : 8 ≤ kd A) (h14 : kd A ≤ 14) (hU : AtU Fo A) (hG : AtG Fo A) (hQP : Q ≤ P) : Q * wkT k i A d ≤ Q * mvT k A d i + P * (dP A).length + (PhS (inc3 Q P (mvT k A d i)) (min (lf A) (1 + mKn Fo)) + uSm (inc3 Q P (mvT k A d i)) Fo (lf A)) := by
  rcases Nat.lt_or_ge (1 + mKn Fo) (lf A) with hlt | hge
  · rw [Nat.min_eq_right (by omega)]
    have hi := inc3_ok (v := mvT k A d i) hQP
    have ew : wkT k i A d = mvT k A d i + ((dP A).map (fun s => mvT k s d i)).sum := by
      rw [wk_eq]; unfold wkS; rw [if_pos h14]
    have h1 := nonM_in hi ho h8 h14 hU
    have h1g := hG h8 h14 _ hi
    have val : ∀ s ∈ dP A, Q * mvT k s d i ≤ P + inc3 Q P (mvT k A d i) (nmc s) ∧ Q * mvT k s d i ≤ P + inc3 Q P (mvT k A d i) (lf s) := fun s hs => by
      obtain ⟨c, hc, hs, _⟩ := (dP_mem ho).mp hs
      have hsub := sub_c hc hs
      have os := sub_ok A ho hsub
      have k14 := kd_sub14 ho h14 hsub
      have v1 : vnT s d i ≤ vnT A d i := vn_mono (fun r hr hv => ⟨r, hr, hv_sub ho h14 hsub hv, rfl⟩)
      have v2 := vn_lf (d := d) (i := i) os k14
      have v2' := vn_nmc (d := d) (i := i) os k14
      have v3 : mvT k s d i ≤ min (lf s) (mvT k A d i) := by unfold mvT; omega
      have v3' : mvT k s d i ≤ min (nmc s) (mvT k A d i) := by unfold mvT; omega
      have v4 : Q * mvT k s d i ≤ Q * min (lf s) (mvT k A d i) := Nat.mul_le_mul_left _ v3
      have v4' : Q * mvT k s d i ≤ Q * min (nmc s) (mvT k A d i) := Nat.mul_le_mul_left _ v3'
      unfold inc3
      constructor <;> omega
    have h2 : ∀ (l : List Nat), (∀ s ∈ l, s ∈ dP A) → Q * (l.map (fun s => mvT k s d i)).sum ≤ P * l.length + (((l.filter isM).map (fun s => inc3 Q P (mvT k A d i) (nmc s))).sum + ((l.filter (fun s => !isM s)).map (fun s => inc3 Q P (mvT k A d i) (lf s))).sum) := by
      intro l
      induction l with
      | nil => intro _; simp
      | cons s l ih =>
        intro hl
        have ih := ih (fun r hr => hl r (List.mem_cons_of_mem _ hr))
        obtain ⟨w1, w2⟩ := val s (hl s List.mem_cons_self)
        rw [List.map_cons, List.sum_cons, List.length_cons, Nat.mul_add, Nat.mul_add, List.filter_cons, List.filter_cons]
        by_cases hm : isM s = true
        · rw [if_pos hm, if_neg (by rw [hm]; decide), List.map_cons, List.sum_cons]
          omega
        · rw [if_neg hm, if_pos (by simpa using hm), List.map_cons, List.sum_cons]
          omega
    have h3 := h2 (dP A) (fun s hs => hs)
    rw [ew, Nat.mul_add]
    omega
  · rw [Nat.min_eq_left (by omega)]
    exact wk_atU ho h8 h14 hU hQP
/-- numbers that let atoms of leaves pay -/
def CnL2 (Fo : List Nat) (kl m P Q Y : Nat) : Prop := Q ≤ P ∧ ∀ v L, v ≤ kl → v ≤ 2 + m → v ≤ L → 1 ≤ L → Q * v + v * Y + (Q * v - P) + (PhS (inc3 Q P v) (min L (1 + mKn Fo)) + uSm (inc3 Q P v) Fo L) ≤ P * L
/-- numbers that let types of opened binders pay -/
def CnT2 (Fo : List Nat) (kt m P Q Y : Nat) : Prop := Q ≤ P ∧ ∀ v L, v ≤ kt → v ≤ 1 + m → v ≤ L → 1 ≤ L → Q * v + v * Y + (PhS (inc3 Q P v) (min L (1 + mKn Fo)) + uSm (inc3 Q P v) Fo L) ≤ P * L
theorem AtL.of2 {A : Nat} (ho : okT A) (hU : AtU Fo A) (hG : AtG Fo A) (hN : NmK m A) (hC : CnL2 Fo kl m P Q Y) : AtL k kl P Q Y A := fun h8 h14 d i hi hv => by
  have hk : ¬ kd A ≤ 3 := by omega
  have z := sz_dP ho hk
  have zP : P * (1 + (dP A).length + lf A) ≤ P * szT A := Nat.mul_le_mul_left P z
  rw [Nat.mul_add, Nat.mul_add, Nat.mul_one] at zP
  rcases Nat.lt_or_ge (lf A) 1 with q | q
  · obtain ⟨e1, e2⟩ := wk_lf0 (k := k) (d := d) (i := i) ho h8 h14 (by omega)
    rw [e1, e2]
    omega
  · have h1 := wk_atG (k := k) (d := d) (i := i) (P := P) ho h8 h14 hU hG hC.1
    have hvn := (hN.2 h14).vn d i
    have hvl := vn_lf (d := d) (i := i) ho h14
    have h2 := hC.2 (mvT k A d i) (lf A) (by unfold mvT; omega) (by unfold mvT; omega) (by unfold mvT; omega) q
    omega
theorem AtT2.of {A : Nat} (ho : okT A) (hU : AtU Fo A) (hG : AtG Fo A) (hN : NmK m A) (hV : ∀ i, i < k → vnT A 0 i ≤ kt) (hC : CnT2 Fo kt m P Q Y) : AtT2 k P Q Y A := fun k8 i hi => by
  have hk : ¬ kd A ≤ 3 := by omega
  have z := sz_dP ho hk
  have zP : P * (1 + (dP A).length + lf A) ≤ P * szT A := Nat.mul_le_mul_left P z
  rw [Nat.mul_add, Nat.mul_add, Nat.mul_one] at zP
  rcases Nat.lt_or_ge (lf A) 1 with q | q
  · obtain ⟨e1, e2⟩ := wk_lf0 (k := k) (d := 0) (i := i) ho (by omega) (by omega) (by omega)
    rw [e1, e2]
    omega
  · have h1 := wk_atG (k := k) (d := 0) (i := i) (P := P) ho (by omega) (by omega) hU hG hC.1
    have hvn := (hN.1 (by omega)).vn 0 i
    have hvk := hV i hi
    have hvl := vn_lf (d := 0) (i := i) ho (by omega)
    have h2 := hC.2 (mvT k A 0 i) (lf A) (by unfold mvT; omega) (by unfold mvT; omega) (by unfold mvT; omega) q
    omega
end ATG
