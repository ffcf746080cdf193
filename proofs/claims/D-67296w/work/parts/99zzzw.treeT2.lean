section MQ
variable {Mq : MqT}
theorem tqL_le {F : Nat → Nat → List (List Nat) × Nat} (hF : ∀ p c, c ≤ (F p c).2) : ∀ (l : List Nat) (c : Nat), c ≤ (tqL F l c).2
  | [], _ => Nat.le_refl _
  | p :: l, c => Nat.le_trans (hF p c) (tqL_le hF l _)
theorem tqF_le : ∀ (n f c : Nat), c ≤ (tqF n f c).2
  | 0, _, _ => Nat.le_refl _
  | n + 1, f, c => by
    rw [tqF]
    split
    · exact Nat.le_refl _
    · split
      · exact tqL_le (tqF_le n) _ _
      · split
        · split
          · exact Nat.le_refl _
          · split
            · exact tqL_le (tqF_le n) _ _
            · split
              · exact Nat.le_trans (Nat.le_succ c) (tqF_le n _ _)
              · exact Nat.le_refl _
        · exact Nat.le_refl _
def tqRL (G : Nat → Nat → Prop) (F : Nat → Nat → List (List Nat) × Nat) : List Nat → Nat → Prop
  | [], _ => True
  | p :: l, c => G p c ∧ tqRL G F l (F p c).2
/-- what opening asks for in the model -/
def tqR (W : Wd) (X : Nat → Prop) : Nat → Nat → Nat → Prop
  | 0, _, _ => False
  | n + 1, f, c => (kd f = 17 → tqRL (tqR W X n) (tqF n) (ps f) c) ∧ (kd f = 16 → kd (pa f 0) = 17 → (∀ p ∈ ps (pa f 0), X (notT p)) ∧ tqRL (tqR W X n) (tqF n) ((ps (pa f 0)).map notT) c) ∧ (kd f = 16 → kd (pa f 0) = 18 → (wcT W (2 * c) = pa (pa f 0) 0 ∧ X (mk 1 (2 * c) []) ∧ ImT X (putg (mk 1 (2 * c) [])) (pa (pa f 0) 1) 0 ∧ X (notT (sbT (putg (mk 1 (2 * c) [])) 0 (pa (pa f 0) 1)))) ∧ tqR W X n (notT (sbT (putg (mk 1 (2 * c) [])) 0 (pa (pa f 0) 1))) (c + 1))
def TrP (Mq : MqT) (W : Wd) (X : Nat → Prop) (n f c : Nat) (u : Sg) (q : Nat) : Int → Sg → Prop := fun r u' => ∃ q', r = ((q + 1 : Nat) : Int) ∧ (q + 1 ≤ q' ∧ q' + (if kd f = 16 then 1 else 0) ≤ q + szQ f) ∧ TrI Mq W X (tqF n f c).2 u u' ∧ QS u' q' ∧ RepN nt2 (n + 1) u' (q + 1) q' (tqF n f c).1 ∧ gN u' 45 (q + 1) = 0 ∧ ∀ j, 43 ≤ j → j ≤ 47 → ∀ i, i ≤ q → gN u' j i = gN u j i
def TrSp (Mq : MqT) (W : Wd) (X : Nat → Prop) (n : Nat) : Prop := ∀ (d : Nat) (u : Sg) (x f c q : Nat), tqR W X n f c → 1000 + n ≤ d → TrA Mq W c u → QS u q → 0 < x → x ≤ nT u → trT nt2 u x = f → okT f → isFo f → loT f = 0 → szQ f ≤ 900 → hT u ≤ 20000 → (tqF n f c).2 ≤ 8000 → q + szQ f ≤ 30000 → LimT nt2 u X → wp (runT d 55 [(x : Int)] u) (TrP Mq W X n f c u q)
def TrL (Mq : MqT) (W : Wd) (X : Nat → Prop) (c : Nat) (u0 u : Sg) (p hi n : Nat) (Dn : List (List (List Nat))) (a4 kx : Int) : Prop := TrI Mq W X c u0 u ∧ QS u hi ∧ KidL (RepN nt2 n u) u p hi Dn a4 ∧ (0 < p ∧ p ≤ hi) ∧ gN u 43 p = kx ∧ gN u 45 p = 0 ∧ ∀ j, 43 ≤ j → j ≤ 47 → ∀ i, i < p → gN u j i = gN u0 j i
theorem TrL.hang {W : Wd} {X : Nat → Prop} {d c n g p hi : Nat} {u0 u u1 : Sg} {Dn : List (List (List Nat))} {a4 kx r : Int} (hd : 2 ≤ d) (h : TrL Mq W X c u0 u p hi (n + 1) Dn a4 kx) (hP : TrP Mq W X n g c u hi r u1) : ∃ hi', (hi' + (if kd g = 16 then 1 else 0) ≤ hi + szQ g) ∧ wp (runT (d + 1) 57 [(p : Int), a4, r] u1) (fun r' u' => TrL Mq W X (tqF n g c).2 u0 u' p hi' (n + 1) (Dn ++ [(tqF n g c).1]) r' kx) := by
  obtain ⟨h1, h2, h3, h4, h5, h6, h7⟩ := h
  obtain ⟨q', p1, ⟨p2, p3⟩, p4, p5, p6, p7, p8⟩ := hP
  refine ⟨q', p3, ?_⟩
  rw [p1]
  refine wp_mono (tX3_hang (ν := nt2) (ν1 := nt2) hd h3 h4.2 p8 (fun v t ht => p4.2.1.inT ht) p6 p7 p4.1.2.1 p5) (fun r' u' ⟨z1, z2, z3, z4, z5, z6⟩ => ?_)
  exact ⟨(h1.tr p4).tr (TrI.qf p4.1 z3), z4, z2, ⟨h4.1, by omega⟩, by rw [z6 43 (Or.inl rfl), p8 43 (by omega) (by omega) p h4.2]; exact h5, by rw [z6 45 (Or.inr rfl), p8 45 (by omega) (by omega) p h4.2]; exact h6, fun j a b i hi => by rw [z5 j a b i hi, p8 j a b i (by omega)]; exact h7 j a b i hi⟩
theorem TrL.st {W : Wd} {X : Nat → Prop} {c n p hi : Nat} {u0 u u' : Sg} {Dn : List (List (List Nat))} {a4 kx : Int} (h : TrL Mq W X c u0 u p hi n Dn a4 kx) (hU : UpT nt2 (c + 2) u u' X) (w : WF FT u') (g : Gr FT 16382 u u') : TrL Mq W X c u0 u' p hi n Dn a4 kx := by
  obtain ⟨h1, h2, h3, h4, h5, h6, h7⟩ := h
  have hI : TrI Mq W X c u u' := TrI.st h1.1 hU w g
  obtain ⟨b1, b2⟩ := q_frS h2 g
  refine ⟨h1.tr hI, b1, ?_, h4, by rw [b2 43 (by omega) (by omega)]; exact h5, by rw [b2 45 (by omega) (by omega)]; exact h6, fun j a b i hi => by rw [b2 j a b]; exact h7 j a b i hi⟩
  obtain ⟨E, ⟨e0, e1, e2, e3, e4, e5⟩, e6⟩ := h3
  exact ⟨E, ⟨e0, e1, e2, by rw [b2 44 (by omega) (by omega)]; exact e3, fun i hi => by rw [b2 45 (by omega) (by omega)]; exact e4 i hi, fun i A hA => RepN.fr n (e5 i A hA) (fun j hj x _ _ => b2 j (by omega) (by omega) x) (fun x _ _ => b2 45 (by omega) (by omega) x) (fun v t ht => hI.2.1.inT ht)⟩, e6⟩
theorem szQ_not' {p : Nat} (ho : okT p) (hf : isFo p) (h : kd (notT p) ≠ 16) : szQ (notT p) + 1 ≤ szQ p := by
  unfold notT at h ⊢
  by_cases k : kd p = 16
  · rw [if_pos k]
    obtain ⟨g, e, hg⟩ := not_wf ho k
    rw [e]
    have hm : g ∈ fms p := fms_at.mpr ⟨0, Or.inr rfl, by rw [e]; rfl, by omega⟩
    exact g_c (szQ_ex (isFo_pos hf) (by omega)) hm
  · rw [if_neg k, kd_mk] at h
    exact absurd rfl h
theorem lo_notT {f : Nat} (ho : okT f) (hc : loT f = 0) : loT (notT f) = 0 := by
  unfold notT
  by_cases h : kd f = 16
  · rw [if_pos h]
    obtain ⟨g, e, hg⟩ := not_wf ho h
    rw [e]
    have hm : g ∈ fms f := fms_at.mpr ⟨0, Or.inr rfl, by rw [e]; rfl, by omega⟩
    have := lo_part ho.n (by omega) hm
    show loT g = 0
    omega
  · rw [if_neg h]
    have k := kd_mk 16 0 [f]
    have p := ps_mk 16 0 [f]
    refine Nat.le_zero.mp (lo_of (by omega) (fun i c hi _ => ?_))
    rw [p] at hi
    have : i = 0 := by have := (List.getElem?_eq_some_iff.mp hi).1; simp at this; exact this
    rw [this] at hi
    simp at hi
    rw [← hi, hc]
    exact Nat.zero_le _
theorem tree_L41 {W : Wd} {X : Nat → Prop} {n d x f p QB : Nat} {u0 : Sg} {Q : Int → Sg → Prop} (ih : TrSp Mq W X n) (hd : 1000 + n ≤ d) (x0 : 0 < x) (hx : x ≤ nT u0) (ex : trT nt2 u0 x = f) (h17 : kd f = 17) (ho : okT f) (hlo : loT f = 0) (hall : ∀ p ∈ ps f, isFo p ∧ p ∈ fms f) (hz : szQ f ≤ 900) (hr : hT u0 ≤ 20000) (hQB : QB ≤ 30000) (hl : LimT nt2 u0 X) {K : Int → Sg → Option (Int × Sg)} : ∀ (Rm : List Nat) (i fu : Nat) (u : Sg) (c : Nat) (Dn : List (List (List Nat))) (a4 : Int) (hi : Nat), (ps f).drop i = Rm → Rm.length < fu → tqRL (tqR W X n) (tqF n) Rm c → TrL Mq W X c u0 u p hi (n + 1) Dn a4 1 → hi + (Rm.map szQ).sum ≤ QB → (tqL (tqF n) Rm c).2 ≤ 8000 → (∀ u2 hi2 a, TrL Mq W X (tqL (tqF n) Rm c).2 u0 u2 p hi2 (n + 1) (Dn ++ (tqL (tqF n) Rm c).1) a 1 → hi2 ≤ QB → wp (K (p : Int) u2) Q) → wp (bX3_tree_L41 (runT d) fu (x : Int) (p : Int) a4 (i : Int) u K) Q := by
  intro Rm
  have nw0 : nw (kd f) = 0 := by rw [h17]; decide
  induction Rm with
  | nil =>
    intro i fu u c Dn a4 hi hR hf hq hL hb hc hK
    obtain ⟨fu, rfl⟩ : ∃ f', fu = f' + 1 := ⟨fu - 1, by simp at hf; omega⟩
    have hI := hL.1
    have hs := hI.1.1.1
    have hx1 : x ≤ nT u := Nat.le_trans hx hI.2.1.1
    have ex1 : trT nt2 u x = f := by rw [hI.2.1.2.1 x hx]; exact ex
    have hn := (nodeT hs x0 hx1).2.1
    rw [ex1, nw0] at hn
    have hlen : (ps f).length ≤ i := by
      have := congrArg List.length hR
      rw [List.length_drop] at this
      simp at this
      omega
    have l3 : x < gL u 3 := by rw [hs.1.1.2.2.2.1.2.1]; exact hs.k hx1
    rw [bX3_tree_L41, ld_nat l3, hn, if_neg (by omega)]
    refine hK u hi a4 ?_ (by simp at hb; omega)
    show TrL Mq W X c u0 u p hi (n + 1) (Dn ++ []) a4 1
    rw [List.append_nil]
    exact hL
  | cons g Rm ihl =>
    intro i fu u c Dn a4 hi hR hf hq hL hb hc hK
    obtain ⟨fu, rfl⟩ : ∃ f', fu = f' + 1 := ⟨fu - 1, by simp at hf; omega⟩
    have hI := hL.1
    have hs := hI.1.1.1
    have hx1 : x ≤ nT u := Nat.le_trans hx hI.2.1.1
    have ex1 : trT nt2 u x = f := by rw [hI.2.1.2.1 x hx]; exact ex
    have hn := (nodeT hs x0 hx1).2.1
    rw [ex1, nw0] at hn
    have hlen : i < (ps f).length := Classical.byContradiction (fun q => by
      rw [List.drop_eq_nil_of_le (by omega)] at hR; cases hR)
    have hgi : (ps f)[i]? = some g := by
      have := congrArg (fun l => l[0]?) hR
      simpa using this
    have hgm : g ∈ ps f := List.mem_of_getElem? hgi
    have l3 : x < gL u 3 := by rw [hs.1.1.2.2.2.1.2.1]; exact hs.k hx1
    have lenb := g_len ho (fun _ h => szQ_pos h) (szQ_ex (fun q => by rw [q, kd0] at h17; omega) (by omega))
    obtain ⟨y, y1, y2, y3⟩ := partNT (d := d) (i := i) (by omega) hs x0 hx1 (by rw [ex1]; exact hlen) (Or.inl (by rw [ex1]; omega))
    rw [ex1, nw0] at y1
    rw [ex1, pa_at hgi] at y3
    have y0 : 0 < y := Nat.pos_of_ne_zero (fun q => isFo_pos (hall g hgm).1 (by rw [← y3, q]; rfl))
    rw [bX3_tree_L41, ld_nat l3, hn, if_pos (by omega)]
    refine wp_eq y1 ?_
    have hg1 := g_c (szQ_ex (fun q => by rw [q, kd0] at h17; omega) (by omega)) (hall g hgm).2
    have hb' : hi + (szQ g + (Rm.map szQ).sum) ≤ QB := by simpa using hb
    have hc1 := tqL_le (tqF_le n) Rm (tqF n g c).2
    have hc2 : (tqL (tqF n) Rm (tqF n g c).2).2 ≤ 8000 := hc
    refine wp_call (ih d u y g c hi hq.1 (by omega) hI.1 hL.2.1 y0 (by omega) y3 (ho.c (hall g hgm).2) (hall g hgm).1 (by have := lo_part ho.n (by omega) (hall g hgm).2; omega) (by omega) (by have := hI.2.1.2.2.2.1; omega) (by omega) (by omega) (hI.2.1.lim hl)) (fun r u1 hP => ?_)
    obtain ⟨d', rfl⟩ : ∃ d', d = d' + 1 := ⟨d - 1, by omega⟩
    obtain ⟨hi', b1, b2⟩ := hL.hang (d := d') (by omega) hP
    refine wp_call b2 (fun r' u' hL' => ?_)
    rw [wp_ar]
    refine ⟨⟨by omega, by omega⟩, ?_⟩
    rw [show (i : Int) + 1 = ((i + 1 : Nat) : Int) by omega]
    refine ihl (i + 1) fu u' (tqF n g c).2 (Dn ++ [(tqF n g c).1]) r' hi' (by rw [← List.drop_drop, hR]; rfl) (by simp at hf; omega) hq.2 hL' (by split at b1 <;> omega) hc (fun u2 hi2 a z1 z2 => hK u2 hi2 a ?_ z2)
    have e : Dn ++ (tqL (tqF n) (g :: Rm) c).1 = Dn ++ [(tqF n g c).1] ++ (tqL (tqF n) Rm (tqF n g c).2).1 := by
      rw [List.append_assoc]; rfl
    rw [e]
    exact z1
theorem tree_L142 {W : Wd} {X : Nat → Prop} {n d x f p QB : Nat} {u0 : Sg} {Q : Int → Sg → Prop} (ih : TrSp Mq W X n) (hd : 1000 + n ≤ d) (x0 : 0 < x) (hx : x ≤ nT u0) (ex : trT nt2 u0 x = f) (h17 : kd f = 17) (ho : okT f) (hlo : loT f = 0) (hall : ∀ p ∈ ps f, isFo p ∧ p ∈ fms f) (hz : szQ f ≤ 899) (hr : hT u0 ≤ 20000) (hQB : QB ≤ 29999) (hXn : ∀ p ∈ ps f, X (notT p)) (hl : LimT nt2 u0 X) {K : Int → Sg → Option (Int × Sg)} : ∀ (Rm : List Nat) (i fu : Nat) (u : Sg) (c : Nat) (Dn : List (List (List Nat))) (a4 : Int) (hi : Nat), (ps f).drop i = Rm → Rm.length < fu → tqRL (tqR W X n) (tqF n) (Rm.map notT) c → TrL Mq W X c u0 u p hi (n + 1) Dn a4 2 → hi + (Rm.map szQ).sum ≤ QB → (tqL (tqF n) (Rm.map notT) c).2 ≤ 8000 → (∀ u2 hi2 a, TrL Mq W X (tqL (tqF n) (Rm.map notT) c).2 u0 u2 p hi2 (n + 1) (Dn ++ (tqL (tqF n) (Rm.map notT) c).1) a 2 → hi2 ≤ QB → wp (K (p : Int) u2) Q) → wp (bX3_tree_L142 (runT d) fu (x : Int) (p : Int) a4 (i : Int) u K) Q := by
  intro Rm
  have nw0 : nw (kd f) = 0 := by rw [h17]; decide
  induction Rm with
  | nil =>
    intro i fu u c Dn a4 hi hR hf hq hL hb hc hK
    obtain ⟨fu, rfl⟩ : ∃ f', fu = f' + 1 := ⟨fu - 1, by simp at hf; omega⟩
    have hI := hL.1
    have hs := hI.1.1.1
    have hx1 : x ≤ nT u := Nat.le_trans hx hI.2.1.1
    have ex1 : trT nt2 u x = f := by rw [hI.2.1.2.1 x hx]; exact ex
    have hn := (nodeT hs x0 hx1).2.1
    rw [ex1, nw0] at hn
    have hlen : (ps f).length ≤ i := by
      have := congrArg List.length hR
      rw [List.length_drop] at this
      simp at this
      omega
    have l3 : x < gL u 3 := by rw [hs.1.1.2.2.2.1.2.1]; exact hs.k hx1
    rw [bX3_tree_L142, ld_nat l3, hn, if_neg (by omega)]
    refine hK u hi a4 ?_ (by simp at hb; omega)
    show TrL Mq W X c u0 u p hi (n + 1) (Dn ++ []) a4 2
    rw [List.append_nil]
    exact hL
  | cons g Rm ihl =>
    intro i fu u c Dn a4 hi hR hf hq hL hb hc hK
    obtain ⟨fu, rfl⟩ : ∃ f', fu = f' + 1 := ⟨fu - 1, by simp at hf; omega⟩
    have hI := hL.1
    have hs := hI.1.1.1
    have hx1 : x ≤ nT u := Nat.le_trans hx hI.2.1.1
    have ex1 : trT nt2 u x = f := by rw [hI.2.1.2.1 x hx]; exact ex
    have hn := (nodeT hs x0 hx1).2.1
    rw [ex1, nw0] at hn
    have hlen : i < (ps f).length := Classical.byContradiction (fun q => by
      rw [List.drop_eq_nil_of_le (by omega)] at hR; cases hR)
    have hgi : (ps f)[i]? = some g := by
      have := congrArg (fun l => l[0]?) hR
      simpa using this
    have hgm : g ∈ ps f := List.mem_of_getElem? hgi
    have l3 : x < gL u 3 := by rw [hs.1.1.2.2.2.1.2.1]; exact hs.k hx1
    have lenb := g_len ho (fun _ h => szQ_pos h) (szQ_ex (fun q => by rw [q, kd0] at h17; omega) (by omega))
    obtain ⟨y, y1, y2, y3⟩ := partNT (d := d) (i := i) (by omega) hs x0 hx1 (by rw [ex1]; exact hlen) (Or.inl (by rw [ex1]; omega))
    rw [ex1, nw0] at y1
    rw [ex1, pa_at hgi] at y3
    have y0 : 0 < y := Nat.pos_of_ne_zero (fun q => isFo_pos (hall g hgm).1 (by rw [← y3, q]; rfl))
    rw [bX3_tree_L142, ld_nat l3, hn, if_pos (by omega)]
    refine wp_eq y1 ?_
    have hog := ho.c (hall g hgm).2
    have hgf := (hall g hgm).1
    have hg1 := g_c (szQ_ex (fun q => by rw [q, kd0] at h17; omega) (by omega)) (hall g hgm).2
    have hg2 := szQ_not hog hgf
    have hg3 := szQ_not' hog hgf
    have hb' : hi + (szQ g + (Rm.map szQ).sum) ≤ QB := by simpa using hb
    have hc1 := tqL_le (tqF_le n) (Rm.map notT) (tqF n (notT g) c).2
    have hc2 : (tqL (tqF n) (Rm.map notT) (tqF n (notT g) c).2).2 ≤ 8000 := hc
    have hhu := hI.2.1.2.2.2.1
    have hlu := hI.2.1.lim hl
    refine wp_call (tX3_not (d := d) (X := X) (by omega) hI.1.2.1 hs y0 (by omega) (by omega) (by rw [y3]; exact not_wf hog) (by rw [y3]; exact hXn g hgm) hlu) (fun r0 v ⟨z, z1, z2, z3, z4, z5, z6, z7⟩ => ?_)
    rw [z1]
    rw [y3] at z4
    have hLv := hL.st z5 z6 z7
    have hIv := hLv.1
    have hhv := hIv.2.1.2.2.2.1
    have hon := okT_not hog hgf
    refine wp_call (ih d v z (notT g) c hi hq.1 (by omega) hIv.1 hLv.2.1 z2 z3 z4 hon.1 hon.2 (lo_notT hog (by have := lo_part ho.n (by omega) (hall g hgm).2; omega)) (by omega) (by omega) (by omega) (by omega) (hIv.2.1.lim hl)) (fun r u1 hP => ?_)
    obtain ⟨d', rfl⟩ : ∃ d', d = d' + 1 := ⟨d - 1, by omega⟩
    obtain ⟨hi', b1, b2⟩ := hLv.hang (d := d') (by omega) hP
    refine wp_call b2 (fun r' u' hL' => ?_)
    rw [wp_ar]
    refine ⟨⟨by omega, by omega⟩, ?_⟩
    rw [show (i : Int) + 1 = ((i + 1 : Nat) : Int) by omega]
    have hb2 : hi' ≤ hi + szQ g := by
      by_cases k : kd (notT g) = 16
      · rw [if_pos k] at b1; omega
      · rw [if_neg k] at b1
        have := hg3 k
        omega
    refine ihl (i + 1) fu u' (tqF n (notT g) c).2 (Dn ++ [(tqF n (notT g) c).1]) r' hi' (by rw [← List.drop_drop, hR]; rfl) (by simp at hf; omega) hq.2 hL' (by omega) hc (fun u2 hi2 a z1 z2 => hK u2 hi2 a ?_ z2)
    have e : Dn ++ (tqL (tqF n) ((g :: Rm).map notT) c).1 = Dn ++ [(tqF n (notT g) c).1] ++ (tqL (tqF n) (Rm.map notT) (tqF n (notT g) c).2).1 := by
      rw [List.append_assoc]; rfl
    rw [e]
    exact z1
theorem sz_and {f : Nat} (h17 : kd f = 17) : szQ f = 1 + ((ps f).map szQ).sum := by
  rw [szQ_ex (fun q => by rw [q, kd0] at h17; omega) (by omega)]
  unfold exp1
  rw [if_neg (by omega)]
theorem TrL.ini {W : Wd} {X : Nat → Prop} {c n q : Nat} {u u' : Sg} {kx : Int} (hA : TrA Mq W c u) (h1 : QS u' (q + 1)) (h2 : gN u' 43 (q + 1) = kx ∧ gN u' 44 (q + 1) = 0 ∧ gN u' 45 (q + 1) = 0 ∧ gN u' 46 (q + 1) = 0) (h3 : ∀ j, 43 ≤ j → j ≤ 47 → ∀ i, i ≤ q → gN u' j i = gN u j i) (h4 : QF u u') : TrL Mq W X c u u' (q + 1) (q + 1) n [] 0 kx :=
  ⟨TrI.qf hA h4, h1, KidL.ini h2.2.1, ⟨by omega, by omega⟩, h2.1, h2.2.2.1, fun j a b i hi => h3 j a b i (by omega)⟩
theorem TrL.fin {W : Wd} {X : Nat → Prop} {d c n q hi : Nat} {u u' : Sg} {Dn : List (List (List Nat))} {a4 kx : Int} {P : Int → Sg → Prop} (hd : 2 ≤ d) (hkx : kx = 1 ∨ kx = 2) (h : TrL Mq W X c u u' (q + 1) hi n Dn a4 kx) (hP : ∀ r u2, r = ((q + 1 : Nat) : Int) → TrI Mq W X c u u2 → QS u2 hi → RepN nt2 (n + 1) u2 (q + 1) hi (if kx = 1 then prodL Dn else Dn.flatten) → gN u2 45 (q + 1) = 0 → (∀ j, 43 ≤ j → j ≤ 47 → ∀ i, i ≤ q → gN u2 j i = gN u j i) → P r u2) : wp (cl (runT (d + 1) 56 [((q + 1 : Nat) : Int)] u') fun v s => some (v, s)) P := by
  obtain ⟨h1, h2, h3, h4, h5, h6, h7⟩ := h
  refine wp_call (rX3_counted hd h1.1.2.1 h2 (Nat.le_refl _) h4.1 h4.2 h5 hkx h3.kid) (fun r u2 ⟨z1, z2, z3, z4, z5⟩ => ?_)
  rw [wp_some]
  exact hP r u2 z1 (h1.tr (TrI.qf h1.1 z5)) z2 z3 (by rw [z4 45 (by omega) (by omega) _ (by omega)]; exact h6) (fun j a b i hi => by rw [z4 j a b i (by omega)]; exact h7 j a b i (by omega))
theorem tX3_tree {W : Wd} {X : Nat → Prop} : ∀ n, TrSp Mq W X n := by
  intro n
  induction n with
  | zero => intro d u x f c q hR; exact hR.elim
  | succ n ih =>
    intro d u x f c q hR hd hA hQ x0 hx ex ho hf hlo hz hr hc hq hl
    obtain ⟨d, rfl⟩ : ∃ d', d = d' + 2 := ⟨d - 2, by omega⟩
    rw [runT_eq (by omega)]
    show wp (bX3_tree (runT (d + 1)) x u) _
    unfold bX3_tree
    have hs := hA.1.1
    have hw := hA.2.1
    have hn := nodeT hs x0 hx
    rw [ex] at hn
    have tk := isFo_hi hf
    have f0 : f ≠ 0 := isFo_pos hf
    have hzp := szQ_pos f0
    obtain ⟨hR1, hR2, hR3⟩ := hR
    have h5f : ¬ (kd f ≤ 5 ∧ loT f = 0) := fun q => by unfold isFo at hf; omega
    have hz2 : kd f = 16 → 2 ≤ szQ f := fun k => by
      obtain ⟨g, e, hg0⟩ := not_wf ho k
      have hgm : g ∈ fms f := fms_at.mpr ⟨0, Or.inr rfl, by rw [e]; rfl, by omega⟩
      have := g_c (szQ_ex f0 h5f) hgm
      have := szQ_pos (show g ≠ 0 by omega)
      omega
    rw [ld_nat (hs.k hx), hn.1, tk]
    by_cases h9 : kd f = 9
    · rw [if_pos (by omega)]
      have eF : tqF (n + 1) f c = ([[]], c) := by rw [tqF, if_pos h9]
      refine wp_call (rX3_q (d := d) (k := 1) (by omega) hw hQ (by omega) (by omega)) (fun r u1 ⟨z1, z2, z3, z4, z5⟩ => ?_)
      rw [z1]
      refine (TrL.ini (W := W) (X := X) (n := n + 1) (kx := 1) hA z2 z3 z4 z5).fin (d := d) (by omega) (Or.inl rfl) (fun r u2 a1 a2 a3 a4 a5 a6 => ?_)
      exact ⟨q + 1, a1, ⟨by omega, by rw [if_neg (by omega)]; omega⟩, by rw [eF]; exact a2, a3, by rw [eF]; exact a4, a5, a6⟩
    rw [if_neg (by omega)]
    by_cases h17 : kd f = 17
    · rw [if_pos (by omega)]
      have eF : tqF (n + 1) f c = (prodL (tqL (tqF n) (ps f) c).1, (tqL (tqF n) (ps f) c).2) := by rw [tqF, if_neg h9, if_pos h17]
      rw [eF] at hc
      have hall : ∀ p ∈ ps f, isFo p ∧ p ∈ fms f := by
        have : ∀ p ∈ ps f, isFo p := by
          rcases ho.n.2 with q | q | q | q | q | q | q | q | q | q | q | q | q | q <;> try omega
          exact fun p hp => (q.2.2.2 p hp).1
        exact fun p hp => ⟨this p hp, fms_mem hp (by omega) (isFo_pos (this p hp))⟩
      have hsz := sz_and h17
      have lenb := g_len ho (fun _ h => szQ_pos h) (szQ_ex f0 h5f)
      refine wp_call (rX3_q (d := d) (k := 1) (by omega) hw hQ (by omega) (by omega)) (fun r u1 ⟨z1, z2, z3, z4, z5⟩ => ?_)
      rw [z1]
      refine tree_L41 (QB := q + 1 + ((ps f).map szQ).sum) ih (by omega) x0 hx ex h17 ho hlo hall hz hr (by omega) hl (ps f) 0 KF u1 c [] 0 (q + 1) rfl (Nat.lt_of_le_of_lt (by omega : _ ≤ 65536) KF_gt) (hR1 h17) (TrL.ini hA z2 z3 z4 z5) (Nat.le_refl _) hc (fun u2 hi2 a b1 b2 => ?_)
      rw [List.nil_append] at b1
      refine b1.fin (d := d) (by omega) (Or.inl rfl) (fun r u2 a1 a2 a3 a4 a5 a6 => ?_)
      have hp := b1.2.2.2.1.2
      exact ⟨hi2, a1, ⟨by omega, by rw [if_neg (by omega)]; omega⟩, by rw [eF]; exact a2, a3, by rw [eF]; exact a4, a5, a6⟩
    rw [if_neg (by omega)]
    refine wp_jnG (fun j => ∀ s : Sg, s = u → tqF (n + 1) f c = ([[f]], c) → wp (j (x : Int) s) (TrP Mq W X (n + 1) f c u q)) (fun s es eF => ?_) (fun j12 hj => ?_)
    · rw [es]
      show wp (cl (runT (d + 1) 54 [3] u) fun v14 s15 => stA s15 46 v14 (x : Int) fun s16 => stA s16 47 v14 1 fun s17 => some (v14, s17)) _
      refine wp_call (rX3_q (d := d) (k := 3) (by omega) hw hQ (by omega) (by omega)) (fun r u1 ⟨z1, z2, z3, z4, z5⟩ => ?_)
      rw [z1]
      have l46 := (z2.2.2 46 (by omega) (by omega)).1
      have l47 := (z2.2.2 47 (by omega) (by omega)).1
      have hI1 : TrI Mq W X c u u1 := TrI.qf hA z5
      have hxn : x ≤ nT u1 := Nat.le_trans hx hI1.2.1.1
      have hbd := (hI1.2.1.lim hl).n hI1.1.1.1
      rw [wp_stA]
      refine ⟨⟨by omega, by omega⟩, ?_⟩
      rw [wp_stA]
      refine ⟨⟨by omega, by rw [gL_sA]; omega⟩, ?_⟩
      rw [wp_some]
      have w1 : WF FT (sA u1 46 ((q + 1 : Nat) : Int) (x : Int)) := wfAT z5.2.1 rfl ⟨by omega, by omega⟩
      have f1 := qf_sA ⟨by omega, by omega⟩ w1
      have w2 : WF FT (sA (sA u1 46 ((q + 1 : Nat) : Int) (x : Int)) 47 ((q + 1 : Nat) : Int) 1) := wfLT w1 rfl ⟨by omega, by omega⟩
      have f2 := qf_sA ⟨by omega, by omega⟩ w2
      have hF := (z5.tr f1).tr f2
      have hI2 : TrI Mq W X c u (sA (sA u1 46 ((q + 1 : Nat) : Int) (x : Int)) 47 ((q + 1 : Nat) : Int) 1) := TrI.qf hA hF
      refine ⟨q + 1, rfl, ⟨by omega, by split <;> omega⟩, by rw [eF]; exact hI2, ⟨by rw [gI_sA, gI_sA]; exact z2.1, z2.2.1, fun j a b => by rw [gL_sA, gL_sA]; exact z2.2.2 j a b⟩, ?_, ?_, fun j a b i hi => ?_⟩
      · rw [eF]
        refine ⟨⟨by omega, by omega⟩, ?_, Or.inl ⟨?_, f, f0, ?_, rfl⟩⟩
        · rw [gN_sAn, if_pos ⟨rfl, rfl⟩]
          exact ⟨fun _ => rfl, fun z => by simp at z⟩
        · rw [gN_sAn, if_neg (fun z => by omega), gN_sAn, if_neg (fun z => by omega)]
          exact z3.1
        · rw [gN_sAn, if_neg (fun z => by omega), gN_sAn, if_pos ⟨rfl, rfl⟩]
          exact ⟨x, rfl, Nat.le_trans hx hI2.2.1.1, by rw [hI2.2.1.2.1 x hx]; exact ex⟩
      · rw [gN_sAn, if_neg (fun z => by omega), gN_sAn, if_neg (fun z => by omega)]
        exact z3.2.2.1
      · rw [gN_sAn, if_neg (fun z => by omega), gN_sAn, if_neg (fun z => by omega)]
        exact z4 j a b i hi
    · by_cases h16 : kd f = 16
      · rw [if_pos (by omega)]
        obtain ⟨g, e, hg0⟩ := not_wf ho h16
        have pg : pa f 0 = g := pa_at (by rw [e]; rfl)
        have hgm : g ∈ fms f := fms_at.mpr ⟨0, Or.inr rfl, by rw [e]; rfl, by omega⟩
        have hog := ho.c hgm
        have hgf : isFo g := by
          rcases ho.n.2 with q | q | q | q | q | q | q | q | q | q | q | q | q | q <;> try omega
          obtain ⟨_, _, g', e', hg', _⟩ := q
          rw [e] at e'
          rw [(List.cons.inj e').1]
          exact hg'
        have hlg : loT g = 0 := by have := lo_part ho.n (by omega) hgm; omega
        have hq1 := g_c (szQ_ex f0 h5f) hgm
        have g0 : g ≠ 0 := by omega
        have nwf : nw (kd f) = 0 := by rw [h16]; decide
        obtain ⟨y, y1, y2, y3⟩ := partNT (d := d + 1) (i := 0) (by omega) hs x0 hx (by rw [ex, e]; simp) (Or.inr rfl)
        rw [ex, nwf] at y1
        rw [ex, pg] at y3
        rw [pg] at hR2 hR3
        have y0 : 0 < y := Nat.pos_of_ne_zero (fun q => by rw [q] at y3; have : trT nt2 u 0 = 0 := rfl; omega)
        have hny := nodeT hs y0 (by omega : y ≤ nT u)
        rw [y3] at hny
        have tkg := isFo_hi hgf
        refine wp_eq y1 ?_
        rw [ld_nat (hs.k (by omega)), hny.1, tkg]
        have hzg := szQ_pos g0
        by_cases g9 : kd g = 9
        · rw [if_pos (by omega)]
          have eF : tqF (n + 1) f c = ([], c) := by rw [tqF, if_neg h9, if_neg h17, if_pos h16, pg, if_pos g9]
          refine wp_call (rX3_q (d := d) (k := 2) (by omega) hw hQ (by omega) (by omega)) (fun r u1 ⟨z1, z2, z3, z4, z5⟩ => ?_)
          rw [z1]
          refine (TrL.ini (W := W) (X := X) (n := n + 1) (kx := 2) hA z2 z3 z4 z5).fin (d := d) (by omega) (Or.inr rfl) (fun r u2 a1 a2 a3 a4 a5 a6 => ?_)
          exact ⟨q + 1, a1, ⟨by omega, by rw [if_pos h16]; omega⟩, by rw [eF]; exact a2, a3, by rw [eF]; exact a4, a5, a6⟩
        rw [if_neg (by omega), ld_nat (hs.k (by omega)), hny.1, tkg]
        by_cases g17 : kd g = 17
        · rw [if_pos (by omega)]
          obtain ⟨q1, q2⟩ := hR2 h16 g17
          have eF : tqF (n + 1) f c = ((tqL (tqF n) ((ps g).map notT) c).1.flatten, (tqL (tqF n) ((ps g).map notT) c).2) := by rw [tqF, if_neg h9, if_neg h17, if_pos h16, pg, if_neg g9, if_pos g17]
          rw [eF] at hc
          have hall : ∀ p ∈ ps g, isFo p ∧ p ∈ fms g := by
            have : ∀ p ∈ ps g, isFo p := by
              rcases hog.n.2 with q | q | q | q | q | q | q | q | q | q | q | q | q | q <;> try omega
              exact fun p hp => (q.2.2.2 p hp).1
            exact fun p hp => ⟨this p hp, fms_mem hp (by omega) (isFo_pos (this p hp))⟩
          have hsz := sz_and g17
          have lenb := g_len hog (fun _ h => szQ_pos h) (szQ_ex g0 (fun q => by omega))
          refine wp_call (rX3_q (d := d) (k := 2) (by omega) hw hQ (by omega) (by omega)) (fun r u1 ⟨z1, z2, z3, z4, z5⟩ => ?_)
          rw [z1]
          refine tree_L142 (QB := q + 1 + ((ps g).map szQ).sum) ih (by omega) y0 (by omega) y3 g17 hog hlg hall (by omega) hr (by omega) q1 hl (ps g) 0 KF u1 c [] 0 (q + 1) rfl (Nat.lt_of_le_of_lt (by omega : _ ≤ 65536) KF_gt) q2 (TrL.ini hA z2 z3 z4 z5) (Nat.le_refl _) hc (fun u2 hi2 a b1 b2 => ?_)
          rw [List.nil_append] at b1
          refine b1.fin (d := d) (by omega) (Or.inr rfl) (fun r u2 a1 a2 a3 a4 a5 a6 => ?_)
          have hp := b1.2.2.2.1.2
          exact ⟨hi2, a1, ⟨by omega, by rw [if_pos h16]; omega⟩, by rw [eF]; exact a2, a3, by rw [eF]; exact a4, a5, a6⟩
        rw [if_neg (by omega), ld_nat (hs.k (by omega)), hny.1, tkg]
        by_cases g18 : kd g = 18
        · rw [if_pos (by omega)]
          obtain ⟨⟨q1, q2, q3, q4⟩, q5⟩ := hR3 h16 g18
          obtain ⟨ty, bd, e1, py, pb, k8, hbf, my, mb, _⟩ := all_parts hog g18
          rw [pb] at q3 q4 q5
          rw [py] at q1
          have eF : tqF (n + 1) f c = tqF n (notT (sbT (putg (mk 1 (2 * c) [])) 0 bd)) (c + 1) := by rw [tqF, if_neg h9, if_neg h17, if_pos h16, pg, if_neg g9, if_neg g17, if_pos g18, pb]
          rw [eF] at hc
          have hcl := tqF_le n (notT (sbT (putg (mk 1 (2 * c) [])) 0 bd)) (c + 1)
          have hob := hog.c mb
          have hq2 := g_c (szQ_ex g0 (fun q => by omega)) mb
          obtain ⟨oc, tc⟩ := okT_const (2 * c)
          have kc := kd_mk 1 (2 * c) []
          have hlc : loT (mk 1 (2 * c) []) = 0 := (lo_leaf oc.n (Or.inl kc)).2
          have p2 := szQ_put hlc tc bd hob 0
          have ho2 := okT_sb bd hob (gOn_put hob oc tc) 0
          have hf2 := (sb_fo (g := putg (mk 1 (2 * c) [])) (d := 0) hbf).1
          have p4 := szQ_not ho2 hf2
          have p5 := szQ_not' ho2 hf2
          have hqb := htQ_sz bd (isFo_pos hbf)
          have nwg : nw (kd g) = 0 := by rw [g18]; decide
          obtain ⟨bn, b1, b2, b3⟩ := partNT (d := d + 1) (i := 1) (by omega) hs y0 (by omega : y ≤ nT u) (by rw [y3, e1]; simp) (Or.inl (by rw [y3]; omega))
          rw [y3, nwg] at b1
          rw [y3, pb] at b3
          have bn0 : 0 < bn := Nat.pos_of_ne_zero (fun q => isFo_pos hbf (by rw [← b3, q]; rfl))
          obtain ⟨tn, t1, t2, t3⟩ := partNT (d := d + 1) (i := 0) (by omega) hs y0 (by omega : y ≤ nT u) (by rw [y3, e1]; simp) (Or.inr rfl)
          rw [y3, nwg] at t1
          rw [y3, py] at t3
          refine wp_eq b1 ?_
          refine wp_eq t1 ?_
          refine wp_call (tX3_fresh (d := d + 1) (n := 2 * c) (by omega) hw hA.1 hA.2.2.1 hA.2.2.2 (by omega) (nt2_new c) (by omega : tn ≤ nT u) (by rw [t3]; exact q1.symm)) (fun r1 u1 ⟨r1e, T1, ee1, w1, g1, m1, ct1, _⟩ => ?_)
          rw [nuU_t2] at T1
          rw [r1e]
          have hs1' : ST nt2 (c + 2) u1 := ee1.st hs
          have hnn : nT u1 = nT u := ee1.1.n
          have hA1 : TrA Mq W (c + 1) u1 := ⟨T1, w1, m1, ct1⟩
          have un1 : UNT nt2 u nt2 u1 X := (ee1.up hs).un hs (g1.I 54 (by decide +kernel))
          have hI1 : TrI Mq W X (c + 1) u u1 := ⟨hA1, un1, g1.sub (by decide +kernel), K47.fr g1 (by decide +kernel) (by decide +kernel)⟩
          obtain ⟨Q1, N1⟩ := q_fr hQ g1 (fun j a b => (by decide +kernel : ∀ j, j ≤ 48 → 43 ≤ j → Nat.testBit DX3_fresh j = false) j b a)
          have hl1 := un1.lim hl
          have hh1 : hT u1 = hT u := ee1.hh
          have etr : treeT nt2 u1 (2, [((c + 2 : Nat) : Int)]) = mk 1 (2 * c) [] := by
            rw [treeT_const (by omega)]
            rfl
          refine wp_call (tX3_leaf (d := d + 1) (k := 2) (v := ((c + 2 : Nat) : Int)) (X := X) (by omega) w1 T1.1 (okR_const (c + 2)) (by omega) (by omega) (fun p hp => by rw [fpt_const] at hp; cases hp) (fun q => by omega) (fun _ => by omega) (by omega) (by rw [etr]; exact q2) hl1) (fun r2 u2 ⟨cn, x1, x2, x3, x4, x5, x6, x7⟩ => ?_)
          rw [x1]
          rw [etr] at x4
          have hI2 : TrI Mq W X (c + 1) u1 u2 := TrI.st hA1 x5 x6 x7
          obtain ⟨Q2, N2⟩ := q_frS Q1 x7
          have hh2 := hI2.2.1.2.2.2.1
          have hl2 := hI2.2.1.lim hl1
          have hbn2 : bn ≤ nT u2 := Nat.le_trans (by omega) hI2.2.1.1
          have ebn2 : trT nt2 u2 bn = bd := by rw [hI2.2.1.2.1 bn (by omega), ee1.1.tr]; exact b3
          have hlb : loT bd ≤ 1 := by
            have l2 := lo_c (dep := 0) (e := 0) (by omega) (show (ps g)[1]? = some bd by rw [e1]; rfl) mb (Or.inl (by omega)) (by rw [hlg]; omega)
            unfold dpT at l2
            rw [if_pos ⟨g18, by omega⟩] at l2
            omega
          refine wp_call (tX3_put oc tc hlc bd hob (d + 1) u2 bn 0 cn X (by omega) (by omega) x6 hI2.1.1.1 bn0 hbn2 ebn2 x2 x3 x4 (by omega) (by omega) (ImT.mono (fun _ q => Or.inr q) _ _ q3) hl2 (by omega)) (fun r3 u3 ⟨pn, k1, k2, k3, k4, k5, k6, k7⟩ => ?_)
          rw [k1]
          have hI3 : TrI Mq W X (c + 1) u2 u3 := TrI.st hI2.1 k5 k6 k7
          obtain ⟨Q3, N3⟩ := q_frS Q2 k7
          have hh3 := hI3.2.1.2.2.2.1
          have hl3 := hI3.2.1.lim hl2
          refine wp_call (tX3_not (d := d + 1) (X := X) (by omega) k6 hI3.1.1.1 k2 k3 (by omega) (by rw [k4]; exact not_wf ho2) (by rw [k4]; exact q4) hl3) (fun r4 u4 ⟨zn, v1, v2, v3, v4, v5, v6, v7⟩ => ?_)
          rw [v1]
          rw [k4] at v4
          have hI4 : TrI Mq W X (c + 1) u3 u4 := TrI.st hI3.1 v5 v6 v7
          obtain ⟨Q4, N4⟩ := q_frS Q3 v7
          have hh4 := hI4.2.1.2.2.2.1
          have hl4 := hI4.2.1.lim hl3
          have hlp := lo_put hlc bd hob 0 hlb
          have hsz : q + szQ (notT (sbT (putg (mk 1 (2 * c) [])) 0 bd)) + 1 ≤ q + szQ f := by omega
          refine wp_call (ih (d + 1) u4 zn _ (c + 1) q q5 (by omega) hI4.1 Q4 v2 v3 v4 (okT_not ho2 hf2).1 (okT_not ho2 hf2).2 (lo_notT ho2 (by omega)) (by omega) (by omega) hc (by omega) hl4) (fun r5 u5 ⟨q', w1, w2, w3, w4, w5, w6, w7⟩ => ?_)
          rw [wp_some]
          refine ⟨q', w1, ⟨w2.1, ?_⟩, by rw [eF]; exact (((hI1.tr hI2).tr hI3).tr hI4).tr w3, w4, by rw [eF]; exact RepN.succ _ w5, w6, fun j a b i hi => by rw [w7 j a b i hi, N4 j a b, N3 j a b, N2 j a b, N1 j a b]⟩
          have := w2.2
          rw [if_pos h16]
          split at this <;> omega
        rw [if_neg (by omega)]
        exact hj u rfl (by rw [tqF, if_neg h9, if_neg h17, if_pos h16, pg, if_neg g9, if_neg g17, if_neg g18])
      · rw [if_neg (by omega)]
        exact hj u rfl (by rw [tqF, if_neg h9, if_neg h17, if_neg h16])
end MQ
