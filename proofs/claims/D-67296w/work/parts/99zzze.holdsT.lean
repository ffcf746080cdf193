/-! whether a form holds in a closed case, in the model -/
theorem Yq.rbT {ν : Nat → Nat} {c D : Nat} {u : Sg} {X : Nat → Prop} {o : Option (Int × Sg)} {P : Prop} (h : Yq o u P) (hs : ST ν c u) (hw : WF FT u) : wp (cl o fun v s => some (v, s)) (RbT ν c D u X P) := by
  by_cases q : P
  · exact wp_eq (h.1 q) ⟨1, u, rfl, Or.inl ⟨rfl, q⟩, UpT.rf hs, hw, Gr.rf⟩
  · exact wp_eq (h.2 q) ⟨0, u, rfl, Or.inr ⟨rfl, q⟩, UpT.rf hs, hw, Gr.rf⟩
theorem Yq.rbT1 {ν : Nat → Nat} {c D : Nat} {u : Sg} {X : Nat → Prop} {o : Option (Int × Sg)} {P : Prop} (h : Yq o u P) (hs : ST ν c u) (hw : WF FT u) : wp o (RbT ν c D u X P) := by
  by_cases q : P
  · exact ⟨1, u, h.1 q, Or.inl ⟨rfl, q⟩, UpT.rf hs, hw, Gr.rf⟩
  · exact ⟨0, u, h.2 q, Or.inr ⟨rfl, q⟩, UpT.rf hs, hw, Gr.rf⟩
theorem RbT.iff {ν : Nat → Nat} {c D : Nat} {u : Sg} {X : Nat → Prop} {P P' : Prop} {r : Int} {u' : Sg} (h : RbT ν c D u X P r u') (e : P ↔ P') : RbT ν c D u X P' r u' := ⟨h.1.imp (fun q => ⟨q.1, e.mp q.2⟩) (fun q => ⟨q.1, fun z => q.2 (e.mpr z)⟩), h.2⟩
theorem RbT.seq {ν : Nat → Nat} {c D : Nat} {u u1 : Sg} {X : Nat → Prop} {P : Prop} {r : Int} {u' : Sg} (hU : UpT ν c u u1 X) (hg : Gr FT D u u1) (h : RbT ν c D u1 X P r u') : RbT ν c D u X P r u' := ⟨h.1, hU.join h.2.1, h.2.2.1, hg.tr h.2.2.2⟩
theorem LimT.len {ν : Nat → Nat} {u : Sg} {X : Nat → Prop} (hl : LimT ν u X) {x t : Nat} (x0 : 0 < x) (hx : x ≤ nT u) (e : trT ν u x = t) : (ps t).length ≤ 520000 := by
  have := (hl [t] (by simp) (fun t' ht' => by
    rw [List.mem_singleton] at ht'
    exact Or.inl ⟨x, x0, hx, by rw [ht']; exact e⟩)).2
  simp at this
  omega
theorem KF_523 : 520000 < KF := by decide
/-- asked of a closed case -/
def AsT (ν : Nat → Nat) (c : Nat) (W : Wd) (S : Fs) (Kl : List Nat) (l : Ls) (u : Sg) : Prop := CaT ν c W S Kl u l ∧ KnT ν u Kl
theorem AsT.fr {ν : Nat → Nat} {c D : Nat} {W : Wd} {S : Fs} {Kl : List Nat} {l : Ls} {u u' : Sg} {X : Nat → Prop} (h : AsT ν c W S Kl l u) (hU : UxT ν c u u' X) (hw : WF FT u') (hg : Gr FT D u u') (hD : D &&& mkCaT = 0) (hb : ∀ k, 49 ≤ k → k ≤ 51 → D.testBit k = false) (h54 : D.testBit 54 = false) : AsT ν c W S Kl l u' :=
  ⟨h.1.upD hU hw hg hD, h.2.up h.1.1.1 hU hg hb h54⟩
theorem AsT.up {ν : Nat → Nat} {c : Nat} {W : Wd} {S : Fs} {Kl : List Nat} {l : Ls} {u u' : Sg} {X : Nat → Prop} (h : AsT ν c W S Kl l u) (hU : UpT ν c u u' X) (hw : WF FT u') (hg : Gr FT 16382 u u') : AsT ν c W S Kl l u' :=
  h.fr hU.ux hw hg (by decide +kernel) (fun k a b => (by decide +kernel : ∀ k, k ≤ 51 → 49 ≤ k → Nat.testBit 16382 k = false) k b a) (by decide +kernel)
/-- known, by the mark -/
theorem KnT.mem {ν : Nat → Nat} {c : Nat} {u : Sg} {Kl : List Nat} (h : KnT ν u Kl) (hs : ST ν c u) {x f : Nat} (hx : x ≤ nT u) (ef : trT ν u x = f) : f ∈ Kl ↔ (x < gL u 51 ∧ gN u 51 x = gI u 54) := by
  constructor
  · intro q
    obtain ⟨i, hi⟩ := List.getElem?_of_mem q
    obtain ⟨y, y1, y2, y3, y4, y5, y6⟩ := h.2.2.2.1 i f hi
    have : y = x := trT_inj hs y3 hx (by rw [y4, ef])
    rw [← this]
    exact ⟨y5, y6⟩
  · intro q
    obtain ⟨i, hi, e⟩ := (h.2.2.2.2 x q.1).2 q.2
    obtain ⟨y, y1, y2, y3, y4, y5, y6⟩ := h.2.2.2.1 i Kl[i] (List.getElem?_eq_getElem hi)
    have : y = x := by omega
    rw [this, ef] at y4
    rw [y4]
    exact List.getElem_mem hi
theorem fA_in {l : Ls} (hJ : ∀ q ∈ l.2.2.2, q.1 ∈ l.1) {t j : Nat} (h : fA (FsQ l) t j) : t ∈ l.1 := by
  obtain ⟨t', q1, q2⟩ := h
  rcases q2 with q | q
  · rw [← q]; exact hJ _ q1
  · exact q.mem.2
theorem fM_in {l : Ls} (hM : ∀ q ∈ l.2.2.1, q.1 ∈ l.1) {t m a : Nat} (h : fM (FsQ l) t m a) : t ∈ l.1 := by
  obtain ⟨t', a', q1, q2, _⟩ := h
  rcases q2 with q | q
  · rw [← q]
    rcases List.mem_append.mp q1 with z | z
    · exact hM _ z
    · obtain ⟨s, s1, s2⟩ := List.mem_map.mp z
      rw [← (Prod.mk.inj s2).1]
      exact s1
  · exact q.mem.2
def HoST (ν : Nat → Nat) (c : Nat) (W : Wd) (S : Fs) (X : Nat → Prop) (Kl : List Nat) (l : Ls) (n : Nat) : Prop := ∀ (d : Nat) (u : Sg) (x f : Nat), 20 + 3 * n ≤ d → AsT ν c W S Kl l u → 0 < x → x ≤ nT u → trT ν u x = f → htT f < n → isFo f → frW W (NT ν c) f → hT u ≤ 26000 → (∀ s, subN s f → kd s = 17 → ∀ p ∈ ps s, X (notT p)) → LimT ν u X → wp (runT d 100 [(x : Int)] u) (RbT ν c 16382 u X (hldN (FsQ l) (fun f => f ∈ Kl) n f))
theorem holdsT_L23 {d n : Nat} {ν : Nat → Nat} {c : Nat} {W : Wd} {S : Fs} {X : Nat → Prop} {Kl : List Nat} {l : Ls} {u0 : Sg} {x f : Nat} (hH : HoST ν c W S X Kl l n) (hd : 20 + 3 * n ≤ d) (hs0 : ST ν c u0) (hw0 : WF FT u0) (x0 : 0 < x) (hx : x ≤ nT u0) (ef : trT ν u0 x = f) (h17 : kd f = 17) (hn : htT f ≤ n) (hfr : frW W (NT ν c) f) (hr : hT u0 ≤ 26000) (hX : ∀ s, subN s f → kd s = 17 → ∀ p ∈ ps s, X (notT p)) (hl : LimT ν u0 X) : ∀ (m i fu : Nat) (u : Sg), i + m = (ps f).length → m < fu → AsT ν c W S Kl l u → UpT ν c u0 u X → Gr FT 16382 u0 u → (∀ j, j < i → hldN (FsQ l) (fun f => f ∈ Kl) n (pa f j)) → wp (bX3_holds_L23 (runT d) fu (x : Int) (i : Int) u (fun s => some (1, s)) (fun s => some (0, s))) (RbT ν c 16382 u0 X (∀ p ∈ ps f, hldN (FsQ l) (fun f => f ∈ Kl) n p)) := by
  have hall : ∀ p ∈ ps f, isFo p := by
    rcases hfr.1.n.2 with q | q | q | q | q | q | q | q | q | q | q | q | q | q <;> try omega
    exact fun p hp => (q.2.2.2 p hp).1
  have nw0 : nw (kd f) = 0 := by rw [h17]; decide
  intro m
  induction m with
  | zero =>
    intro i fu u hi hf hA hU hg hall'
    obtain ⟨fu, rfl⟩ : ∃ f', fu = f' + 1 := ⟨fu - 1, by omega⟩
    have hs := hA.1.1.1
    have hnn := hU.n
    have et : trT ν u x = f := by rw [hU.tr hs0 hx]; exact ef
    have hnx := nodeT hs x0 (by omega : x ≤ nT u)
    rw [et] at hnx
    have hk := hs.k (by omega : x ≤ nT u)
    have l3 : gL u 3 = gL u 1 := hs.1.1.2.2.2.1.2.1
    rw [bX3_holds_L23, ld_nat (by omega), hnx.2.1, if_neg (by omega), wp_some]
    refine ⟨Or.inl ⟨rfl, fun p hp => ?_⟩, hU, hA.1.2.1, hg⟩
    obtain ⟨j, hj⟩ := List.getElem?_of_mem hp
    have := hall' j (by have := (List.getElem?_eq_some_iff.mp hj).1; omega)
    rw [pa_at hj] at this
    exact this
  | succ m ih =>
    intro i fu u hi hf hA hU hg hall'
    obtain ⟨fu, rfl⟩ : ∃ f', fu = f' + 1 := ⟨fu - 1, by omega⟩
    have hs := hA.1.1.1
    have hnn := hU.n
    have hx1 : x ≤ nT u := by omega
    have et : trT ν u x = f := by rw [hU.tr hs0 hx]; exact ef
    have hnx := nodeT hs x0 hx1
    rw [et] at hnx
    have hk := hs.k hx1
    have l3 : gL u 3 = gL u 1 := hs.1.1.2.2.2.1.2.1
    have hil : i < (ps f).length := by omega
    have hbd := (hU.lim hl).n hs
    obtain ⟨y, y1, y2, y3⟩ := partNT (d := d) (i := i) (by omega) hs x0 hx1 (by rw [et]; exact hil) (Or.inl (by rw [et]; omega))
    rw [et, nw0] at y1
    rw [et] at y3
    have hpf := hall _ (List.mem_of_getElem? (pa_get hil))
    have hfm : pa f i ∈ fms f := fms_at.mpr ⟨i, Or.inl (by omega), pa_get hil, isFo_pos hpf⟩
    have hht := ht_c hfm
    have y0 : 0 < y := Nat.pos_of_ne_zero (fun q => isFo_pos hpf (by rw [← y3, q]; rfl))
    have hrr : hT u = hT u0 := hU.2.2.2.1
    have hlen := (hU.lim hl).len x0 hx1 et
    rw [bX3_holds_L23, ld_nat (by omega), hnx.2.1, if_pos (by omega)]
    refine wp_eq y1 ?_
    refine wp_call (hH d u y (pa f i) hd hA y0 (by omega) y3 (by omega) hpf (hfr.part hfm) (by omega) (fun s q1 q2 => hX s (subN_c (by omega) hfm q1) q2) (hU.lim hl)) (fun r u1 ⟨z1, z2, z3, z4⟩ => ?_)
    rcases z1 with ⟨e1, e2⟩ | ⟨e1, e2⟩
    · rw [e1, if_neg (by decide), wp_ar]
      refine ⟨⟨by omega, by omega⟩, ?_⟩
      rw [show (i : Int) + 1 = ((i + 1 : Nat) : Int) by omega]
      refine ih (i + 1) fu u1 (by omega) (by omega) (hA.up z2 z3 z4) (hU.join z2) (hg.tr z4) (fun j hj => ?_)
      by_cases hji : j = i
      · rw [hji]; exact e2
      · exact hall' j (by omega)
    · rw [e1, if_pos rfl, wp_some]
      exact ⟨Or.inr ⟨rfl, fun q => e2 (q _ (List.mem_of_getElem? (pa_get hil)))⟩, hU.join z2, z3, hg.tr z4⟩
theorem holdsT_L101 {d n : Nat} {ν : Nat → Nat} {c : Nat} {W : Wd} {S : Fs} {X : Nat → Prop} {Kl : List Nat} {l : Ls} {u0 : Sg} {x f : Nat} (hH : HoST ν c W S X Kl l n) (hd : 20 + 3 * n ≤ d) (hs0 : ST ν c u0) (hw0 : WF FT u0) (x0 : 0 < x) (hx : x ≤ nT u0) (ef : trT ν u0 x = f) (h17 : kd f = 17) (hn : htT f < n) (hfr : frW W (NT ν c) f) (hr : hT u0 ≤ 26000) (hX : ∀ s, subN s f → kd s = 17 → ∀ p ∈ ps s, X (notT p)) (hl : LimT ν u0 X) : ∀ (m i fu : Nat) (u : Sg), i + m = (ps f).length → m < fu → AsT ν c W S Kl l u → UpT ν c u0 u X → Gr FT 16382 u0 u → (∀ j, j < i → ¬ hldN (FsQ l) (fun f => f ∈ Kl) n (notT (pa f j))) → wp (bX3_holds_L101 (runT d) fu (x : Int) (i : Int) u (fun s => some (0, s)) (fun s => some (1, s))) (RbT ν c 16382 u0 X (∃ p ∈ ps f, hldN (FsQ l) (fun f => f ∈ Kl) n (notT p))) := by
  have hall : ∀ p ∈ ps f, isFo p := by
    rcases hfr.1.n.2 with q | q | q | q | q | q | q | q | q | q | q | q | q | q <;> try omega
    exact fun p hp => (q.2.2.2 p hp).1
  have nw0 : nw (kd f) = 0 := by rw [h17]; decide
  intro m
  induction m with
  | zero =>
    intro i fu u hi hf hA hU hg hall'
    obtain ⟨fu, rfl⟩ : ∃ f', fu = f' + 1 := ⟨fu - 1, by omega⟩
    have hs := hA.1.1.1
    have hnn := hU.n
    have et : trT ν u x = f := by rw [hU.tr hs0 hx]; exact ef
    have hnx := nodeT hs x0 (by omega : x ≤ nT u)
    rw [et] at hnx
    have hk := hs.k (by omega : x ≤ nT u)
    have l3 : gL u 3 = gL u 1 := hs.1.1.2.2.2.1.2.1
    rw [bX3_holds_L101, ld_nat (by omega), hnx.2.1, if_neg (by omega), wp_some]
    refine ⟨Or.inr ⟨rfl, fun ⟨p, hp, q⟩ => ?_⟩, hU, hA.1.2.1, hg⟩
    obtain ⟨j, hj⟩ := List.getElem?_of_mem hp
    have := hall' j (by have := (List.getElem?_eq_some_iff.mp hj).1; omega)
    rw [pa_at hj] at this
    exact this q
  | succ m ih =>
    intro i fu u hi hf hA hU hg hall'
    obtain ⟨fu, rfl⟩ : ∃ f', fu = f' + 1 := ⟨fu - 1, by omega⟩
    have hs := hA.1.1.1
    have hnn := hU.n
    have hx1 : x ≤ nT u := by omega
    have et : trT ν u x = f := by rw [hU.tr hs0 hx]; exact ef
    have hnx := nodeT hs x0 hx1
    rw [et] at hnx
    have hk := hs.k hx1
    have l3 : gL u 3 = gL u 1 := hs.1.1.2.2.2.1.2.1
    have hil : i < (ps f).length := by omega
    have hbd := (hU.lim hl).n hs
    obtain ⟨y, y1, y2, y3⟩ := partNT (d := d) (i := i) (by omega) hs x0 hx1 (by rw [et]; exact hil) (Or.inl (by rw [et]; omega))
    rw [et, nw0] at y1
    rw [et] at y3
    have hmem := List.mem_of_getElem? (pa_get hil)
    have hpf := hall _ hmem
    have hfm : pa f i ∈ fms f := fms_at.mpr ⟨i, Or.inl (by omega), pa_get hil, isFo_pos hpf⟩
    have hht := ht_c hfm
    have y0 : 0 < y := Nat.pos_of_ne_zero (fun q => isFo_pos hpf (by rw [← y3, q]; rfl))
    have hrr : hT u = hT u0 := hU.2.2.2.1
    have hpo := (hfr.part hfm).1
    have hno := ht_not hpo
    have hlen := (hU.lim hl).len x0 hx1 et
    rw [bX3_holds_L101, ld_nat (by omega), hnx.2.1, if_pos (by omega)]
    refine wp_eq y1 ?_
    refine wp_call (tX3_not (d := d) (x := y) (X := X) (by omega) hA.1.2.1 hs y0 (by omega) (by omega) (fun q16 => ?_) (by rw [y3]; exact hX f (subN_rf _) h17 _ hmem) (hU.lim hl)) (fun r u1 ⟨z, z1, z2, z3, z4, z5, z6, z7⟩ => ?_)
    · rw [y3] at q16 ⊢
      rcases hpo.n.2 with q | q | q | q | q | q | q | q | q | q | q | q | q | q <;> try omega
      obtain ⟨_, _, g, e, hg', _⟩ := q
      exact ⟨g, e, Nat.pos_of_ne_zero (isFo_pos hg')⟩
    · subst z1
      rw [y3] at z4
      have z7 : Gr FT 16382 u u1 := Gr.sub (by decide +kernel) z7
      have hA1 := hA.up z5 z6 z7
      have hU1 := hU.join z5
      have hrr1 : hT u1 = hT u0 := hU1.2.2.2.1
      refine wp_call (hH d u1 z (notT (pa f i)) hd hA1 z2 z3 z4 (by omega) (okT_not hpo hpf).2 (frW_not (hfr.part hfm) hpf) (by omega) (fun s q1 q2 => hX s (subN_c (by omega) hfm (subN_not hpo q1 q2)) q2) (hU1.lim hl)) (fun r u2 ⟨w1, w2, w3, w4⟩ => ?_)
      rcases w1 with ⟨e1, e2⟩ | ⟨e1, e2⟩
      · rw [e1, if_neg (by decide), wp_some]
        exact ⟨Or.inl ⟨rfl, _, hmem, e2⟩, hU1.join w2, w3, (hg.tr z7).tr w4⟩
      · rw [e1, if_pos rfl, wp_ar]
        refine ⟨⟨by omega, by omega⟩, ?_⟩
        rw [show (i : Int) + 1 = ((i + 1 : Nat) : Int) by omega]
        refine ih (i + 1) fu u2 (by omega) (by omega) (hA1.up w2 w3 w4) (hU1.join w2) ((hg.tr z7).tr w4) (fun j hj => ?_)
        by_cases hji : j = i
        · rw [hji]; exact e2
        · exact hall' j (by omega)
def hoJ (call : Nat → List Int → Sg → Option (Int × Sg)) (a1 a3 t0 : Int) (s7 : Sg) : Option (Int × Sg) := ld s7 1 t0 fun v8 => if v8 = 16 then (bX3_holds_L101 call KF t0 0 s7 (fun s9 => some (0, s9)) (fun s10 => some (1, s10))) else (if v8 = 17 then (jn (fun (s12 : Sg) => some (0, s12)) fun j11 => un (gL s7 51 : Int) fun v13 => if a1 < v13 then (ld s7 51 a1 fun v14 => un (gI s7 54) fun v15 => if v14 = v15 then (some (1, s7)) else (j11 s7)) else (j11 s7)) else (if v8 = 8 then (some (0, s7)) else (if v8 = 9 then (cl (call 7 [t0, 0] s7) fun v16 s17 => cl (call 7 [t0, 1] s17) fun v18 s19 => if a3 = 0 then (cl (call 76 [v16, v18] s19) fun v20 s21 => some (v20, s21)) else (bX3_holds_L224 call KF v16 v18 0 s19 (fun s22 => some (0, s22)) (fun s23 => some (1, s23)))) else (if v8 = 12 then (jn (fun (s25 : Sg) => some (0, s25)) fun j24 => cl (call 7 [t0, 1] s7) fun v26 s27 => cl (call 66 [v26] s27) fun v28 s29 => if v28 < 0 then (j24 s29) else (jn (fun (t1 t2 t3 : Int) (s31 : Sg) => ar (t2 + t3) fun v32 => cl (call 72 [t1, v32] s31) fun v33 s34 => if v33 = 0 then (j24 s34) else (some (1, s34))) fun j30 => cl (call 7 [t0, 0] s29) fun v35 s36 => ar (2 * v35) fun v37 => if a3 = 0 then (j30 v28 v37 0 s36) else (j30 v28 v37 1 s36))) else (jn (fun (a3 a4 : Int) (s39 : Sg) => cl (call 101 [a4, a3] s39) fun v40 s41 => some (v40, s41)) fun j38 => if v8 = 13 then (if a3 = 0 then (jn (fun (s43 : Sg) => some (0, s43)) fun j42 => cl (call 7 [t0, 2] s7) fun v44 s45 => cl (call 66 [v44] s45) fun v46 s47 => if v46 < 0 then (j42 s47) else (cl (call 7 [t0, 0] s47) fun v48 s49 => cl (call 7 [t0, 1] s49) fun v50 s51 => cl (call 75 [v46, v48, v50] s51) fun v52 s53 => if v52 = 0 then (j42 s53) else (some (1, s53)))) else (j38 a3 t0 s7)) else (j38 a3 t0 s7))))))
def hoP (l : Ls) (Kl : List Nat) (n ng f g : Nat) : Prop := if kd g = 17 then (∃ p ∈ ps g, hldN (FsQ l) (fun f => f ∈ Kl) n (notT p)) else if kd g = 18 then f ∈ Kl else if kd g = 9 then False else if kd g = 10 then (if ng = 0 then eqA (FsQ l) (pa g 0) (pa g 1) else eqN (FsQ l) (fun f => f ∈ Kl) (pa g 0) (pa g 1)) else if kd g = 13 then fA (FsQ l) (pa g 0) (2 * wh g + ng) else if kd g = 14 ∧ ng = 0 then fM (FsQ l) (pa g 1) (wh g) (pa g 0) else saidS (FsQ l) (fun f => f ∈ Kl) g ng
theorem hoJ_ok {d n : Nat} {ν : Nat → Nat} {c : Nat} {W : Wd} {S : Fs} {X : Nat → Prop} {Kl : List Nat} {l : Ls} {u : Sg} {x z f g ng : Nat} (hW : WOK W (NT ν c)) (hG : WGK W (NT ν c)) (hK : KlOK W (NT ν c) Kl) (hH : HoST ν c W S X Kl l n) (hd : 20 + 3 * n ≤ d) (hA : AsT ν c W S Kl l u) (hx : x ≤ nT u) (ef : trT ν u x = f) (z0 : 0 < z) (hz : z ≤ nT u) (ez : trT ν u z = g) (hg : isFo g) (h16 : kd g ≠ 16) (hfr : frW W (NT ν c) g) (h17n : kd g = 17 → htT g < n) (hng : ng ≤ 1) (hr : hT u ≤ 26000) (hX : ∀ s, subN s g → kd s = 17 → ∀ p ∈ ps s, X (notT p)) (hl : LimT ν u X) : wp (hoJ (runT d) (x : Int) (ng : Int) (z : Int) u) (RbT ν c 16382 u X (hoP l Kl n ng f g)) := by
  unfold hoJ hoP
  obtain ⟨hC, hkS⟩ := hA
  have hA : AsT ν c W S Kl l u := ⟨hC, hkS⟩
  have hs := hC.1.1
  have hw := hC.2.1
  have hH3 : HaT ν u l.1 l.2.1 := hC.2.2.1.1
  have hM := hC.2.2.2.1
  have hJ := hC.2.2.2.2.1
  have hM9 := hC.2.2.2.2.2.2.2.1.2
  have hJ11 := hC.2.2.2.2.2.2.2.2.1.2
  have hml := hC.ml hW (hK.wh hC.1.2.2.2.1.2.1.2) hK.1
  have hn := nodeT hs z0 hz
  rw [ez] at hn
  have hbd := hl.n hs
  have hk := hs.k hz
  have hlen0 := hl.len z0 hz ez
  unfold isFo at hg
  have tk : tkT (kd g) = (kd g : Int) - 1 := tkT_hi (by omega)
  have fin : ∀ {P : Prop} (b : Bool), (b = true ↔ P) → wp (some ((if b then (1 : Int) else 0), u)) (RbT ν c 16382 u X P) := fun b hb => by
    rw [wp_some]
    refine ⟨?_, UpT.rf hs, hw, Gr.rf⟩
    cases b
    · exact Or.inr ⟨rfl, fun q => by have := hb.mpr q; cases this⟩
    · exact Or.inl ⟨rfl, hb.mp rfl⟩
  rw [ld_nat hk, hn.1, tk]
  by_cases k17 : kd g = 17
  · rw [if_pos (by omega), if_pos k17]
    exact holdsT_L101 hH (by omega) hs hw z0 hz ez k17 (h17n k17) hfr hr hX hl (ps g).length 0 KF u (by omega) (Nat.lt_of_le_of_lt hlen0 KF_523) hA (UpT.rf hs) Gr.rf (fun j hj => by omega)
  rw [if_neg (by omega), if_neg k17]
  by_cases k18 : kd g = 18
  · rw [if_pos (by omega), if_pos k18, jn_eq, un_eq]
    have hmk := hkS.mem hs hx ef
    by_cases hlt : x < gL u 51
    · rw [if_pos (by omega), ld_nat hlt, un_eq]
      by_cases he : gN u 51 x = gI u 54
      · rw [if_pos he]
        exact fin true ⟨fun _ => hmk.mpr ⟨hlt, he⟩, fun _ => rfl⟩
      · rw [if_neg he]
        exact fin false ⟨fun q => (by cases q), fun q => absurd (hmk.mp q).2 he⟩
    · rw [if_neg (by omega)]
      exact fin false ⟨fun q => (by cases q), fun q => absurd (hmk.mp q).1 hlt⟩
  rw [if_neg (by omega), if_neg k18]
  by_cases k9 : kd g = 9
  · rw [if_pos (by omega), if_pos k9]
    exact fin false ⟨fun q => (by cases q), False.elim⟩
  rw [if_neg (by omega), if_neg k9]
  by_cases k10 : kd g = 10
  · have hlen := (eq_len hfr).1 k10
    have nw0 : nw (kd g) = 0 := by rw [k10]; decide
    obtain ⟨a, a1, a2, a3⟩ := partNT (d := d) (i := 0) (by omega) hs z0 hz (by rw [ez]; omega) (Or.inr rfl)
    obtain ⟨b, b1, b2, b3⟩ := partNT (d := d) (i := 1) (by omega) hs z0 hz (by rw [ez]; omega) (Or.inl (by rw [ez]; omega))
    rw [ez, nw0] at a1 b1
    rw [ez] at a3 b3
    rw [if_pos (by omega), if_pos k10]
    refine wp_eq a1 (wp_eq b1 ?_)
    by_cases h0 : ng = 0
    · rw [if_pos (by omega), if_pos h0]
      have := rX3_equal (d := d) (by omega) hH3 hs (by omega : a ≤ nT u) (by omega : b ≤ nT u)
      rw [a3, b3] at this
      exact this.rbT hs hw
    · rw [if_neg (by omega), if_neg h0]
      have := holdsT_L224 (d := d) (l := l) (by omega) hH3 hkS hK hs (by omega : a ≤ nT u) (by omega : b ≤ nT u)
      rw [a3, b3] at this
      exact this.rbT1 hs hw
  rw [if_neg (by omega), if_neg k10]
  by_cases k13 : kd g = 13
  · have hlen := (eq_len hfr).2.1 k13
    have nw1 : nw (kd g) = 1 := by rw [k13]; decide
    obtain ⟨a, a1, a2, a3⟩ := partNT (d := d) (i := 0) (by omega) hs z0 hz (by rw [ez]; omega) (Or.inr rfl)
    rw [ez, nw1] at a1
    rw [ez] at a3
    have hwA := hfr.lc.2.2.2.2.1 k13
    have hA15 := hG.1
    have g0 : runT d 7 [(z : Int), 0] u = some (dt u z 0, u) := getT (d := d) (i := 0) (by omega) hs z0 hz (by rw [ez]; omega)
    rw [hn.2.2.2.1 nw1 (by omega)] at g0
    rw [if_pos (by omega), if_pos k13, jn_eq]
    refine wp_eq a1 ?_
    have hix := rX3_indexOf (d := d - 1) (by omega) hH3 hs (by omega : a ≤ nT u)
    rw [a3, show d - 1 + 1 = d by omega] at hix
    by_cases hin : pa g 0 ∈ l.1
    · obtain ⟨i, i1, i2⟩ := hix.1 hin
      refine wp_eq i2 ?_
      rw [if_neg (by omega), jn_eq]
      refine wp_eq g0 ?_
      rw [wp_ar]
      refine ⟨⟨by omega, by omega⟩, ?_⟩
      have last : ∀ k : Nat, k = ng → wp (ar (2 * (wh g : Int) + (k : Int)) fun v32 => cl (runT d 72 [(i : Int), v32] u) fun v33 s34 => if v33 = 0 then (some (0, s34)) else (some (1, s34))) (RbT ν c 16382 u X (fA (FsQ l) (pa g 0) (2 * wh g + ng))) := fun k hk' => by
        subst hk'
        rw [wp_ar]
        refine ⟨⟨by omega, by omega⟩, ?_⟩
        rw [show 2 * (wh g : Int) + (k : Int) = ((2 * wh g + k : Nat) : Int) by omega]
        obtain ⟨e1, e2⟩ := rX3_hasAdj (d := d) (j := 2 * wh g + k) (by omega) hH3 hJ (by omega) i1
        by_cases hq : fA (FsQ l) (pa g 0) (2 * wh g + k)
        · refine wp_eq (e1 hq) ?_
          rw [if_neg (by decide)]
          exact fin true ⟨fun _ => hq, fun _ => rfl⟩
        · refine wp_eq (e2 hq) ?_
          rw [if_pos rfl]
          exact fin false ⟨fun q => (by cases q), fun q => absurd q hq⟩
      by_cases h0 : ng = 0
      · rw [if_pos (by omega)]
        exact last 0 h0.symm
      · rw [if_neg (by omega)]
        exact last 1 (by omega)
    · refine wp_eq (hix.2 hin) ?_
      rw [if_pos (by omega)]
      exact fin false ⟨fun q => (by cases q), fun q => absurd (fA_in (fun q hq => (hJ11 q hq).1) q) hin⟩
  rw [if_neg (by omega), if_neg k13, jn_eq]
  have said : 11 ≤ kd g ∧ kd g ≤ 14 → wp (cl (runT d 101 [(z : Int), (ng : Int)] u) fun v40 s41 => some (v40, s41)) (RbT ν c 16382 u X (saidS (FsQ l) (fun f => f ∈ Kl) g ng)) := fun hkk => by
    have h60 : (ps g).length ≤ 60000 := by
      by_cases q : kd g = 11 ∨ kd g = 12
      · exact at_len hfr q
      · have := len14 hfr
        have := (eq_len hfr).2.1
        omega
    have := rX3_isKnownAtom (d := d) (l := l) (ng := ng) (by omega) hH3 hkS hK hs z0 hz ez hkk h60 hng
    exact this.rbT hs hw
  by_cases k14 : kd g = 14
  · rw [if_pos (by omega)]
    by_cases h0 : ng = 0
    · have hlen := len14 hfr k14
      have nw1 : nw (kd g) = 1 := by rw [k14]; decide
      obtain ⟨a, a1, a2, a3⟩ := partNT (d := d) (i := 0) (by omega) hs z0 hz (by rw [ez]; omega) (Or.inr rfl)
      obtain ⟨b, b1, b2, b3⟩ := partNT (d := d) (i := 1) (by omega) hs z0 hz (by rw [ez]; omega) (Or.inl (by rw [ez]; omega))
      rw [ez, nw1] at a1 b1
      rw [ez] at a3 b3
      have g0 : runT d 7 [(z : Int), 0] u = some (dt u z 0, u) := getT (d := d) (i := 0) (by omega) hs z0 hz (by rw [ez]; omega)
      rw [hn.2.2.2.1 nw1 (by omega)] at g0
      rw [if_pos (by omega), if_pos ⟨k14, h0⟩, jn_eq]
      refine wp_eq b1 ?_
      have hix := rX3_indexOf (d := d - 1) (by omega) hH3 hs (by omega : b ≤ nT u)
      rw [b3, show d - 1 + 1 = d by omega] at hix
      by_cases hin : pa g 1 ∈ l.1
      · obtain ⟨i, i1, i2⟩ := hix.1 hin
        refine wp_eq i2 ?_
        rw [if_neg (by omega)]
        refine wp_eq g0 (wp_eq a1 ?_)
        have hpos := (hfr.lc.2.2.2.2.2 k14).1
        obtain ⟨e1, e2⟩ := rX3_hasHere (d := d) (l := l) (m := wh g) (by omega) hH3 hs hM (by omega) (fun q hq => (hM9 q hq).2.2.2.1) i1 (by omega : a ≤ nT u) (fun q => by omega)
        rw [a3] at e1 e2
        by_cases hq : fM (FsQ l) (pa g 1) (wh g) (pa g 0)
        · refine wp_eq (e1 hq) ?_
          rw [if_neg (by decide)]
          exact fin true ⟨fun _ => hq, fun _ => rfl⟩
        · refine wp_eq (e2 hq) ?_
          rw [if_pos rfl]
          exact fin false ⟨fun q => (by cases q), fun q => absurd q hq⟩
      · refine wp_eq (hix.2 hin) ?_
        rw [if_pos (by omega)]
        exact fin false ⟨fun q => (by cases q), fun q => absurd (fM_in (fun q hq => (hM9 q hq).1) q) hin⟩
    · rw [if_neg (by omega), if_neg (fun q => h0 q.2)]
      exact said (by omega)
  · rw [if_neg (by omega), if_neg (fun q => k14 q.1)]
    exact said (by omega)
theorem tX3_holds {ν : Nat → Nat} {c : Nat} {W : Wd} {S : Fs} {X : Nat → Prop} {Kl : List Nat} {l : Ls} (hW : WOK W (NT ν c)) (hG : WGK W (NT ν c)) (hK : KlOK W (NT ν c) Kl) : ∀ n, HoST ν c W S X Kl l n := by
  intro n
  induction n with
  | zero => intro d u x f _ _ _ _ _ h; omega
  | succ n ih =>
    intro d u x f hd hA x0 hx ef hht hg hfr hr hX hl
    obtain ⟨d, rfl⟩ : ∃ d', d = d' + 2 := ⟨d - 2, by omega⟩
    rw [runT_eq (by omega)]
    show wp (bX3_holds (runT (d + 1)) x u) _
    unfold bX3_holds
    have hs := hA.1.1.1
    have hw := hA.1.2.1
    have hn := nodeT hs x0 hx
    rw [ef] at hn
    have hbd := hl.n hs
    have hlen0 := hl.len x0 hx ef
    unfold isFo at hg
    have tk : tkT (kd f) = (kd f : Int) - 1 := tkT_hi (by omega)
    rw [hldN, ld_nat (hs.k hx), hn.1, tk]
    by_cases k9 : kd f = 9
    · rw [if_pos (by omega), if_pos k9, wp_some]
      exact ⟨Or.inl ⟨rfl, trivial⟩, UpT.rf hs, hw, Gr.rf⟩
    rw [if_neg (by omega), if_neg k9]
    by_cases k17 : kd f = 17
    · rw [if_pos (by omega), if_neg (by omega), if_neg (by omega), if_neg (by omega), if_neg (by omega), if_pos k17]
      exact holdsT_L23 ih (by omega) hs hw x0 hx ef k17 (by omega) hfr hr hX hl (ps f).length 0 KF u (by omega) (Nat.lt_of_le_of_lt hlen0 KF_523) hA (UpT.rf hs) Gr.rf (fun j hj => by omega)
    rw [if_neg (by omega), if_neg k17, jn_eq]
    by_cases k16 : kd f = 16
    · obtain ⟨z, z1, z0, hz, z3, z4, z5, z6⟩ := notT_at (d := d + 1) (by omega) hs x0 hx ef hfr k16
      have hpf : isFo (pa f 0) := by
        rcases hfr.1.n.2 with q | q | q | q | q | q | q | q | q | q | q | q | q | q <;> try omega
        obtain ⟨_, _, g, e, hg', _⟩ := q
        rw [pa_at (show (ps f)[0]? = some g by rw [e]; rfl)]
        exact hg'
      have hh := ht_c z5
      rw [if_pos (by omega), if_neg (by omega), if_neg (by omega), if_neg (by omega), if_pos k16]
      show wp (cl (runT (d + 1) 7 [(x : Int), 0] u) fun v54 s55 => hoJ (runT (d + 1)) (x : Int) 1 v54 s55) _
      refine wp_eq z1 ?_
      have := hoJ_ok (d := d + 1) (n := n) (ng := 1) hW hG hK ih (by omega) hA hx ef z0 hz z3 hpf z6 z4 (fun _ => by omega) (by omega) hr (fun s q1 q2 => hX s (subN_c (by omega) z5 q1) q2) hl
      refine wp_mono this (fun r u' h => h.iff ?_)
      unfold hoP flsB
      unfold isFo at hpf
      by_cases q17 : kd (pa f 0) = 17
      · rw [if_pos q17, if_neg (by omega), if_neg (by omega), if_neg (by omega), if_pos q17]
      by_cases q18 : kd (pa f 0) = 18
      · rw [if_neg q17, if_pos q18, if_neg (by omega), if_neg (by omega), if_neg (by omega), if_neg q17, if_pos q18]
      by_cases q9 : kd (pa f 0) = 9
      · rw [if_neg q17, if_neg q18, if_pos q9, if_pos q9]
      by_cases q10 : kd (pa f 0) = 10
      · rw [if_neg q17, if_neg q18, if_neg q9, if_pos q10, if_neg (by omega), if_neg q9, if_pos q10]
      by_cases q13 : kd (pa f 0) = 13
      · rw [if_neg q17, if_neg q18, if_neg q9, if_neg q10, if_pos q13, if_neg q9, if_neg q10, if_pos q13]
      rw [if_neg q17, if_neg q18, if_neg q9, if_neg q10, if_neg q13, if_neg (by omega), if_neg q9, if_neg q10, if_neg q13, if_neg q17, if_neg q18]
    · rw [if_neg (by omega)]
      show wp (hoJ (runT (d + 1)) (x : Int) 0 (x : Int) u) _
      have := hoJ_ok (d := d + 1) (n := n) (ng := 0) hW hG hK ih (by omega) hA hx ef x0 hx ef (by unfold isFo; omega) k16 hfr (fun q => absurd q k17) (by omega) hr hX hl
      refine wp_mono this (fun r u' h => h.iff ?_)
      unfold hoP
      rw [if_neg k17, if_neg k9]
      by_cases q18 : kd f = 18
      · rw [if_pos q18, if_neg (by omega), if_neg (by omega), if_neg (by omega), if_neg k16, if_pos q18]
      by_cases q10 : kd f = 10
      · rw [if_neg q18, if_pos q10, if_pos rfl, if_pos q10]
      by_cases q13 : kd f = 13
      · rw [if_neg q18, if_neg q10, if_pos q13, if_neg q10, if_pos q13]
        exact Iff.rfl
      by_cases q14 : kd f = 14
      · rw [if_neg q18, if_neg q10, if_neg q13, if_pos ⟨q14, rfl⟩, if_neg q10, if_neg q13, if_pos q14]
      rw [if_neg q18, if_neg q10, if_neg q13, if_neg (fun q => q14 q.1), if_neg q10, if_neg q13, if_neg q14, if_neg k16, if_neg q18]
