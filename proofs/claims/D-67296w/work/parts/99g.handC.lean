theorem nodup_sub {α : Type} [DecidableEq α] : ∀ {l' l : List α}, l.Nodup → (∀ x ∈ l, x ∈ l') → l.length ≤ l'.length
  | [], l, _, h => by
    cases l with
    | nil => simp
    | cons a l => have := h a List.mem_cons_self; cases this
  | b :: l', l, hn, h => by
    have h1 := nodup_sub (l' := l') (hn.filter (fun v => decide (v ≠ b))) (fun x hx => by
      have h2 := List.mem_filter.mp hx
      have hne : x ≠ b := by simpa using h2.2
      rcases List.mem_cons.mp (h x h2.1) with q | q
      · exact absurd q hne
      · exact q)
    have h3 : ∀ {l : List α}, l.Nodup → l.length ≤ (l.filter (fun v => decide (v ≠ b))).length + 1 := fun {l} hn => by
      induction l with
      | nil => simp
      | cons a l ihl =>
        have hc := List.nodup_cons.mp hn
        by_cases ha : a = b
        · have e : l.filter (fun v => decide (v ≠ b)) = l := List.filter_eq_self.mpr (fun v hv => by
            have : v ≠ b := fun e => hc.1 (by rw [ha, ← e]; exact hv)
            simpa using this)
          have e2 : (a :: l).filter (fun v => decide (v ≠ b)) = l := by rw [List.filter_cons, if_neg (by simp [ha]), e]
          rw [e2]; simp
        · have e2 : (a :: l).filter (fun v => decide (v ≠ b)) = a :: l.filter (fun v => decide (v ≠ b)) := by rw [List.filter_cons, if_pos (by simpa using ha)]
          have := ihl hc.2
          rw [e2]; simp at this ⊢; omega
    have := h3 hn
    rw [List.length_cons]; omega
/-- the mode facts that may come -/
def ALM (W : Wd) (Kl H : List Nat) : List (Nat × Nat × Nat) := H.flatMap (fun t => (upT W (tyT W t)).map (fun z => (t, wh z, pa z 0))) ++ (Kl.filter (fun f => decide (kd f = 14))).flatMap (fun f => (upT W (mk 8 (wh f) [pa f 0])).map (fun z => (pa f 1, wh z, pa z 0)))
theorem chT_len (W : Wd) : ∀ (n y : Nat), (chT W n y).length ≤ n
  | 0, _ => Nat.le_refl _
  | n + 1, y => by
    rw [chT]
    split
    · simp
    · have := chT_len W n (paT W y)
      simp; omega
theorem fM_len {α : Type} {f : Nat → List α} {n : Nat} : ∀ {l : List Nat}, (∀ x ∈ l, (f x).length ≤ n) → (l.flatMap f).length ≤ n * l.length
  | [], _ => by simp
  | a :: l, h => by
    have h1 := h a List.mem_cons_self
    have h2 := fM_len (f := f) (n := n) (l := l) (fun x hx => h x (List.mem_cons_of_mem _ hx))
    rw [List.flatMap_cons, List.length_append, List.length_cons, Nat.mul_add]
    omega
theorem ALM_len {W : Wd} {N : Nat → Prop} (hW : WOK W N) (h20 : wnM W ≤ 20) {Kl H : List Nat} (hH : ∀ t ∈ H, cltm W N t) (hK : ∀ f ∈ Kl, kd f = 14 → wh f < 20) : (ALM W Kl H).length ≤ 20 * (H.length + Kl.length) := by
  unfold ALM
  rw [List.length_append]
  have h1 : (H.flatMap (fun t => (upT W (tyT W t)).map (fun z => (t, wh z, pa z 0)))).length ≤ 20 * H.length := fM_len (fun t ht => by
    rw [List.length_map]
    have hy := ty_ok hW (hH t ht)
    have := (hy.1.lc.2.2.1 hy.2.1).1
    have := chT_len W (wh (tyT W t) + 1) (tyT W t)
    unfold upT
    omega)
  have h2 : ((Kl.filter (fun f => decide (kd f = 14))).flatMap (fun f => (upT W (mk 8 (wh f) [pa f 0])).map (fun z => (pa f 1, wh z, pa z 0)))).length ≤ 20 * (Kl.filter (fun f => decide (kd f = 14))).length := fM_len (fun f hf => by
    rw [List.length_map]
    have hm := List.mem_filter.mp hf
    have hk := hK f hm.1 (by simpa using hm.2)
    have := chT_len W (wh (mk 8 (wh f) [pa f 0]) + 1) (mk 8 (wh f) [pa f 0])
    rw [wh_mk] at this
    unfold upT
    rw [wh_mk]
    omega)
  have h3 := List.length_filter_le (fun f => decide (kd f = 14)) Kl
  omega
/-- a case in the class, sound for a set of facts -/
def CaP (ν : Nat → Nat) (c : Nat) (W : Wd) (S : Fs) (Kl : List Nat) (u : Sg) (H : List Nat) (p : Nat → Nat) (M : List (Nat × Nat × Nat)) (J : List (Nat × Nat)) : Prop := CW ν c W u ∧ WF FC u ∧ (HaC ν u H p ∧ 1 ≤ gI u 36) ∧ FcM ν u M ∧ FcJ ν u J ∧ (∀ t ∈ H, cltm W (Nm ν c) t ∧ fH S t) ∧ (∀ s t, eqL H p s t → fE S s t) ∧ (M.Nodup ∧ ∀ q ∈ M, q.1 ∈ H ∧ fM S q.1 q.2.1 q.2.2 ∧ q ∈ ALM W Kl H) ∧ J.Nodup ∧ ∀ q ∈ J, q.1 ∈ H ∧ q.2 < 30 ∧ fA S q.1 q.2
def GoodC (W : Wd) (H : List Nat) (M : List (Nat × Nat × Nat)) (J : List (Nat × Nat)) (x : Nat) : Prop := (kd x = 4 → ∀ i, i < (ps x).length → pa x i ∈ H) ∧ (kd x = 5 → pa (pa x 0) 0 ≠ 0 → pa (pa x 0) 0 ∈ H) ∧ ∀ z ∈ upT W (tyT W x), (x, wh z, pa z 0) ∈ M ∧ (∀ j ∈ adjT z, (x, j) ∈ J) ∧ (pa z 0 ≠ 0 → pa z 0 ∈ H)
def ArgOK (M : List (Nat × Nat × Nat)) (H : List Nat) : Prop := ∀ q ∈ M, q.2.2 ≠ 0 → q.2.2 ∈ H
def ExC (H : List Nat) (p : Nat → Nat) (M : List (Nat × Nat × Nat)) (J : List (Nat × Nat)) (H' : List Nat) (p' : Nat → Nat) (M' : List (Nat × Nat × Nat)) (J' : List (Nat × Nat)) : Prop := (∃ H2, H' = H ++ H2) ∧ (∀ i, i < H.length → p' i = p i) ∧ (∀ i, H.length ≤ i → i < H'.length → p' i = i) ∧ (∃ M2, M' = M ++ M2) ∧ ∃ J2, J' = J ++ J2
theorem ExC.rf (H : List Nat) (p : Nat → Nat) (M : List (Nat × Nat × Nat)) (J : List (Nat × Nat)) : ExC H p M J H p M J := ⟨⟨[], by simp⟩, fun _ _ => rfl, (fun i h1 h2 => by omega), ⟨[], by simp⟩, ⟨[], by simp⟩⟩
theorem ExC.tr {H H' H'' : List Nat} {p p' p'' : Nat → Nat} {M M' M'' : List (Nat × Nat × Nat)} {J J' J'' : List (Nat × Nat)} (h : ExC H p M J H' p' M' J') (h' : ExC H' p' M' J' H'' p'' M'' J'') : ExC H p M J H'' p'' M'' J'' := by
  obtain ⟨⟨a, ha⟩, b, b2, ⟨c, hc⟩, ⟨e, he⟩⟩ := h
  obtain ⟨⟨a', ha'⟩, b', b2', ⟨c', hc'⟩, ⟨e', he'⟩⟩ := h'
  have hl : H.length ≤ H'.length := by rw [ha]; simp
  refine ⟨⟨a ++ a', by rw [ha', ha, List.append_assoc]⟩, fun i hi => by rw [b' i (by omega), b i hi], fun i h1 h2 => ?_, ⟨c ++ c', by rw [hc', hc, List.append_assoc]⟩, ⟨e ++ e', by rw [he', he, List.append_assoc]⟩⟩
  by_cases q : i < H'.length
  · rw [b' i q, b2 i h1 q]
  · exact b2' i (by omega) h2
theorem ExC.H {H H' : List Nat} {p p' : Nat → Nat} {M M' : List (Nat × Nat × Nat)} {J J' : List (Nat × Nat)} (h : ExC H p M J H' p' M' J') {t : Nat} (ht : t ∈ H) : t ∈ H' := by
  obtain ⟨⟨a, ha⟩, _⟩ := h
  rw [ha]; exact List.mem_append_left _ ht
theorem ExC.M {H H' : List Nat} {p p' : Nat → Nat} {M M' : List (Nat × Nat × Nat)} {J J' : List (Nat × Nat)} (h : ExC H p M J H' p' M' J') {q : Nat × Nat × Nat} (hq : q ∈ M) : q ∈ M' := by
  obtain ⟨_, _, _, ⟨a, ha⟩, _⟩ := h
  rw [ha]; exact List.mem_append_left _ hq
theorem ExC.J {H H' : List Nat} {p p' : Nat → Nat} {M M' : List (Nat × Nat × Nat)} {J J' : List (Nat × Nat)} (h : ExC H p M J H' p' M' J') {q : Nat × Nat} (hq : q ∈ J) : q ∈ J' := by
  obtain ⟨_, _, _, _, ⟨a, ha⟩⟩ := h
  rw [ha]; exact List.mem_append_left _ hq
theorem ExC.good {W : Wd} {H H' : List Nat} {p p' : Nat → Nat} {M M' : List (Nat × Nat × Nat)} {J J' : List (Nat × Nat)} (h : ExC H p M J H' p' M' J') {x : Nat} (hx : GoodC W H M J x) : GoodC W H' M' J' x :=
  ⟨fun q i hi => h.H (hx.1 q i hi), fun q z => h.H (hx.2.1 q z), fun z hz => ⟨h.M (hx.2.2 z hz).1, fun j hj => h.J ((hx.2.2 z hz).2.1 j hj), fun q => h.H ((hx.2.2 z hz).2.2 q)⟩⟩
/-- there are more terms than may be at hand -/
def Bey (S : Fs) (H : List Nat) : Prop := H.length = 100 ∧ ∃ z, z ∉ H ∧ fH S z
theorem tX1_room {d : Nat} (hd : 2 ≤ d) {ν : Nat → Nat} {c : Nat} {u : Sg} {H : List Nat} {p : Nat → Nat} {X : Nat → Prop} {x : Nat} (hw : WF FC u) (hs : SC ν c u) (h : HaC ν u H p) (hrun : 1 ≤ gI u 36) (hx : x < 90000) : wp (runC (d + 1) 43 [(x : Int)] u) (fun _ u' => HaC ν u' H p ∧ x < gL u' 42 ∧ EqS u u' ∧ Up ν c u u' X ∧ WF FC u' ∧ Gr FC DX1_room_2 u u' ∧ (∀ k i, k = 37 ∨ k = 38 → i < gL u k → gN u' k i = gN u k i) ∧ ∀ k i, k = 37 ∨ k = 38 → gL u k ≤ i → i < gL u' k → gN u' k i = 0) := by
  have hh := h
  obtain ⟨⟨a1, a2, a3, a4⟩, ⟨b1, b2, b3, b4, b5⟩, h3, h4, h5, h6, h7⟩ := h
  have main : wp (runC (d + 1) 43 [(x : Int)] u) (fun _ u' => x < gL u' 42 ∧ (gL u' 39 = gL u' 42 ∧ gL u' 37 = gL u' 42 ∧ gL u' 38 = gL u' 42 ∧ (gL u 42 ≤ gL u' 42 ∧ (gL u' 42 = 60000 ∨ gL u' 42 = 90000)) ∧ gL u' 42 ≤ 140000) ∧ ∀ k, k = 37 ∨ k = 38 ∨ k = 39 ∨ k = 42 → (∀ i, i < gL u 42 → gN u' k i = gN u k i) ∧ ∀ i, gL u 42 ≤ i → i < gL u' 42 → gN u' k i = 0) := by
    rw [runC_eq (by omega)]
    show wp (bX1_room_2 (runC d) x u) _
    unfold bX1_room_2
    rw [wp_un]
    refine wp_ite (fun hlt => ?_) (fun hge => ?_)
    · rw [wp_some]
      exact ⟨by omega, ⟨b1, b2, b3, ⟨Nat.le_refl _, b4⟩, b5⟩, fun k _ => ⟨fun _ _ => rfl, fun i q1 q2 => by omega⟩⟩
    · rw [wp_ar]
      refine ⟨⟨by omega, by omega⟩, ?_⟩
      rw [wp_un, wp_un, wp_gd]
      refine ⟨by decide, ?_⟩
      have htd : Int.tdiv (gL u 37 : Int) 2 = ((gL u 37 / 2 : Nat) : Int) := by
        rw [Int.tdiv_eq_ediv_of_nonneg (by omega)]; omega
      rw [htd, wp_ar]
      refine ⟨⟨by omega, by omega⟩, ?_⟩
      rw [wp_ar]
      refine ⟨⟨by omega, by omega⟩, ?_⟩
      rw [wp_un]
      have hn : (if (x : Int) + 1 < (gL u 37 : Int) + ((gL u 37 / 2 : Nat) : Int) then (gL u 37 : Int) + ((gL u 37 / 2 : Nat) : Int) else (x : Int) + 1) = ((gL u 37 + gL u 37 / 2 : Nat) : Int) := by
        by_cases q : (x : Int) + 1 < (gL u 37 : Int) + ((gL u 37 / 2 : Nat) : Int)
        · rw [if_pos q]; omega
        · rw [if_neg q]; omega
      rw [hn]
      generalize hm : gL u 37 + gL u 37 / 2 = m
      have one : ∀ (s : Sg) (id : Nat) (K : Sg → Option (Int × Sg)) (Q : Int → Sg → Prop), gL s id = gL u 42 → (∀ s', (∀ j, j ≠ id → gL s' j = gL s j ∧ ∀ i, gN s' j i = gN s j i) → gL s' id = m → (∀ i, i < gL u 42 → gN s' id i = gN s id i) → (∀ i, gL u 42 ≤ i → i < m → gN s' id i = 0) → wp (K s') Q) → wp (cpy s id (m : Int) K) Q := fun s id K Q hl k => by
        rw [wp_cpy]
        refine ⟨⟨by rw [Int.toNat_natCast]; omega, by rw [Int.toNat_natCast]; omega, by omega⟩, k _ (fun j hj => ⟨by rw [gL_sN', if_neg hj], fun i => by rw [gN_sN', if_neg hj]⟩) (by rw [gL_sN', if_pos rfl, Int.toNat_natCast]) (fun i hi => ?_) (fun i q1 q2 => ?_)⟩
        · rw [gN_sN', if_pos rfl, if_pos (by omega)]; rfl
        · rw [gN_sN', if_pos rfl, if_neg (by omega)]
      refine one u 37 _ _ (by omega) (fun s1 p1 p2 p3 p4 => ?_)
      refine one s1 38 _ _ (by rw [(p1 38 (by omega)).1]; omega) (fun s2 q1 q2 q3 q4 => ?_)
      refine one s2 39 _ _ (by rw [(q1 39 (by omega)).1, (p1 39 (by omega)).1]; omega) (fun s3 r1 r2 r3 r4 => ?_)
      refine one s3 42 _ _ (by rw [(r1 42 (by omega)).1, (q1 42 (by omega)).1, (p1 42 (by omega)).1]) (fun s4 t1 t2 t3 t4 => ?_)
      rw [wp_some]
      have L37 : gL s4 37 = m := by rw [(t1 37 (by omega)).1, (r1 37 (by omega)).1, (q1 37 (by omega)).1]; exact p2
      have L38 : gL s4 38 = m := by rw [(t1 38 (by omega)).1, (r1 38 (by omega)).1]; exact q2
      have L39 : gL s4 39 = m := by rw [(t1 39 (by omega)).1]; exact r2
      refine ⟨by omega, ⟨by omega, by omega, by omega, ⟨by omega, by omega⟩, by omega⟩, fun k hk => ?_⟩
      rcases hk with e | e | e | e
      · subst e
        refine ⟨fun i hi => by rw [(t1 37 (by omega)).2, (r1 37 (by omega)).2, (q1 37 (by omega)).2, p3 i hi], fun i z1 z2 => by rw [(t1 37 (by omega)).2, (r1 37 (by omega)).2, (q1 37 (by omega)).2]; exact p4 i z1 (by omega)⟩
      · subst e
        refine ⟨fun i hi => by rw [(t1 38 (by omega)).2, (r1 38 (by omega)).2, q3 i hi, (p1 38 (by omega)).2], fun i z1 z2 => by rw [(t1 38 (by omega)).2, (r1 38 (by omega)).2]; exact q4 i z1 (by omega)⟩
      · subst e
        refine ⟨fun i hi => by rw [(t1 39 (by omega)).2, r3 i hi, (q1 39 (by omega)).2, (p1 39 (by omega)).2], fun i z1 z2 => by rw [(t1 39 (by omega)).2]; exact r4 i z1 (by omega)⟩
      · subst e
        refine ⟨fun i hi => by rw [t3 i hi, (r1 42 (by omega)).2, (q1 42 (by omega)).2, (p1 42 (by omega)).2], fun i z1 z2 => t4 i z1 (by omega)⟩
  refine wp_mono (gX1_room_2 hw ⟨by omega, by omega⟩ main) (fun r u' ⟨⟨q1, ⟨q2, q3, q4, ⟨q5, q5b⟩, q6⟩, q7⟩, g, w, _⟩ => ?_)
  obtain ⟨e, hU⟩ := g.ux (X := X) hs (by decide +kernel)
  have n40 : ∀ i, gN u' 40 i = gN u 40 i := fun i => g.N 40 (by decide +kernel) i
  have n41 : ∀ i, gN u' 41 i = gN u 41 i := fun i => g.N 41 (by decide +kernel) i
  have i36 : gI u' 36 = gI u 36 := g.I 36 (by decide +kernel)
  refine ⟨⟨⟨by rw [g.I 43 (by decide +kernel)]; exact a1, a2, by rw [g.Ln 40 (by decide +kernel)]; exact a3, by rw [g.Ln 41 (by decide +kernel)]; exact a4⟩, ⟨q2, q3, q4, q5b, q6⟩, h3, fun i t hi => ?_, fun y hy => ⟨?_, fun he => ?_⟩, fun i hi => by rw [n41]; exact h6 i hi, h7⟩, q1, e, hU, w, g, fun k i hk hi => (q7 k (by omega)).1 i (by rcases hk with z | z <;> (rw [z] at hi; omega)), fun k i hk hi hi2 => (q7 k (by omega)).2 i (by rcases hk with z | z <;> (rw [z] at hi; omega)) (by rcases hk with z | z <;> (rw [z] at hi2; omega))⟩
  · obtain ⟨y, y1, y2, y3, y4, y5, y6, y7⟩ := h4 i t hi
    exact ⟨y, by rw [n40]; exact y1, y2, by rw [e.n]; exact y3, by rw [e.tr]; exact y4, by omega, by rw [(q7 42 (by omega)).1 y y5, i36]; exact y6, by rw [(q7 39 (by omega)).1 y (by omega)]; exact y7⟩
  · rw [i36]
    by_cases hyl : y < gL u 42
    · rw [(q7 42 (by omega)).1 y hyl]; exact (h5 y hyl).1
    · rw [(q7 42 (by omega)).2 y (by omega) hy]; omega
  · rw [i36] at he
    by_cases hyl : y < gL u 42
    · rw [(q7 42 (by omega)).1 y hyl] at he
      obtain ⟨i, hi, z⟩ := (h5 y hyl).2 he
      exact ⟨i, hi, by rw [n40]; exact z⟩
    · rw [(q7 42 (by omega)).2 y (by omega) hy] at he
      omega
