/-! opened formulas: going through an opening -/
theorem not_no {f : Nat} (ho : okT f) (hf : isFo f) (h : f ≠ yesT) : notT f ≠ noT := fun q => by
  have h1 : notT (notT f) = notT noT := by rw [q]
  rw [notT_not ho hf] at h1
  apply h
  rw [h1]
  unfold notT
  rw [if_pos kd_no]
  unfold noT
  rw [ps_mk]
  rfl
theorem op_ind {Q : Nat → Nat → Nat → Prop}
  (hl : ∀ n f c, okT f → isFo f → LfK f → Q (n + 1) f c)
  (ha : ∀ n f c, okT f → isFo f → kd f = 17 → 2 ≤ (ps f).length → (∀ p ∈ ps f, p ∈ fms f ∧ okT p ∧ isFo p ∧ p ≠ noT ∧ htT p < n ∧ ∀ c', Q n p c') → Q (n + 1) f c)
  (hn : ∀ n f c, okT f → isFo f → kd f = 16 → kd (pa f 0) = 17 → okT (pa f 0) → pa f 0 ∈ fms f → 2 ≤ (ps (pa f 0)).length → (∀ p ∈ ps (pa f 0), p ∈ fms (pa f 0) ∧ okT p ∧ isFo p ∧ notT p ≠ noT ∧ htT (notT p) < n ∧ ∀ c', Q n (notT p) c') → Q (n + 1) f c)
  (hx : ∀ n f c, okT f → isFo f → kd f = 16 → kd (pa f 0) = 18 → okT (pa f 0) → pa f 0 ∈ fms f → okT (pa (pa f 0) 1) → isFo (pa (pa f 0) 1) → pa (pa f 0) 1 ∈ fms (pa f 0) → notT (sbT (putg (mk 1 (2 * c) [])) 0 (pa (pa f 0) 1)) ≠ noT → htT (notT (sbT (putg (mk 1 (2 * c) [])) 0 (pa (pa f 0) 1))) < n → (okT (sbT (putg (mk 1 (2 * c) [])) 0 (pa (pa f 0) 1)) ∧ isFo (sbT (putg (mk 1 (2 * c) [])) 0 (pa (pa f 0) 1))) → Q n (notT (sbT (putg (mk 1 (2 * c) [])) 0 (pa (pa f 0) 1))) (c + 1) → Q (n + 1) f c) : ∀ n f c, htT f < n → okT f → isFo f → Q n f c := by
  intro n
  induction n with
  | zero => intro f c h; omega
  | succ n ih =>
    intro f c hh ho hf
    by_cases h17 : kd f = 17
    · have hq : 2 ≤ (ps f).length ∧ ∀ p ∈ ps f, isFo p ∧ p ≠ noT := by
        rcases ho.n.2 with q | q | q | q | q | q | q | q | q | q | q | q | q | q <;> try omega
        exact ⟨q.2.2.1, fun p hp => ⟨(q.2.2.2 p hp).1, (q.2.2.2 p hp).2.2.2⟩⟩
      refine ha n f c ho hf h17 hq.1 (fun p hp => ?_)
      obtain ⟨q1, q2⟩ := hq.2 p hp
      have hfm : p ∈ fms f := fms_mem hp (by omega) (isFo_pos q1)
      have := ht_c hfm
      exact ⟨hfm, ho.c hfm, q1, q2, by omega, fun c' => ih p c' (by omega) (ho.c hfm) q1⟩
    by_cases h16 : kd f = 16
    · obtain ⟨g, q3, hg⟩ : ∃ g, ps f = [g] ∧ isFo g := by
        rcases ho.n.2 with q | q | q | q | q | q | q | q | q | q | q | q | q | q <;> try omega
        obtain ⟨_, _, g, q3, hg, _⟩ := q
        exact ⟨g, q3, hg⟩
      have hp : pa f 0 = g := pa_at (by rw [q3]; rfl)
      have hgm : g ∈ fms f := fms_at.mpr ⟨0, Or.inr rfl, by rw [q3]; rfl, isFo_pos hg⟩
      have hog := ho.c hgm
      have hhg := ht_c hgm
      by_cases g17 : kd g = 17
      · have hq : 2 ≤ (ps g).length ∧ ∀ p ∈ ps g, isFo p ∧ p ≠ yesT := by
          rcases hog.n.2 with q | q | q | q | q | q | q | q | q | q | q | q | q | q <;> try omega
          exact ⟨q.2.2.1, fun p hp => ⟨(q.2.2.2 p hp).1, (q.2.2.2 p hp).2.2.1⟩⟩
        refine hn n f c ho hf h16 (by rw [hp]; exact g17) (by rw [hp]; exact hog) (by rw [hp]; exact hgm) (by rw [hp]; exact hq.1) (fun p hp' => ?_)
        rw [hp] at hp' ⊢
        obtain ⟨q1, q2⟩ := hq.2 p hp'
        have hfm : p ∈ fms g := fms_mem hp' (by omega) (isFo_pos q1)
        have h1 := ht_c hfm
        have hop := hog.c hfm
        have h2 := ht_not hop
        exact ⟨hfm, hop, q1, not_no hop q1 q2, by omega, fun c' => ih _ c' (by omega) (okT_not hop q1).1 (okT_not hop q1).2⟩
      by_cases g18 : kd g = 18
      · obtain ⟨ty, b, e, py, pb, k8, hbf, my, mb, bny⟩ := all_parts hog g18
        obtain ⟨oc, tc⟩ := okT_const (2 * c)
        have hob := hog.c mb
        have hok : okT (sbT (putg (mk 1 (2 * c) [])) 0 b) := okT_sb b hob (gOn_put hob oc tc) 0
        have kS := (sb_kd (g := putg (mk 1 (2 * c) [])) (d := 0) (t := b) (by unfold isFo at hbf; omega)).1
        have hof : isFo (sbT (putg (mk 1 (2 * c) [])) 0 b) := by
          unfold isFo at hbf ⊢
          rw [kS]; exact hbf
        have h1 := ht_c mb
        have h2 := ht_put_le (ht_con (2 * c)) b hob 0
        have h3 := ht_not hok
        have hny : sbT (putg (mk 1 (2 * c) [])) 0 b ≠ yesT := fun q => by
          have this : kd (sbT (putg (mk 1 (2 * c) [])) 0 b) = 9 := by rw [q]; exact kd_yes
          rw [kS] at this
          exact bny (yes_of hob this)
        have := ih (notT (sbT (putg (mk 1 (2 * c) [])) 0 b)) (c + 1) (by omega) (okT_not hok hof).1 (okT_not hok hof).2
        refine hx n f c ho hf h16 (by rw [hp]; exact g18) (by rw [hp]; exact hog) (by rw [hp]; exact hgm) ?_ ?_ ?_ ?_ ?_ ?_ ?_ <;> rw [hp, pb]
        · exact hob
        · exact hbf
        · exact mb
        · exact not_no hok hof hny
        · omega
        · exact ⟨hok, hof⟩
        · exact this
      · exact hl n f c ho hf ⟨h17, fun q => by rw [hp] at q; omega⟩
    · exact hl n f c ho hf ⟨h17, fun q => h16 q.1⟩
/-- how many cases an opened formula stands for -/
def kOS (F : Nat → Nat) (t : Nat) : Nat := if kd t = 17 then prN1 ((ps t).map F) else if kd t = 30 then ((ps t).map F).sum else 1
def kO (t : Nat) : Nat := rcT kOS 1 t
theorem kO_eq (t : Nat) : kO t = kOS kO t := rc_eq (fun F F' t h => by
  unfold kOS
  rw [List.map_congr_left h]) t
/-- where one of several stands, there are two at least -/
def gOS (F : Nat → Prop) (t : Nat) : Prop := (kd t = 30 → 2 ≤ (ps t).length) ∧ (kd t = 17 ∨ kd t = 30 → ∀ p ∈ ps t, F p)
def gO (t : Nat) : Prop := rcT gOS True t
theorem gO_eq (t : Nat) : gO t = gOS gO t := rc_eq (fun F F' t h => by
  unfold gOS
  refine propext ⟨fun ⟨a, b⟩ => ⟨a, fun k p hp => ?_⟩, fun ⟨a, b⟩ => ⟨a, fun k p hp => ?_⟩⟩
  · rw [← h p hp]; exact b k p hp
  · rw [h p hp]; exact b k p hp) t
theorem gO.c {t p : Nat} (h : gO t) (k : kd t = 17 ∨ kd t = 30) (hp : p ∈ ps t) : gO p := by
  rw [gO_eq] at h
  exact h.2 k p hp
theorem gO_lf {t : Nat} (h17 : kd t ≠ 17) (h30 : kd t ≠ 30) : gO t := by
  rw [gO_eq]
  exact ⟨fun q => absurd q h30, fun q => by omega⟩
theorem prN1_app (l l' : List Nat) : prN1 (l ++ l') = prN1 l * prN1 l' := by
  induction l with
  | nil => show prN1 l' = 1 * prN1 l'; omega
  | cons a l ih => show a * prN1 (l ++ l') = a * prN1 l * prN1 l'; rw [ih, Nat.mul_assoc]
theorem prN1_rev (l : List Nat) : prN1 l.reverse = prN1 l := by
  induction l with
  | nil => rfl
  | cons a l ih =>
    rw [List.reverse_cons, prN1_app, ih]
    show prN1 l * (a * 1) = a * prN1 l
    rw [Nat.mul_one, Nat.mul_comm]
theorem sum_pos2 : ∀ (l : List Nat), (∀ x ∈ l, 1 ≤ x) → l.length ≤ l.sum
  | [], _ => Nat.le_refl _
  | a :: l, h => by
    have h1 := h a List.mem_cons_self
    have h2 := sum_pos2 l (fun x hx => h x (List.mem_cons_of_mem _ hx))
    rw [List.sum_cons, List.length_cons]
    omega
theorem kO_pos : ∀ (t : Nat), gO t → 1 ≤ kO t := by
  intro t
  induction t using Nat.strongRecOn with
  | ind t ih =>
    intro h
    rw [kO_eq]
    unfold kOS
    by_cases h17 : kd t = 17
    · rw [if_pos h17]
      exact prN1_pos (fun x hx => by
        obtain ⟨p, hp, e⟩ := List.mem_map.mp hx
        rw [← e]; exact ih p (ps_lt hp) (h.c (Or.inl h17) hp))
    · rw [if_neg h17]
      by_cases h30 : kd t = 30
      · rw [if_pos h30]
        have h2 := sum_pos2 ((ps t).map kO) (fun x hx => by
          obtain ⟨p, hp, e⟩ := List.mem_map.mp hx
          rw [← e]; exact ih p (ps_lt hp) (h.c (Or.inr h30) hp))
        rw [List.length_map] at h2
        have h3 := h
        rw [gO_eq] at h3
        have := h3.1 h30
        omega
      · rw [if_neg h30]; exact Nat.le_refl _
/-- what is pending: as many cases as the product -/
theorem nc_eq : ∀ (n : Nat) (P : List Nat), wtP P < n → ncF n P = prN1 (P.map kO) := by
  intro n
  induction n with
  | zero => intro P h; omega
  | succ n ih =>
    intro P h
    cases P with
    | nil => rfl
    | cons t P =>
      have e0 : wtP (t :: P) = wtO t + wtP P := by unfold wtP; rw [List.map_cons, List.sum_cons]
      have ek : prN1 ((t :: P).map kO) = kO t * prN1 (P.map kO) := rfl
      rw [ncF, ek, kO_eq]
      unfold kOS
      by_cases h17 : kd t = 17
      · rw [if_pos h17, if_pos h17, ih _ (by have := wtP_and (P := P) h17; omega), List.map_append, prN1_app, List.map_reverse, prN1_rev]
      · rw [if_neg h17, if_neg h17]
        by_cases h30 : kd t = 30
        · rw [if_pos h30, if_pos h30]
          have : (ps t).map (fun b => ncF n (b :: P)) = (ps t).map (fun b => kO b * prN1 (P.map kO)) := List.map_congr_left (fun b hb => ih _ (by have := wtP_one (P := P) h30 hb; omega))
          rw [this]
          generalize ps t = l
          induction l with
          | nil => simp
          | cons a l ihl => rw [List.map_cons, List.sum_cons, List.map_cons, List.sum_cons, ihl, Nat.add_mul]
        · rw [if_neg h30, if_neg h30, Nat.one_mul]
          have := wtO_pos t
          exact ih P (by omega)
theorem gO_nc {P : List Nat} (h : ∀ t ∈ P, gO t) : 1 ≤ prN1 (P.map kO) := prN1_pos (fun x hx => by
  obtain ⟨p, hp, e⟩ := List.mem_map.mp hx
  rw [← e]; exact kO_pos p (h p hp))
theorem foldl_max_le {l : List Nat} {m : Nat} : ∀ (a : Nat), a ≤ m → (∀ x ∈ l, x ≤ m) → l.foldl max a ≤ m := by
  induction l with
  | nil => exact fun a h _ => h
  | cons b l ih => exact fun a h h2 => ih (max a b) (Nat.max_le.mpr ⟨h, h2 b List.mem_cons_self⟩) (fun x hx => h2 x (List.mem_cons_of_mem _ hx))
def vP (P : List Nat) : Nat := (P.map (fun t => wtO t - 1)).sum
/-- pends, depth and leaves -/
theorem pn_le : ∀ (n : Nat) (P : List Nat), wtP P < n → (∀ t ∈ P, gO t) → dpF n P + 1 ≤ ncF n P ∧ lfF n P ≤ wtP P ∧ pcF n P ≤ vP P * ncF n P := by
  intro n
  induction n with
  | zero => intro P h; omega
  | succ n ih =>
    intro P h hg
    cases P with
    | nil => exact ⟨Nat.le_refl _, Nat.zero_le _, Nat.zero_le _⟩
    | cons t P =>
      have e0 : ∀ t, wtP (t :: P) = wtO t + wtP P := fun t => by unfold wtP; rw [List.map_cons, List.sum_cons]
      have ev : ∀ t, vP (t :: P) = (wtO t - 1) + vP P := fun t => by unfold vP; rw [List.map_cons, List.sum_cons]
      have w1 := wtO_pos t
      have hgP : ∀ t ∈ P, gO t := fun s hs => hg s (List.mem_cons_of_mem _ hs)
      have gt := hg t List.mem_cons_self
      rw [dpF, lfF, pcF, ncF]
      by_cases h17 : kd t = 17
      · simp only [if_pos h17]
        have hw := wtP_and (P := P) h17
        obtain ⟨a1, a2, a3⟩ := ih ((ps t).reverse ++ P) (by omega) (fun s hs => (List.mem_append.mp hs).elim (fun q => gt.c (Or.inl h17) (List.mem_reverse.mp q)) (hgP s))
        have ew : wtO t = 1 + ((ps t).map wtO).sum := by rw [wtO_eq]; unfold wtS; rw [if_pos (Or.inl h17)]
        have e1 : vP ((ps t).reverse ++ P) + (ps t).length = vP (t :: P) := by
          rw [ev, ew]
          unfold vP
          rw [List.map_append, List.sum_append, List.map_reverse, List.sum_reverse]
          have : ∀ l : List Nat, (l.map (fun t => wtO t - 1)).sum + l.length = (l.map wtO).sum := fun l => by
            induction l with
            | nil => rfl
            | cons b l ihl =>
              have := wtO_pos b
              simp only [List.map_cons, List.sum_cons, List.length_cons]
              omega
          have := this (ps t)
          omega
        refine ⟨a1, by omega, ?_⟩
        rw [← e1, Nat.add_mul]
        have : (ps t).length ≤ (ps t).length * ncF n ((ps t).reverse ++ P) := Nat.le_mul_of_pos_right _ (by omega)
        omega
      · simp only [if_neg h17]
        by_cases h30 : kd t = 30
        · simp only [if_pos h30]
          have ew : wtO t = 1 + ((ps t).map wtO).sum := by rw [wtO_eq]; unfold wtS; rw [if_pos (Or.inr h30)]
          have I : ∀ b ∈ ps t, dpF n (b :: P) + 1 ≤ ncF n (b :: P) ∧ lfF n (b :: P) ≤ wtP (b :: P) ∧ pcF n (b :: P) ≤ vP (b :: P) * ncF n (b :: P) := fun b hb => ih (b :: P) (by have := wtP_one (P := P) h30 hb; omega) (fun s hs => (List.mem_cons.mp hs).elim (fun q => by rw [q]; exact gt.c (Or.inr h30) hb) (hgP s))
          have hl2 : 2 ≤ (ps t).length := by
            have := gt
            rw [gO_eq] at this
            exact this.1 h30
          refine ⟨?_, ?_, ?_⟩
          · have hm : ∀ x ∈ (ps t).map (fun b => dpF n (b :: P)), x + 2 ≤ ((ps t).map (fun b => ncF n (b :: P))).sum := fun x hx => by
              obtain ⟨b, hb, e⟩ := List.mem_map.mp hx
              have h1 := (I b hb).1
              have h2 := sum_two (f := fun b => ncF n (b :: P)) hb hl2 (fun c hc => by have := (I c hc).1; omega)
              have h2 : ncF n (b :: P) + 1 ≤ ((ps t).map (fun b => ncF n (b :: P))).sum := h2
              omega
            obtain ⟨b0, hb0⟩ := List.exists_mem_of_length_pos (show 0 < (ps t).length by omega)
            have h0 := hm _ (List.mem_map.mpr ⟨b0, hb0, rfl⟩)
            have := foldl_max_le (l := (ps t).map (fun b => dpF n (b :: P))) (m := ((ps t).map (fun b => ncF n (b :: P))).sum - 2) 0 (by omega) (fun x hx => by have := hm x hx; omega)
            omega
          · refine foldl_max_le 0 (Nat.zero_le _) (fun x hx => ?_)
            obtain ⟨b, hb, e⟩ := List.mem_map.mp hx
            have := (I b hb).2.1
            have := wtP_one (P := P) h30 hb
            omega
          · have hb : ∀ b ∈ ps t, 1 + pcF n (b :: P) ≤ vP (t :: P) * ncF n (b :: P) := fun b hb => by
              obtain ⟨i1, _, i3⟩ := I b hb
              have h1 := sum_mem (f := wtO) hb
              have h2 : vP (b :: P) + 1 ≤ vP (t :: P) := by rw [ev, ev, ew]; have := wtO_pos b; omega
              have h3 := Nat.mul_le_mul_right (ncF n (b :: P)) h2
              rw [Nat.add_mul] at h3
              omega
            have : ∀ l : List Nat, (∀ b ∈ l, 1 + pcF n (b :: P) ≤ vP (t :: P) * ncF n (b :: P)) → (l.map (fun b => 1 + pcF n (b :: P))).sum ≤ vP (t :: P) * (l.map (fun b => ncF n (b :: P))).sum := fun l => by
              induction l with
              | nil => exact fun _ => Nat.zero_le _
              | cons a l ihl =>
                intro h
                have h1 := h a List.mem_cons_self
                have h2 := ihl (fun b hb => h b (List.mem_cons_of_mem _ hb))
                simp only [List.map_cons, List.sum_cons, Nat.mul_add]
                omega
            exact this _ hb
        · simp only [if_neg h30]
          obtain ⟨a1, a2, a3⟩ := ih P (by have := e0 t; omega) hgP
          have ew : wtO t = 1 := by rw [wtO_eq]; unfold wtS; rw [if_neg (by omega)]
          refine ⟨a1, by rw [e0, ew]; omega, ?_⟩
          rw [ev, ew]
          simpa using a3
