def ChSp (p : Prop) (M H : Nat → Nat) (ν : Nat → Nat) (c : Nat) (g : Nat → Nat → Nat) (t : Nat) : Prop := ∀ (d : Nat) (u : Sg) (x dep : Nat) (X : Nat → Prop), 16 + H t ≤ d → WF FC u → SC ν c u → YN ν u → GM ν u g → (p → gI u 15 = 0) → 0 < x → x < nC u → trC ν u x = t → dep + H t ≤ 900 → ImT (fun t => ndC ν u t ∨ X t) g t dep → Lim ν u X → rC u + 2 * M t ≤ 29000 → wp (runC d 108 [(x : Int), (dep : Int)] u) (RsT ν c DX2_change u (sbT g dep t) X)
/-- in the midst of a form's parts -/
def Mid (ν : Nat → Nat) (c : Nat) (u : Sg) (X : Nat → Prop) (k : Nat) (L : List Nat) (u' : Sg) : Prop := Ux ν c u u' X ∧ WF FC u' ∧ (∀ i, i < rC u → gN u' 11 i = gN u 11 i) ∧ RowE ν u' (rC u) k L ∧ Gr FC DX2_change u u'
theorem Mid.push {ν : Nat → Nat} {c : Nat} {u u' : Sg} {X : Nat → Prop} {k t y d : Nat} {L : List Nat} {v : Int} {K : Int → Sg → Option (Int × Sg)} {Q : Int → Sg → Prop} (hd : 3 ≤ d) (hM : Mid ν c u X k L u') (hv : v = (y : Int)) (hy : y < 1000000) (hr : rC u + L.length ≤ 30000) (h4 : (k = 8 ∧ 0 < L.length) → y = t) (h5 : ¬ (k = 8 ∧ 0 < L.length) → y < nC u' ∧ trC ν u' y = t) (kk : ∀ r u2, Mid ν c u X k (L ++ [t]) u2 → wp (K r u2) Q) : wp (cl (runC d 97 [v] u') K) Q := by
  obtain ⟨m1, m2, m3, m4, m5⟩ := hM
  subst hv
  refine wp_call (tX2_push hd m2 m1.1 ⟨by omega, by omega⟩ (by rw [m4.1]; omega)) (fun r u2 ⟨s1, e1, r1, p1, p2, w1, g1⟩ => kk r u2 ⟨m1.trn (Ux.eqs e1 s1), w1, fun i hi => ?_, m4.push e1 r1 p1 p2 h4 h5, m5.tr (g1.sub (by decide +kernel))⟩)
  rw [p1 i (by rw [m4.1]; omega), m3 i hi]
theorem RowE.of_up {ν : Nat → Nat} {c : Nat} {u u' : Sg} {X : Nat → Prop} {a k : Nat} {L : List Nat} (h : RowE ν u a k L) (hs : SC ν c u) (hu : Up ν c u u' X) : RowE ν u' a k L := h.up hs hu
theorem chm_at {f : Nat → Nat → Nat} {k d i : Nat} {l : List Nat} {c : Nat} (h : l[i]? = some c) : (chm f k d l)[i]? = some (if k = 8 ∧ 0 < i then c else if k = 18 ∧ 0 < i then zf (f (d + 1)) c else zf (f d) c) := by
  cases l with
  | nil => simp at h
  | cons a l =>
    unfold chm
    cases i with
    | zero =>
      simp at h
      subst h
      by_cases h8 : k = 8
      · simp [h8]
      · by_cases h18 : k = 18
        · simp [h18]
        · simp [h8, h18]
    | succ i =>
      simp at h
      by_cases h8 : k = 8
      · simp [h8, h]
      · by_cases h18 : k = 18
        · simp [h18, h]
        · simp [h8, h18, h]
theorem RsT.x' {ν : Nat → Nat} {c D : Nat} {u : Sg} {t : Nat} {X : Nat → Prop} {r : Int} {u' : Sg} (h : RsT ν c D u t (fun t => ndC ν u t ∨ X t) r u') : RsT ν c D u t X r u' := by
  obtain ⟨x, h1, h2, h3, h4, h5, h6, h7⟩ := h
  exact ⟨x, h1, h2, h3, h4, h5.mono (fun t h => h), h6, h7⟩
theorem change_L205 {ν : Nat → Nat} {c : Nat} {g : Nat → Nat → Nat} {t : Nat} {p : Prop} {M H : Nat → Nat} (hMs : Ms p M H) (ho : okT t) (ih : ∀ c1 ∈ fms t, ChSp p M H ν c g c1) {d : Nat} {u : Sg} {x dep : Nat} {X : Nat → Prop} (hd : 15 + H t ≤ d) (hs : SC ν c u) (hyn : YN ν u) (hgm : GM ν u g) (hp15 : p → gI u 15 = 0) (hE : p → ¬ loT t ≤ dep) (ht0 : t ≠ 0) (x0 : 0 < x) (hx : x < nC u) (ht : trC ν u x = t) (hdep : dep + H t ≤ 900) (him : ImT (fun t => ndC ν u t ∨ X t) g t dep) (hl : Lim ν u X) (hr : rC u + 2 * M t ≤ 29000) (hlen : (ps t).length ≤ M t) {Q : Int → Sg → Prop} {fm : Nat} (hfm : fm = if kd t = 8 then 1 else (ps t).length) :
    ∀ (m i f : Nat) (u' : Sg), i + m = (ps t).length → m < f → Mid ν c u X (kd t) ((chm (sbT g) (kd t) dep (ps t)).take i) u' → ∀ x0, (∀ u', Mid ν c u X (kd t) (chm (sbT g) (kd t) dep (ps t)) u' → wp (x0 (x : Int) (kd t : Int) (rC u : Int) u') Q) → wp (bX2_change_L205 (runC d) f (x : Int) (dep : Int) (kd t : Int) ((ps t).length : Int) (fm : Int) (rC u : Int) (i : Int) u' x0) Q := by
  intro m
  induction m with
  | zero =>
    intro i f u' hi hf hM xx k
    obtain ⟨f, rfl⟩ : ∃ f', f = f' + 1 := ⟨f - 1, by omega⟩
    rw [bX2_change_L205, if_neg (by omega)]
    rw [List.take_of_length_le (by rw [chm_len]; omega)] at hM
    exact k u' hM
  | succ m ihm =>
    intro i f u' hi hf hM xx k
    obtain ⟨f, rfl⟩ : ∃ f', f = f' + 1 := ⟨f - 1, by omega⟩
    have hM' := hM
    obtain ⟨m1, m2, m3, m4, m5⟩ := hM'
    have hil : i < (ps t).length := by omega
    obtain ⟨ci, hget⟩ : ∃ ci, (ps t)[i]? = some ci := ⟨_, List.getElem?_eq_getElem hil⟩
    have hch := chm_at (f := sbT g) (k := kd t) (d := dep) hget
    have htk : ∀ z, (chm (sbT g) (kd t) dep (ps t))[i]? = some z → (chm (sbT g) (kd t) dep (ps t)).take (i + 1) = (chm (sbT g) (kd t) dep (ps t)).take i ++ [z] := fun z hz => by rw [List.take_add_one, hz]; rfl
    have hlt : ((chm (sbT g) (kd t) dep (ps t)).take i).length = i := by rw [List.length_take, chm_len]; omega
    have hxu : x < nC u' := by have := m1.n hs; omega
    have htu : trC ν u' x = t := by rw [m1.tr hs hx, ht]
    have hpc := partC m1.1 x0 hxu (i := i) (t := ci) (by rw [htu]; exact hget)
    rw [htu] at hpc
    have hb := (m1.lim hl).n m1.1
    -- on to the next part
    have next : ∀ z, (chm (sbT g) (kd t) dep (ps t))[i]? = some z → ∀ (r : Int) (u2 : Sg), Mid ν c u X (kd t) ((chm (sbT g) (kd t) dep (ps t)).take i ++ [z]) u2 → wp (ar ((i : Int) + 1) fun v5 => bX2_change_L205 (runC d) f (x : Int) (dep : Int) (kd t : Int) ((ps t).length : Int) (fm : Int) (rC u : Int) v5 u2 xx) Q := fun z hz r u2 hm2 => by
      have hrr := m1.1.r
      rw [wp_ar]
      refine ⟨⟨by omega, by omega⟩, ?_⟩
      rw [show (i : Int) + 1 = ((i + 1 : Nat) : Int) by omega]
      exact ihm (i + 1) f u2 (by omega) (by omega) (by rw [htk z hz]; exact hm2) xx k
    rw [bX2_change_L205, if_pos (by omega), jn_eq, jn_eq]
    refine wp_eq (atC (by omega) m1.1 x0 hxu (by rw [htu]; exact hil)) ?_
    have h18c : kd t = 18 → 0 < i → i = 1 := fun h18 hi0 => by
      rcases ho.n.2 with q | q | q | q | q | q | q | q | q | q | q | q | q | q <;> try omega
      obtain ⟨q1, q2, y, f', q3, q4⟩ := q
      rw [q3] at hil
      simp at hil; omega
    by_cases hfi : i < fm
    · rw [if_pos (by omega)]
      have hfrm : kd t ≠ 8 ∨ i = 0 := by
        by_cases h8 : kd t = 8
        · rw [if_pos h8] at hfm; exact Or.inr (by omega)
        · exact Or.inl h8
      have hn8 : ¬ (kd t = 8 ∧ 0 < i) := by omega
      obtain ⟨hp1, hp2⟩ := hpc.2.1 hfrm
      rw [if_neg hn8] at hch
      by_cases hz : pt u' x i = 0
      · have hc0 : ci = 0 := by rw [← hp2, hz]; rfl
        rw [if_pos hz]
        have hz0 : (chm (sbT g) (kd t) dep (ps t))[i]? = some 0 := by
          rw [hch, hc0]; unfold zf; simp
        exact Mid.push (t := 0) (y := 0) (by omega) hM hz (by omega) (by rw [hlt]; omega) (fun _ => rfl) (fun _ => ⟨by omega, rfl⟩) (fun r u2 hm2 => next 0 hz0 r u2 hm2)
      · have hppos : 0 < (pt u' x i).toNat := by omega
        have hcpos : ci ≠ 0 := by
          have := tr_pos (okp_C (ν := ν) m1.1.1) hppos (by show (pt u' x i).toNat ≤ nC u' - 1; omega)
          have : 0 < trC ν u' (pt u' x i).toNat := this
          omega
        have hcm : ci ∈ fms t := by
          unfold fms
          refine List.mem_filter.mpr ⟨?_, by simpa using hcpos⟩
          by_cases h8 : kd t = 8
          · rw [if_pos h8]
            have hi0 : i = 0 := by rcases hfrm with q | q; exact absurd h8 q; exact q
            subst hi0
            cases hps : ps t with
            | nil => rw [hps] at hget; simp at hget
            | cons a js => rw [hps] at hget; simp at hget; simp [hget]
          · rw [if_neg h8]; exact List.mem_of_getElem? hget
        obtain ⟨_, hms⟩ := hMs t ho ht0
        obtain ⟨hm1, hm2, hm3⟩ := hms dep hE
        have hht := (hm2 _ hcm).2
        have hsz := hm3 i ci hget hcpos hfrm
        have hsz1 := (hm2 _ hcm).1
        rw [if_neg hz]
        have call : ∀ d', d' = (if kd t = 18 ∧ 0 < i then dep + 1 else dep) → (d' = dep ∨ (kd t = 18 ∧ d' = dep + 1)) → (chm (sbT g) (kd t) dep (ps t))[i]? = some (sbT g d' ci) → wp (cl (runC d 108 [pt u' x i, (d' : Int)] u') fun v12 s13 => cl (runC d 97 [v12] s13) fun v3 s4 => ar ((i : Int) + 1) fun v5 => bX2_change_L205 (runC d) f (x : Int) (dep : Int) (kd t : Int) ((ps t).length : Int) (fm : Int) (rC u : Int) v5 s4 xx) Q := fun d' hde hd' hcd => by
          rw [show pt u' x i = (((pt u' x i).toNat : Nat) : Int) by omega]
          refine wp_call (ih _ hcm d u' (pt u' x i).toNat d' X (by omega) m2 m1.1 (hyn.up hs m1 m5 (by decide +kernel) (by decide +kernel)) (hgm.up hs m1 m5 (by decide +kernel)) (fun z => by rw [m5.I 15 (by decide +kernel)]; exact hp15 z) hppos (by omega) hp2 (by omega) ?_ (m1.lim hl) (by rw [m4.1, hlt]; omega)) (fun r2 u2 ⟨y, ey, y0, hy, ty, up2, w2, g2⟩ => ?_)
          · rw [ImT_eq] at him
            rw [hde]
            exact ImT.mono (fun t h => h.imp (m1.nd hs) id) _ _ (him.2 i ci hget hfrm hcpos)
          · have hM2 : Mid ν c u X (kd t) ((chm (sbT g) (kd t) dep (ps t)).take i) u2 := ⟨m1.trn up2.ux, w2, fun j hj => by rw [up2.2.2.2.2.2.2 j (by rw [m4.1]; omega), m3 j hj], m4.up m1.1 up2, m5.tr g2⟩
            have hb2 := ((m1.trn up2.ux).lim hl).n up2.sc
            exact Mid.push (t := sbT g d' ci) (y := y) (by omega) hM2 ey (by omega) (by rw [hlt]; omega) (fun q => by rw [hlt] at q; exact absurd q hn8) (fun _ => ⟨hy, ty⟩) (fun r u2 hm2 => next _ hcd r u2 hm2)
        rw [jn_eq, jn_eq]
        dsimp only
        refine wp_ite (fun h18 => ?_) (fun h18 => ?_)
        · refine wp_ite (fun hi1 => ?_) (fun hi1 => ?_)
          · rw [wp_ar]
            refine ⟨⟨by omega, by omega⟩, ?_⟩
            rw [show (dep : Int) + 1 = ((dep + 1 : Nat) : Int) by omega]
            refine call (dep + 1) (by rw [if_pos ⟨by omega, by omega⟩]) (Or.inr ⟨by omega, rfl⟩) ?_
            rw [hch, if_pos ⟨by omega, by omega⟩, zf_pos hcpos]
          · have hng : ¬ (kd t = 18 ∧ 0 < i) := fun q => hi1 (by have := h18c q.1 q.2; omega)
            refine call dep (by rw [if_neg hng]) (Or.inl rfl) ?_
            rw [hch, if_neg hng, zf_pos hcpos]
        · refine call dep (by rw [if_neg (fun q => by omega)]) (Or.inl rfl) ?_
          rw [hch, if_neg (fun q => by omega), zf_pos hcpos]
    · have h8 : kd t = 8 := by
        by_cases h8 : kd t = 8
        · exact h8
        · rw [if_neg h8] at hfm; omega
      rw [if_pos h8] at hfm
      have hi0 : i ≠ 0 := by omega
      rw [if_neg (by omega)]
      rw [if_pos ⟨h8, by omega⟩] at hch
      have hpv := hpc.2.2 h8 hi0
      have hj30 : ci < 30 := by
        rcases ho.n.2 with q | q | q | q | q | q | q | q | q | q | q | q | q | q <;> try omega
        obtain ⟨q1, a, js, q2, q3, q4, q5⟩ := q
        refine q5 _ ?_
        obtain ⟨j, rfl⟩ : ∃ j, i = j + 1 := ⟨i - 1, by omega⟩
        rw [q2] at hget
        simp at hget
        exact List.mem_of_getElem? hget
      exact Mid.push (t := ci) (y := ci) (by omega) hM (by omega) (by omega) (by rw [hlt]; omega) (fun _ => rfl) (fun q => absurd ⟨h8, by rw [hlt]; omega⟩ q) (fun r u2 hm2 => next _ hch r u2 hm2)
