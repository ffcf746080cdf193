theorem lo_c {t i c1 dep e : Nat} (hk : ¬ kd t ≤ 3) (h : (ps t)[i]? = some c1) (hm : c1 ∈ fms t) (h8 : kd t ≠ 8 ∨ i = 0) (hd : loT t ≤ dep + e) : loT c1 ≤ dpT t dep i + e := by
  have hps : c1 ∈ ps t := List.mem_of_getElem? h
  have htk : i = 0 → c1 ∈ (ps t).take 1 := fun q => by
    subst q
    cases hp : ps t with
    | nil => rw [hp] at h; simp at h
    | cons a l => rw [hp] at h; simp at h; simp [h]
  have hdr : 0 < i → c1 ∈ (ps t).drop 1 := fun q => by
    refine List.mem_of_getElem? (i := i - 1) ?_
    rw [List.getElem?_drop, show 1 + (i - 1) = i by omega]; exact h
  rw [loT_eq] at hd
  unfold loS at hd
  rw [if_neg (by omega)] at hd
  unfold loX at hd
  unfold dpT
  by_cases k8 : kd t = 8
  · rw [if_pos k8] at hd
    rw [if_neg (by omega)]
    have hi : i = 0 := by rcases h8 with q | q; exact absurd k8 q; exact q
    have := (foldl_max (l := ((ps t).take 1).map loT) 0).1 _ (List.mem_map.mpr ⟨c1, htk hi, rfl⟩)
    omega
  rw [if_neg k8] at hd
  by_cases k18 : kd t = 18
  · rw [if_pos k18] at hd
    by_cases hi : i = 0
    · rw [if_neg (by omega)]
      have := (foldl_max (l := ((ps t).take 1).map loT) 0).1 _ (List.mem_map.mpr ⟨c1, htk hi, rfl⟩)
      omega
    · rw [if_pos ⟨k18, by omega⟩]
      have := (foldl_max (l := ((ps t).drop 1).map loT) 0).1 _ (List.mem_map.mpr ⟨c1, hdr (by omega), rfl⟩)
      omega
  · rw [if_neg k18] at hd
    rw [if_neg (by omega)]
    have := (foldl_max (l := (ps t).map loT) 0).1 _ (List.mem_map.mpr ⟨c1, hps, rfl⟩)
    omega
theorem lo_leaf {t : Nat} (ho : okN t) (h3 : kd t = 1 ∨ kd t = 3) : ps t = [] ∧ loT t = 0 := by
  have p0 : ps t = [] := by
    rcases ho.2 with z | z | z | z | z | z | z | z | z | z | z | z | z | z <;> first | omega | exact z.2 | exact z.2.1
  refine ⟨p0, ?_⟩
  rw [loT_eq]
  unfold loS loX
  rw [if_neg (by omega), if_neg (by omega), if_neg (by omega), p0]; rfl
theorem tX3_bound {d : Nat} (hd : 8 ≤ d) {ν : Nat → Nat} {c : Nat} {u : Sg} {i : Nat} {X : Nat → Prop} (hw : WF FT u) (hs : ST ν c u) (hi : i < 1000000) (h5 : hT u ≤ 29000) (hX : X (mk 2 i [])) (hl : LimT ν u X) :
    wp (runT d 42 [(i : Int)] u) (RvT ν c DX3_bound u (mk 2 i []) X) := by
  obtain ⟨d, rfl⟩ : ∃ d', d = d' + 1 := ⟨d - 1, by omega⟩
  rw [runT_eq (by omega)]
  show wp (bX3_bound (runT d) i u) _
  unfold bX3_bound
  have := tX3_leaf (d := d) (k := 1) (v := (i : Int)) (X := X) (by omega) hw hs (by simp [okR]) (by omega) (by omega) (fun p hp => by unfold fptT at hp; simp at hp) (fun _ => by omega) (fun q => by cases q) h5 (by rw [tree_bound]; exact hX) hl
  rw [tree_bound] at this
  exact wp_mono (RvT.cl this) (fun r u' h => RvT.sub (by decide) h)
theorem liftT {d : Nat} (hd : 2 ≤ d) {ν : Nat → Nat} {c : Nat} {u : Sg} {a : Nat} {e : Int} (hw : WF FT u) (hs : ST ν c u) (a0 : 0 < a) (ha : a ≤ nT u) (ho : okT (trT ν u a)) (hl : loT (trT ν u a) = 0) : runT (d + 1) 59 [(a : Int), e] u = some ((a : Int), u) := by
  rw [runT_eq (by omega)]
  show bX3_lift (runT d) a e u = _
  unfold bX3_lift
  have h5 := lo_T hs hw a a0 ha ho
  rw [hl] at h5
  have hl5 : a < gL u 5 := by rw [hs.1.1.2.2.2.1.2.2.2.1]; exact hs.k ha
  rw [jn_eq]
  by_cases h0 : e = 0
  · rw [if_pos h0]
  · rw [if_neg h0, ld_nat hl5, h5, if_pos (show ((0 : Nat) : Int) = 0 from rfl)]
theorem dp_or (t dep i : Nat) : dpT t dep i = dep ∨ (kd t = 18 ∧ dpT t dep i = dep + 1) := by
  unfold dpT
  by_cases h : kd t = 18 ∧ 0 < i
  · rw [if_pos h]; exact Or.inr ⟨h.1, rfl⟩
  · rw [if_neg h]; exact Or.inl rfl
theorem ImT.ch {X Y : Nat → Prop} {g : Nat → Nat → Nat} {t dep i c1 : Nat} (h : ImT X g t dep) (hg : (ps t)[i]? = some c1) (h8 : kd t ≠ 8 ∨ i = 0) (hc : c1 ∈ fms t) (hxy : ∀ t, X t → Y t) : ImT Y g c1 (dpT t dep i) := by
  rw [ImT_eq] at h
  exact ImT.mono hxy _ _ (h.2 i c1 hg h8 (fms_ps hc).2)
theorem ImT.self {X : Nat → Prop} {g : Nat → Nat → Nat} {t dep : Nat} (h : ImT X g t dep) : X (sbT g dep t) := by
  rw [ImT_eq] at h; exact h.1
theorem KF_big : 70000 < KF := by decide
theorem tX3_put {ν : Nat → Nat} {c ts : Nat} (hots : okT ts) (htts : isTm ts) (hlts : loT ts = 0) : ∀ (t : Nat), okT t → ∀ (d : Nat) (u : Sg) (x dep s : Nat) (X : Nat → Prop), 13 + htQ t ≤ d → szQ t ≤ 900 → WF FT u → ST ν c u → 0 < x → x ≤ nT u → trT ν u x = t → 0 < s → s ≤ nT u → trT ν u s = ts → loT t ≤ dep + 1 → dep + htQ t ≤ 1000 → ImT (fun t => ndT ν u t ∨ X t) (putg ts) t dep → LimT ν u X → hT u + 2 * szQ t ≤ 27000 → wp (runT d 58 [(x : Int), (dep : Int), (s : Int)] u) (RvT ν c DX3_put u (sbT (putg ts) dep t) X) := by
  intro t
  induction t using Nat.strongRecOn with
  | ind t ih =>
    intro ho d u x dep s X hd hz hw hs x0 hx ht s0 hsn hts hlo hdep him hl hr
    have hn := nodeT hs x0 hx
    rw [ht] at hn
    have ht0 : t ≠ 0 := fun q => by have := okT_kin ho; rw [q, kd0] at this; omega
    obtain ⟨hhp, hms⟩ := Ms_Q t ho ht0
    obtain ⟨d, rfl⟩ : ∃ d', d = d' + 1 := ⟨d - 1, by omega⟩
    rw [runT_eq (by omega)]
    show wp (bX3_put (runT d) x dep s u) _
    unfold bX3_put
    have hb := hl.n hs
    have hin := okT_kin ho
    have h5 := lo_T hs hw x x0 hx (by rw [ht]; exact ho)
    rw [ht] at h5
    have hl5 : x < gL u 5 := by rw [hs.1.1.2.2.2.1.2.2.2.1]; exact hs.k hx
    rw [ld_nat hl5, h5]
    have old : ∀ y : Nat, 0 < y → y ≤ nT u → trT ν u y = sbT (putg ts) dep t → RvT ν c DX3_put u (sbT (putg ts) dep t) X (y : Int) u := fun y y0 hy ty => ⟨y, rfl, y0, hy, ty, UpT.rf hs, hw, Gr.rf⟩
    refine wp_ite (fun hle => ?_) (fun hgt => ?_)
    · rw [wp_some]; exact old x x0 hx (by rw [ht, sb_id t ho dep (by omega)])
    rw [ld_nat (hs.k hx), hn.1]
    refine wp_ite (fun h1 => ?_) (fun h1 => ?_)
    · have k2 : kd t = 2 := ((tkT_in hin).2.1).mp h1
      have el : loT t = wh t + 1 := by rw [loT_eq]; unfold loS; rw [if_pos k2]
      have hd0 := hn.2.2.2.1 (by rw [k2]; decide) (by omega)
      have hg : runT d 7 [(x : Int), 0] u = some (dt u x 0, u) := getT (by omega) (i := 0) hs x0 hx (by rw [ht, k2]; have : nw 2 = 1 := by decide
                                                                                                        omega)
      refine wp_eq hg ?_
      rw [if_pos (by omega)]
      obtain ⟨d, rfl⟩ : ∃ d', d = d' + 1 := ⟨d - 1, by omega⟩
      refine wp_eq (liftT (by omega) hw hs s0 hsn (by rw [hts]; exact hots) (by rw [hts]; exact hlts)) ?_
      rw [wp_some]
      refine old s s0 hsn ?_
      rw [hts, sbT_eq, if_pos (by omega)]
      unfold putg
      rw [if_pos ⟨k2, by omega⟩]
    have hk : ¬ kd t ≤ 3 := fun q => by
      have k2 : kd t ≠ 2 := fun q => h1 (((tkT_in hin).2.1).mpr q)
      have := (lo_leaf ho.n (by omega)).2
      omega
    obtain ⟨hlz, hm2, hm3⟩ := hms dep (fun _ => by omega)
    have hnw := nw_le (kd t)
    have hKF := KF_big
    rw [wp_un, hs.r.1]
    exact loopT (d := d) (g := putg ts) (D := DX3_put) (X := X) (by omega) (by decide) ho hk hs x0 hx ht hl (by omega) (by omega) (rk := fun v dv s1 => runT d 58 [v, dv, (s : Int)] s1) (lp := fun f j u1 => bX3_put_L67 (runT d) f x dep s (tkT (kd t)) (hT u) j u1 (fun v12 v13 s11 => cl (runT d 43 [v12, v13] s11) fun v14 s15 => some (v14, s15))) (K := fun u1 => cl (runT d 43 [(x : Int), (hT u : Int)] u1) fun v14 s15 => some (v14, s15)) rfl (fun f j u1 => rfl)
      (fun i c1 y u1 hc1 hcm h8 hU hW hG hh y0 hy hty => by
        have hzc := hm3 i c1 hc1 (fms_ps hcm).2 h8
        have hzc2 := (hm2 _ hcm).1
        have hhc := (hm2 _ hcm).2
        have hdp := dp_or t dep i
        exact ih c1 (fms_lt hcm) (ho.c hcm) d u1 y (dpT t dep i) s X (by omega) (by omega) hW hU.1 y0 hy hty s0 (Nat.le_trans hsn hU.n) (by rw [hU.tr hs hsn]; exact hts) (lo_c hk hc1 hcm h8 hlo) (by omega) (him.ch hc1 h8 hcm (fun t q => q.imp (hU.nd hs) id)) (hU.lim hl) (by omega))
      (fun u1 hM => RvT.cl (endT (by omega) (by decide) (by decide) ho (gOn_put ho hots htts) hk hs x0 hx ht hl (by omega) (by omega) him.self hM))
      ((ps t).length + nw (kd t)) 0 KF u (by omega) (by omega) (MidT.rf hs hw)
