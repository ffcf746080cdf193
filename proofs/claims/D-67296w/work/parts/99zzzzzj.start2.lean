/-! the class's store behind its constructor -/
theorem gI_cs2 (k : Nat) (h : k ≠ 9) : gI cs2 k = 0 := by
  unfold cs2
  rw [gNk, gIk h, gNk, gNk, gNk, gNk, gNk, gNk, gNk, gNk, gNk]
  rfl
theorem gI_cs2_9 : gI cs2 9 = 1 := by
  unfold cs2
  rw [gNk, gI_sI, if_pos rfl]
theorem sc_cs2 : SC nu2 0 cs2 := by
  have hn : nC cs2 = 1 := by unfold nC; rw [gI_cs2_9]; rfl
  have hp : pC cs2 = 0 := by unfold pC; rw [gI_cs2 10 (by decide)]; rfl
  have hr : rC cs2 = 0 := by unfold rC; rw [gI_cs2 12 (by decide)]; rfl
  have v : ∀ {P : Nat → Prop} (x : Nat), 0 < x → x < nC cs2 → P x := fun x h1 h2 => by rw [hn] at h2; omega
  have hz : ∀ k j, gN cs2 k j = 0 := fun k j => by
    show gF cs2 k j = 0
    rw [(zr2.2.2 k).2]
  refine ⟨⟨⟨?_, ?_, ?_, ⟨rfl, rfl, rfl, rfl, rfl, rfl⟩, rfl, ⟨by decide, by decide⟩, Or.inl rfl, Or.inl rfl⟩, ?_, ?_, ?_, ?_⟩, ?_, ?_⟩
  · exact ⟨by rw [gI_cs2_9, hn]; rfl, by omega, by rw [hn]; show 1 ≤ 60000; decide⟩
  · exact ⟨by rw [gI_cs2 10 (by decide), hp]; rfl, by rw [hp]; omega⟩
  · exact ⟨by rw [gI_cs2 12 (by decide), hr]; rfl, by rw [hr]; omega⟩
  · exact ⟨fun x h1 h2 => by rw [hn] at h2; omega, fun i hi => by rw [hp] at hi; omega⟩
  · exact ⟨fun b _ => Or.inl ⟨hz 8 b, fun z h1 h2 => by rw [hn] at h2; omega⟩, fun x h1 h2 => by rw [hn] at h2; omega⟩
  · exact fun x y h1 h2 => by rw [hn] at h2; omega
  · exact fun x h1 h2 => by rw [hn] at h2; omega
  · exact ⟨by rw [hp, hn]; rfl, fun x h1 h2 => by rw [hn] at h2; omega⟩
  · exact ⟨fun x h1 h2 => by rw [hn] at h2; omega, fun i j h => by omega⟩
def XYN : Nat → Prop := fun t => t = yesT ∨ t = noT
theorem lim_yn {u : Sg} (h : ∀ t, ndC nu2 u t → XYN t) : Lim nu2 u XYN := fun l hn hm => by
  have hs : ∀ t ∈ l, t ∈ [yesT, noT] := fun t ht => by
    have : XYN t := (hm t ht).elim (h t) id
    rcases this with q | q
    · rw [q]; exact List.mem_cons_self
    · rw [q]; exact List.mem_cons_of_mem _ List.mem_cons_self
  have hl := nd_lenL l [yesT, noT] hn hs
  have h2 : [yesT, noT].length = 2 := rfl
  refine ⟨by omega, ?_⟩
  have hb : ∀ t ∈ l, (ps t).length ≤ 1 := fun t ht => by
    rcases List.mem_cons.mp (hs t ht) with q | q
    · rw [q]; unfold yesT; rw [ps_mk]; decide
    · rw [List.mem_singleton.mp q]; unfold noT; rw [ps_mk]; exact Nat.le_refl 1
  have hsum : ∀ l : List Nat, (∀ t ∈ l, (ps t).length ≤ 1) → (l.map (fun t => (ps t).length)).sum ≤ l.length := by
    intro l
    induction l with
    | nil => intro _; exact Nat.le_refl _
    | cons a l ih =>
      intro hb
      have h1 := hb a List.mem_cons_self
      have h3 := ih (fun t ht => hb t (List.mem_cons_of_mem _ ht))
      simp only [List.map_cons, List.sum_cons, List.length_cons]
      omega
  have := hsum l hb
  omega
theorem eqs_sI {u : Sg} {k : Nat} {v : Int} (h : 10 < k) : EqS u (sI u k v) := ⟨fun _ _ => rfl, fun j hj => by rw [gI_sI, if_neg (by omega)]⟩
theorem sc_sI {ν : Nat → Nat} {c : Nat} {u : Sg} {k : Nat} {v : Int} (h : SC ν c u) (hk : 12 < k) : SC ν c (sI u k v) := by
  have e : gI (sI u k v) 12 = gI u 12 := by rw [gI_sI, if_neg (by omega)]
  have er : rC (sI u k v) = rC u := by unfold rC; rw [e]
  exact (eqs_sI (by omega)).sc h ⟨by rw [e, er]; exact h.r.1, by rw [er]; exact h.r.2.1⟩ h.r.2.2
theorem start2 {d : Nat} (hd : 10 ≤ d) : ∃ (r : Int) (σ2 : Sg), rest2 (runC d) cs2 = some (r, σ2) ∧ SC nu2 0 σ2 ∧ YN nu2 σ2 ∧ WF FC σ2 ∧ Gr FC DrX2 cs2 σ2 ∧ rC σ2 = 0 ∧ ∀ t, ndC nu2 σ2 t → XYN t := by
  have hn : nC cs2 = 1 := by unfold nC; rw [gI_cs2_9]; rfl
  have hr : rC cs2 = 0 := by unfold rC; rw [gI_cs2 12 (by decide)]; rfl
  have hrow : rowC cs2 0 = [] := by unfold rowC; rw [hr]; rfl
  have hrt : rowT nu2 cs2 9 0 = [] := by unfold rowT; rw [hrow]; rfl
  have hnd : ∀ t, ndC nu2 cs2 t → XYN t := fun t ⟨x, h1, h2, _⟩ => by rw [hn] at h2; omega
  have hw : WF FC cs2 := zr2.wf
  suffices h : wp (rest2 (runC d) cs2) (fun _ σ2 => SC nu2 0 σ2 ∧ YN nu2 σ2 ∧ WF FC σ2 ∧ Gr FC DrX2 cs2 σ2 ∧ rC σ2 = 0 ∧ ∀ t, ndC nu2 σ2 t → XYN t) by
    obtain ⟨r, σ2, h1, h2⟩ := h
    exact ⟨r, σ2, h1, h2⟩
  unfold rest2
  refine wp_call (tX2_make (d := d) (k := 9) (w := 0) (a := 0) (X := XYN) (by omega) hw sc_cs2 (by decide) (by decide) (by decide) (by decide) (by omega) (by rw [hrow]; intro v hv; cases hv) (by rw [hrow]; intro p hp; cases hp) (by omega) (by rw [hrt]; exact Or.inl rfl) (lim_yn hnd)) (fun v1 s1 h1 => ?_)
  obtain ⟨x, rfl, x0, hx, hs1, ex, -, -, -, hn1, hr1, -, hw1, hg1⟩ := h1
  rw [hrt] at ex
  have hnd1 : ∀ t, ndC nu2 s1 t → XYN t := fun t ht => (hn1 t ht).elim (hnd t) id
  have hxR : inR (x : Int) := by
    have hb := (lim_yn hnd1).n hs1
    omega
  rw [wp_un, wp_un]
  have q1 := eqs_sI (u := s1) (k := 13) (v := (x : Int)) (by decide)
  have hs2 : SC nu2 0 (sI s1 13 x) := sc_sI hs1 (by decide)
  have ew : gI (sI s1 13 (x : Int)) 13 = (x : Int) := by rw [gI_sI, if_pos rfl]
  rw [ew]
  have tr2 : ∀ y, trC nu2 (sI s1 13 x) y = trC nu2 s1 y := fun y => by unfold trC; rw [q1.st]
  have hnd2 : ∀ t, ndC nu2 (sI s1 13 x) t → XYN t := fun t ⟨y, y0, hy, ey⟩ => hnd1 t ⟨y, y0, by rw [← q1.n]; exact hy, by rw [← tr2]; exact ey⟩
  have hw2 : WF FC (sI s1 13 x) := wfI hw1 rfl hxR
  refine wp_call (tX2_make_2 (d := d) (k := 16) (w := 0) (x := x) (z := 0) (X := XYN) (by omega) hw2 hs2 (by decide) (by decide) (by decide) (by decide) x0 (by rw [q1.n]; exact hx) (by
    have : rC (sI s1 13 (x : Int)) = rC s1 := rfl
    rw [this, hr1]; omega) (by rw [tr2, ex]; exact Or.inr rfl) (lim_yn hnd2)) (fun v2 s3 h3 => ?_)
  obtain ⟨y, rfl, y0, hy, ey, hu, hw3, hg3⟩ := h3
  rw [tr2, ex] at ey
  rw [wp_un, wp_some]
  have hnd3 : ∀ t, ndC nu2 s3 t → XYN t := fun t ht => (hu.2.2.2.2.1 t ht).elim (hnd2 t) id
  have hyR : inR (y : Int) := by
    have hb := (lim_yn hnd3).n hu.sc
    omega
  have q3 := eqs_sI (u := s3) (k := 14) (v := (y : Int)) (by decide)
  have tr4 : ∀ z, trC nu2 (sI s3 14 y) z = trC nu2 s3 z := fun z => by unfold trC; rw [q3.st]
  have h13 : gI s3 13 = (x : Int) := by
    rw [(hg3.2.1 13 (by decide +kernel)).1, ew]
  have hxy : trC nu2 s3 x = yesT := by
    rw [hu.tr hs2 (by rw [q1.n]; exact hx), tr2, ex]
    rfl
  refine ⟨sc_sI hu.sc (by decide), ⟨x, y, ?_, by rw [gI_sI, if_pos rfl], ⟨x0, ?_, by rw [tr4]; exact hxy⟩, y0, by rw [q3.n]; exact hy, by rw [tr4]; exact ey⟩, wfI hw3 rfl hyR, ?_, ?_, fun t ⟨z, z0, hz, ez⟩ => hnd3 t ⟨z, z0, by rw [← q3.n]; exact hz, by rw [← tr4]; exact ez⟩⟩
  · rw [gI_sI, if_neg (by decide), h13]
  · rw [q3.n]
    have := hu.2.2.2.1.1
    have e2 : nC (sI s1 13 (x : Int)) = nC s1 := q1.n
    have : nC (sI s1 13 (x : Int)) - 1 ≤ nC s3 - 1 := this
    omega
  · exact (((hg1.sub (by decide +kernel)).tr (Gr_sI (by decide +kernel))).tr (hg3.sub (by decide +kernel))).tr (Gr_sI (by decide +kernel))
  · show rC s3 = 0
    rw [hu.2.2.2.2.2.1]
    exact hr1
