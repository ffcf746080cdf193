/-! put, bind, loci; has -/
theorem lv_ok : ∀ (t : Nat), okT t → ∀ c ∈ lvT t, okT c ∧ kd c ≤ 3 ∧ isTm c := by
  intro t
  induction t using Nat.strongRecOn with
  | ind t ih =>
    intro ho c hc
    rw [lvT_eq] at hc
    by_cases hk : kd t ≤ 3
    · rw [if_pos hk] at hc
      have e := List.mem_singleton.mp hc
      rw [e]
      refine ⟨ho, hk, ?_⟩
      rcases okN_kd ho.n with q | q | q
      · exact q
      · omega
      · unfold isFo at q; omega
    · rw [if_neg hk] at hc
      obtain ⟨x, hx, hcx⟩ := List.mem_flatMap.mp hc
      exact ih x (fms_lt hx) (ho.c hx) c hcx
theorem gOn_put {s t : Nat} (ho : okT t) (hs : okT s) (ht : isTm s) : gOn (putg s) t := fun c hc d => by
  have := lv_ok t ho c hc
  unfold putg
  split
  · exact ⟨ht, hs⟩
  · exact ⟨this.2.2, this.1⟩
theorem okT_bound (d : Nat) : okT (mk 2 d []) ∧ isTm (mk 2 d []) := by
  refine ⟨?_, by unfold isTm; rw [kd_mk]; omega⟩
  rw [okT_eq]
  refine ⟨⟨by rw [kd_mk, wh_mk, ps_mk], ?_⟩, fun c hc => ?_⟩
  · rw [kd_mk, wh_mk, ps_mk]
    exact Or.inr (Or.inl ⟨rfl, rfl⟩)
  · have := (fms_ps hc).1
    rw [ps_mk] at this; cases this
theorem gOn_bind {s t : Nat} (ho : okT t) : gOn (bindg s) t := fun c hc d => by
  have := lv_ok t ho c hc
  unfold bindg
  split
  · exact ⟨(okT_bound d).2, (okT_bound d).1⟩
  · exact ⟨this.2.2, this.1⟩
/-- the loci of t have terms -/
def locOK (a b t : Nat) : Prop := ∀ c ∈ lvT t, kd c = 3 → (wh c = 0 → okT a ∧ isTm a) ∧ (wh c ≠ 0 → okT b ∧ isTm b)
theorem gOn_loc {a b t : Nat} (ho : okT t) (h : locOK a b t) : gOn (locg a b) t := fun c hc d => by
  have := lv_ok t ho c hc
  unfold locg
  split
  · rename_i h3
    split
    · exact ⟨((h c hc h3).1 (by assumption)).2, ((h c hc h3).1 (by assumption)).1⟩
    · exact ⟨((h c hc h3).2 (by assumption)).2, ((h c hc h3).2 (by assumption)).1⟩
  · exact ⟨this.2.2, this.1⟩
/-- fields 15 to 20 do not touch the store -/
theorem sI_eqs {u : Sg} {k : Nat} {v : Int} (hk : 13 ≤ k) : EqS u (sI u k v) := ⟨fun _ _ => rfl, fun j hj => by rw [gI_sI, if_neg (by omega)]⟩
theorem sI_sc {ν : Nat → Nat} {c : Nat} {u : Sg} {k : Nat} {v : Int} (hk : 13 ≤ k) (hs : SC ν c u) : SC ν c (sI u k v) := by
  have hr := hs.r
  have er : rC (sI u k v) = rC u := by unfold rC; rw [gI_sI, if_neg (by omega)]
  exact (sI_eqs hk).sc hs ⟨by rw [gI_sI, if_neg (by omega), er]; exact hr.1, by rw [er]; exact hr.2.1⟩ hr.2.2
theorem sI_r {u : Sg} {k : Nat} {v : Int} (hk : 13 ≤ k) : rC (sI u k v) = rC u := by unfold rC; rw [gI_sI, if_neg (by omega)]
/-- an answer over a state whose fields were set is one over the state before -/
theorem RsT.ofEq {ν : Nat → Nat} {c D D2 : Nat} {u u1 : Sg} {t : Nat} {X : Nat → Prop} (he : EqS u u1) (hr : rC u1 = rC u) (hrow : ∀ i, gN u1 11 i = gN u 11 i) (g1 : Gr FC D u u1) (e2 : D2 &&& D = D2) {r : Int} {u' : Sg} (h : RsT ν c D2 u1 t X r u') : RsT ν c D u t X r u' := by
  obtain ⟨x, a1, a2, a3, a4, a5, a6, a7⟩ := h
  refine ⟨x, a1, a2, a3, a4, ⟨a5.1, a5.2.1, a5.2.2.1, by rw [← he.st ν]; exact a5.2.2.2.1, fun t ht => (a5.2.2.2.2.1 t ht).imp (he.nd t).mp id, by rw [a5.2.2.2.2.2.1, hr], fun i hi => by rw [a5.2.2.2.2.2.2 i (by rw [hr]; exact hi), hrow]⟩, a6, g1.tr (a7.sub e2)⟩
theorem YN.eqs {ν : Nat → Nat} {u u' : Sg} (h : YN ν u) (he : EqS u u') (h1 : gI u' 13 = gI u 13) (h2 : gI u' 14 = gI u 14) : YN ν u' := by
  obtain ⟨y, n, a1, a2, ⟨a3, a4, a5⟩, a6, a7, a8⟩ := h
  exact ⟨y, n, by rw [h1]; exact a1, by rw [h2]; exact a2, ⟨a3, by rw [he.n]; exact a4, by rw [he.tr]; exact a5⟩, a6, by rw [he.n]; exact a7, by rw [he.tr]; exact a8⟩
theorem tX2_put {d : Nat} {ν : Nat → Nat} {c : Nat} {u : Sg} {x s : Nat} {X : Nat → Prop} (hd : 17 + htQ (trC ν u x) ≤ d) (hw : WF FC u) (hs : SC ν c u) (hyn : YN ν u) (x0 : 0 < x) (hx : x < nC u) (s0 : 0 < s) (hsn : s < nC u) (ho : okT (trC ν u x)) (hos : okT (trC ν u s)) (hts : isTm (trC ν u s)) (hsz : szQ (trC ν u x) ≤ 900) (him : ImT (fun t => ndC ν u t ∨ X t) (putg (trC ν u s)) (trC ν u x) 0) (hl : Lim ν u X) (hr : rC u + 2 * szQ (trC ν u x) ≤ 29000) :
    wp (runC d 110 [(x : Int), (s : Int)] u) (RsT ν c DX2_put u (sbT (putg (trC ν u s)) 0 (trC ν u x)) X) := by
  have hb := hl.n hs
  have hhz := htQ_sz (trC ν u x) (fun e => by have : 0 < trC ν u x := tr_pos (okp_C hs.1) x0 (by show x ≤ nC u - 1; omega); omega)
  obtain ⟨d, rfl⟩ : ∃ d', d = d' + 1 := ⟨d - 1, by omega⟩
  rw [runC_eq (by omega)]
  show wp (bX2_put (runC d) x s u) _
  unfold bX2_put
  rw [wp_un, wp_un]
  have e1 : EqS u (sI (sI u 15 0) 17 (s : Int)) := (sI_eqs (by omega)).trn (sI_eqs (by omega))
  have s1 : SC ν c (sI (sI u 15 0) 17 (s : Int)) := sI_sc (by omega) (sI_sc (by omega) hs)
  have w1 : WF FC (sI (sI u 15 0) 17 (s : Int)) := wfI (wfI hw rfl (by decide)) rfl ⟨by omega, by omega⟩
  have r1 : rC (sI (sI u 15 0) 17 (s : Int)) = rC u := by rw [sI_r (by omega), sI_r (by omega)]
  have tx : trC ν (sI (sI u 15 0) 17 (s : Int)) x = trC ν u x := e1.tr x
  have gm : GM ν (sI (sI u 15 0) 17 (s : Int)) (putg (trC ν u s)) := Or.inl ⟨by rw [gI_sI, if_neg (by decide), gI_sI, if_pos rfl], s, by rw [gI_sI, if_pos rfl], s0, by rw [e1.n]; exact hsn, by rw [e1.tr]⟩
  rw [show [(x : Int), 0] = [(x : Int), ((0 : Nat) : Int)] from rfl]
  refine wp_call (tX2_change Ms_Q _ ho (gOn_put ho hos hts) hsz d _ x 0 X (by omega) w1 s1 (hyn.eqs e1 rfl rfl) gm (fun _ => by rw [gI_sI, if_neg (by decide), gI_sI, if_pos rfl]) x0 (by rw [e1.n]; exact hx) tx (by omega) (ImT.mono (fun t h => h.imp (e1.nd t).mpr id) _ _ him) (e1.lim hl) (by rw [r1]; exact hr)) (fun r u' h => ?_)
  rw [wp_some]
  exact RsT.ofEq e1 r1 (fun i => rfl) ((Gr_sI (by decide +kernel)).tr (Gr_sI (by decide +kernel))) (by decide +kernel) h
theorem tX2_bind {d : Nat} {ν : Nat → Nat} {c : Nat} {u : Sg} {x s : Nat} {X : Nat → Prop} (hd : 17 + htT (trC ν u x) ≤ d) (hw : WF FC u) (hs : SC ν c u) (hyn : YN ν u) (x0 : 0 < x) (hx : x < nC u) (s0 : 0 < s) (hsn : s < nC u) (ho : okT (trC ν u x)) (hks : kd (trC ν u s) = 1) (hsz : szT (trC ν u x) ≤ 900) (him : ImT (fun t => ndC ν u t ∨ X t) (bindg (trC ν u s)) (trC ν u x) 0) (hl : Lim ν u X) (hr : rC u + 2 * szT (trC ν u x) ≤ 29000) :
    wp (runC d 107 [(x : Int), (s : Int)] u) (RsT ν c DX2_bind u (sbT (bindg (trC ν u s)) 0 (trC ν u x)) X) := by
  have hb := hl.n hs
  have hhz := ht_sz (trC ν u x) (fun e => by have : 0 < trC ν u x := tr_pos (okp_C hs.1) x0 (by show x ≤ nC u - 1; omega); omega)
  obtain ⟨d, rfl⟩ : ∃ d', d = d' + 1 := ⟨d - 1, by omega⟩
  rw [runC_eq (by omega)]
  show wp (bX2_bind (runC d) x s u) _
  unfold bX2_bind
  rw [wp_un, wp_un]
  have e1 : EqS u (sI (sI u 15 1) 16 (s : Int)) := (sI_eqs (by omega)).trn (sI_eqs (by omega))
  have s1 : SC ν c (sI (sI u 15 1) 16 (s : Int)) := sI_sc (by omega) (sI_sc (by omega) hs)
  have w1 : WF FC (sI (sI u 15 1) 16 (s : Int)) := wfI (wfI hw rfl (by decide)) rfl ⟨by omega, by omega⟩
  have r1 : rC (sI (sI u 15 1) 16 (s : Int)) = rC u := by rw [sI_r (by omega), sI_r (by omega)]
  have tx : trC ν (sI (sI u 15 1) 16 (s : Int)) x = trC ν u x := e1.tr x
  have gm : GM ν (sI (sI u 15 1) 16 (s : Int)) (bindg (trC ν u s)) := Or.inr (Or.inl ⟨by rw [gI_sI, if_neg (by decide), gI_sI, if_pos rfl], s, by rw [gI_sI, if_pos rfl], s0, by rw [e1.n]; exact hsn, by rw [e1.tr]; exact hks, by rw [e1.tr]⟩)
  rw [show [(x : Int), 0] = [(x : Int), ((0 : Nat) : Int)] from rfl]
  refine wp_call (tX2_change Ms_T _ ho (gOn_bind ho) hsz d _ x 0 X (by omega) w1 s1 (hyn.eqs e1 rfl rfl) gm (fun q => q.elim) x0 (by rw [e1.n]; exact hx) tx (by omega) (ImT.mono (fun t h => h.imp (e1.nd t).mpr id) _ _ him) (e1.lim hl) (by rw [r1]; exact hr)) (fun r u' h => ?_)
  rw [wp_some]
  exact RsT.ofEq e1 r1 (fun i => rfl) ((Gr_sI (by decide +kernel)).tr (Gr_sI (by decide +kernel))) (by decide +kernel) h
theorem tX2_loci {d : Nat} {ν : Nat → Nat} {c : Nat} {u : Sg} {x a b : Nat} {X : Nat → Prop} (hd : 17 + htT (trC ν u x) ≤ d) (hw : WF FC u) (hs : SC ν c u) (hyn : YN ν u) (x0 : 0 < x) (hx : x < nC u) (ha : a < nC u) (hbn : b < nC u) (ho : okT (trC ν u x)) (hlo : locOK (trC ν u a) (trC ν u b) (trC ν u x)) (hsz : szT (trC ν u x) ≤ 900) (him : ImT (fun t => ndC ν u t ∨ X t) (locg (trC ν u a) (trC ν u b)) (trC ν u x) 0) (hl : Lim ν u X) (hr : rC u + 2 * szT (trC ν u x) ≤ 29000) :
    wp (runC d 111 [(x : Int), (a : Int), (b : Int), 0] u) (RsT ν c DX2_loci u (sbT (locg (trC ν u a) (trC ν u b)) 0 (trC ν u x)) X) := by
  have hb := hl.n hs
  have hhz := ht_sz (trC ν u x) (fun e => by have : 0 < trC ν u x := tr_pos (okp_C hs.1) x0 (by show x ≤ nC u - 1; omega); omega)
  obtain ⟨d, rfl⟩ : ∃ d', d = d' + 1 := ⟨d - 1, by omega⟩
  rw [runC_eq (by omega)]
  show wp (bX2_loci (runC d) x a b 0 u) _
  unfold bX2_loci
  rw [wp_un, wp_un, wp_un, wp_un]
  have e1 : EqS u (sI (sI (sI (sI u 15 2) 18 (a : Int)) 19 (b : Int)) 20 0) := (sI_eqs (by omega)).trn ((sI_eqs (by omega)).trn ((sI_eqs (by omega)).trn (sI_eqs (by omega))))
  have s1 : SC ν c (sI (sI (sI (sI u 15 2) 18 (a : Int)) 19 (b : Int)) 20 0) := sI_sc (by omega) (sI_sc (by omega) (sI_sc (by omega) (sI_sc (by omega) hs)))
  have w1 : WF FC (sI (sI (sI (sI u 15 2) 18 (a : Int)) 19 (b : Int)) 20 0) := wfI (wfI (wfI (wfI hw rfl (by decide)) rfl ⟨by omega, by omega⟩) rfl ⟨by omega, by omega⟩) rfl (by decide)
  have r1 : rC (sI (sI (sI (sI u 15 2) 18 (a : Int)) 19 (b : Int)) 20 0) = rC u := by rw [sI_r (by omega), sI_r (by omega), sI_r (by omega), sI_r (by omega)]
  have tx : trC ν (sI (sI (sI (sI u 15 2) 18 (a : Int)) 19 (b : Int)) 20 0) x = trC ν u x := e1.tr x
  have gm : GM ν (sI (sI (sI (sI u 15 2) 18 (a : Int)) 19 (b : Int)) 20 0) (locg (trC ν u a) (trC ν u b)) := Or.inr (Or.inr ⟨by simp [gI_sI], a, b, by simp [gI_sI], by simp [gI_sI], by rw [e1.n]; exact ha, by rw [e1.n]; exact hbn, by rw [e1.tr, e1.tr]⟩)
  refine wp_ite (fun h => by omega) (fun _ => ?_)
  rw [show [(x : Int), 0] = [(x : Int), ((0 : Nat) : Int)] from rfl]
  refine wp_call (tX2_change Ms_T _ ho (gOn_loc ho hlo) hsz d _ x 0 X (by omega) w1 s1 (hyn.eqs e1 rfl rfl) gm (fun q => q.elim) x0 (by rw [e1.n]; exact hx) tx (by omega) (ImT.mono (fun t h => h.imp (e1.nd t).mpr id) _ _ him) (e1.lim hl) (by rw [r1]; exact hr)) (fun r u' h => ?_)
  rw [wp_some]
  exact RsT.ofEq e1 r1 (fun i => rfl) ((Gr_sI (by decide +kernel)).tr ((Gr_sI (by decide +kernel)).tr ((Gr_sI (by decide +kernel)).tr (Gr_sI (by decide +kernel))))) (by decide +kernel) h
/-- s stands in t -/
def subS (s : Nat) (f : Nat → Prop) (t : Nat) : Prop := s = t ∨ ∃ c ∈ fms t, f c
def subT (s t : Nat) : Prop := rcT (subS s) False t
theorem subT_eq (s t : Nat) : subT s t = (s = t ∨ ∃ c ∈ fms t, subT s c) := rc_eq (fun f f' t h => by
  unfold subS
  refine propext ⟨fun q => q.imp id (fun ⟨c, hc, a⟩ => ⟨c, hc, by rw [← h c (fms_ps hc).1]; exact a⟩), fun q => q.imp id (fun ⟨c, hc, a⟩ => ⟨c, hc, by rw [h c (fms_ps hc).1]; exact a⟩)⟩) t
/-- the parts that are forms, by place -/
theorem fms_at {t c : Nat} : c ∈ fms t ↔ ∃ i, (kd t ≠ 8 ∨ i = 0) ∧ (ps t)[i]? = some c ∧ c ≠ 0 := by
  constructor
  · intro h
    have h2 := fms_ps h
    unfold fms at h
    have h1 := (List.mem_filter.mp h).1
    by_cases h8 : kd t = 8
    · rw [if_pos h8] at h1
      refine ⟨0, Or.inr rfl, ?_, h2.2⟩
      cases hps : ps t with
      | nil => rw [hps] at h1; simp at h1
      | cons a l => rw [hps] at h1; simp at h1; simp [h1]
    · rw [if_neg h8] at h1
      obtain ⟨i, hi⟩ := List.getElem?_of_mem h1
      exact ⟨i, Or.inl h8, hi, h2.2⟩
  · rintro ⟨i, hi, hg, h0⟩
    unfold fms
    refine List.mem_filter.mpr ⟨?_, by simpa using h0⟩
    by_cases h8 : kd t = 8
    · rw [if_pos h8]
      have : i = 0 := by rcases hi with q | q; exact absurd h8 q; exact q
      subst this
      cases hps : ps t with
      | nil => rw [hps] at hg; simp at hg
      | cons a l => rw [hps] at hg; simp at hg; simp [hg]
    · rw [if_neg h8]; exact List.mem_of_getElem? hg
theorem rX2_has {ν : Nat → Nat} {c : Nat} {u : Sg} (hs : SC ν c u) (hn9 : nC u ≤ 90000) {y : Nat} (hy : y < nC u) : ∀ (t : Nat), okT t → ∀ (d x : Nat), 4 + htT t ≤ d → 0 < x → x < nC u → trC ν u x = t → ∃ v : Int, runC d 112 [(x : Int), (y : Int)] u = some (v, u) ∧ (v = 1 ∧ subT (trC ν u y) t ∨ v = 0 ∧ ¬ subT (trC ν u y) t) := by
  intro t
  induction t using Nat.strongRecOn with
  | ind t ih =>
    intro ho d x hd x0 hx ht
    have hn := nodeC hs x0 hx
    rw [ht] at hn
    obtain ⟨⟨q1, q2, q3⟩, ⟨q4, q5⟩, ⟨q6, q7⟩, ⟨l1, l2, l3, l4, l5, l6⟩, l8, l11, l0, l7⟩ := id hs.1.1
    have hhp : 1 ≤ htT t := by rw [htT_eq]; omega
    obtain ⟨d, rfl⟩ : ∃ d', d = d' + 1 := ⟨d - 1, by omega⟩
    rw [runC_eq (by omega)]
    show ∃ v, bX2_has (runC d) x y u = some (v, u) ∧ _
    unfold bX2_has
    by_cases hxy : (x : Int) = (y : Int)
    · rw [if_pos hxy]
      refine ⟨1, rfl, Or.inl ⟨rfl, ?_⟩⟩
      rw [subT_eq, ← ht, show x = y by omega]
      exact Or.inl rfl
    · rw [if_neg hxy, jn_eq]
      have hne : trC ν u y ≠ t := fun e => hxy (by rw [trC_inj hs hy hx (by rw [e, ht])])
      have loop : ∀ (fm : Nat), fm = (if kd t = 8 then 1 else (ps t).length) → fm ≤ (ps t).length → ∀ (m i f : Nat), i + m = fm → m < f → (∀ j, j < i → ∀ c, (ps t)[j]? = some c → c ≠ 0 → ¬ subT (trC ν u y) c) → ∃ v : Int, bX2_has_L32 (runC d) f (x : Int) (y : Int) (fm : Int) (i : Int) u (fun s3 => some (0, s3)) (fun s4 => some (1, s4)) = some (v, u) ∧ (v = 1 ∧ subT (trC ν u y) t ∨ v = 0 ∧ ¬ subT (trC ν u y) t) := by
        intro fm hfm hfml m
        induction m with
        | zero =>
          intro i f hi hf hno
          obtain ⟨f, rfl⟩ : ∃ f', f = f' + 1 := ⟨f - 1, by omega⟩
          rw [bX2_has_L32, if_neg (by omega)]
          refine ⟨0, rfl, Or.inr ⟨rfl, fun h => ?_⟩⟩
          rw [subT_eq] at h
          rcases h with h | ⟨c1, hc1, h⟩
          · exact hne h
          · obtain ⟨j, j1, j2, j3⟩ := fms_at.mp hc1
            refine hno j ?_ c1 j2 j3 h
            have := (List.getElem?_eq_some_iff.mp j2).1
            by_cases h8 : kd t = 8
            · rw [if_pos h8] at hfm
              rcases j1 with q | q
              · exact absurd h8 q
              · omega
            · rw [if_neg h8] at hfm; omega
        | succ m ihm =>
          intro i f hi hf hno
          obtain ⟨f, rfl⟩ : ∃ f', f = f' + 1 := ⟨f - 1, by omega⟩
          have hil : i < (ps t).length := by omega
          obtain ⟨ci, hget⟩ : ∃ ci, (ps t)[i]? = some ci := ⟨_, List.getElem?_eq_getElem hil⟩
          have hfrm : kd t ≠ 8 ∨ i = 0 := by
            by_cases h8 : kd t = 8
            · rw [if_pos h8] at hfm; exact Or.inr (by omega)
            · exact Or.inl h8
          have hpc := partC hs x0 hx (i := i) (t := ci) (by rw [ht]; exact hget)
          rw [ht] at hpc
          obtain ⟨hp1, hp2⟩ := hpc.2.1 hfrm
          rw [bX2_has_L32, if_pos (by omega), cl_eq (atC (by omega) hs x0 hx (by rw [ht]; exact hil))]
          have nxt : (ci ≠ 0 → ¬ subT (trC ν u y) ci) → ∃ v : Int, (ar ((i : Int) + 1) fun v3 => bX2_has_L32 (runC d) f (x : Int) (y : Int) (fm : Int) v3 u (fun s3 => some (0, s3)) (fun s4 => some (1, s4))) = some (v, u) ∧ (v = 1 ∧ subT (trC ν u y) t ∨ v = 0 ∧ ¬ subT (trC ν u y) t) := fun hci => by
            rw [ar_pos ⟨by omega, by omega⟩, show (i : Int) + 1 = ((i + 1 : Nat) : Int) by omega]
            refine ihm (i + 1) f (by omega) (by omega) (fun j hj c1 h1 h2 => ?_)
            by_cases hji : j = i
            · subst hji
              rw [hget] at h1
              cases Option.some.inj h1
              exact hci h2
            · exact hno j (by omega) c1 h1 h2
          by_cases hz : pt u x i = 0
          · rw [if_pos hz]
            refine nxt (fun h => absurd ?_ h)
            rw [← hp2, hz]; rfl
          · have hppos : 0 < (pt u x i).toNat := by omega
            have hcpos : ci ≠ 0 := by
              have : 0 < trC ν u (pt u x i).toNat := tr_pos (okp_C (ν := ν) hs.1) hppos (by show (pt u x i).toNat ≤ nC u - 1; omega)
              omega
            have hcm : ci ∈ fms t := fms_at.mpr ⟨i, hfrm, hget, hcpos⟩
            have hht := ht_c hcm
            rw [if_neg hz, cl_eq (atC (by omega) hs x0 hx (by rw [ht]; exact hil))]
            have hpe : pt u x i = (((pt u x i).toNat : Nat) : Int) := (Int.toNat_of_nonneg hpc.1).symm
            obtain ⟨v, hv, hv2⟩ := ih ci (fms_lt hcm) (ho.c hcm) d (pt u x i).toNat (by omega) hppos (by omega) hp2
            rw [hpe, cl_eq hv]
            rcases hv2 with ⟨e, hsub⟩ | ⟨e, hsub⟩
            · subst e
              rw [if_neg (by decide)]
              refine ⟨1, rfl, Or.inl ⟨rfl, ?_⟩⟩
              rw [subT_eq]
              exact Or.inr ⟨ci, hcm, hsub⟩
            · subst e
              rw [if_pos rfl]
              exact nxt (fun _ => hsub)
      have hlen : (ps t).length < KF := Nat.lt_of_le_of_lt (by
        have := hn.2.2.2.1.2
        have : pC u ≤ 270000 := by omega
        omega : _ ≤ 270000) (by decide)
      rw [ld_nat (by omega), hn.1]
      by_cases h8 : kd t = 8
      · rw [if_pos (by omega)]
        have h1 : 1 ≤ (ps t).length := by
          rcases ho.n.2 with q | q | q | q | q | q | q | q | q | q | q | q | q | q <;> try omega
          obtain ⟨q1, a, js, q2, -⟩ := q
          rw [q2]; simp
        exact loop 1 (by rw [if_pos h8]) h1 1 0 KF (by omega) (by omega) (fun j hj => by omega)
      · rw [if_neg (by omega), ld_nat (by omega), hn.2.2.1]
        exact loop (ps t).length (by rw [if_neg h8]) (Nat.le_refl _) (ps t).length 0 KF (by omega) hlen (fun j hj => by omega)
