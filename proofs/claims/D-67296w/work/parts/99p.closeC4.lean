/-- the type that a formula of sort 14 speaks of -/
theorem clty14 {W : Wd} {N : Nat → Prop} {f : Nat} (h : frW W N f) (hc : closT f) (h14 : kd f = 14) : clty W N (mk 8 (wh f) [pa f 0]) ∧ cltm W N (pa f 1) ∧ (ps f).length = 2 ∧ 0 < wh f ∧ wh f < wnM W := by
  have hn := h.1.n
  obtain ⟨a, b, hp, ha, hb⟩ : ∃ a b, ps f = [a, b] ∧ (a = 0 ∨ isTm a) ∧ isTm b := by
    rcases hn.2 with q | q | q | q | q | q | q | q | q | q | q | q | q | q <;> first | omega | exact q.2
  have ea : pa f 0 = a := pa_at (by rw [hp]; rfl)
  have eb : pa f 1 = b := pa_at (by rw [hp]; rfl)
  have hfa : a ≠ 0 → a ∈ fms f := fun q => fms_at.mpr ⟨0, Or.inr rfl, by rw [hp]; rfl, q⟩
  have hfb : b ∈ fms f := fms_at.mpr ⟨1, Or.inl (by omega), by rw [hp]; rfl, isTm_pos hb⟩
  obtain ⟨l1, l2, l3⟩ := h.lc.2.2.2.2.2 h14
  have hfm : ∀ c ∈ fms (mk 8 (wh f) [pa f 0]), c = a ∧ a ≠ 0 := fun c hc' => by
    have := fms_ps hc'
    rw [ps_mk, ea] at this
    have e := List.mem_singleton.mp this.1
    exact ⟨e, by rw [← e]; exact this.2⟩
  refine ⟨⟨⟨?_, fun s hs => ?_⟩, kd_mk _ _ _, ?_, fun l hl => ?_⟩, ⟨by rw [eb]; exact h.part hfb, by rw [eb]; exact hb, by rw [eb]; exact hc.part hn (by omega) hfb⟩, by rw [hp]; rfl, l1, l2⟩
  · rw [okT_eq]
    refine ⟨⟨by rw [kd_mk, wh_mk, ps_mk], ?_⟩, fun c hc' => ?_⟩
    · rw [kd_mk, ps_mk, ea]
      exact Or.inr (Or.inr (Or.inr (Or.inr (Or.inr (Or.inl ⟨rfl, a, [], rfl, ha, by simp, fun j hj => by cases hj⟩)))))
    · obtain ⟨e, e0⟩ := hfm c hc'
      rw [e]
      exact h.1.c (hfa e0)
  · rw [subT_eq] at hs
    rcases hs with e | ⟨c, c1, c2⟩
    · rw [e]
      refine ⟨fun q => ?_, fun q => ?_, fun _ => ⟨by rw [wh_mk]; exact l2, ?_, fun j hj => ?_⟩, fun q => ?_, fun q => ?_, fun q => ?_⟩
      · rw [kd_mk] at q; omega
      · rw [kd_mk] at q; omega
      · rw [wh_mk, show pa (mk 8 (wh f) [pa f 0]) 0 = pa f 0 from pa_at (by rw [ps_mk]; rfl)]; exact l3
      · unfold adjT at hj
        rw [ps_mk] at hj
        cases hj
      · rw [kd_mk] at q; omega
      · rw [kd_mk] at q; omega
      · rw [kd_mk] at q; omega
    · obtain ⟨e, e0⟩ := hfm c c1
      rw [e] at c2
      exact h.2 s (sub_c (hfa e0) c2)
  · rw [loT_eq]
    unfold loS loX
    rw [kd_mk, if_neg (by omega), if_pos rfl, ps_mk, ea]
    by_cases h0 : a = 0
    · rw [h0]; show max 0 (loT 0) = 0
      rw [loT_eq]; unfold loS loX
      rw [kd0, if_neg (by omega), if_neg (by omega), if_neg (by omega), show ps 0 = [] from by decide +kernel]; rfl
    · have := (hc.part hn (by omega) (hfa h0)).1
      show max 0 (loT a) = 0
      omega
  · rw [lvT_eq, if_neg (by rw [kd_mk]; omega)] at hl
    obtain ⟨c, c1, c2⟩ := List.mem_flatMap.mp hl
    obtain ⟨e, e0⟩ := hfm c c1
    rw [e] at c2
    exact (hc.part hn (by omega) (hfa e0)).2 l c2
def KlOK (W : Wd) (N : Nat → Prop) (Kl : List Nat) : Prop := Kl.length ≤ 2500 ∧ ∀ f ∈ Kl, frW W N f ∧ closT f
theorem KlOK.wh {W : Wd} {N : Nat → Prop} {Kl : List Nat} (h : KlOK W N Kl) (h20 : wnM W ≤ 20) : ∀ f ∈ Kl, kd f = 14 → wh f < 20 := fun f hf h14 => by
  have := (clty14 (h.2 f hf).1 (h.2 f hf).2 h14).2.2.2.2
  omega
/-- whether a mode's fact has an argument, its mode says -/
theorem ALM_arg {W : Wd} {N : Nat → Prop} (hW : WOK W N) {Kl H : List Nat} (hK : KlOK W N Kl) (hH : ∀ t ∈ H, cltm W N t) {q : Nat × Nat × Nat} (hq : q ∈ ALM W Kl H) : q.2.2 = 0 ↔ wmH W q.2.1 = 0 := by
  have key : ∀ y z, clty W N y → z ∈ upT W y → (pa z 0 = 0 ↔ wmH W (Prod.fst (wh z, ())) = 0) := fun y z hy hz => by
    have := (up_cl hW (wh y + 1) y (by omega) hy z hz).1
    exact (this.1.lc.2.2.1 this.2.1).2.1
  unfold ALM at hq
  rcases List.mem_append.mp hq with m | m
  · obtain ⟨t, t1, t2⟩ := List.mem_flatMap.mp m
    obtain ⟨z, z1, z2⟩ := List.mem_map.mp t2
    rw [← z2]
    exact key _ z (ty_ok hW (hH t t1)) z1
  · obtain ⟨t, t1, t2⟩ := List.mem_flatMap.mp m
    obtain ⟨z, z1, z2⟩ := List.mem_map.mp t2
    have hm := List.mem_filter.mp t1
    rw [← z2]
    exact key _ z (clty14 (hK.2 t hm.1).1 (hK.2 t hm.1).2 (by simpa using hm.2)).1 z1
theorem eqX.sy {H : List Nat} {p : Nat → Nat} {s t : Nat} (h : eqX H p s t) : eqX H p t s := h.imp Eq.symm eqL.sy
theorem eqX.trn {H : List Nat} {p : Nat → Nat} {s t r : Nat} (hn : H.Nodup) (h : eqX H p s t) (h' : eqX H p t r) : eqX H p s r := by
  rcases h with h | h
  · rw [h]; exact h'
  · rcases h' with h' | h'
    · rw [← h']; exact Or.inr h
    · exact Or.inr (h.trn hn h')
theorem eqX.nz {H : List Nat} {p : Nat → Nat} {s t : Nat} (h : eqX H p s t) (h0 : 0 ∉ H) : s = 0 ↔ t = 0 := by
  rcases h with h | h
  · rw [h]
  · obtain ⟨a, b⟩ := h.mem
    exact ⟨fun q => absurd (by rw [q] at a; exact a) h0, fun q => absurd (by rw [q] at b; exact b) h0⟩
/-- what the lists say is within the facts -/
theorem CaL.sub {ν : Nat → Nat} {c : Nat} {W : Wd} {S : Fs} {K B : Nat → Prop} {Kl : List Nat} {u : Sg} {l : Ls} (h : CaL ν c W S Kl u l) (hS : Clo W K B S) : subF (FsO l) S := by
  obtain ⟨h1, h2, h3, h4, h5, h6, h7, h8, h9⟩ := h
  have ex : ∀ {s t}, eqX l.1 l.2.1 s t → eqA S s t := fun q => q.imp id (h7 _ _)
  refine ⟨fun t ht => (h6 t ht).2, fun s t q => h7 s t q, fun t m a ⟨t', a', q1, q2, q3⟩ => ?_, fun t j ⟨t', q1, q2⟩ => ?_⟩
  · exact hS.2.1.2.2.2.2.2.2.1 _ _ _ _ _ (h8.2 _ q1).2.1 (ex q2) (ex q3)
  · exact hS.2.1.2.2.2.2.2.2.2 _ _ _ (h9.2 _ q1).2.2 (ex q2)
/-- the parents past the end do not matter -/
theorem CaP.pc {ν : Nat → Nat} {c : Nat} {W : Wd} {S : Fs} {Kl : List Nat} {u : Sg} {H : List Nat} {p p' : Nat → Nat} {M : List (Nat × Nat × Nat)} {J : List (Nat × Nat)} (h : CaP ν c W S Kl u H p' M J) (hp : ∀ i, i < H.length → p' i = p i) : CaP ν c W S Kl u H p M J := by
  obtain ⟨h1, h2, ⟨⟨a, b, c3, c4, c5, c6, c7⟩, h3b⟩, h4, h5, h6, h7, h8, h9⟩ := h
  have hd : DecP p H.length := fun i hi => by rw [← hp i hi]; exact c7 i hi
  refine ⟨h1, h2, ⟨⟨a, b, c3, c4, c5, fun i hi => by rw [← hp i hi]; exact c6 i hi, hd⟩, h3b⟩, h4, h5, h6, fun s t ⟨i, j, e1, e2, e3⟩ => h7 s t ⟨i, j, e1, e2, ?_⟩, h8, h9⟩
  have hi := (List.getElem?_eq_some_iff.mp e1).1
  have hj := (List.getElem?_eq_some_iff.mp e2).1
  have rs := rt_same hd c7 (Nat.le_refl _) hp
  rw [rs i hi, rs j hj]; exact e3
/-- one adjective fact, while closing -/
theorem tX1_adjW {d : Nat} (hd : 3 ≤ d) {ν : Nat → Nat} {c : Nat} {W : Wd} {S : Fs} {X : XFm} {Kl : List Nat} {u : Sg} {l : Ls} {x j : Nat} (hW : WOK W (Nm ν c)) (hK : KlOK W (Nm ν c) Kl) (hC : CaL ν c W S Kl u l) (hg : GdL W u l) (hx : x < nC u) (hxH : trC ν u x ∈ l.1) (hj : j < 30) (hf : fA S (trC ν u x) j) (hl : LimH ν u S X l.1) :
    wp (runC d 50 [(x : Int), (j : Int)] u) (fun r u' => (r = 0 ∨ r = 1) ∧ ∃ l1, ClW ν c W S X Kl u l ((trC ν u x, j) ∈ l.2.2.2) r u' l1 ∧ l1.1 = l.1 ∧ gI u' 45 = 0) := by
  obtain ⟨H, p, M, J⟩ := l
  have h20 := hC.1.2.2.2.1.2.1.2
  refine wp_mono (adjC (x := x) (j := j) (X := xf X H) hd hW (hK.wh h20) hK.1 hC hx hxH hj hf (hl.l hC)) (fun r u' h => ?_)
  rcases h with ⟨q1, q2, q3⟩ | ⟨q1, q2, q3, q4, q5⟩
  · subst q2
    rw [q1]
    exact ⟨Or.inl rfl, _, ClW.rf hC hg q3, rfl, hg.1⟩
  · have b : gI u' 45 = 0 := by rw [q5.I 45 (by decide +kernel)]; exact hg.1
    have hex : exL (H, p, M, J) (H, p, M, J ++ [(trC ν u x, j)]) := ⟨⟨[], by simp⟩, ⟨[], by simp⟩, ⟨_, rfl⟩, fun _ _ q => q⟩
    refine ⟨Or.inr q1, (H, p, M, J ++ [(trC ν u x, j)]), ⟨hex, q3, UpZ.of (OvL.rf hC) (fun q => by rw [hg.1] at q; cases q) q4, q5.gh (by decide +kernel), Or.inl ⟨⟨b, hg.2.1, fun y hy => hex.good (hg.2.2 y hy)⟩, Or.inr ⟨q1, ?_⟩⟩⟩, rfl, b⟩
    unfold msL
    show H.length + M.length + J.length + ctP p H.length < H.length + M.length + (J ++ [(trC ν u x, j)]).length + ctP p H.length
    rw [List.length_append]
    show H.length + M.length + J.length + ctP p H.length < H.length + M.length + (J.length + 1) + ctP p H.length
    omega
/-- what comes to hand, while closing -/
theorem AtR.cl {ν : Nat → Nat} {c : Nat} {W : Wd} {S : Fs} {X : XFm} {Kl : List Nat} {u u' : Sg} {H : List Nat} {p : Nat → Nat} {M : List (Nat × Nat × Nat)} {J : List (Nat × Nat)} {P : List Nat → List (Nat × Nat × Nat) → List (Nat × Nat) → Prop} {r : Int} (hp : DecP p H.length) (h : AtR ν c W S X Kl [] u H p M J (fun H' M' J' => P H' M' J' ∧ rcd r H M J H' M' J') u') : ∃ l1, ClW ν c W S X Kl u (H, p, M, J) (P H M J) r u' l1 := by
  obtain ⟨H', p', M', J', h1, h2, h3, h4, h5⟩ := h
  have hp' : DecP p' H'.length := h2.2.2.1.1.2.2.2.2.2.2
  obtain ⟨e1, e2, e3, e4, e5⟩ := h1.ex hp hp'
  rcases h5 with ⟨b, hA, hG, hP, hr⟩ | ⟨b, hb⟩
  · rcases hr with ⟨r0, r1, r2, r3⟩ | ⟨r0, r1⟩
    · subst r1 r2 r3
      have hp2 : ∀ i, i < H'.length → p' i = p i := h1.2.1
      exact ⟨(H', p, M', J'), exL.rf _, h2.pc hp2, h3, h4, Or.inl ⟨⟨b, hA, fun y hy => hG y hy (by simp)⟩, Or.inl ⟨r0, rfl, hP⟩⟩⟩
    · exact ⟨(H', p', M', J'), e1, h2, h3, h4, Or.inl ⟨⟨b, hA, fun y hy => hG y hy (by simp)⟩, Or.inr ⟨r0, by omega⟩⟩⟩
  · exact ⟨(H', p', M', J'), e1, h2, h3, h4, Or.inr ⟨b, hb⟩⟩
