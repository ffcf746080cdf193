/-! the lists of a case, and how they grow while it is closed -/
abbrev Ls := List Nat × (Nat → Nat) × List (Nat × Nat × Nat) × List (Nat × Nat)
def FsO (l : Ls) : Fs := FsL l.1 l.2.1 l.2.2.1 l.2.2.2
def CaL (ν : Nat → Nat) (c : Nat) (W : Wd) (S : Fs) (Kl : List Nat) (u : Sg) (l : Ls) : Prop := CaP ν c W S Kl u l.1 l.2.1 l.2.2.1 l.2.2.2
/-- how many stand under another -/
def ctP (p : Nat → Nat) : Nat → Nat
  | 0 => 0
  | n + 1 => ctP p n + if p n = n then 0 else 1
theorem ctP_le (p : Nat → Nat) : ∀ n, ctP p n ≤ n
  | 0 => Nat.le_refl _
  | n + 1 => by
    have := ctP_le p n
    rw [ctP]
    split <;> omega
theorem ctP_c {p p' : Nat → Nat} : ∀ {n : Nat}, (∀ i, i < n → p' i = p i) → ctP p' n = ctP p n
  | 0, _ => rfl
  | n + 1, h => by rw [ctP, ctP, ctP_c (n := n) (fun i hi => h i (by omega)), h n (by omega)]
theorem ctP_x {p p' : Nat → Nat} {n : Nat} (h : ∀ i, i < n → p' i = p i) : ∀ m, (∀ i, n ≤ i → i < n + m → p' i = i) → ctP p' (n + m) = ctP p n
  | 0, _ => ctP_c h
  | m + 1, h' => by
    rw [← Nat.add_assoc, ctP, ctP_x h m (fun i a b => h' i a (by omega)), if_pos (h' (n + m) (by omega) (by omega))]; rfl
theorem ctP_pu {p : Nat → Nat} {a b : Nat} (ha : p a = a) (hb : b ≠ a) : ∀ n, a < n → ctP (puP p a b) n = ctP p n + 1
  | 0, h => by omega
  | n + 1, h => by
    rw [ctP, ctP]
    by_cases hn : a = n
    · subst hn
      have e : ctP (puP p a b) a = ctP p a := ctP_c (fun i hi => by unfold puP; rw [if_neg (by omega)])
      rw [e, if_pos ha]
      unfold puP
      rw [if_pos rfl, if_neg hb]
    · rw [ctP_pu ha hb n (by omega)]
      have e : puP p a b n = p n := by unfold puP; rw [if_neg (by omega)]
      rw [e]; omega
def msL (l : Ls) : Nat := l.1.length + l.2.2.1.length + l.2.2.2.length + ctP l.2.1 l.1.length
def exL (l l' : Ls) : Prop := (∃ a, l'.1 = l.1 ++ a) ∧ (∃ a, l'.2.2.1 = l.2.2.1 ++ a) ∧ (∃ a, l'.2.2.2 = l.2.2.2 ++ a) ∧ ∀ s t, eqL l.1 l.2.1 s t → eqL l'.1 l'.2.1 s t
theorem exL.rf (l : Ls) : exL l l := ⟨⟨[], by simp⟩, ⟨[], by simp⟩, ⟨[], by simp⟩, fun _ _ h => h⟩
theorem exL.tr {l l' l'' : Ls} (h : exL l l') (h' : exL l' l'') : exL l l'' := by
  obtain ⟨⟨a, ha⟩, ⟨b, hb⟩, ⟨c, hc⟩, e⟩ := h
  obtain ⟨⟨a', ha'⟩, ⟨b', hb'⟩, ⟨c', hc'⟩, e'⟩ := h'
  exact ⟨⟨a ++ a', by rw [ha', ha, List.append_assoc]⟩, ⟨b ++ b', by rw [hb', hb, List.append_assoc]⟩, ⟨c ++ c', by rw [hc', hc, List.append_assoc]⟩, fun s t q => e' s t (e s t q)⟩
theorem exL.H {l l' : Ls} (h : exL l l') {t : Nat} (ht : t ∈ l.1) : t ∈ l'.1 := by
  obtain ⟨⟨a, ha⟩, _⟩ := h
  rw [ha]; exact List.mem_append_left _ ht
theorem exL.M {l l' : Ls} (h : exL l l') {q : Nat × Nat × Nat} (hq : q ∈ l.2.2.1) : q ∈ l'.2.2.1 := by
  obtain ⟨_, ⟨a, ha⟩, _⟩ := h
  rw [ha]; exact List.mem_append_left _ hq
theorem exL.J {l l' : Ls} (h : exL l l') {q : Nat × Nat} (hq : q ∈ l.2.2.2) : q ∈ l'.2.2.2 := by
  obtain ⟨_, _, ⟨a, ha⟩, _⟩ := h
  rw [ha]; exact List.mem_append_left _ hq
theorem exL.at {l l' : Ls} (h : exL l l') {i t : Nat} (hi : l.1[i]? = some t) : l'.1[i]? = some t := by
  obtain ⟨⟨a, ha⟩, _⟩ := h
  rw [ha, List.getElem?_append_left (List.getElem?_eq_some_iff.mp hi).1]; exact hi
theorem exL.len {l l' : Ls} (h : exL l l') : l.1.length ≤ l'.1.length := by
  obtain ⟨⟨a, ha⟩, _⟩ := h
  rw [ha, List.length_append]; omega
theorem rt_same {p p' : Nat → Nat} {N N' : Nat} (hp : DecP p N) (hp' : DecP p' N') (hN : N ≤ N') (h : ∀ i, i < N → p' i = p i) : ∀ (i : Nat), i < N → rt p' i = rt p i := by
  intro i
  induction i using Nat.strongRecOn with
  | ind i ih =>
    intro hi
    rw [rt_eq hp' (by omega), rt_eq hp hi, h i hi]
    by_cases hq : p i = i
    · rw [if_pos hq, if_pos hq]
    · rw [if_neg hq, if_neg hq]
      have := hp i hi
      exact ih (p i) (by omega) (by omega)
/-- what comes to hand makes the lists longer -/
theorem ExC.ex {H H' : List Nat} {p p' : Nat → Nat} {M M' : List (Nat × Nat × Nat)} {J J' : List (Nat × Nat)} (h : ExC H p M J H' p' M' J') (hp : DecP p H.length) (hp' : DecP p' H'.length) : exL (H, p, M, J) (H', p', M', J') ∧ msL (H, p, M, J) + (H'.length - H.length) + (M'.length - M.length) + (J'.length - J.length) = msL (H', p', M', J') ∧ H.length ≤ H'.length ∧ M.length ≤ M'.length ∧ J.length ≤ J'.length := by
  obtain ⟨⟨a, ha⟩, b1, b2, ⟨b, hb⟩, ⟨c, hc⟩⟩ := h
  have hlen : H'.length = H.length + a.length := by rw [ha, List.length_append]
  have hM : M'.length = M.length + b.length := by rw [hb, List.length_append]
  have hJ : J'.length = J.length + c.length := by rw [hc, List.length_append]
  refine ⟨⟨⟨a, ha⟩, ⟨b, hb⟩, ⟨c, hc⟩, fun s t ⟨i, j, e1, e2, e3⟩ => ?_⟩, ?_, by omega, by omega, by omega⟩
  · have hi := (List.getElem?_eq_some_iff.mp e1).1
    have hj := (List.getElem?_eq_some_iff.mp e2).1
    have rs := rt_same hp hp' (by omega) b1
    refine ⟨i, j, ?_, ?_, ?_⟩
    · show H'[i]? = _
      rw [ha, List.getElem?_append_left hi]; exact e1
    · show H'[j]? = _
      rw [ha, List.getElem?_append_left hj]; exact e2
    · show rt p' i = rt p' j
      rw [rs i hi, rs j hj]; exact e3
  · unfold msL
    show H.length + M.length + J.length + ctP p H.length + (H'.length - H.length) + (M'.length - M.length) + (J'.length - J.length) = H'.length + M'.length + J'.length + ctP p' H'.length
    rw [hlen, ctP_x b1 a.length (fun i q1 q2 => b2 i q1 (by omega))]
    omega
def GdL (W : Wd) (u : Sg) (l : Ls) : Prop := gI u 45 = 0 ∧ ArgOK l.2.2.1 l.1 ∧ ∀ x ∈ l.1, GoodC W l.1 l.2.2.1 l.2.2.2 x
theorem exL.good {W : Wd} {l l' : Ls} (h : exL l l') {x : Nat} (hx : GoodC W l.1 l.2.2.1 l.2.2.2 x) : GoodC W l'.1 l'.2.2.1 l'.2.2.2 x :=
  ⟨fun q i hi => h.H (hx.1 q i hi), fun q z => h.H (hx.2.1 q z), fun z hz => ⟨h.M (hx.2.2 z hz).1, fun j hj => h.J ((hx.2.2 z hz).2.1 j hj), fun q => h.H ((hx.2.2 z hz).2.2 q)⟩⟩
def ClW (ν : Nat → Nat) (c : Nat) (W : Wd) (S : Fs) (X : XFm) (Kl : List Nat) (u0 : Sg) (l0 : Ls) (C : Prop) (f : Int) (u1 : Sg) (l1 : Ls) : Prop := exL l0 l1 ∧ CaL ν c W S Kl u1 l1 ∧ UpZ ν c S X u0 u1 l1.1 True ∧ GrH u0 u1 ∧ ((GdL W u1 l1 ∧ ((f = 0 ∧ l1 = l0 ∧ C) ∨ (f = 1 ∧ msL l0 < msL l1))) ∨ (gI u1 45 = 1 ∧ Bey S l1.1))
theorem ClW.rf {ν : Nat → Nat} {c : Nat} {W : Wd} {S : Fs} {X : XFm} {Kl : List Nat} {u : Sg} {l : Ls} {C : Prop} (h : CaL ν c W S Kl u l) (hg : GdL W u l) (hC : C) : ClW ν c W S X Kl u l C 0 u l := ⟨exL.rf l, h, UpZ.of (OvL.rf h) id (Up.rf h.1.1), GrH.rf, Or.inl ⟨hg, Or.inl ⟨rfl, rfl, hC⟩⟩⟩
theorem ClW.mono {ν : Nat → Nat} {c : Nat} {W : Wd} {S : Fs} {X : XFm} {Kl : List Nat} {u0 u1 : Sg} {l0 l1 : Ls} {C C' : Prop} {f : Int} (h : ClW ν c W S X Kl u0 l0 C f u1 l1) (k : C → C') : ClW ν c W S X Kl u0 l0 C' f u1 l1 := by
  obtain ⟨h1, h2, h3, h4, h5⟩ := h
  exact ⟨h1, h2, h3, h4, h5.imp (fun q => ⟨q.1, q.2.imp (fun z => ⟨z.1, z.2.1, k z.2.2⟩) id⟩) id⟩
theorem ClW.gd {ν : Nat → Nat} {c : Nat} {W : Wd} {S : Fs} {X : XFm} {Kl : List Nat} {u0 u1 : Sg} {l0 l1 : Ls} {C : Prop} {f : Int} (h : ClW ν c W S X Kl u0 l0 C f u1 l1) : (gI u1 45 = 0 ∧ GdL W u1 l1 ∧ ((f = 0 ∧ l1 = l0 ∧ C) ∨ (f = 1 ∧ msL l0 < msL l1))) ∨ (gI u1 45 = 1 ∧ Bey S l1.1) := h.2.2.2.2.imp (fun q => ⟨q.1.1, q.1, q.2⟩) id
theorem or00 : o_or 0 0 = 0 := by decide
theorem or01 : o_or 0 1 = 1 := by decide
theorem or10 : o_or 1 0 = 1 := by decide
theorem or11 : o_or 1 1 = 1 := by decide
theorem ClW.seq {ν : Nat → Nat} {c : Nat} {W : Wd} {S : Fs} {X : XFm} {Kl : List Nat} {u0 u1 u2 : Sg} {l0 l1 l2 : Ls} {C C' C'' : Prop} {f r : Int} (h : ClW ν c W S X Kl u0 l0 C f u1 l1) (hg : gI u1 45 = 0 ∨ gI u2 45 = 1) (h' : ClW ν c W S X Kl u1 l1 C' r u2 l2) (k : l1 = l0 → C → C' → C'') : ClW ν c W S X Kl u0 l0 C'' (o_or f r) u2 l2 := by
  obtain ⟨h1, h2, h3, h4, h5⟩ := h
  obtain ⟨g1, g2, g3, g4, g5⟩ := h'
  refine ⟨h1.tr g1, g2, h3.tr g3 g1.1 (h5.imp (fun q => q.1.1) (fun q => ⟨q.1, q.2.1⟩)) g2.2.2.1.1.1.2.1 (fun _ => trivial), h4.tr g4, g5.imp (fun q => ⟨q.1, ?_⟩) id⟩
  have hg := hg.resolve_right (fun z => by have := q.1.1; rw [z] at this; cases this)
  have h5 := h5.resolve_right (fun z => by rw [z.1] at hg; cases hg)
  rcases h5.2 with ⟨e1, e2, e3⟩ | ⟨e1, e2⟩
  · rcases q.2 with ⟨f1, f2, f3⟩ | ⟨f1, f2⟩
    · exact Or.inl ⟨by rw [e1, f1]; exact or00, by rw [f2]; exact e2, k e2 e3 f3⟩
    · exact Or.inr ⟨by rw [e1, f1]; exact or01, by rw [← e2]; exact f2⟩
  · rcases q.2 with ⟨f1, f2, f3⟩ | ⟨f1, f2⟩
    · exact Or.inr ⟨by rw [e1, f1]; exact or10, by rw [f2]; exact e2⟩
    · exact Or.inr ⟨by rw [e1, f1]; exact or11, by omega⟩
theorem tX1_join {d : Nat} (hd : 5 ≤ d) {ν : Nat → Nat} {c : Nat} {W : Wd} {S : Fs} {X : XFm} {K B : Nat → Prop} {Kl : List Nat} {u : Sg} {l : Ls} {x y : Nat} (hS : Clo W K B S) (hC : CaL ν c W S Kl u l) (hg : GdL W u l ∨ (gI u 45 = 1 ∧ Bey S l.1)) (hx : x < nC u) (hy : y < nC u) (hxH : trC ν u x ∈ l.1) (hyH : trC ν u y ∈ l.1) (hf : fE S (trC ν u x) (trC ν u y)) :
    wp (runC d 55 [(x : Int), (y : Int)] u) (fun r u' => ∃ l1, ClW ν c W S X Kl u l (eqL l.1 l.2.1 (trC ν u x) (trC ν u y)) r u' l1 ∧ l1.1 = l.1 ∧ l1.2.2 = l.2.2 ∧ gI u' 45 = gI u 45) := by
  obtain ⟨H, p, M, J⟩ := l
  obtain ⟨h1, h2, ⟨h3, h3b⟩, h4, h5, h6, h7, h8, h9⟩ := hC
  have hC : CaL ν c W S Kl u (H, p, M, J) := ⟨h1, h2, ⟨h3, h3b⟩, h4, h5, h6, h7, h8, h9⟩
  have h3 : HaC ν u H p := h3
  have hxH : trC ν u x ∈ H := hxH
  have hyH : trC ν u y ∈ H := hyH
  have hs := h1.1
  obtain ⟨d, rfl⟩ : ∃ d', d = d' + 2 := ⟨d - 2, by omega⟩
  rw [runC_eq (by omega)]
  show wp (bX1_join_2 (runC (d + 1)) x y u) _
  unfold bX1_join_2
  obtain ⟨i, i1, i2, i3, i4, i5, i6⟩ := (h3.node hs hx).1 hxH
  obtain ⟨j, j1, j2, j3, j4, j5, j6⟩ := (h3.node hs hy).1 hyH
  have hi := (List.getElem?_eq_some_iff.mp i1).1
  have hj := (List.getElem?_eq_some_iff.mp j1).1
  have h3' := h3
  obtain ⟨⟨a1, a2, a3, a4⟩, ⟨b1, b2, b3, b4, b5⟩, c3, c4, c5, c6, c7⟩ := h3'
  rw [ld_nat (by omega), i6]
  refine wp_eq (rX1_root (d := d) (by omega) h3 hi) ?_
  rw [ld_nat (by omega), j6]
  refine wp_eq (rX1_root (d := d) (by omega) h3 hj) ?_
  refine wp_ite (fun he => ?_) (fun he => ?_)
  · rw [wp_some]
    exact ⟨(H, p, M, J), ⟨exL.rf _, hC, UpZ.of (OvL.rf hC) id (Up.rf hs), GrH.rf, hg.imp (fun q => ⟨q, Or.inl ⟨rfl, rfl, ⟨i, j, i1, j1, by show rt p i = rt p j; omega⟩⟩⟩) id⟩, rfl, rfl, rfl⟩
  · have ri := rt_le c7 i hi
    have rj := rt_le c7 j hj
    obtain ⟨a, b, ea, eb, hab, hlt⟩ : ∃ a b : Nat, (if ((rt p i : Nat) : Int) < ((rt p j : Nat) : Int) then ((rt p j : Nat) : Int) else ((rt p i : Nat) : Int)) = (a : Int) ∧ (if ((rt p j : Nat) : Int) < ((rt p i : Nat) : Int) then ((rt p j : Nat) : Int) else ((rt p i : Nat) : Int)) = (b : Int) ∧ (rt p i = a ∧ rt p j = b ∨ rt p i = b ∧ rt p j = a) ∧ b < a := by
      by_cases q : rt p i < rt p j
      · exact ⟨rt p j, rt p i, by rw [if_pos (by omega)], by rw [if_neg (by omega)], Or.inr ⟨rfl, rfl⟩, q⟩
      · exact ⟨rt p i, rt p j, by rw [if_neg (by omega)], by rw [if_pos (by omega)], Or.inl ⟨rfl, rfl⟩, by omega⟩
    have hA : a < H.length ∧ p a = a := by
      rcases hab with ⟨q1, q2⟩ | ⟨q1, q2⟩
      · rw [q1] at ri; exact ⟨by omega, ri.2⟩
      · rw [q2] at rj; exact ⟨by omega, rj.2⟩
    rw [wp_un, wp_un, ea, eb, stA_pos ⟨by omega, by omega⟩, wp_some]
    have w : WF FC (sA u 41 (a : Int) (b : Int)) := wfA h2 rfl ⟨by omega, by omega⟩
    have G : Gr FC 2199023255552 u (sA u 41 (a : Int) (b : Int)) := Gr_sA (by decide +kernel)
    obtain ⟨e, hU⟩ := G.ux (X := xf X H) hs (by decide +kernel)
    have N41 : ∀ k, gN (sA u 41 (a : Int) (b : Int)) 41 k = if k = a then (b : Int) else gN u 41 k := fun k => by
      rw [gN_sAn]
      by_cases q : k = a
      · rw [if_pos ⟨rfl, q⟩, if_pos q]
      · rw [if_neg (fun z => q z.2), if_neg q]
    have key := eqL_join (a := a) (b := b) c3 c7 i1 j1 hab hlt
    refine ⟨(H, puP p a b, M, J), ⟨⟨⟨[], by simp⟩, ⟨[], by simp⟩, ⟨[], by simp⟩, fun s t q => (key s t).mpr (Or.inl q)⟩, ⟨h1.up hU.ux G (by decide +kernel), w, ⟨⟨⟨by rw [gI_sA]; exact a1, a2, by rw [gL_sA]; exact a3, by rw [gL_sA]; exact a4⟩, ⟨by rw [gL_sA, gL_sA]; exact b1, by rw [gL_sA, gL_sA]; exact b2, by rw [gL_sA, gL_sA]; exact b3, by rw [gL_sA]; exact b4, by rw [gL_sA]; exact b5⟩, c3, fun k t hk => ?_, fun z hz => ⟨?_, fun he' => ?_⟩, fun k hk => ?_, puP_dec c7 (by omega)⟩, by rw [gI_sA]; exact h3b⟩, h4.up hs hU.ux G (by decide +kernel) (by decide +kernel) (by decide +kernel) (by decide +kernel), h5.up hs hU.ux G (by decide +kernel) (by decide +kernel) (by decide +kernel), h6, fun s t q => ?_, h8, h9⟩, UpZ.of (OvL.rf hC) (fun q => by rw [gI_sA]; exact q) hU, G.gh (by decide +kernel), hg.imp (fun hg => ⟨⟨by rw [gI_sA]; exact hg.1, hg.2⟩, Or.inr ⟨rfl, ?_⟩⟩) (fun q => ⟨by rw [gI_sA]; exact q.1, q.2⟩)⟩, rfl, rfl, by rw [gI_sA]⟩
    · obtain ⟨z, z1, z2, z3, z4, z5, z6, z7⟩ := c4 k t hk
      exact ⟨z, by rw [gN_sAn, if_neg (by omega)]; exact z1, z2, by rw [e.n]; exact z3, by rw [e.tr]; exact z4, by rw [gL_sA]; exact z5, by rw [gN_sAn, if_neg (by omega), gI_sA]; exact z6, by rw [gN_sAn, if_neg (by omega)]; exact z7⟩
    · rw [gL_sA] at hz
      rw [gN_sAn, if_neg (by omega), gI_sA]
      exact (c5 z hz).1
    · rw [gL_sA] at hz
      rw [gN_sAn, if_neg (by omega), gI_sA] at he'
      obtain ⟨k, k1, k2⟩ := (c5 z hz).2 he'
      exact ⟨k, k1, by rw [gN_sAn, if_neg (by omega)]; exact k2⟩
    · show _ = ((puP p a b k : Nat) : Int)
      rw [N41]
      unfold puP
      by_cases q : k = a
      · rw [if_pos q, if_pos q]
      · rw [if_neg q, if_neg q]; exact c6 k hk
    · have sy := hS.2.1.2.1
      have tr := hS.2.1.2.2.1
      rcases (key s t).mp q with z | ⟨z1, z2⟩ | ⟨z1, z2⟩
      · exact h7 s t z
      · exact tr _ _ _ (tr _ _ _ (h7 _ _ z1) hf) (h7 _ _ z2)
      · exact tr _ _ _ (tr _ _ _ (h7 _ _ z1) (sy _ _ hf)) (h7 _ _ z2)
    · unfold msL
      show H.length + M.length + J.length + ctP p H.length < H.length + M.length + J.length + ctP (puP p a b) H.length
      rw [ctP_pu hA.2 (by omega) _ hA.1]; omega
theorem ClW.mono2 {ν : Nat → Nat} {c : Nat} {W : Wd} {S : Fs} {X : XFm} {Kl : List Nat} {u0 u1 : Sg} {l0 l1 : Ls} {C C' : Prop} {f : Int} (h : ClW ν c W S X Kl u0 l0 C f u1 l1) (k : l1 = l0 → C → C') : ClW ν c W S X Kl u0 l0 C' f u1 l1 := by
  obtain ⟨h1, h2, h3, h4, h5⟩ := h
  exact ⟨h1, h2, h3, h4, h5.imp (fun q => ⟨q.1, q.2.imp (fun z => ⟨z.1, z.2.1, k z.2.1 z.2.2⟩) id⟩) id⟩
theorem ClW.lm {ν : Nat → Nat} {c : Nat} {W : Wd} {S : Fs} {X : XFm} {Kl : List Nat} {u0 u1 : Sg} {l0 l1 : Ls} {C : Prop} {f : Int} (h : ClW ν c W S X Kl u0 l0 C f u1 l1) (hl : LimH ν u0 S X l0.1) (h0 : gI u1 45 = 0) : LimH ν u1 S X l1.1 := hl.up (h.2.2.1.z h0).ux (fun t ht => h.1.H ht)
theorem ClW.gl {ν : Nat → Nat} {c : Nat} {W : Wd} {S : Fs} {X : XFm} {Kl : List Nat} {u0 u1 : Sg} {l0 l1 : Ls} {C : Prop} {f : Int} (h : ClW ν c W S X Kl u0 l0 C f u1 l1) (h0 : gI u1 45 = 0) : GdL W u1 l1 := (h.2.2.2.2.resolve_right (fun z => by rw [z.1] at h0; cases h0)).1
