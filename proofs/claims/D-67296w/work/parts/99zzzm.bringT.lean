section MQ
variable {Mq : MqT}
/-- the parts of an AND come -/
theorem brT_L56 {d : Nat} (hd : 4 ≤ d) {ν : Nat → Nat} {c : Nat} {W : Wd} {S : Fs} {X : Nat → Prop} {Kl : List Nat} {l : Ls} {Fu Fi : Nat → Prop} {Nl Ol : List Nat} {c0 fi x f n0 : Nat} {ν0 : Nat → Nat} {u0 : Sg} {a1 a2 a3 : Int} {Q : Int → Sg → Prop} (hKX : ∀ f ∈ Kl, ∀ z, subT z f → ndT ν0 u0 z) (x0 : 0 < x) (h17 : kd f = 17) (hall : ∀ p ∈ ps f, isFo p ∧ Fu p) (hlen : (ps f).length ≤ 900) (hn0 : n0 ≤ 3000) : ∀ (m i fu : Nat) (u : Sg) (Cl Gl : List Nat), i + m = (ps f).length → m < fu → RdT Mq ν c W S X Kl l Fu Fi Cl Gl [] Nl Ol c0 fi ν0 u0 u → x ≤ nT u → trT ν u x = f → Cl.length ≤ n0 + i → (∀ j, j < i → pa f j ∈ Kl ∨ pa f j ∈ Cl) → ∀ xx : Int → Int → Int → Sg → Option (Int × Sg), (∀ (u2 : Sg) (Cl2 Gl2 : List Nat), (∀ g ∈ Cl, g ∈ Cl2) → RdT Mq ν c W S X Kl l Fu Fi Cl2 Gl2 [] Nl Ol c0 fi ν0 u0 u2 → (∀ p ∈ ps f, p ∈ Kl ∨ p ∈ Cl2) → Cl2.length ≤ n0 + (ps f).length → wp (xx a1 a2 a3 u2) Q) → wp (bX3_bringsOf_L56 (runT d) fu a1 a2 a3 (x : Int) (i : Int) u xx) Q := by
  have nw0 : nw (kd f) = 0 := by rw [h17]; decide
  intro m
  induction m with
  | zero =>
    intro i fu u Cl Gl hi hf hR hx ex hCl hdn xx kk
    obtain ⟨fu, rfl⟩ : ∃ f', fu = f' + 1 := ⟨fu - 1, by omega⟩
    have hs := hR.1.1.1.1
    have hn := nodeT hs x0 hx
    rw [ex] at hn
    have hk := hs.k hx
    have l3 : gL u 3 = gL u 1 := hs.1.1.2.2.2.1.2.1
    rw [bX3_bringsOf_L56, ld_nat (by omega), hn.2.1, if_neg (by omega)]
    refine kk u Cl Gl (fun _ q => q) hR (fun p hp => ?_) (by omega)
    obtain ⟨j, hj⟩ := List.getElem?_of_mem hp
    have := hdn j (by have := (List.getElem?_eq_some_iff.mp hj).1; omega)
    rw [pa_at hj] at this
    exact this
  | succ m ih =>
    intro i fu u Cl Gl hi hf hR hx ex hCl hdn xx kk
    obtain ⟨fu, rfl⟩ : ∃ f', fu = f' + 1 := ⟨fu - 1, by omega⟩
    have hs := hR.1.1.1.1
    have hn := nodeT hs x0 hx
    rw [ex] at hn
    have hk := hs.k hx
    have l3 : gL u 3 = gL u 1 := hs.1.1.2.2.2.1.2.1
    have hil : i < (ps f).length := by omega
    have hgi := pa_get hil
    obtain ⟨y, y1, y2, y3⟩ := partNT (d := d) (i := i) (by omega) hs x0 hx (by rw [ex]; exact hil) (Or.inl (by rw [ex]; omega))
    rw [ex, nw0] at y1
    rw [ex] at y3
    have hp := hall _ (List.mem_of_getElem? hgi)
    have y0 : 0 < y := Nat.pos_of_ne_zero (fun q => isFo_pos hp.1 (by rw [← y3, q]; rfl))
    rw [bX3_bringsOf_L56, ld_nat (by omega), hn.2.1, if_pos (by omega)]
    refine wp_eq y1 ?_
    obtain ⟨d', rfl⟩ : ∃ d', d = d' + 1 := ⟨d - 1, by omega⟩
    refine wp_call (rdT_comes (d := d') (by omega) hKX hR (Or.inl rfl) (by omega) y0 (by omega) y3 hp.2) (fun r u1 ⟨Cl1, Gl1, q1, q2, e1, q3, q4, q5, _⟩ => ?_)
    rw [wp_ar]
    refine ⟨⟨by omega, by omega⟩, ?_⟩
    rw [show (i : Int) + 1 = ((i + 1 : Nat) : Int) by omega]
    refine ih (i + 1) fu u1 Cl1 Gl1 (by omega) (by omega) q2 (by rw [e1.1.n]; exact hx) (by rw [e1.1.tr]; exact ex) (by omega) (fun j hj => ?_) xx (fun u2 Cl2 Gl2 z1 z2 z3 z4 => kk u2 Cl2 Gl2 (fun g hg => z1 g (q1 g hg)) z2 z3 z4)
    by_cases hji : j = i
    · rw [hji]; exact q3
    · exact (hdn j (by omega)).imp id (q1 _)
/-- what is asked of a known ALL -/
def AlA (d : Nat) (ν : Nat → Nat) (c : Nat) (W : Wd) (Kl : List Nat) (l : Ls) (X Fu Fi : Nat → Prop) (ν0 : Nat → Nat) (u0 : Sg) (x f : Nat) (T : Nat → Prop) : Prop := (25 + htT (pa f 1) ≤ d ∧ 25 + htQ (pa f 1) ≤ d) ∧ (WOK W (NT ν c) ∧ KlOK W (NT ν c) Kl) ∧ LimRT ν0 u0 X Kl Fu Fi ∧ (∀ f ∈ Kl, ∀ z, subT z f → ndT ν0 u0 z) ∧ hT u0 ≤ 20000 ∧ (0 < x ∧ kd f = 18 ∧ frW W (NT ν c) f ∧ closT f) ∧ (szQ (pa f 1) ≤ 900 ∧ htQ (pa f 1) ≤ 900) ∧ ∀ t, T t → fitS (FsQ l) t (pa f 0) → Fi (sbT (putg t) 0 (pa f 1)) ∧ (instOK (FsQ l) t (pa f 1) → Fu (sbT (putg t) 0 (pa f 1)))
def AlD (l : Ls) (Kl Cl : List Nat) (f t : Nat) : Prop := fitS (FsQ l) t (pa f 0) ∧ instOK (FsQ l) t (pa f 1) → sbT (putg t) 0 (pa f 1) ∈ Kl ∨ sbT (putg t) 0 (pa f 1) ∈ Cl
theorem AlD.mono {l : Ls} {Kl Cl Cl' : List Nat} {f t : Nat} (h : AlD l Kl Cl f t) (k : ∀ g ∈ Cl, g ∈ Cl') : AlD l Kl Cl' f t := fun q => (h q).imp id (k _)
/-- instances at the terms of the formulas -/
theorem brT_L99 {d : Nat} {ν : Nat → Nat} {c : Nat} {W : Wd} {S : Fs} {X : Nat → Prop} {Kl : List Nat} {l : Ls} {Fu Fi : Nat → Prop} {Nl Ol : List Nat} {c0 fi x f g0 n0 : Nat} {ν0 : Nat → Nat} {u0 : Sg} {a1 a2 a3 : Int} {Q : Int → Sg → Prop} (hA : AlA d ν c W Kl l X Fu Fi ν0 u0 x f (fun t => ∃ i, i < fi ∧ l.1[i]? = some t)) (hfi : fi ≤ l.1.length) (hfi1 : fi ≤ 100) (hn0 : n0 ≤ 3000) (hg0 : Kl.length + g0 + fi ≤ 500 ∨ g0 + fi ≤ 100) : ∀ (m i fu : Nat) (u : Sg) (Cl Gl : List Nat), i + m = fi → m < fu → RdT Mq ν c W S X Kl l Fu Fi Cl Gl [] Nl Ol c0 fi ν0 u0 u → x ≤ nT u → trT ν u x = f → Cl.length ≤ n0 + i → Gl.length ≤ g0 + i → (∀ j t, j < i → l.1[j]? = some t → AlD l Kl Cl f t) → ∀ xx : Int → Int → Int → Int → Sg → Option (Int × Sg), (∀ (u2 : Sg) (Cl2 Gl2 : List Nat), (∀ g ∈ Cl, g ∈ Cl2) → RdT Mq ν c W S X Kl l Fu Fi Cl2 Gl2 [] Nl Ol c0 fi ν0 u0 u2 → x ≤ nT u2 → trT ν u2 x = f → Cl2.length ≤ n0 + fi → Gl2.length ≤ g0 + fi → (∀ t, (∃ i, i < fi ∧ l.1[i]? = some t) → AlD l Kl Cl2 f t) → wp (xx a1 a2 a3 (x : Int) u2) Q) → wp (bX3_bringsOf_L99 (runT d) fu a1 a2 a3 (x : Int) (i : Int) u xx) Q := by
  obtain ⟨⟨hd, hd2⟩, ⟨hW, hK⟩, hl, hKX, hr0, ⟨x0, h18, hfr, hfc⟩, ⟨hsz, hh⟩, hF⟩ := hA
  intro m
  induction m with
  | zero =>
    intro i fu u Cl Gl hi hf hR hx ex hCl hGl hdn xx kk
    obtain ⟨fu, rfl⟩ : ∃ f', fu = f' + 1 := ⟨fu - 1, by omega⟩
    rw [bX3_bringsOf_L99, wp_un, hR.2.2.2.2.2.1, if_neg (by omega)]
    exact kk u Cl Gl (fun _ q => q) hR hx ex (by omega) (by omega) (fun t ⟨j, j1, j2⟩ => hdn j t (by omega) j2)
  | succ m ih =>
    intro i fu u Cl Gl hi hf hR hx ex hCl hGl hdn xx kk
    obtain ⟨fu, rfl⟩ : ∃ f', fu = f' + 1 := ⟨fu - 1, by omega⟩
    have hH : HaT ν u l.1 l.2.1 := hR.1.1.2.2.1.1
    have hil : i < l.1.length := by omega
    have hgi : l.1[i]? = some l.1[i] := List.getElem?_eq_getElem hil
    generalize et : l.1[i] = t at hgi
    obtain ⟨tn, t1, t2, t3, t4, _⟩ := hH.2.2.2.1 i t hgi
    have l55 := hH.1.2.2.1
    have hT : ∃ i, i < fi ∧ l.1[i]? = some t := ⟨i, by omega, hgi⟩
    rw [bX3_bringsOf_L99, wp_un, hR.2.2.2.2.2.1, if_pos (by omega), ld_nat (by omega), t1]
    refine wp_call (tX3_instance hd hd2 hW hK hl hKX hr0 hR (hg0.imp (fun q => by omega) (fun q => by omega)) (by omega) x0 hx ex h18 hfr hfc hsz hh t2 t3 t4 (List.mem_of_getElem? hgi) (fun q => (hF t hT q).1) (fun q q' => (hF t hT q).2 q')) (fun r u1 ⟨Cl1, Gl1, q1, q2, ⟨q3, q4⟩, q5, q6, q7⟩ => ?_)
    rw [wp_ar]
    refine ⟨⟨by omega, by omega⟩, ?_⟩
    rw [show (i : Int) + 1 = ((i + 1 : Nat) : Int) by omega]
    refine ih (i + 1) fu u1 Cl1 Gl1 (by omega) (by omega) q2 (by omega) (by rw [q4 x hx]; exact ex) (by omega) (by omega) (fun j t' hj hj' => ?_) xx (fun u2 Cl2 Gl2 z1 z2 z3 z4 z5 z6 z7 => kk u2 Cl2 Gl2 (fun g hg => z1 g (q1 g hg)) z2 z3 z4 z5 z6 z7)
    by_cases hji : j = i
    · rw [hji, hgi] at hj'
      rw [← Option.some.inj hj']
      exact q5
    · exact (hdn j t' (by omega) hj').mono q1
/-- instances at constants that rounds brought -/
theorem brT_L130 {d : Nat} {ν : Nat → Nat} {c : Nat} {W : Wd} {S : Fs} {X : Nat → Prop} {Kl : List Nat} {l : Ls} {Fu Fi : Nat → Prop} {Nl N0 Ol : List Nat} {c0 fi x f g0 n0 : Nat} {ν0 : Nat → Nat} {u0 : Sg} {a1 a3 : Int} {Q : Int → Sg → Prop} (hA : AlA d ν c W Kl l X Fu Fi ν0 u0 x f (fun t => t ∈ N0)) (hN : ∃ Bl, Nl = N0 ++ Bl) (hN0 : ∀ t ∈ N0, t ∈ l.1) (hNl : N0.length ≤ 1000) (hn0 : n0 ≤ 3200) (hg0 : Kl.length + g0 + N0.length ≤ 500 ∨ g0 + N0.length ≤ 100) : ∀ (m i fu : Nat) (u : Sg) (Cl Gl : List Nat), i + m = N0.length → m < fu → RdT Mq ν c W S X Kl l Fu Fi Cl Gl [] Nl Ol c0 fi ν0 u0 u → x ≤ nT u → trT ν u x = f → Cl.length ≤ n0 + i → Gl.length ≤ g0 + i → (∀ j t, j < i → N0[j]? = some t → AlD l Kl Cl f t) → ∀ xx : Int → Int → Int → Sg → Option (Int × Sg), (∀ (u2 : Sg) (Cl2 Gl2 : List Nat), (∀ g ∈ Cl, g ∈ Cl2) → RdT Mq ν c W S X Kl l Fu Fi Cl2 Gl2 [] Nl Ol c0 fi ν0 u0 u2 → x ≤ nT u2 → trT ν u2 x = f → (∀ t ∈ N0, AlD l Kl Cl2 f t) → Cl2.length ≤ n0 + N0.length → wp (xx a1 (N0.length : Int) a3 u2) Q) → wp (bX3_bringsOf_L130 (runT d) fu a1 (N0.length : Int) a3 (x : Int) (i : Int) u xx) Q := by
  obtain ⟨⟨hd, hd2⟩, ⟨hW, hK⟩, hl, hKX, hr0, ⟨x0, h18, hfr, hfc⟩, ⟨hsz, hh⟩, hF⟩ := hA
  obtain ⟨Bl, hB⟩ := hN
  intro m
  induction m with
  | zero =>
    intro i fu u Cl Gl hi hf hR hx ex hCl hGl hdn xx kk
    obtain ⟨fu, rfl⟩ : ∃ f', fu = f' + 1 := ⟨fu - 1, by omega⟩
    rw [bX3_bringsOf_L130, if_neg (by omega)]
    refine kk u Cl Gl (fun _ q => q) hR hx ex (fun t ht => ?_) (by omega)
    obtain ⟨j, hj⟩ := List.getElem?_of_mem ht
    exact hdn j t (by have := (List.getElem?_eq_some_iff.mp hj).1; omega) hj
  | succ m ih =>
    intro i fu u Cl Gl hi hf hR hx ex hCl hGl hdn xx kk
    obtain ⟨fu, rfl⟩ : ∃ f', fu = f' + 1 := ⟨fu - 1, by omega⟩
    have hil : i < N0.length := by omega
    have hgi : N0[i]? = some N0[i] := List.getElem?_eq_getElem hil
    generalize et : N0[i] = t at hgi
    have hgi' : Nl[i]? = some t := by rw [hB, List.getElem?_append_left hil]; exact hgi
    have hAr := hR.2.2.1
    obtain ⟨tn, t1, t2, t3, t4⟩ := hAr.2.2 i t hgi'
    have l69 := hAr.2.1.1
    have hT : t ∈ N0 := List.mem_of_getElem? hgi
    have hNl2 : i < Nl.length := (List.getElem?_eq_some_iff.mp hgi').1
    rw [bX3_bringsOf_L130, if_pos (by omega), ld_nat (by omega), t1]
    refine wp_call (tX3_instance hd hd2 hW hK hl hKX hr0 hR (hg0.imp (fun q => by omega) (fun q => by omega)) (by omega) x0 hx ex h18 hfr hfc hsz hh t2 t3 t4 (hN0 t hT) (fun q => (hF t hT q).1) (fun q q' => (hF t hT q).2 q')) (fun r u1 ⟨Cl1, Gl1, q1, q2, ⟨q3, q4⟩, q5, q6, q7⟩ => ?_)
    rw [wp_ar]
    refine ⟨⟨by omega, by omega⟩, ?_⟩
    rw [show (i : Int) + 1 = ((i + 1 : Nat) : Int) by omega]
    refine ih (i + 1) fu u1 Cl1 Gl1 (by omega) (by omega) q2 (by omega) (by rw [q4 x hx]; exact ex) (by omega) (by omega) (fun j t' hj hj' => ?_) xx (fun u2 Cl2 Gl2 z1 z2 z3 z4 z5 z6 => kk u2 Cl2 Gl2 (fun g hg => z1 g (q1 g hg)) z2 z3 z4 z5 z6)
    by_cases hji : j = i
    · rw [hji, hgi] at hj'
      rw [← Option.some.inj hj']
      exact q5
    · exact (hdn j t' (by omega) hj').mono q1
/-- of a NOT AND: how many parts do not hold -/
def OLT (F : Fs) (K : Nat → Prop) (ν : Nat → Nat) (u : Sg) (g i many : Nat) (lf : Int) : Prop := (many = 0 ∧ ∀ j, j < i → hld F K (pa g j)) ∨ (many = 1 ∧ ∃ k, k < i ∧ ¬ hld F K (pa g k) ∧ (∀ j, j < i → j ≠ k → hld F K (pa g j)) ∧ ∃ z : Nat, lf = (z : Int) ∧ 0 < z ∧ z ≤ nT u ∧ trT ν u z = pa g k) ∨ (2 ≤ many ∧ ∃ k1 k2, k1 < k2 ∧ k2 < i ∧ ¬ hld F K (pa g k1) ∧ ¬ hld F K (pa g k2))
theorem OLT.up {F : Fs} {K : Nat → Prop} {ν : Nat → Nat} {c : Nat} {u u' : Sg} {X : Nat → Prop} {g i many : Nat} {lf : Int} (h : OLT F K ν u g i many lf) (hs : ST ν c u) (hU : UpT ν c u u' X) : OLT F K ν u' g i many lf := by
  have hn := hU.n
  refine h.imp id (Or.imp (fun ⟨a, k, k1, k2, k3, z, z1, z2, z3, z4⟩ => ⟨a, k, k1, k2, k3, z, z1, z2, by omega, by rw [hU.tr hs z3]; exact z4⟩) id)
theorem brT_L200 {d : Nat} {ν : Nat → Nat} {c : Nat} {W : Wd} {S : Fs} {X : Nat → Prop} {Kl : List Nat} {l : Ls} {Fu Fi : Nat → Prop} {Cl Gl Nl Ol : List Nat} {c0 fi x g : Nat} {ν0 : Nat → Nat} {u0 : Sg} {a1 a2 a3 : Int} {Q : Int → Sg → Prop} (hW : WOK W (NT ν c)) (hG : WGK W (NT ν c)) (hK : KlOK W (NT ν c) Kl) (hd : 20 + 3 * htT g ≤ d) (hl : LimRT ν0 u0 X Kl Fu Fi) (hgl : Kl.length + Gl.length ≤ 501 ∨ Gl.length ≤ 101) (hr0 : hT u0 ≤ 20000) (x0 : 0 < x) (h17 : kd g = 17) (hfr : frW W (NT ν c) g) (hX : ∀ s, subN s g → kd s = 17 → ∀ p ∈ ps s, X (notT p)) (hlen : (ps g).length ≤ 900) : ∀ (m i fu many : Nat) (lf : Int) (u : Sg), i + m = (ps g).length → m < fu → RdT Mq ν c W S X Kl l Fu Fi Cl Gl [] Nl Ol c0 fi ν0 u0 u → x ≤ nT u → trT ν u x = g → many ≤ i → OLT (FsQ l) (fun f => f ∈ Kl) ν u g i many lf → ∀ xx : Int → Int → Int → Int → Int → Sg → Option (Int × Sg), (∀ (u2 : Sg) (lf2 : Int) (many2 : Nat), RdT Mq ν c W S X Kl l Fu Fi Cl Gl [] Nl Ol c0 fi ν0 u0 u2 → (OLT (FsQ l) (fun f => f ∈ Kl) ν u2 g (ps g).length many2 lf2) → wp (xx a1 a2 a3 lf2 (many2 : Int) u2) Q) → wp (bX3_bringsOf_L200 (runT d) fu a1 a2 a3 (x : Int) lf (many : Int) (i : Int) u xx) Q := by
  have hall : ∀ p ∈ ps g, isFo p := by
    rcases hfr.1.n.2 with q | q | q | q | q | q | q | q | q | q | q | q | q | q <;> try omega
    exact fun p hp => (q.2.2.2 p hp).1
  have nw0 : nw (kd g) = 0 := by rw [h17]; decide
  intro m
  induction m with
  | zero =>
    intro i fu many lf u hi hf hR hx ex hmi hO xx kk
    obtain ⟨fu, rfl⟩ : ∃ f', fu = f' + 1 := ⟨fu - 1, by omega⟩
    have hs := hR.1.1.1.1
    have hn := nodeT hs x0 hx
    rw [ex] at hn
    have hk := hs.k hx
    have l3 : gL u 3 = gL u 1 := hs.1.1.2.2.2.1.2.1
    rw [bX3_bringsOf_L200, ld_nat (by omega), hn.2.1, if_neg (by omega)]
    rw [show i = (ps g).length by omega] at hO
    exact kk u lf many hR hO
  | succ m ih =>
    intro i fu many lf u hi hf hR hx ex hmi hO xx kk
    obtain ⟨fu, rfl⟩ : ∃ f', fu = f' + 1 := ⟨fu - 1, by omega⟩
    have hs := hR.1.1.1.1
    have hn := nodeT hs x0 hx
    rw [ex] at hn
    have hk := hs.k hx
    have l3 : gL u 3 = gL u 1 := hs.1.1.2.2.2.1.2.1
    have hil : i < (ps g).length := by omega
    have hgi := pa_get hil
    have hlu := hR.lim hl hgl
    obtain ⟨y, y1, y2, y3⟩ := partNT (d := d) (i := i) (by omega) hs x0 hx (by rw [ex]; exact hil) (Or.inl (by rw [ex]; omega))
    rw [ex, nw0] at y1
    rw [ex] at y3
    have hp := hall _ (List.mem_of_getElem? hgi)
    have hfm : pa g i ∈ fms g := fms_at.mpr ⟨i, Or.inl (by omega), hgi, isFo_pos hp⟩
    have hht := ht_c hfm
    have y0 : 0 < y := Nat.pos_of_ne_zero (fun q => isFo_pos hp (by rw [← y3, q]; rfl))
    have hrr := hR.hh
    rw [bX3_bringsOf_L200, ld_nat (by omega), hn.2.1, if_pos (by omega)]
    refine wp_eq y1 ?_
    refine wp_call (tX3_holds (X := X) hW hG hK (htT (pa g i) + 1) d u y (pa g i) (by omega) hR.1 y0 (by omega) y3 (by omega) hp (hfr.part hfm) (by omega) (fun s q1 q2 => hX s (subN_c (by omega) hfm q1) q2) hlu) (fun r u1 ⟨w1, w2, w3, w4⟩ => ?_)
    have hR1 := hR.fr w2 w3 w4 (by decide +kernel) (by decide +kernel) (by decide +kernel)
    have hn1 := w2.n
    have hs1 := hR1.1.1.1.1
    have ex1 : trT ν u1 x = g := by rw [w2.tr hs hx]; exact ex
    have hO1 := hO.up hs w2
    rcases w1 with ⟨e1, e2⟩ | ⟨e1, e2⟩
    · rw [e1, if_neg (by decide), wp_ar]
      refine ⟨⟨by omega, by omega⟩, ?_⟩
      rw [show (i : Int) + 1 = ((i + 1 : Nat) : Int) by omega]
      refine ih (i + 1) fu many lf u1 (by omega) (by omega) hR1 (by omega) ex1 (by omega) ?_ xx kk
      have e2' : hld (FsQ l) (fun f => f ∈ Kl) (pa g i) := e2
      rcases hO1 with ⟨a, b⟩ | ⟨a, k, k1, k2, k3, z⟩ | ⟨a, k1, k2, q⟩
      · refine Or.inl ⟨a, fun j hj => ?_⟩
        by_cases hji : j = i
        · rw [hji]; exact e2'
        · exact b j (by omega)
      · refine Or.inr (Or.inl ⟨a, k, by omega, k2, fun j hj hjk => ?_, z⟩)
        by_cases hji : j = i
        · rw [hji]; exact e2'
        · exact k3 j (by omega) hjk
      · exact Or.inr (Or.inr ⟨a, k1, k2, q.1, by omega, q.2.2⟩)
    · have e2' : ¬ hld (FsQ l) (fun f => f ∈ Kl) (pa g i) := e2
      obtain ⟨y', y1', y2', y3'⟩ := partNT (d := d) (i := i) (by omega) hs1 x0 (by omega : x ≤ nT u1) (by rw [ex1]; exact hil) (Or.inl (by rw [ex1]; omega))
      rw [ex1, nw0] at y1'
      rw [ex1] at y3'
      have y0' : 0 < y' := Nat.pos_of_ne_zero (fun q => isFo_pos hp (by rw [← y3', q]; rfl))
      rw [e1, if_pos rfl, wp_ar]
      refine ⟨⟨by omega, by omega⟩, ?_⟩
      refine wp_eq y1' ?_
      rw [wp_ar]
      refine ⟨⟨by omega, by omega⟩, ?_⟩
      rw [show (i : Int) + 1 = ((i + 1 : Nat) : Int) by omega, show (many : Int) + 1 = ((many + 1 : Nat) : Int) by omega]
      refine ih (i + 1) fu (many + 1) (y' : Int) u1 (by omega) (by omega) hR1 (by omega) ex1 (by omega) ?_ xx kk
      rcases hO1 with ⟨a, b⟩ | ⟨a, k, k1, k2, k3, z⟩ | ⟨a, k1, k2, q⟩
      · exact Or.inr (Or.inl ⟨by omega, i, by omega, e2', fun j hj hji => b j (by omega), y', rfl, y0', by omega, y3'⟩)
      · exact Or.inr (Or.inr ⟨by omega, k, i, k1, by omega, k2, e2'⟩)
      · exact Or.inr (Or.inr ⟨by omega, k1, k2, q.1, by omega, q.2.2⟩)
end MQ
