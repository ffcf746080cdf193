/-- a mode's fact that answers a registration of a class -/
def ofK (W : Wd) (l : Ls) (t g : Nat) (q : Nat × Nat × Nat) : Prop := q.2.1 = wh (wgO W g) ∧ eqX l.1 l.2.1 q.1 t ∧ (pa (wgO W g) 0 = 0 ∨ (q.2.2 ≠ 0 ∧ fM (FsO l) q.2.2 (wh (wgA W g)) (pa (wgA W g) 0)))
theorem ofK_iff {W : Wd} {l : Ls} {t g : Nat} (hn : l.1.Nodup) (h0 : 0 ∉ l.1) : ofS W (FsO l) t g ↔ ∃ q ∈ l.2.2.1, ofK W l t g q := by
  constructor
  · rintro ⟨a, ⟨t', a', m1, m2, m3⟩, h⟩
    refine ⟨_, m1, rfl, m2, h.imp id (fun ⟨z1, z2⟩ => ⟨fun z => z1 ((m3.nz h0).mp z), ?_⟩)⟩
    obtain ⟨t2, a2, n1, n2, n3⟩ := z2
    exact ⟨t2, a2, n1, n2.trn hn m3.sy, n3⟩
  · rintro ⟨⟨t', m, a'⟩, m1, e, m2, h⟩
    have e : m = wh (wgO W g) := e
    subst e
    exact ⟨a', ⟨t', a', m1, m2, Or.inl rfl⟩, h⟩
theorem closeClasses_L36 {d : Nat} (hd : 8 ≤ d) {ν : Nat → Nat} {c : Nat} {W : Wd} {S : Fs} {Kl : List Nat} {u : Sg} {l : Ls} {g o x : Nat} {a2 a4 : Int} {xx : Int → Int → Int → Int → Int → Int → Sg → Option (Int × Sg)} (hW : WOK W (Nm ν c)) (hG : WGK W (Nm ν c)) (hK : KlOK W (Nm ν c) Kl) (hC : CaL ν c W S Kl u l) (hg : g < wnG W) (hg0 : wgS W g = 0) (o0 : 0 < o) (ho : o < nC u) (eo : trC ν u o = wgO W g) (hx : x < nC u) : ∀ (n i f : Nat), i + n = l.2.2.1.length → n + 1 < f → ((∃ k q, i ≤ k ∧ l.2.2.1[k]? = some q ∧ ofK W l (trC ν u x) g q) → bX1_closeClasses_L36 (runC d) f (g : Int) a2 (o : Int) a4 (x : Int) 0 (i : Int) u xx = xx (g : Int) a2 (o : Int) a4 (x : Int) 1 u) ∧ (¬ (∃ k q, i ≤ k ∧ l.2.2.1[k]? = some q ∧ ofK W l (trC ν u x) g q) → bX1_closeClasses_L36 (runC d) f (g : Int) a2 (o : Int) a4 (x : Int) 0 (i : Int) u xx = xx (g : Int) a2 (o : Int) a4 (x : Int) 0 u) := by
  obtain ⟨H, p, M, J⟩ := l
  have hC0 : CaP ν c W S Kl u H p M J := hC
  have hh0 := hC0.h0
  obtain ⟨h1, h2, ⟨h3, h3b⟩, h4, h5, h6, h7, ⟨h8, h9⟩, h10, h11⟩ := hC0
  have hs := h1.1
  have h4' := h4
  obtain ⟨⟨m1, m2, m3, m4, m5, m6⟩, m7⟩ := h4'
  obtain ⟨k1, k2, k3, k4, k5⟩ := (hG.2 g hg).2.1 hg0
  obtain ⟨gg1, gg2, ⟨gg3, gg4, gg5, gg6, gg7⟩, gg8⟩ := h1.2.2.2.2.2.2
  have hno := nodeC hs o0 ho
  rw [eo] at hno
  have l1' : gL u 1 = gL u 0 := hs.1.1.2.2.2.1.1
  have hpt := ps_type k1.1.1 k2
  have hlc := (k1.1.lc.2.2.1 k2).2.1
  obtain ⟨oa, oa1, oa2, oa3⟩ := rX1_argOf (d := d) (by omega) hs o0 ho (by rw [eo]; exact hpt.1)
  rw [eo] at oa3
  have nz : ∀ {e : Nat}, e < nC u → (e = 0 ↔ trC ν u e = 0) := fun {e} he => by
    refine ⟨fun q => by rw [q]; rfl, fun q => ?_⟩
    refine Decidable.byContradiction (fun z => ?_)
    have : 0 < trC ν u e := tr_pos (okp_C (ν := ν) hs.1) (by omega) (by show e ≤ nC u - 1; omega)
    omega
  have noa := nz (by omega : oa < nC u)
  rw [oa3] at noa
  have hMl : M.length ≤ 131072 := by omega
  show ∀ (n i f : Nat), i + n = M.length → n + 1 < f → ((∃ (k : Nat) (q : Nat × Nat × Nat), i ≤ k ∧ M[k]? = some q ∧ ofK W (H, p, M, J) (trC ν u x) g q) → _) ∧ (¬ (∃ (k : Nat) (q : Nat × Nat × Nat), i ≤ k ∧ M[k]? = some q ∧ ofK W (H, p, M, J) (trC ν u x) g q) → _)
  intro n
  induction n with
  | zero =>
    intro i f hi hf
    obtain ⟨f, rfl⟩ : ∃ f', f = f' + 1 := ⟨f - 1, by omega⟩
    rw [bX1_closeClasses_L36, un_eq, m1, if_neg (by omega)]
    exact ⟨fun ⟨k, q, q1, q2, _⟩ => by have := (List.getElem?_eq_some_iff.mp q2).1; omega, fun _ => rfl⟩
  | succ n ih =>
    intro i f hi hf
    obtain ⟨f, rfl⟩ : ∃ f', f = f' + 1 := ⟨f - 1, by omega⟩
    have hil : i < M.length := by omega
    obtain ⟨t', m', a', hget⟩ : ∃ t' m' a', M[i]? = some (t', m', a') := ⟨_, _, _, List.getElem?_eq_getElem hil⟩
    obtain ⟨⟨y, y1, y2, y3⟩, e2, ⟨z, z1, z2, z3⟩⟩ := m7 i t' m' a' hget
    obtain ⟨nx1, nx2⟩ := ih (i + 1) f (by omega) (by omega)
    have hmem := List.mem_of_getElem? hget
    have harg := ALM_arg hW hK (fun t ht => (h6 t ht).1) (h9 _ hmem).2.2
    -- not this one
    have skip : ¬ ofK W (H, p, M, J) (trC ν u x) g (t', m', a') → ((∃ (k : Nat) (q : Nat × Nat × Nat), i ≤ k ∧ M[k]? = some q ∧ ofK W (H, p, M, J) (trC ν u x) g q) → (ar ((i : Int) + 1) fun v => bX1_closeClasses_L36 (runC d) f (g : Int) a2 (o : Int) a4 (x : Int) 0 v u xx) = xx (g : Int) a2 (o : Int) a4 (x : Int) 1 u) ∧ (¬ (∃ (k : Nat) (q : Nat × Nat × Nat), i ≤ k ∧ M[k]? = some q ∧ ofK W (H, p, M, J) (trC ν u x) g q) → (ar ((i : Int) + 1) fun v => bX1_closeClasses_L36 (runC d) f (g : Int) a2 (o : Int) a4 (x : Int) 0 v u xx) = xx (g : Int) a2 (o : Int) a4 (x : Int) 0 u) := fun hno => by
      rw [ar_pos ⟨by omega, by omega⟩, show (i : Int) + 1 = ((i + 1 : Nat) : Int) by omega]
      refine ⟨fun ⟨k, q, q1, q2, q3⟩ => nx1 ⟨k, q, ?_, q2, q3⟩, fun q => nx2 (fun ⟨k, q', q1, q2, q3⟩ => q ⟨k, q', by omega, q2, q3⟩)⟩
      by_cases hk : k = i
      · rw [hk, hget] at q2
        rw [← Option.some.inj q2] at q3
        exact absurd q3 hno
      · omega
    -- this one
    have found : ofK W (H, p, M, J) (trC ν u x) g (t', m', a') → ((∃ (k : Nat) (q : Nat × Nat × Nat), i ≤ k ∧ M[k]? = some q ∧ ofK W (H, p, M, J) (trC ν u x) g q) → (ar ((i : Int) + 1) fun v => bX1_closeClasses_L36 (runC d) f (g : Int) a2 (o : Int) a4 (x : Int) 1 v u xx) = xx (g : Int) a2 (o : Int) a4 (x : Int) 1 u) ∧ (¬ (∃ (k : Nat) (q : Nat × Nat × Nat), i ≤ k ∧ M[k]? = some q ∧ ofK W (H, p, M, J) (trC ν u x) g q) → (ar ((i : Int) + 1) fun v => bX1_closeClasses_L36 (runC d) f (g : Int) a2 (o : Int) a4 (x : Int) 1 v u xx) = xx (g : Int) a2 (o : Int) a4 (x : Int) 0 u) := fun hyes => by
      rw [ar_pos ⟨by omega, by omega⟩]
      obtain ⟨f, rfl⟩ : ∃ f', f = f' + 1 := ⟨f - 1, by omega⟩
      refine ⟨fun _ => ?_, fun q => absurd ⟨i, _, Nat.le_refl _, hget, hyes⟩ q⟩
      rw [bX1_closeClasses_L36, un_eq]
      by_cases hq : (i : Int) + 1 < gI u 51
      · rw [if_pos hq, if_neg (by decide)]
      · rw [if_neg hq]
    rw [bX1_closeClasses_L36, un_eq, m1, if_pos (by omega), if_pos rfl, ld_nat (by omega), e2, ld_nat (by omega), hno.2.1 (by omega)]
    by_cases hm : m' = wh (wgO W g)
    · rw [if_pos (by omega), ld_nat (by omega), y1]
      obtain ⟨e1, e2'⟩ := rX1_equal (d := d) (by omega) h3 hs y2 hx
      rw [y3] at e1 e2'
      by_cases he : eqX H p t' (trC ν u x)
      · rw [cl_eq (e1 he), if_neg (by decide), jn_eq, cl_eq oa1]
        by_cases hoa : oa = 0
        · have hp0 := noa.mp hoa
          have ha0 : a' = 0 := harg.mpr (by show wmH W m' = 0; rw [hm]; exact hlc.mp hp0)
          have hz0 : z = 0 := (nz z2).mpr (by rw [z3]; exact ha0)
          rw [if_pos (by omega), ld_nat (by omega), z1, if_pos (by omega)]
          exact found ⟨hm, he, Or.inl hp0⟩
        · have hp0 : pa (wgO W g) 0 ≠ 0 := fun q => hoa (noa.mpr q)
          have hA0 : wgA W g ≠ 0 := fun q => hp0 (k3.mpr q)
          have hA := k4 hA0
          obtain ⟨v, v1, v0, v2, v3⟩ := (gg8 g hg).2.2.2.1.pos hA0
          have hnv := nodeC hs v0 v2
          rw [v3] at hnv
          have k8 := hA.2.1
          obtain ⟨va, va1, va2, va3⟩ := rX1_argOf (d := d) (by omega) hs v0 v2 (by rw [v3]; exact (type_part hA).1)
          rw [v3] at va3
          rw [if_neg (by omega), jn_eq, ld_nat (by omega), z1]
          by_cases hz0 : z = 0
          · rw [if_pos (by omega)]
            refine skip (fun q => ?_)
            rcases q.2.2 with w | w
            · exact hp0 w
            · exact w.1 (by show a' = 0; rw [← z3]; exact (nz z2).mp hz0)
          · rw [if_neg (by omega), ld_nat (by omega), z1, ld_nat (by omega), v1, ld_nat (by omega), hnv.2.1 (by omega), ld_nat (by omega), v1, cl_eq va1]
            obtain ⟨c1, c2⟩ := rX1_classHasMode (d := d) (m := wh (wgA W g)) (J := J) (by omega) h3 hh0 h4 hs z2 (by omega : va < nC u)
            rw [va3, z3] at c1 c2
            by_cases hc : fM (FsL H p M J) a' (wh (wgA W g)) (pa (wgA W g) 0)
            · rw [cl_eq (c1 hc), if_neg (by decide)]
              exact found ⟨hm, he, Or.inr ⟨fun q => hz0 ((nz z2).mpr (by rw [z3]; exact q)), hc⟩⟩
            · rw [cl_eq (c2 hc), if_pos rfl]
              refine skip (fun q => ?_)
              rcases q.2.2 with w | w
              · exact hp0 w
              · exact hc w.2
      · rw [cl_eq (e2' he), if_pos rfl]
        exact skip (fun q => he q.2.1)
    · rw [if_neg (by omega)]
      exact skip (fun q => hm q.1)
theorem closeClasses_L178 {d : Nat} (hd : 8 ≤ d) {ν : Nat → Nat} {c : Nat} {W : Wd} {S : Fs} {Kl : List Nat} {u : Sg} {l : Ls} {g o x : Nat} {a2 a4 : Int} {xx : Int → Int → Int → Int → Int → Int → Sg → Option (Int × Sg)} (hG : WGK W (Nm ν c)) (hC : CaL ν c W S Kl u l) (hg : g < wnG W) (hg0 : wgS W g = 0) (o0 : 0 < o) (ho : o < nC u) (eo : trC ν u o = wgO W g) (hx : x < nC u) : ∀ (n i f : Nat), i + n = (ps (wgO W g)).length → n + 1 < f → 1 ≤ i → ((∀ j ∈ (ps (wgO W g)).drop i, fA (FsO l) (trC ν u x) j) → bX1_closeClasses_L178 (runC d) f (g : Int) a2 (o : Int) a4 (x : Int) 1 (i : Int) u xx = xx (g : Int) a2 (o : Int) a4 (x : Int) 1 u) ∧ (¬ (∀ j ∈ (ps (wgO W g)).drop i, fA (FsO l) (trC ν u x) j) → bX1_closeClasses_L178 (runC d) f (g : Int) a2 (o : Int) a4 (x : Int) 1 (i : Int) u xx = xx (g : Int) a2 (o : Int) a4 (x : Int) 0 u) := by
  obtain ⟨H, p, M, J⟩ := l
  obtain ⟨h1, h2, ⟨h3, h3b⟩, h4, h5, h6⟩ := hC
  have h5 : FcJ ν u J := h5
  have h3 : HaC ν u H p := h3
  have hs := h1.1
  obtain ⟨k1, k2, k3, k4, k5⟩ := (hG.2 g hg).2.1 hg0
  have hno := nodeC hs o0 ho
  rw [eo] at hno
  have l3 : gL u 3 = gL u 0 := hs.1.1.2.2.2.1.2.2.1
  have hpt := ps_type k1.1.1 k2
  intro n
  induction n with
  | zero =>
    intro i f hi hf hi1
    obtain ⟨f, rfl⟩ : ∃ f', f = f' + 1 := ⟨f - 1, by omega⟩
    rw [bX1_closeClasses_L178, ld_nat (by omega), hno.2.2.1, if_neg (by omega), List.drop_of_length_le (by omega)]
    exact ⟨fun _ => rfl, fun q => absurd (fun j hj => by cases hj) q⟩
  | succ n ih =>
    intro i f hi hf hi1
    obtain ⟨f, rfl⟩ : ∃ f', f = f' + 1 := ⟨f - 1, by omega⟩
    have hil : i < (ps (wgO W g)).length := by omega
    have hat := adjN (d := d) (i := i) (by omega) hs o0 ho (by rw [eo]; exact k2) (by rw [eo]; exact hil) hi1
    rw [eo] at hat
    obtain ⟨c1, c2⟩ := rX1_classHas (d := d) (j := pa (wgO W g) i) (M := M) (by omega) h3 h5 hs hx
    obtain ⟨n1, n2⟩ := ih (i + 1) f (by omega) (by omega) (by omega)
    rw [bX1_closeClasses_L178, ld_nat (by omega), hno.2.2.1, if_pos (by omega), if_neg (by decide), cl_eq hat, drop_pa hil]
    by_cases hc : fA (FsL H p M J) (trC ν u x) (pa (wgO W g) i)
    · rw [cl_eq (c1 hc), ar_pos ⟨by omega, by omega⟩, show (i : Int) + 1 = ((i + 1 : Nat) : Int) by omega]
      refine ⟨fun q => n1 (fun j hj => q j (List.mem_cons_of_mem _ hj)), fun q => n2 (fun z => q (fun j hj => ?_))⟩
      rcases List.mem_cons.mp hj with w | w
      · rw [w]; exact hc
      · exact z j w
    · rw [cl_eq (c2 hc), ar_pos ⟨by omega, by omega⟩]
      refine ⟨fun q => absurd (q _ List.mem_cons_self) hc, fun _ => ?_⟩
      obtain ⟨f, rfl⟩ : ∃ f', f = f' + 1 := ⟨f - 1, by omega⟩
      rw [bX1_closeClasses_L178, ld_nat (by omega), hno.2.2.1]
      by_cases hq : (i : Int) + 1 < ((ps (wgO W g)).length : Int)
      · rw [if_pos hq, if_pos rfl]
      · rw [if_neg hq]
