/-- what a case rests on -/
def EnT (ν : Nat → Nat) (c : Nat) (W : Wd) (S : Fs) (X : XFm) (Kl : List Nat) (K B : Nat → Prop) : Prop := WOK W (NT ν c) ∧ WGK W (NT ν c) ∧ KlOK W (NT ν c) Kl ∧ Clo W K B S ∧ (∀ n, NT ν c n → htT (wcT W n) ≤ 700) ∧ XSp W S X ∧ XTm W S X ∧ XKn W X Kl ∧ ∀ f ∈ Kl, K f
theorem tyF.mono {W : Wd} {F F' : Fs} {t y : Nat} (h : tyF W F t y) (hs : subF F F') : tyF W F' t y := fun z hz => ⟨hs.2.2.1 _ _ _ (h z hz).1, fun j hj => hs.2.2.2 _ _ ((h z hz).2.1 j hj), fun q => hs.1 _ ((h z hz).2.2 q)⟩
theorem TwR.len {ν : Nat → Nat} {c : Nat} {W : Wd} {S : Fs} {X : XFm} {Kl : List Nat} {u0 u1 : Sg} {l0 l1 : Ls} {C : Prop} (h : TwR ν c W S X Kl u0 l0 C u1 l1) : l0.1.length ≤ l1.1.length := h.1.len
theorem TwR.paX {ν : Nat → Nat} {c : Nat} {W : Wd} {S : Fs} {X : XFm} {Kl : List Nat} {u0 u1 : Sg} {l0 l1 : Ls} {C : Prop} (h : TwR ν c W S X Kl u0 l0 C u1 l1) {z : Nat} (q : xt X l0.1 z) : xt X l1.1 z := by
  obtain ⟨⟨⟨a, ha⟩, _⟩, _⟩ := h
  rw [ha]; exact xt_mono z q
theorem hasTypeT_L2 {d : Nat} (hd : 900 ≤ d) {ν : Nat → Nat} {c : Nat} {W : Wd} {S : Fs} {X : XFm} {K B : Nat → Prop} {Kl : List Nat} {i0 t : Nat} {Q : Int → Sg → Prop} {xx xy : Sg → Option (Int × Sg)} (hE : EnT ν c W S X Kl K B) : ∀ (n f y : Nat) (u : Sg) (l : Ls), wh (trT ν u y) < n → n < f → CaT ν c W S Kl u l → l.1.length ≤ 100 → l.1[i0]? = some t → 0 < y → y ≤ nT u → clty W (NT ν c) (trT ν u y) → htT (trT ν u y) ≤ 700 → tyF W S t (trT ν u y) → (∀ z ∈ upT W (trT ν u y), (pa z 0 = 0 → paX W X.1 z) ∧ (pa z 0 ≠ 0 → paX W (X.2 (pa z 0)) z)) → (∀ z ∈ upT W (trT ν u y), (t, wh z, pa z 0) ∈ ALM W Kl l.1) → hT u ≤ 26000 → LimTH ν u S X l.1 → (∀ (u2 : Sg) (l2 : Ls), TwR ν c W S X Kl u l True u2 l2 → (l2.1.length ≤ 100 → tyF W (FsQ l2) t (trT ν u y)) → wp (xx u2) Q ∧ wp (xy u2) Q) → wp (bX3_hasType_L2 (runT d) f (i0 : Int) (y : Int) u xx xy) Q := by
  obtain ⟨hW, hG, hK, hS, hcn, hXS, hXT, hXK, hKK⟩ := hE
  intro n
  induction n with
  | zero => intro f y u l h; omega
  | succ n ih =>
    intro f y u l hwh hf hC hle hi0 y0 hy hty hht hTF hX hal hr hl k
    obtain ⟨f, rfl⟩ : ∃ f', f = f' + 1 := ⟨f - 1, by omega⟩
    have hs := hC.1.1
    have hbd := (hl.l hC).n hs
    generalize ety : trT ν u y = ty at *
    have h8 := hty.2.1
    have hpt := ps_type hty.1.1 h8
    have nw1 : nw (kd ty) = 1 := by rw [h8]; decide
    have hup := up_eq hW hty
    have hself : ty ∈ upT W ty := by rw [hup]; exact List.mem_cons_self
    have hwh20 : wh ty < wnM W := (hty.1.lc.2.2.1 h8).1
    have h20 : wnM W ≤ 20 := hC.1.2.2.2.1.2.1.2
    have hTs := hTF ty hself
    have hadj := clty_adj hG hty
    have hlc := (hty.1.lc.2.2.1 h8).2.1
    obtain ⟨a, a1, a2, a3⟩ := rX3_arg (d := d) (by omega) hs y0 hy (by rw [ety]; exact h8) (by rw [ety]; omega)
    rw [ety] at a3
    -- behind the terms of the argument
    have mid : ∀ (u1 : Sg) (l1 : Ls), TwR ν c W S X Kl u l True u1 l1 → (l1.1.length ≤ 100 → pa ty 0 ≠ 0 → pa ty 0 ∈ l1.1) → wp (un (gI u1 57) fun v3 => if v3 ≤ 100 then (jn (fun (a1 a3 : Int) (s5 : Sg) => bX3_hasType_L64 (runT d) KF a1 a3 2 s5 (fun v7 v8 s6 => cl (runT d 77 [v8] s6) fun v9 s10 => bX3_hasType_L2 (runT d) f v7 v9 s10 xx xy)) fun j4 => cl (runT d 7 [(y : Int), 0] u1) fun v11 s12 => if v11 = 0 then (j4 (i0 : Int) (y : Int) s12) else (cl (runT d 7 [(y : Int), 0] s12) fun v13 s14 => cl (runT d 7 [(y : Int), 1] s14) fun v15 s16 => cl (runT d 74 [(i0 : Int), v13, v15] s16) fun v17 s18 => j4 (i0 : Int) (y : Int) s18)) else (xy u1)) Q := fun u1 l1 hw1 harg => by
      have hC1 := hw1.2.1
      have hs1 := hC1.1.1
      have hy1 : y ≤ nT u1 := Nat.le_trans hy hw1.2.2.1.n
      have ey1 : trT ν u1 y = ty := by rw [hw1.2.2.1.tr hs hy]; exact ety
      have ha1' : a ≤ nT u1 := by have := hw1.2.2.1.n; omega
      have ea1 : trT ν u1 a = pa ty 0 := by rw [hw1.2.2.1.tr hs (by omega)]; exact a3
      have hl1 := hw1.lm hl
      have hbd1 := (hl1.l hC1).n hs1
      have hi1 : l1.1[i0]? = some t := hw1.1.at hi0
      have hr1 : hT u1 = hT u := hw1.2.2.1.2.2.2.1
      rw [wp_un, hC1.2.2.1.1.1.1]
      refine wp_ite (fun h100 => ?_) (fun h100 => (k u1 l1 hw1 (fun q => by omega)).2)
      have h100 : l1.1.length ≤ 100 := by omega
      have harg := harg h100
      -- behind the mode
      have fin : ∀ (u2 : Sg) (l2 : Ls), TwR ν c W S X Kl u l True u2 l2 → l2.1 = l1.1 → fM (FsQ l2) t (wh ty) (pa ty 0) → wp (bX3_hasType_L64 (runT d) KF (i0 : Int) (y : Int) ((1 + 1 : Nat) : Int) u2 (fun v7 v8 s6 => cl (runT d 77 [v8] s6) fun v9 s10 => bX3_hasType_L2 (runT d) f v7 v9 s10 xx xy)) Q := fun u2 l2 hw2 eH hfM => by
        have hC2 := hw2.2.1
        have hs2 := hC2.1.1
        have hy2 : y ≤ nT u2 := Nat.le_trans hy hw2.2.2.1.n
        have ey2 : trT ν u2 y = ty := by rw [hw2.2.2.1.tr hs hy]; exact ety
        refine hasTypeT_L64 (X := X) (l0 := l2) (ty := ty) (t := t) (by omega) hW hK hs2 y0 hy2 ey2 h8 (by omega) (fun j hj => ⟨hadj j hj, hTs.2.1 j hj⟩) ((ps ty).length - 1) 1 KF u2 l2 (by omega) (Nat.lt_of_le_of_lt (by omega : _ ≤ 300000) KF_300) (Nat.le_refl _) (TwR.rf hC2 trivial) rfl (by rw [eH]; exact hi1) _ (fun u3 l3 q1 q2 q3 q4 => ?_)
        have hw3 := hw2.seq q1 (fun _ _ _ => (trivial : True))
        have hC3 := hw3.2.1
        have hs3 := hC3.1.1
        have hy3 : y ≤ nT u3 := Nat.le_trans hy hw3.2.2.1.n
        have ey3 : trT ν u3 y = ty := by rw [hw3.2.2.1.tr hs hy]; exact ety
        have hl3 := hw3.lm hl
        have hr3 : hT u3 = hT u := hw3.2.2.1.2.2.2.1
        have eH3 : l3.1 = l1.1 := q3.trans eH
        have own : fM (FsQ l3) t (wh ty) (pa ty 0) ∧ (∀ j ∈ adjT ty, fA (FsQ l3) t j) ∧ (pa ty 0 ≠ 0 → fH (FsQ l3) (pa ty 0)) := ⟨q1.1.fs.2.2.1 _ _ _ hfM, fun j hj => q4 j (by rw [hpt.2.2]; exact hj), fun q => by show pa ty 0 ∈ l3.1; rw [eH3]; exact harg q⟩
        by_cases hz : wh ty = 0
        · refine wp_eq (rX3_parent0 (d := d) (by omega) hs3 y0 hy3 (by rw [ey3]; exact h8) (by rw [ey3]; exact hz)) ?_
          obtain ⟨f, rfl⟩ : ∃ f', f = f' + 1 := ⟨f - 1, by omega⟩
          rw [bX3_hasType_L2, if_pos (by decide)]
          refine (k u3 l3 hw3 (fun _ z hz' => ?_)).1
          rw [hup, if_pos hz] at hz'
          rw [List.mem_singleton.mp hz']
          exact own
        · have hpk := pa_ok hW hty hz
          have hXp : paX W (xt X l3.1) ty := by
            by_cases q : pa ty 0 = 0
            · exact ((hX ty hself).1 q).mono (fun _ w => Or.inl w)
            · exact ((hX ty hself).2 q).mono (fun _ w => Or.inr ⟨_, by rw [List.take_of_length_le (by rw [eH3]; exact h100), eH3]; exact harg q, w⟩)
          refine wp_call (tX3_parent (X := xt X l3.1) (by omega) hC3.2.1 hC3.1 hW y0 hy3 (by rw [ey3]; exact hty) (by rw [ey3]; exact hz) (by omega) (by rw [ey3]; exact hXp) (hl3.l hC3)) (fun v u4 ⟨y', v1, v2, v3, v4, v5, v6, v7⟩ => ?_)
          rw [v1]
          rw [ey3] at v4
          have hw4 := hw3.st v5 v6 v7 (by decide +kernel) (by decide +kernel) (by decide +kernel)
          have hr4 : hT u4 = hT u3 := v5.2.2.2.1
          have ha2 : htT (pa ty 0) ≤ 200 := by
            by_cases q : pa ty 0 = 0
            · rw [q]; exact Nat.le_trans ht_0 (by omega)
            · exact hC3.ht (by rw [eH3]; exact h100) (by rw [eH3]; exact harg q)
          have hsub : ∀ z ∈ upT W (paT W ty), z ∈ upT W ty := fun z hz' => by
            rw [hup, if_neg hz]; exact List.mem_cons_of_mem _ hz'
          refine ih f y' u4 l3 (by rw [v4]; omega) (by omega) hw4.2.1 (by rw [eH3]; exact h100) (by rw [eH3]; exact hi1) v2 v3 (by rw [v4]; exact hpk.1) (by rw [v4]; exact ht_par hW hty hz ha2) (by rw [v4]; exact fun z hz' => hTF z (hsub z hz')) (by rw [v4]; exact fun z hz' => hX z (hsub z hz')) (by rw [v4]; exact fun z hz' => ExC.alm hw3.1.1 (hal z (hsub z hz'))) (by omega) (hw4.lm hl) (fun u5 l5 r1 r2 => k u5 l5 (hw4.seq r1 (fun _ _ _ => trivial)) (fun q z hz' => ?_))
          rw [hup, if_neg hz] at hz'
          rcases List.mem_cons.mp hz' with w | w
          · rw [w]
            have sb := r1.1.fs
            exact ⟨sb.2.2.1 _ _ _ own.1, fun j hj => sb.2.2.2 _ _ (own.2.1 j hj), fun q' => sb.1 _ (own.2.2 q')⟩
          · have := r2 q
            rw [v4] at this
            exact this z w
      rw [wp_jn]
      refine wp_eq (by have := headNT (d := d) (by omega) hs1 y0 hy1 (by rw [ey1]; exact nw1) (by rw [ey1]; omega); rw [ey1] at this; exact this) ?_
      refine wp_ite (fun hz => ?_) (fun hz => ?_)
      · have hz' : wh ty = 0 := by omega
        have e0 : pa ty 0 = 0 := hlc.mpr (by rw [hz']; exact hW.1)
        exact fin u1 l1 hw1 rfl ((fMQ hC1.2.2.1.1.2.2.1 (hC1.2.2.1.1.h0 hs1) (fun q hq => (hC1.2.2.2.2.2.2.2.1.2 q hq).2.2.2.1) (List.mem_of_getElem? hi1)).mpr (Or.inl ⟨hz', e0⟩))
      · refine wp_eq (by have := headNT (d := d) (by omega) hs1 y0 hy1 (by rw [ey1]; exact nw1) (by rw [ey1]; omega); rw [ey1] at this; exact this) ?_
        obtain ⟨b, b1, b2, b3⟩ := rX3_arg (d := d) (by omega) hs1 y0 hy1 (by rw [ey1]; exact h8) (by rw [ey1]; omega)
        rw [ey1] at b3
        refine wp_eq b1 ?_
        refine wp_call (tX3_mode (X := X) (by omega) hW hK hC1 hi1 (by omega) (by omega) (by omega) (by omega) (by rw [b3]; exact hTs.1) (by rw [b3]; exact ExC.alm hw1.1.1 (hal ty hself)) (by rw [b3]; exact harg)) (fun _ u2 ⟨l2, t1, t2, t3, t4⟩ => ?_)
        rw [b3] at t4
        exact fin u2 l2 (hw1.seq t1 (fun _ _ _ => trivial)) t2 t4
    rw [bX3_hasType_L2, if_neg (by omega), wp_jn]
    refine wp_eq a1 ?_
    refine wp_ite (fun ha => ?_) (fun ha => ?_)
    · have e0 : pa ty 0 = 0 := by rw [← a3, show a = 0 by omega]; rfl
      exact mid u l (TwR.rf hC trivial) (fun _ q => absurd e0 q)
    · refine wp_eq a1 ?_
      have hp0 : pa ty 0 ≠ 0 := by
        have := trT_pos hs (x := a) (by omega) (by omega)
        omega
      obtain ⟨r1, r2⟩ := (type_part hty).2 hp0
      have hht' := ht_c r2
      have hfa : fH S (pa ty 0) := hTs.2.2 hp0
      refine wp_call (tX3_terms (X := X) (Kl := Kl) hS.2.1.1 (htT (pa ty 0) + 1) (pa ty 0) (Nat.lt_succ_self _) d u a l (by omega) (by omega) hC (by omega) (by omega) a3 r1.1 r1.2.2.2 (fun s q1 q2 _ => hS.1.2.2.1 _ hfa s q1 q2) (by omega)) (fun _ u1 ⟨l1, t1, t2, t3, t4, t5, t6⟩ => ?_)
      exact mid u1 l1 t1 (fun q _ => t4 q _ (sub_rf _) r1.2.1 r1.2.2.1)
theorem tX3_hasType {d : Nat} (hd : 901 ≤ d) {ν : Nat → Nat} {c : Nat} {W : Wd} {S : Fs} {X : XFm} {K B : Nat → Prop} {Kl : List Nat} {u : Sg} {l : Ls} {i0 t y : Nat} (hE : EnT ν c W S X Kl K B) (hC : CaT ν c W S Kl u l) (hle : l.1.length ≤ 100) (hi0 : l.1[i0]? = some t) (y0 : 0 < y) (hy : y ≤ nT u) (hty : clty W (NT ν c) (trT ν u y)) (hht : htT (trT ν u y) ≤ 700) (hTF : tyF W S t (trT ν u y)) (hX : ∀ z ∈ upT W (trT ν u y), (pa z 0 = 0 → paX W X.1 z) ∧ (pa z 0 ≠ 0 → paX W (X.2 (pa z 0)) z)) (hal : ∀ z ∈ upT W (trT ν u y), (t, wh z, pa z 0) ∈ ALM W Kl l.1) (hr : hT u ≤ 26000) (hl : LimTH ν u S X l.1) :
    wp (runT d 73 [(i0 : Int), (y : Int)] u) (fun _ u' => ∃ l1, TwR ν c W S X Kl u l True u' l1 ∧ (l1.1.length ≤ 100 → tyF W (FsQ l1) t (trT ν u y))) := by
  obtain ⟨d, rfl⟩ : ∃ d', d = d' + 1 := ⟨d - 1, by omega⟩
  rw [runT_eq (by omega)]
  show wp (bX3_hasType (runT d) i0 y u) _
  unfold bX3_hasType
  have h20 : wnM W ≤ 20 := hC.1.2.2.2.1.2.1.2
  have hwh : wh (trT ν u y) < wnM W := (hty.1.lc.2.2.1 hty.2.1).1
  refine hasTypeT_L2 (by omega) hE 21 KF y u l (by omega) (Nat.lt_of_le_of_lt (by omega : _ ≤ 300000) KF_300) hC hle hi0 y0 hy hty hht hTF hX hal hr hl (fun u2 l2 q1 q2 => ?_)
  rw [wp_some]
  exact ⟨⟨l2, q1, q2⟩, l2, q1, q2⟩
