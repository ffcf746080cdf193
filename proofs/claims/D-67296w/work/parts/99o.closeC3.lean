theorem alk_S {S : Fs} {H : List Nat} {p : Nat → Nat} {M : List (Nat × Nat × Nat)} {J : List (Nat × Nat)} (h : ∀ s t, eqL H p s t → fE S s t) {s t : Nat} (q : alkS (FsL H p M J) s t) : alkS S s t :=
  q.imp (fun ⟨a, b, c, d, e⟩ => ⟨a, b, c, d, fun i hi => (e i hi).imp id (h _ _)⟩) (fun ⟨a, b, c, d, e⟩ => ⟨a, b, c, d, e.imp id (h _ _)⟩)
def AkP (l : Ls) (i j : Nat) : Prop := ∀ s t, l.1[i]? = some s → l.1[j]? = some t → alkS (FsO l) s t → eqL l.1 l.2.1 s t
theorem close_L257 {d : Nat} (hd : 8 ≤ d) {ν : Nat → Nat} {c : Nat} {W : Wd} {S : Fs} {X : XFm} {K B : Nat → Prop} {Kl : List Nat} {u0 : Sg} {l0 : Ls} {C0 : Prop} {i : Nat} {Q : Int → Sg → Prop} (hS : Clo W K B S) : ∀ (m j f : Nat) (u1 : Sg) (l1 : Ls) (fl : Int), j + m = i → m < f → i < l1.1.length → ClW ν c W S X Kl u0 l0 (C0 ∧ ∀ j', j' < j → AkP l0 i j') fl u1 l1 → ∀ xx : Int → Int → Sg → Option (Int × Sg), (∀ (u2 : Sg) (l2 : Ls) (fl2 : Int), i < l2.1.length → ClW ν c W S X Kl u0 l0 (C0 ∧ ∀ j', j' < i → AkP l0 i j') fl2 u2 l2 → wp (xx fl2 (i : Int) u2) Q) → wp (bX1_close_L257 (runC d) f fl (i : Int) (j : Int) u1 xx) Q := by
  intro m
  induction m with
  | zero =>
    intro j f u1 l1 fl hj hf hi hW xx k
    obtain ⟨f, rfl⟩ : ∃ f', f = f' + 1 := ⟨f - 1, by omega⟩
    rw [bX1_close_L257, if_neg (by omega)]
    exact k u1 l1 fl hi (hW.mono (fun q => ⟨q.1, fun j' hj' => q.2 j' (by omega)⟩))
  | succ m ih =>
    intro j f u1 l1 fl hj hf hi hW xx k
    obtain ⟨f, rfl⟩ : ∃ f', f = f' + 1 := ⟨f - 1, by omega⟩
    have hC := hW.2.1
    have hH : HaC ν u1 l1.1 l1.2.1 := hC.2.2.1.1
    have hs := hC.1.1
    have h100 := hH.1.2.1
    have h101 := hH.1.2.2.1
    obtain ⟨d', rfl⟩ : ∃ d', d = d' + 1 := ⟨d - 1, by omega⟩
    have hji : j < l1.1.length := by omega
    have gi : l1.1[i]? = some l1.1[i] := List.getElem?_eq_getElem hi
    have gj : l1.1[j]? = some l1.1[j] := List.getElem?_eq_getElem hji
    obtain ⟨x, x1, x2, x3, x4, x5⟩ := hH.2.2.2.1 i _ gi
    obtain ⟨y, y1, y2, y3, y4, y5⟩ := hH.2.2.2.1 j _ gj
    have stp : ∀ (u2 : Sg) (l2 : Ls) (fl2 : Int), i < l2.1.length → ClW ν c W S X Kl u0 l0 (C0 ∧ ∀ j', j' < j + 1 → AkP l0 i j') fl2 u2 l2 → wp (ar ((j : Int) + 1) fun v5 => bX1_close_L257 (runC (d' + 1)) f fl2 (i : Int) v5 u2 xx) Q := fun u2 l2 fl2 z1 z2 => by
      rw [wp_ar]
      refine ⟨⟨by omega, by omega⟩, ?_⟩
      rw [show (j : Int) + 1 = ((j + 1 : Nat) : Int) by omega]
      exact ih (j + 1) f u2 l2 fl2 (by omega) (by omega) z1 z2 xx k
    rw [bX1_close_L257, if_pos (by omega)]
    refine wp_eq (rX1_root (d := d') (by omega) hH hi) ?_
    refine wp_eq (rX1_root (d := d') (by omega) hH hji) ?_
    refine wp_ite (fun he => ?_) (fun he => ?_)
    · refine stp u1 l1 fl hi (hW.mono2 (fun e q => ⟨q.1, fun j' hj' => ?_⟩))
      by_cases hjj : j' = j
      · rw [hjj, ← e]
        exact fun s t q1 q2 _ => ⟨i, j, q1, q2, by omega⟩
      · exact q.2 j' (by omega)
    · rw [ld_nat (by omega), x1, ld_nat (by omega), y1]
      obtain ⟨a1, a2⟩ := rX1_alikeTerms (d := d' + 1) (M := l1.2.2.1) (J := l1.2.2.2) (W := W) (by omega) hH hC.h0 hs x2 y2 x3 y3 (by rw [x4]; exact (hC.2.2.2.2.2.1 _ (List.mem_of_getElem? gi)).1) (by rw [y4]; exact (hC.2.2.2.2.2.1 _ (List.mem_of_getElem? gj)).1)
      rw [x4, y4] at a1 a2
      by_cases hal : alkS (FsL l1.1 l1.2.1 l1.2.2.1 l1.2.2.2) l1.1[i] l1.1[j]
      · refine wp_eq (a1 hal) ?_
        rw [if_neg (by decide), ld_nat (by omega), x1, ld_nat (by omega), y1]
        have fi := hC.2.2.2.2.2.1 _ (List.mem_of_getElem? gi)
        have fj := hC.2.2.2.2.2.1 _ (List.mem_of_getElem? gj)
        refine wp_call (tX1_join (X := X) (by omega) hS hC (hW.2.2.2.2.imp And.left id) x3 y3 (by rw [x4]; exact List.mem_of_getElem? gi) (by rw [y4]; exact List.mem_of_getElem? gj) (by rw [x4, y4]; exact hS.2.2.1 _ _ fi.2 fj.2 (alk_S hC.2.2.2.2.2.2.1 hal))) (fun r u2 ⟨l2, z1, z2, z3, z4⟩ => ?_)
        rw [x4, y4] at z1
        rw [wp_un]
        refine stp u2 l2 _ (by rw [z2]; exact hi) (hW.seq (hW.gd.imp And.left (fun q => by rw [z4]; exact q.1)) z1 (fun e q1 q2 => ⟨q1.1, fun j' hj' => ?_⟩))
        by_cases hjj : j' = j
        · rw [hjj]
          subst e
          intro s t r1 r2 _
          rw [gi] at r1
          rw [gj] at r2
          rw [← Option.some.inj r1, ← Option.some.inj r2]
          exact q2
        · exact q1.2 j' (by omega)
      · refine wp_eq (a2 hal) ?_
        rw [if_pos rfl]
        refine stp u1 l1 fl hi (hW.mono2 (fun e q => ⟨q.1, fun j' hj' => ?_⟩))
        by_cases hjj : j' = j
        · rw [hjj]
          subst e
          intro s t r1 r2 r3
          rw [gi] at r1
          rw [gj] at r2
          rw [← Option.some.inj r1, ← Option.some.inj r2] at r3
          exact absurd r3 hal
        · exact q.2 j' (by omega)
theorem close_L247 {d : Nat} (hd : 8 ≤ d) {ν : Nat → Nat} {c : Nat} {W : Wd} {S : Fs} {X : XFm} {K B : Nat → Prop} {Kl : List Nat} {u0 : Sg} {l0 : Ls} {C0 : Prop} {Q : Int → Sg → Prop} (hS : Clo W K B S) : ∀ (m i f : Nat) (u1 : Sg) (l1 : Ls) (fl : Int), 100 < i + m → i ≤ 100 → m < f → ClW ν c W S X Kl u0 l0 (C0 ∧ ∀ i' j', j' < i' → i' < i → AkP l0 i' j') fl u1 l1 → ∀ xx : Int → Sg → Option (Int × Sg), (∀ (u2 : Sg) (l2 : Ls) (fl2 : Int), ClW ν c W S X Kl u0 l0 (C0 ∧ ∀ i j, j < i → AkP l0 i j) fl2 u2 l2 → wp (xx fl2 u2) Q) → wp (bX1_close_L247 (runC d) f fl (i : Int) u1 xx) Q := by
  intro m
  induction m with
  | zero => intro i f u1 l1 fl h1 h2; omega
  | succ m ih =>
    intro i f u1 l1 fl h1 h2 hf hW xx k
    obtain ⟨f, rfl⟩ : ∃ f', f = f' + 1 := ⟨f - 1, by omega⟩
    have hC := hW.2.1
    have hH : HaC ν u1 l1.1 l1.2.1 := hC.2.2.1.1
    have h43 := hH.1.1
    have h100 := hH.1.2.1
    rw [bX1_close_L247, wp_un, h43]
    refine wp_ite (fun hlt => ?_) (fun hge => ?_)
    · refine close_L257 (C0 := C0 ∧ ∀ i' j', j' < i' → i' < i → AkP l0 i' j') hd hS i 0 KF u1 l1 fl (by omega) (Nat.lt_of_le_of_lt (by omega : _ ≤ 65536) KF_gt) (by omega) (hW.mono (fun q => ⟨q, fun j' hj' => by omega⟩)) _ (fun u2 l2 fl2 z1 z2 => ?_)
      rw [wp_ar]
      refine ⟨⟨by omega, by omega⟩, ?_⟩
      rw [show (i : Int) + 1 = ((i + 1 : Nat) : Int) by omega]
      refine ih (i + 1) f u2 l2 fl2 (by omega) (by omega) (by omega) (z2.mono (fun q => ⟨q.1.1, fun i' j' r1 r2 => ?_⟩)) xx k
      by_cases hii : i' = i
      · rw [hii]; exact q.2 j' (by omega)
      · exact q.1.2 i' j' r1 (by omega)
    · refine k u1 l1 fl (hW.mono2 (fun e q => ⟨q.1, fun i' j' r1 => ?_⟩))
      by_cases hii : i' < i
      · exact q.2 i' j' r1 hii
      · intro s t r2 _ _
        rw [← e] at r2
        have := (List.getElem?_eq_some_iff.mp r2).1
        omega
