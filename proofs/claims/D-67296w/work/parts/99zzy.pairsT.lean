/-- of two terms at hand that are alike one goes under the other -/
def AkQ (l : Ls) (i j : Nat) : Prop := ∀ s t, l.1[i]? = some s → l.1[j]? = some t → alkS (FsQ l) s t → eqL l.1 l.2.1 s t
theorem alkQ_S {S : Fs} {l : Ls} (h : ∀ s t, eqL l.1 l.2.1 s t → fE S s t) {s t : Nat} (q : alkS (FsQ l) s t) : alkS S s t :=
  q.imp (fun ⟨a, b, c, d, e⟩ => ⟨a, b, c, d, fun i hi => (e i hi).imp id (h _ _)⟩) (fun ⟨a, b, c, d, e⟩ => ⟨a, b, c, d, e.imp id (h _ _)⟩)
theorem closing_L56 {d : Nat} (hd : 8 ≤ d) {ν : Nat → Nat} {c : Nat} {W : Wd} {S : Fs} {X : XFm} {K B : Nat → Prop} {Kl : List Nat} {u0 : Sg} {l0 : Ls} {C0 : Prop} {i : Nat} {Q : Int → Sg → Prop} (hS : Clo W K B S) : ∀ (m j f : Nat) (u1 : Sg) (l1 : Ls), j + m = i → m < f → i < l1.1.length → TwR ν c W S X Kl u0 l0 (C0 ∧ ∀ j', j' < j → AkQ l0 i j') u1 l1 → l1.1 = l0.1 → ∀ xx : Int → Sg → Option (Int × Sg), (∀ (u2 : Sg) (l2 : Ls), TwR ν c W S X Kl u0 l0 (C0 ∧ ∀ j', j' < i → AkQ l0 i j') u2 l2 → l2.1 = l0.1 → wp (xx (i : Int) u2) Q) → wp (bX3_closing_L56 (runT d) f (i : Int) (j : Int) u1 xx) Q := by
  obtain ⟨d, rfl⟩ : ∃ d', d = d' + 1 := ⟨d - 1, by omega⟩
  intro m
  induction m with
  | zero =>
    intro j f u1 l1 hj hf hi hw hH xx k
    obtain ⟨f, rfl⟩ : ∃ f', f = f' + 1 := ⟨f - 1, by omega⟩
    rw [bX3_closing_L56, if_neg (by omega)]
    have e : j = i := by omega
    rw [e] at hw
    exact k u1 l1 hw hH
  | succ m ih =>
    intro j f u1 l1 hj hf hi hw hH xx k
    obtain ⟨f, rfl⟩ : ∃ f', f = f' + 1 := ⟨f - 1, by omega⟩
    have hC := hw.2.1
    have hs := hC.1.1
    have hHa := hC.2.2.1.1
    have gi : l1.1[i]? = some l1.1[i] := List.getElem?_eq_getElem hi
    have gj : l1.1[j]? = some l1.1[j] := List.getElem?_eq_getElem (by omega)
    generalize l1.1[i] = s at gi
    generalize l1.1[j] = t at gj
    obtain ⟨x, x1, x2, x3, x4, x5⟩ := hHa.2.2.2.1 i s gi
    obtain ⟨y, y1, y2, y3, y4, y5⟩ := hHa.2.2.2.1 j t gj
    have h55 := hHa.1.2.2.1
    have h1000 := hHa.1.2.1
    have nx : ∀ (u2 : Sg) (l2 : Ls), TwR ν c W S X Kl u0 l0 (C0 ∧ ∀ j', j' < j + 1 → AkQ l0 i j') u2 l2 → l2.1 = l0.1 → wp (ar ((j : Int) + 1) fun v => bX3_closing_L56 (runT (d + 1)) f (i : Int) v u2 xx) Q := fun u2 l2 w2 e2 => by
      rw [wp_ar]
      refine ⟨⟨by omega, by omega⟩, ?_⟩
      rw [show (j : Int) + 1 = ((j + 1 : Nat) : Int) by omega]
      exact ih (j + 1) f u2 l2 (by omega) (by omega) (by rw [e2, ← hH]; exact hi) w2 e2 xx k
    rw [bX3_closing_L56, if_pos (by omega)]
    refine wp_eq (rX3_top (d := d) (by omega) hHa hi) (wp_eq (rX3_top (d := d) (by omega) hHa (by omega : j < l1.1.length)) ?_)
    refine wp_ite (fun he => ?_) (fun he => ?_)
    · refine nx u1 l1 (hw.mono (fun e q => ⟨q.1, fun j' hj' => ?_⟩)) hH
      by_cases hjj : j' = j
      · intro s' t' r1 r2 _
        rw [← e] at r1 r2 ⊢
        exact ⟨i, j, r1, by rw [← hjj]; exact r2, by omega⟩
      · exact q.2 j' (by omega)
    · rw [ld_nat (by omega), x1, ld_nat (by omega), y1]
      obtain ⟨m1, m2⟩ := rX3_isCongruent (d := d + 1) (l := l1) (by omega) hHa hs x2 x3 x4 y2 y3 y4 (hC.2.2.2.2.2.1 s (List.mem_of_getElem? gi)).1 (hC.2.2.2.2.2.1 t (List.mem_of_getElem? gj)).1
      by_cases ha : alkS (FsQ l1) s t
      · refine wp_eq (m1 ha) ?_
        rw [if_neg (by decide)]
        have hsS := (hC.2.2.2.2.2.1 s (List.mem_of_getElem? gi)).2
        have htS := (hC.2.2.2.2.2.1 t (List.mem_of_getElem? gj)).2
        refine wp_call (tX3_join (X := X) (by omega) hS hC gi gj (hS.2.2.1 s t hsS htS (alkQ_S hC.2.2.2.2.2.2.1 ha))) (fun _ u2 ⟨l2, q1, q2, q3, q4⟩ => ?_)
        refine nx u2 l2 (hw.seq q1 (fun e q r => ⟨q.1, fun j' hj' => ?_⟩)) (q2.trans hH)
        by_cases hjj : j' = j
        · intro s' t' r1 r2 _
          rw [e] at gi gj r
          rw [hjj, gj] at r2
          rw [gi] at r1
          rw [← Option.some.inj r1, ← Option.some.inj r2]
          exact r
        · exact q.2 j' (by omega)
      · refine wp_eq (m2 ha) ?_
        rw [if_pos rfl]
        refine nx u1 l1 (hw.mono (fun e q => ⟨q.1, fun j' hj' => ?_⟩)) hH
        by_cases hjj : j' = j
        · intro s' t' r1 r2 r3
          rw [e] at gi gj ha
          rw [hjj, gj] at r2
          rw [gi] at r1
          rw [← Option.some.inj r1, ← Option.some.inj r2] at r3
          exact absurd r3 ha
        · exact q.2 j' (by omega)
theorem closing_L21 {d : Nat} (hd : 8 ≤ d) {ν : Nat → Nat} {c : Nat} {W : Wd} {S : Fs} {X : XFm} {K B : Nat → Prop} {Kl : List Nat} {u0 : Sg} {l0 : Ls} {Q : Int → Sg → Prop} (hS : Clo W K B S) : ∀ (m i f : Nat) (u1 : Sg) (l1 : Ls), i + m = l1.1.length → m < f → TwR ν c W S X Kl u0 l0 (∀ i' j', j' < i' → i' < i → AkQ l0 i' j') u1 l1 → l1.1 = l0.1 → ∀ xx : Sg → Option (Int × Sg), (∀ (u2 : Sg) (l2 : Ls), TwR ν c W S X Kl u0 l0 (∀ i' j', j' < i' → i' < l0.1.length → AkQ l0 i' j') u2 l2 → l2.1 = l0.1 → wp (xx u2) Q) → wp (bX3_closing_L21 (runT d) f (i : Int) u1 xx) Q := by
  intro m
  induction m with
  | zero =>
    intro i f u1 l1 hi hf hw hH xx k
    obtain ⟨f, rfl⟩ : ∃ f', f = f' + 1 := ⟨f - 1, by omega⟩
    have hHa := hw.2.1.2.2.1.1
    rw [bX3_closing_L21, wp_un, hHa.1.1, if_neg (by omega)]
    refine k u1 l1 (hw.mono (fun e q i' j' r1 r2 => q i' j' r1 ?_)) hH
    rw [← hH] at r2
    omega
  | succ m ih =>
    intro i f u1 l1 hi hf hw hH xx k
    obtain ⟨f, rfl⟩ : ∃ f', f = f' + 1 := ⟨f - 1, by omega⟩
    have hC := hw.2.1
    have hs := hC.1.1
    have hHa := hC.2.2.1.1
    have hil : i < l1.1.length := by omega
    have gi : l1.1[i]? = some l1.1[i] := List.getElem?_eq_getElem hil
    generalize l1.1[i] = s at gi
    obtain ⟨x, x1, x2, x3, x4, x5⟩ := hHa.2.2.2.1 i s gi
    have h55 := hHa.1.2.2.1
    have h1000 := hHa.1.2.1
    have hcl := (hC.2.2.2.2.2.1 s (List.mem_of_getElem? gi)).1
    have hn := nodeT hs x2 x3
    rw [x4] at hn
    have nx : ∀ (u2 : Sg) (l2 : Ls), TwR ν c W S X Kl u0 l0 (∀ i' j', j' < i' → i' < i + 1 → AkQ l0 i' j') u2 l2 → l2.1 = l0.1 → wp (ar ((i : Int) + 1) fun v => bX3_closing_L21 (runT d) f v u2 xx) Q := fun u2 l2 w2 e2 => by
      rw [wp_ar]
      refine ⟨⟨by omega, by omega⟩, ?_⟩
      rw [show (i : Int) + 1 = ((i + 1 : Nat) : Int) by omega]
      exact ih (i + 1) f u2 l2 (by rw [e2, ← hH]; omega) (by omega) w2 e2 xx k
    have pairs : wp (bX3_closing_L56 (runT d) KF (i : Int) 0 u1 (fun v5 s4 => ar (v5 + 1) fun v6 => bX3_closing_L21 (runT d) f v6 s4 xx)) Q := by
      refine closing_L56 (C0 := ∀ i' j', j' < i' → i' < i → AkQ l0 i' j') (by omega) hS i 0 KF u1 l1 (by omega) (Nat.lt_of_le_of_lt (by omega : _ ≤ 300000) KF_300) hil (hw.mono (fun _ q => ⟨q, fun j' hj' => by omega⟩)) hH _ (fun u2 l2 w2 e2 => ?_)
      refine nx u2 l2 (w2.mono (fun _ q i' j' r1 r2 => ?_)) e2
      by_cases hii : i' = i
      · rw [hii]; exact q.2 j' (by omega)
      · exact q.1 i' j' r1 (by omega)
    rw [bX3_closing_L21, wp_un, hHa.1.1, if_pos (by omega), wp_jn, ld_nat (by omega), x1, ld_nat (hs.k x3), hn.1]
    refine wp_ite (fun _ => pairs) (fun h4 => ?_)
    refine wp_ite (fun _ => pairs) (fun h5 => ?_)
    refine nx u1 l1 (hw.mono (fun e q i' j' r1 r2 => ?_)) hH
    by_cases hii : i' = i
    · intro s' t' z1 z2 z3
      rw [e] at gi
      rw [hii, gi] at z1
      rw [← Option.some.inj z1] at z3
      exfalso
      rcases z3 with w | w
      · rw [w.1] at h4; exact h4 (by decide)
      · rw [w.1] at h5; exact h5 (by decide)
    · exact q i' j' r1 (by omega)
