/-! terms come to hand in the model -/
theorem terms_L208 {call : Nat → List Int → Sg → Option (Int × Sg)} : ∀ (n : Nat) (a1 a3 : Int) (u : Sg) (xx : Sg → Option (Int × Sg)), bX3_terms_L208 call n a1 a3 u xx = bX3_terms_L43 call n a1 a3 u (fun _ s => xx s)
  | 0, _, _, _, _ => rfl
  | n + 1, a1, a3, u, xx => by
    rw [bX3_terms_L208, bX3_terms_L43]
    simp only [terms_L208 n]
theorem tkT_tm {k : Nat} (h : k = 1 ∨ k = 2 ∨ k = 3 ∨ k = 4 ∨ k = 5 ∨ (8 ≤ k ∧ k ≤ 18 ∧ k ≠ 15)) : (tkT k = 2 ∨ tkT k = 4 ∨ tkT k = 5) ↔ (k = 1 ∨ k = 3 ∨ k = 4 ∨ k = 5) := by
  unfold tkT
  constructor
  · intro q
    split at q <;> (try split at q) <;> (try split at q) <;> omega
  · rintro (q | q | q | q) <;> subst q <;> decide
theorem rX3_isTerm {d : Nat} {u : Sg} {v : Int} : runT (d + 3) 65 [v] u = some (if v = 2 ∨ v = 4 ∨ v = 5 then 1 else 0, u) := by
  rw [runT_eq (by omega)]
  show bX3_isTerm (runT (d + 2)) v u = _
  unfold bX3_isTerm
  rw [jn_eq]
  by_cases h1 : v = 2
  · rw [if_pos h1, if_pos (Or.inl h1)]
  · rw [if_neg h1]
    by_cases h2 : v = 4
    · rw [if_pos h2, if_pos (Or.inr (Or.inl h2))]
    · rw [if_neg h2]
      by_cases h3 : v = 5
      · rw [if_pos h3, if_pos (Or.inr (Or.inr h3))]
      · rw [if_neg h3, if_neg (by omega)]
/-- what `terms` of a form leaves behind -/
def TmR (ν : Nat → Nat) (c : Nat) (W : Wd) (S : Fs) (X : XFm) (Kl : List Nat) (t : Nat) (u : Sg) (l : Ls) (u' : Sg) : Prop := ∃ l1, TwR ν c W S X Kl u l True u' l1 ∧ Gr FT DX3_terms u u' ∧ l1.2.2 = l.2.2 ∧ (l1.1.length ≤ 100 → inHd t l1.1) ∧ (100 < l.1.length → l1 = l) ∧ (l.1.length ≤ 100 → l1.1.length ≤ 101 + htT t)
def TmST (ν : Nat → Nat) (c : Nat) (W : Wd) (S : Fs) (X : XFm) (Kl : List Nat) (t : Nat) : Prop := ∀ (d : Nat) (u : Sg) (x : Nat) (l : Ls), 12 + htT t ≤ d → htT t ≤ 800 → CaT ν c W S Kl u l → 0 < x → x ≤ nT u → trT ν u x = t → frW W (NT ν c) t → lvL t 0 → (∀ s, subT s t → isTm s → loT s = 0 → fH S s) → nT u < 131072 → wp (runT d 64 [(x : Int)] u) (fun _ u' => TmR ν c W S X Kl t u l u')
theorem terms_L43 {d : Nat} {ν : Nat → Nat} {c : Nat} {W : Wd} {S : Fs} {X : XFm} {Kl : List Nat} {u0 : Sg} {l0 : Ls} {x t : Nat} {Q : Int → Sg → Prop} (ihc : ∀ c1 ∈ fms t, TmST ν c W S X Kl c1) (hd : 11 + htT t ≤ d) (hht : htT t ≤ 800) (hs0 : ST ν c u0) (x0 : 0 < x) (hx : x ≤ nT u0) (ext : trT ν u0 x = t) (hfr : frW W (NT ν c) t) (hlv : lvL t 0) (hS : ∀ s, subT s t → isTm s → loT s = 0 → fH S s) (hnn : nT u0 < 131072) (hlen : (ps t).length ≤ 60000) : ∀ (m j f : Nat) (u1 : Sg) (l1 : Ls), j + m = (ps t).length + nw (kd t) → m < f → TwR ν c W S X Kl u0 l0 True u1 l1 → Gr FT DX3_terms u0 u1 → l1.2.2 = l0.2.2 → (l1.1.length ≤ 100 → ∀ i c1, i + nw (kd t) < j → (kd t ≠ 8 ∨ i = 0) → (ps t)[i]? = some c1 → c1 ≠ 0 → inHd c1 l1.1) → (100 < l0.1.length → l1 = l0) → (l0.1.length ≤ 100 → l1.1.length ≤ 100 + htT t) → ∀ xx : Int → Sg → Option (Int × Sg), (∀ (u2 : Sg) (l2 : Ls), TwR ν c W S X Kl u0 l0 True u2 l2 → Gr FT DX3_terms u0 u2 → l2.2.2 = l0.2.2 → (l2.1.length ≤ 100 → ∀ c1 ∈ fms t, inHd c1 l2.1) → (100 < l0.1.length → l2 = l0) → (l0.1.length ≤ 100 → l2.1.length ≤ 100 + htT t) → wp (xx (x : Int) u2) Q) → wp (bX3_terms_L43 (runT d) f (x : Int) (j : Int) u1 xx) Q := by
  intro m
  induction m with
  | zero =>
    intro j f u1 l1 hj hf hw hg hl2 hin h1 h2 xx k
    obtain ⟨f, rfl⟩ : ∃ f', f = f' + 1 := ⟨f - 1, by omega⟩
    have hs := hw.2.1.1.1
    have e := hg.eqH (by decide +kernel)
    have hx1 : x ≤ nT u1 := by rw [e.1.n]; exact hx
    have et : trT ν u1 x = t := by rw [e.1.tr]; exact ext
    have hn := nodeT hs x0 hx1
    rw [et] at hn
    have hl3 : x < gL u1 3 := by rw [hs.1.1.2.2.2.1.2.1]; exact hs.k hx1
    rw [bX3_terms_L43, ld_nat hl3, hn.2.1, if_neg (by omega)]
    refine k u1 l1 hw hg hl2 (fun q c1 hc => ?_) h1 h2
    obtain ⟨i, i1, i2, i3⟩ := fms_at.mp hc
    have hi := (List.getElem?_eq_some_iff.mp i2).1
    exact hin q i c1 (by omega) i1 i2 i3
  | succ m ih =>
    intro j f u1 l1 hj hf hw hg hl2 hin h1 h2 xx k
    obtain ⟨f, rfl⟩ : ∃ f', f = f' + 1 := ⟨f - 1, by omega⟩
    have hC := hw.2.1
    have hs := hC.1.1
    have e := hg.eqH (by decide +kernel)
    have hx1 : x ≤ nT u1 := by rw [e.1.n]; exact hx
    have et : trT ν u1 x = t := by rw [e.1.tr]; exact ext
    have hn := nodeT hs x0 hx1
    rw [et] at hn
    have hl3 : x < gL u1 3 := by rw [hs.1.1.2.2.2.1.2.1]; exact hs.k hx1
    have hnw : nw (kd t) ≤ 1 := by unfold nw; split <;> omega
    have hjl : j < (ps t).length + nw (kd t) := by omega
    have hv := hn.2.2.2.2.2 j hjl
    rw [bX3_terms_L43, ld_nat hl3, hn.2.1, if_pos (by omega)]
    refine wp_eq (isPartT (d := d) (by omega) hs x0 hx1 (by rw [et]; exact hfr.1) (by rw [et]; exact hjl)) ?_
    rw [et]
    have part : ∀ (i c1 : Nat), i + nw (kd t) = j → (kd t ≠ 8 ∨ i = 0) → (ps t)[i]? = some c1 → (dt u1 x j).toNat < x ∧ trT ν u1 (dt u1 x j).toNat = c1 := fun i c1 h1' h2' h3' => by
      have := (partT hs x0 hx1 (by rw [et]; exact h3')).2.1 (by rw [et]; exact h2')
      rw [et, h1'] at this
      exact this
    by_cases hp : isPt (kd t) j (dt u1 x j)
    · rw [if_pos hp, if_neg (by decide)]
      obtain ⟨p1, p2, p3, p4⟩ := hp
      refine wp_eq (getT (d := d) (by omega) hs x0 hx1 (by rw [et]; exact hjl)) ?_
      have h8 : kd t ≠ 8 ∨ j - nw (kd t) = 0 := by
        by_cases q : kd t = 8
        · have := p3 q
          have : nw (kd t) = 1 := by rw [q]; decide
          exact Or.inr (by omega)
        · exact Or.inl q
      have hil : j - nw (kd t) < (ps t).length := by omega
      have gi : (ps t)[j - nw (kd t)]? = some (ps t)[j - nw (kd t)] := List.getElem?_eq_getElem hil
      generalize (ps t)[j - nw (kd t)] = c1 at gi
      obtain ⟨q1, q2⟩ := part (j - nw (kd t)) c1 (by omega) h8 gi
      have ev : dt u1 x j = (((dt u1 x j).toNat : Nat) : Int) := by omega
      generalize hy : (dt u1 x j).toNat = y at q1 q2 ev
      have y0 : 0 < y := by omega
      have c0 : c1 ≠ 0 := by
        have := trT_pos hs y0 (by omega)
        omega
      have hfm : c1 ∈ fms t := fms_at.mpr ⟨_, h8, gi, c0⟩
      have hc := ht_c hfm
      rw [ev]
      refine wp_call (ihc c1 hfm d u1 y l1 (by omega) (by omega) hC y0 (by omega) q2 (hfr.part hfm) (fun z hz => hlv z (lv_part hfr.1.n hfm z hz)) (fun s r1 r2 r3 => hS s (sub_c hfm r1) r2 r3) (by rw [e.1.n]; exact hnn)) (fun _ u2 ⟨l2, t1, t2, t3, t4, t5, t6⟩ => ?_)
      rw [wp_ar]
      refine ⟨⟨by omega, by omega⟩, ?_⟩
      rw [show (j : Int) + 1 = ((j + 1 : Nat) : Int) by omega]
      refine ih (j + 1) f u2 l2 (by omega) (by omega) (hw.seq t1 (fun _ _ _ => trivial)) (hg.tr t2) (t3.trans hl2) (fun hle i c2 r1 r2 r3 r4 => ?_) (fun q => ?_) (fun q => ?_) xx k
      · by_cases hij : i + nw (kd t) = j
        · have e2 : i = j - nw (kd t) := by omega
          rw [e2, gi] at r3
          rw [← Option.some.inj r3]
          exact t4 hle
        · have := t1.1.len
          intro s z1 z2 z3
          exact t1.1.H (hin (by omega) i c2 (by omega) r2 r3 r4 s z1 z2 z3)
      · have e1 := h1 q
        rw [e1] at t5
        rw [t5 q]
      · by_cases q1 : 100 < l1.1.length
        · rw [t5 q1]; exact h2 q
        · have := t6 (by omega)
          omega
    · rw [if_neg hp, if_pos rfl, wp_ar]
      refine ⟨⟨by omega, by omega⟩, ?_⟩
      rw [show (j : Int) + 1 = ((j + 1 : Nat) : Int) by omega]
      refine ih (j + 1) f u1 l1 (by omega) (by omega) hw hg hl2 (fun hle i c1 r1 r2 r3 r4 => ?_) h1 h2 xx k
      by_cases hij : i + nw (kd t) = j
      · obtain ⟨q1, q2⟩ := part i c1 hij r2 r3
        refine absurd ⟨?_, by omega, fun q8 => ?_, ?_⟩ hp
        · have hi := (List.getElem?_eq_some_iff.mp r3).1
          rcases hfr.1.n.2 with q | q | q | q | q | q | q | q | q | q | q | q | q | q <;> first | omega | (have := q.2; simp_all)
        · have : nw (kd t) = 1 := by rw [q8]; decide
          have := r2.resolve_left (fun z => z q8)
          omega
        · rcases Int.lt_or_le 0 (dt u1 x j) with z | z
          · exact z
          · have e0 : (dt u1 x j).toNat = 0 := by omega
            rw [e0] at q2
            exact absurd q2.symm r4
      · exact hin hle i c1 (by omega) r2 r3 r4
