theorem KF_gt : 65536 < KF := by decide
/-- the answer is a node with the tree t, the row is cut at a -/
def RsA (ν : Nat → Nat) (c D : Nat) (u : Sg) (a : Nat) (t : Nat) (X : Nat → Prop) : Int → Sg → Prop := fun r u' => ∃ x : Nat, r = (x : Int) ∧ 0 < x ∧ x < nC u' ∧ trC ν u' x = t ∧ SC ν c u' ∧ Ext (stC ν u) (stC ν u') ∧ (∀ t, ndC ν u' t → ndC ν u t ∨ X t) ∧ rC u' = a ∧ (∀ i, i < a → gN u' 11 i = gN u 11 i) ∧ WF FC u' ∧ Gr FC D u u'
/-- the row from a on holds nodes with the trees L -/
def RowIs (ν : Nat → Nat) (u : Sg) (a : Nat) (L : List Nat) : Prop := rC u = a + L.length ∧ ∀ i t, L[i]? = some t → ∃ y : Nat, gN u 11 (a + i) = (y : Int) ∧ 0 < y ∧ y < nC u ∧ trC ν u y = t
theorem and_L10 {d : Nat} (hd : 3 ≤ d) {ν : Nat → Nat} {c : Nat} {u0 : Sg} {a : Nat} {L : List Nat} {Q : Int → Sg → Prop} (hs : SC ν c u0) (hR : RowIs ν u0 a L) (hyn : YN ν u0) (hn : nC u0 ≤ 90000) (hpos : ∀ f ∈ L, kd f = 17 → ∀ t ∈ ps f, 0 < t) (hr : rC u0 + (L.flatMap flt).length ≤ 30000) :
    ∀ (m j f : Nat) (fl : Int) (u : Sg), j + m = L.length → m < f → Psh ν c u0 u ((L.take j).flatMap flt) → (fl = 1 ∧ noT ∈ L.take j ∨ fl = 0 ∧ noT ∉ L.take j) → ∀ x0, (∀ fl u', Psh ν c u0 u' (L.flatMap flt) → (fl = 1 ∧ noT ∈ L ∨ fl = 0 ∧ noT ∉ L) → wp (x0 (a : Int) (rC u0 : Int) fl u') Q) → wp (bX2_and_2_L10 (runC d) f (a : Int) (rC u0 : Int) fl ((a + j : Nat) : Int) u x0) Q := by
  intro m
  induction m with
  | zero =>
    intro j f fl u hj hf hp hfl xx k
    obtain ⟨f, rfl⟩ : ∃ f', f = f' + 1 := ⟨f - 1, by omega⟩
    have := hR.1
    rw [bX2_and_2_L10, if_neg (by omega)]
    rw [List.take_of_length_le (by omega)] at hp hfl
    exact k fl u hp hfl
  | succ m ih =>
    intro j f fl u hj hf hp hfl xx k
    obtain ⟨f, rfl⟩ : ∃ f', f = f' + 1 := ⟨f - 1, by omega⟩
    have hrc := hR.1
    have hjl : j < L.length := by omega
    have hget : L[j]? = some L[j] := List.getElem?_eq_getElem hjl
    obtain ⟨y, ey, y0, hy, ty⟩ := hR.2 j _ hget
    have htk : L.take (j + 1) = L.take j ++ [L[j]] := by rw [List.take_add_one, hget]; rfl
    have hfm : (L.take (j + 1)).flatMap flt = (L.take j).flatMap flt ++ flt L[j] := by rw [htk, List.flatMap_append]; simp
    have hlen : ((L.take j).flatMap flt).length + (flt L[j]).length ≤ (L.flatMap flt).length := by
      have e : L.flatMap flt = (L.take (j + 1)).flatMap flt ++ (L.drop (j + 1)).flatMap flt := by rw [← List.flatMap_append, List.take_append_drop]
      rw [e, hfm, List.length_append, List.length_append]; omega
    obtain ⟨a1', a2', a3', a4', a5', a6', a7'⟩ := id hp
    obtain ⟨yy, nn, g13, g14, ⟨yy0, hyy, tyy⟩, nn0, hnn, tnn⟩ := hyn
    have g13' : gI u 13 = (yy : Int) := by rw [a7'.I 13 (by decide +kernel)]; exact g13
    have g14' : gI u 14 = (nn : Int) := by rw [a7'.I 14 (by decide +kernel)]; exact g14
    obtain ⟨h1, -⟩ := a1'.1
    obtain ⟨⟨q1, q2, q3⟩, ⟨q4, q5⟩, ⟨q6, q7⟩, ⟨l1, l2, l3, l4, l5, l6⟩, l8, l11, l0, l7⟩ := h1
    have hyu : y < nC u := by rw [a2'.n]; exact hy
    have hnd := nodeC a1' y0 hyu
    rw [a2'.tr, ty] at hnd
    have ihn := fun (fl' : Int) (u' : Sg) (hp' : Psh ν c u0 u' ((L.take j).flatMap flt ++ flt L[j])) (hfl' : fl' = 1 ∧ noT ∈ L.take (j + 1) ∨ fl' = 0 ∧ noT ∉ L.take (j + 1)) => ih (j + 1) f fl' u' (by omega) (by omega) (by rw [hfm]; exact hp') hfl' xx k
    have eidx : ((a + j : Nat) : Int) + 1 = ((a + (j + 1) : Nat) : Int) := by omega
    have hflag : L[j] ≠ noT → (fl = 1 ∧ noT ∈ L.take (j + 1) ∨ fl = 0 ∧ noT ∉ L.take (j + 1)) := fun hne => by
      rw [htk]
      rcases hfl with ⟨e, q⟩ | ⟨e, q⟩
      · exact Or.inl ⟨e, List.mem_append_left _ q⟩
      · refine Or.inr ⟨e, fun h => ?_⟩
        rcases List.mem_append.mp h with h | h
        · exact q h
        · simp at h; exact hne h.symm
    rw [bX2_and_2_L10, if_pos (by omega), ld_nat (by omega), un_eq, a4' _ (by omega), ey, g14']
    by_cases hno : L[j] = noT
    · have : y = nn := trC_inj hs hy hnn (by rw [ty, tnn, hno])
      rw [if_pos (by omega), ar_pos ⟨by omega, by omega⟩, eidx]
      refine ihn 1 u ?_ (Or.inl ⟨rfl, ?_⟩)
      · have : flt L[j] = [] := by unfold flt; rw [if_pos hno]
        rw [this, List.append_nil]; exact hp
      · rw [htk, hno]; simp
    · have hne : y ≠ nn := fun h => hno (by rw [← ty, h, tnn])
      rw [if_neg (by omega), ld_nat hnd.2.2.2.2.1, hnd.1]
      by_cases h17 : kd L[j] = 17
      · rw [if_pos (by omega), show (0 : Int) = ((0 : Nat) : Int) from rfl]
        have hfl2 : flt L[j] = ps L[j] := by unfold flt; rw [if_neg hno, if_pos h17]
        rw [hfl2] at hlen ihn
        refine and_L54 hd (u0 := u) (ν := ν) (c := c) y0 hyu (by rw [a2'.n]; exact hn) (by rw [a2'.tr, ty]; omega) (by rw [a2'.tr, ty]; exact hpos _ (List.mem_of_getElem? hget) h17) (ps L[j]).length 0 KF u (by rw [a2'.tr, ty]; omega) (Nat.lt_of_le_of_lt (by omega : _ ≤ 65536) KF_gt) (by rw [List.take_zero]; exact Psh.nil a1' a6') (by rw [a2'.tr, ty]; omega) _ (fun u' hp' => ?_)
        rw [wp_ar]
        refine ⟨⟨by omega, by omega⟩, ?_⟩
        rw [eidx]
        rw [a2'.tr, ty] at hp'
        exact ihn fl u' (hp.app hp') (hflag hno)
      · rw [if_neg (by omega), un_eq, g13']
        by_cases hyes : L[j] = yesT
        · have : y = yy := trC_inj hs hy hyy (by rw [ty, tyy, hyes])
          rw [if_pos (by omega), ar_pos ⟨by omega, by omega⟩, eidx]
          refine ihn fl u ?_ (hflag hno)
          have : flt L[j] = [] := by unfold flt; rw [if_neg hno, if_neg h17, if_pos hyes]
          rw [this, List.append_nil]; exact hp
        · have hne2 : y ≠ yy := fun h => hyes (by rw [← ty, h, tyy])
          have hfl2 : flt L[j] = [L[j]] := by unfold flt; rw [if_neg hno, if_neg h17, if_neg hyes]
          rw [hfl2] at hlen ihn
          simp only [List.length_singleton] at hlen
          rw [if_neg (by omega)]
          refine wp_call (Psh.one (t := L[j]) hd a6' a1' y0 hyu ((a2'.tr y).trans ty) (by omega) (by rw [a2'.n]; exact hn)) (fun r u' hp' => ?_)
          rw [wp_ar]
          refine ⟨⟨by omega, by omega⟩, ?_⟩
          rw [eidx]
          exact ihn fl u' (hp.app hp') (hflag hno)
/-- what was pushed moves down -/
theorem and_L119 {d : Nat} {u1 : Sg} {a e n : Nat} {a3 : Int} {Q : Int → Sg → Prop} (hae : a ≤ e) (hle : e + n ≤ gL u1 11) (hl : gL u1 11 ≤ 65536) (hw : WF FC u1) :
    ∀ (m i f : Nat) (u : Sg), i + m = n → m < f → EqS u1 u → (∀ k, gI u k = gI u1 k) → (∀ k, gL u k = gL u1 k) → (∀ j, gN u 11 j = if a ≤ j ∧ j < a + i then gN u1 11 (e + (j - a)) else gN u1 11 j) → (∀ k, k ≠ 11 → u.2.1 k = u1.2.1 k) → WF FC u → ∀ x0, (∀ u', EqS u1 u' → (∀ k, gI u' k = gI u1 k) → (∀ k, gL u' k = gL u1 k) → (∀ j, gN u' 11 j = if a ≤ j ∧ j < a + n then gN u1 11 (e + (j - a)) else gN u1 11 j) → (∀ k, k ≠ 11 → u'.2.1 k = u1.2.1 k) → WF FC u' → wp (x0 (a : Int) a3 (n : Int) u') Q) → wp (bX2_and_2_L119 (runC d) f (a : Int) (e : Int) a3 (n : Int) (i : Int) u x0) Q := by
  intro m
  induction m with
  | zero =>
    intro i f u hi hf h1 h2 h3 h4 h5 h6 xx k
    obtain ⟨f, rfl⟩ : ∃ f', f = f' + 1 := ⟨f - 1, by omega⟩
    rw [bX2_and_2_L119, if_neg (by omega)]
    have : i = n := by omega
    subst this
    exact k u h1 h2 h3 h4 h5 h6
  | succ m ih =>
    intro i f u hi hf h1 h2 h3 h4 h5 h6 xx k
    obtain ⟨f, rfl⟩ : ∃ f', f = f' + 1 := ⟨f - 1, by omega⟩
    have h11 := h3 11
    rw [bX2_and_2_L119, if_pos (by omega), ar_pos ⟨by omega, by omega⟩, ar_pos ⟨by omega, by omega⟩, show (e : Int) + (i : Int) = ((e + i : Nat) : Int) by omega, ld_nat (by omega), show (a : Int) + (i : Int) = ((a + i : Nat) : Int) by omega, stA_pos ⟨by omega, by omega⟩, ar_pos ⟨by omega, by omega⟩, show (i : Int) + 1 = ((i + 1 : Nat) : Int) by omega]
    have hv : gN u 11 (e + i) = gN u1 11 (e + i) := by rw [h4, if_neg (by omega)]
    have hr : inR (gN u 11 (e + i)) := h6.2.2.2.1 11 (e + i) (by decide)
    refine ih (i + 1) f _ (by omega) (by omega) ⟨fun k hk => ?_, fun k hk => by rw [gI_sA]; exact h1.2 k hk⟩ (fun k => by rw [gI_sA]; exact h2 k) (fun k => by rw [gL_sA]; exact h3 k) (fun j => ?_) (fun k hk => ?_) (wfA h6 rfl hr) xx k
    · have : k ≠ 11 := by omega
      show va_up u.2.1 11 _ k = _
      rw [va_up, if_neg this]; exact h1.1 k hk
    · rw [gN_sAn]
      by_cases hj : j = a + i
      · rw [if_pos ⟨rfl, hj⟩, if_pos ⟨by omega, by omega⟩, hv, hj]; congr 1; omega
      · rw [if_neg (fun q => hj q.2), h4]
        by_cases hj2 : a ≤ j ∧ j < a + i
        · rw [if_pos hj2, if_pos ⟨hj2.1, by omega⟩]
        · rw [if_neg hj2, if_neg (fun q => hj2 ⟨q.1, by omega⟩)]
    · show va_up u.2.1 11 _ k = _
      rw [va_up, if_neg hk]; exact h5 k hk
theorem and_fin {d : Nat} (hd : 6 ≤ d) {ν : Nat → Nat} {c : Nat} {u0 : Sg} {a : Nat} {L : List Nat} {X : Nat → Prop} (hw : WF FC u0) (hs : SC ν c u0) (hR : RowIs ν u0 a L) (hyn : YN ν u0) (hpos : ∀ f ∈ L, kd f = 17 → ∀ t ∈ ps f, 0 < t) (hr : rC u0 + (L.flatMap flt).length ≤ 30000) (hf : (L.flatMap flt).length ≤ 5000) (hX : X (andT L)) (hl : Lim ν u0 X) :
    wp (runC d 104 [(a : Int)] u0) (RsA ν c DX2_and_2 u0 a (andT L) X) := by
  have hb := hl.n hs
  have hrr := hs.r
  have hrc := hR.1
  suffices H : ∀ Q : Int → Sg → Prop, (∀ r u', (∃ x : Nat, r = (x : Int) ∧ 0 < x ∧ x < nC u' ∧ trC ν u' x = andT L ∧ SC ν c u' ∧ Ext (stC ν u0) (stC ν u') ∧ (∀ t, ndC ν u' t → ndC ν u0 t ∨ X t) ∧ rC u' = a ∧ (∀ i, i < a → gN u' 11 i = gN u0 11 i)) → Q r u') → wp (runC d 104 [(a : Int)] u0) Q by
    refine wp_mono (gX2_and_2 hw ⟨by omega, by omega⟩ (H _ (fun _ _ h => h))) (fun r u' ⟨⟨x, x1, x2, x3, x4, x5, x6, x7, x8, x9⟩, g, w, _⟩ => ⟨x, x1, x2, x3, x4, x5, x6, x7, x8, x9, w, g⟩)
  intro Q hQ
  obtain ⟨d, rfl⟩ : ∃ d', d = d' + 1 := ⟨d - 1, by omega⟩
  rw [runC_eq (by omega)]
  show wp (bX2_and_2 (runC d) a u0) _
  unfold bX2_and_2
  rw [wp_un, hrr.1]
  have hyn' := hyn
  obtain ⟨yy, nn, g13, g14, ⟨yy0, hyy, tyy⟩, nn0, hnn, tnn⟩ := hyn
  refine and_L10 (d := d) (by omega) hs hR hyn' (by omega) hpos hr L.length 0 KF 0 u0 (by omega) (Nat.lt_of_le_of_lt (by omega : _ ≤ 65536) KF_gt) (by rw [List.take_zero]; exact Psh.nil hs hw) (Or.inr ⟨rfl, by simp⟩) _ (fun fl u1 hp hfl => ?_)
  obtain ⟨p1, p2, p3, p4, p5, p6, p7⟩ := hp
  have h1r := p1.r
  rw [wp_un, h1r.1, wp_ar]
  refine ⟨⟨by omega, by omega⟩, ?_⟩
  rw [show (rC u1 : Int) - (rC u0 : Int) = ((L.flatMap flt).length : Int) by omega]
  refine and_L119 (d := d) (u1 := u1) (a := a) (e := rC u0) (n := (L.flatMap flt).length) (by omega) (by omega) (by omega) p6 (L.flatMap flt).length 0 KF u1 (by omega) (Nat.lt_of_le_of_lt (by omega : _ ≤ 65536) KF_gt) EqS.rf (fun _ => rfl) (fun _ => rfl) (fun j => by rw [if_neg (by omega)]) (fun _ _ => rfl) p6 _ (fun u2 e1 e2 e3 e4 e5 w2 => ?_)
  -- the row is cut behind what was kept
  have e12 := p2.trn e1
  have hI12 : ∀ v : Int, gI (sI u2 12 v) 12 = v := fun v => by rw [gI_sI, if_pos rfl]
  have eqI : ∀ v : Int, EqS u2 (sI u2 12 v) := fun v => ⟨fun _ _ => rfl, fun k hk => by rw [gI_sI, if_neg (by omega)]⟩
  have scI : ∀ v : Nat, v ≤ gL u1 11 → SC ν c (sI u2 12 (v : Int)) ∧ rC (sI u2 12 (v : Int)) = v := fun v hv => by
    have er : rC (sI u2 12 (v : Int)) = v := by unfold rC; rw [hI12]; omega
    refine ⟨(e12.trn (eqI v)).sc hs ⟨by rw [hI12, er], ?_⟩ ⟨?_, ?_⟩, er⟩
    · rw [er, gL_sI, e3]; exact hv
    · rw [gL_sI, e3]; exact h1r.2.2.1
    · rw [gL_sI, e3]; exact h1r.2.2.2
  have g13' : gI u2 13 = (yy : Int) := by rw [e2, p7.I 13 (by decide +kernel)]; exact g13
  have g14' : gI u2 14 = (nn : Int) := by rw [e2, p7.I 14 (by decide +kernel)]; exact g14
  have hrow : ∀ i t, (L.flatMap flt)[i]? = some t → ∃ y : Nat, gN u2 11 (a + i) = (y : Int) ∧ 0 < y ∧ y < nC u0 ∧ trC ν u0 y = t := fun i t h => by
    have hi := (List.getElem?_eq_some_iff.mp h).1
    obtain ⟨y, y1, y2, y3, y4⟩ := p5 i t h
    refine ⟨y, ?_, y2, y3, y4⟩
    rw [e4, if_pos ⟨by omega, by omega⟩, ← y1]; congr 1; omega
  have hpre : ∀ i, i < a → gN u2 11 i = gN u0 11 i := fun i hi => by rw [e4, if_neg (by omega), p4 i (by omega)]
  -- an answer that stands already
  have old : ∀ (y : Nat), 0 < y → y < nC u0 → trC ν u0 y = andT L → ∀ v : Int, wp (un (sI (sI u2 12 v) 12 (a : Int)) fun s16 => some ((y : Int), s16)) Q := fun y y0 hy ty v => by
    rw [wp_un, wp_some]
    have es : sI (sI u2 12 v) 12 (a : Int) = sI u2 12 (a : Int) := by
      show ((va_up (va_up u2.1 12 v) 12 (a : Int)), u2.2) = _
      congr 1
      funext k
      unfold va_up
      split <;> rfl
    rw [es]
    obtain ⟨s1, s2⟩ := scI a (by omega)
    have e13 := e12.trn (eqI a)
    refine hQ _ _ ⟨y, rfl, y0, by rw [e13.n]; exact hy, by rw [e13.tr]; exact ty, s1, by rw [e13.st]; exact Ext.rf, fun t ht => Or.inl ((e13.nd t).mp ht), s2, fun i hi => ?_⟩
    rw [gN_sI]; exact hpre i hi
  refine wp_jnG (fun j => ∀ v : Int, (fl ≠ 0 ∨ (L.flatMap flt).length < 2) → wp (j (a : Int) fl ((L.flatMap flt).length : Int) (sI u2 12 v)) Q) ?_ ?_
  · intro v hv
    rw [wp_jn]
    refine wp_ite (fun h0 => ?_) (fun h0 => ?_)
    · have hno : noT ∉ L := by rcases hfl with q | q; omega; exact q.2
      refine wp_ite (fun hn0 => ?_) (fun hn0 => ?_)
      · rw [wp_un, gI_sI, if_neg (by decide), g13']
        refine old yy yy0 hyy ?_ v
        unfold andT
        rw [if_neg hno, tyy]
        cases hfm : L.flatMap flt with
        | nil => rfl
        | cons z zs => rw [hfm] at hn0; simp at hn0; omega
      · rcases hv with q | q
        · exact absurd h0 q
        · cases hfm : L.flatMap flt with
          | nil => rw [hfm] at hn0; simp at hn0
          | cons z zs =>
            rw [hfm, List.length_cons] at q
            obtain rfl : zs = [] := List.eq_nil_of_length_eq_zero (by omega)
            obtain ⟨y, y1, y2, y3, y4⟩ := hrow 0 z (by rw [hfm]; rfl)
            rw [Nat.add_zero] at y1
            rw [ld_nat (by rw [gL_sI, e3]; omega), gN_sI, y1]
            refine old y y2 y3 ?_ v
            unfold andT
            rw [if_neg hno, hfm]; exact y4
    · have hno : noT ∈ L := by rcases hfl with q | q; exact q.2; omega
      rw [wp_un, gI_sI, if_neg (by decide), g14']
      refine old nn nn0 hnn ?_ v
      unfold andT
      rw [if_pos hno]; exact tnn
  · intro j hj
    rw [wp_ar]
    refine ⟨⟨by omega, by omega⟩, ?_⟩
    rw [wp_un]
    refine wp_ite (fun h0 => ?_) (fun h0 => hj _ (Or.inl h0))
    refine wp_ite (fun h2 => hj _ (Or.inr (by omega))) (fun h2 => ?_)
    have hno : noT ∉ L := by rcases hfl with q | q; omega; exact q.2
    have eT : andT L = mk 17 0 (L.flatMap flt) := by
      unfold andT
      rw [if_neg hno]
      cases hfm : L.flatMap flt with
      | nil => rw [hfm] at h2; simp at h2
      | cons z zs =>
        cases zs with
        | nil => rw [hfm] at h2; simp at h2
        | cons z2 zs => rfl
    rw [show (a : Int) + ((L.flatMap flt).length : Int) = ((a + (L.flatMap flt).length : Nat) : Int) by omega]
    obtain ⟨s1, s2⟩ := scI (a + (L.flatMap flt).length) (by omega)
    have e13 := e12.trn (eqI ((a + (L.flatMap flt).length : Nat) : Int))
    have w3 : WF FC (sI u2 12 ((a + (L.flatMap flt).length : Nat) : Int)) := wfI w2 rfl ⟨by omega, by omega⟩
    have hat : ∀ i, i < (L.flatMap flt).length → ∃ y : Nat, (rowC (sI u2 12 ((a + (L.flatMap flt).length : Nat) : Int)) a)[i]? = some (y : Int) ∧ 0 < y ∧ y < nC u0 ∧ (L.flatMap flt)[i]? = some (trC ν u0 y) := fun i hi => by
      obtain ⟨y, y1, y2, y3, y4⟩ := hrow i _ (List.getElem?_eq_getElem hi)
      exact ⟨y, by rw [row_at _ (by rw [s2]; omega), gN_sI, y1], y2, y3, by rw [y4]; exact List.getElem?_eq_getElem hi⟩
    have hlenR : (rowC (sI u2 12 ((a + (L.flatMap flt).length : Nat) : Int)) a).length = (L.flatMap flt).length := by rw [row_len, s2]; omega
    have hmem : ∀ v ∈ rowC (sI u2 12 ((a + (L.flatMap flt).length : Nat) : Int)) a, ∃ y : Nat, v = (y : Int) ∧ 0 < y ∧ y < nC u0 := fun v hv => by
      obtain ⟨i, hi⟩ := List.getElem?_of_mem hv
      have hil := (List.getElem?_eq_some_iff.mp hi).1
      obtain ⟨y, y1, y2, y3, y4⟩ := hat i (by omega)
      rw [hi] at y1
      exact ⟨y, Option.some.inj y1, y2, y3⟩
    have erT : rowT ν (sI u2 12 ((a + (L.flatMap flt).length : Nat) : Int)) 17 a = L.flatMap flt := by
      unfold rowT pmp
      rw [if_neg (by decide), List.map_map]
      refine List.ext_getElem? (fun i => ?_)
      rw [List.getElem?_map]
      by_cases hi : i < (L.flatMap flt).length
      · obtain ⟨y, y1, y2, y3, y4⟩ := hat i hi
        rw [y1, y4]
        show some (trC ν _ ((y : Int).toNat)) = _
        rw [e13.tr]; rfl
      · rw [List.getElem?_eq_none (by omega), List.getElem?_eq_none (by omega)]; rfl
    refine wp_call (tX2_make (k := 17) (w := 0) (X := X) (by omega) w3 s1 (by omega) (by omega) (by omega) (by omega) (by omega) (fun v hv => ?_) (fun p hp => ?_) (by omega) ?_ (e13.lim hl)) (fun r3 u3 ⟨y, e3', y0, hy, s3, t3, o3, n3, x3, nd3, rr3, row3, w3', g3⟩ => ?_)
    · obtain ⟨y, rfl, -⟩ := hmem v hv
      omega
    · obtain ⟨y, rfl, -, hy⟩ := hmem p (fptR_sub hp)
      rw [e13.n]; omega
    · rw [erT, if_neg (by decide), ← eT]; exact hX
    · rw [wp_some]
      refine hQ _ _ ⟨y, e3', y0, hy, by rw [t3, erT, if_neg (by decide), eT], s3, by rw [← e13.st ν]; exact x3, fun t ht => (nd3 t ht).imp (e13.nd t).mp id, rr3, fun i hi => ?_⟩
      rw [row3 i hi, gN_sI]; exact hpre i hi
