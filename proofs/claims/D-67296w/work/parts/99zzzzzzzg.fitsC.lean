/-! faces: fits and adjectives in the class -/
noncomputable def tvI (P : Prop) : Int := @ite Int P (Classical.propDecidable P) 1 0
theorem tvI_1 {P : Prop} (h : P) : tvI P = 1 := by unfold tvI; rw [if_pos h]
theorem tvI_0 {P : Prop} (h : ¬ P) : tvI P = 0 := by unfold tvI; rw [if_neg h]
noncomputable def setV (P : Nat → Prop) : Int := Classical.epsilon (fun v => bitP v P)
theorem bitP.u {a b : Int} {P : Nat → Prop} (h : bitP a P) (h' : bitP b P) : a = b := bt_ext h.1 h'.1 (fun j hj => by
  have h1 := h.2 j hj
  have h2 := h'.2 j hj
  cases ea : bt a j <;> cases eb : bt b j
  · rfl
  · exact absurd (h1.mpr (h2.mp eb)) (by rw [ea]; decide)
  · exact absurd (h2.mpr (h1.mp ea)) (by rw [eb]; decide)
  · rfl)
theorem setV_eq {a : Int} {P : Nat → Prop} (h : bitP a P) : a = setV P := h.u (Classical.epsilon_spec (p := fun v => bitP v P) ⟨a, h⟩)
/-- what was made for an answer is forgotten: at rest -/
theorem ReC.fgt {d D : Nat} (hd : 7 ≤ d) {W : Wd} {c : Nat} {Fo Pr : List Nat} {lc : Nat} {K : Int} {u u1 : Sg} {X : Nat → Prop} (h : ReC W c Fo Pr lc K u) (hK : K < 1000000) (hU : Up nu2 c u u1 X) (hw : WF FC u1) (hm : MemC nu2 W u1) (hg : Gr FC D u u1) (hb : ∀ k, k ≤ 98 → (k = 13 ∨ k = 14 ∨ (33 ≤ k ∧ k ≤ 98)) → D.testBit k = false) (h5 : P5u u X) : wp (runC d 79 [(nC u : Int), (pC u : Int), (c : Int)] u1) (fun _ v => ReC W c Fo Pr lc (K + 1) v ∧ NdC u v (fun _ => False)) := by
  have hs := h.1.1
  have hx := hU.ux
  have hc1 : CW nu2 c W u1 := h.1.up2 hx hg (fun k hk => hb k (by omega) (by omega))
  have hr1 : rC u1 = rC u := hU.2.2.2.2.2.1
  have e33 : gI u1 33 = gI u 33 := hg.I 33 (hb 33 (by decide) (by decide))
  have h33 := h.2.2.2.2.2.2.1
  have h0 := h.2.2.2.2.1
  refine wp_mono (tX1_forget hd h.1 hc1 hw (hx.n hs) (fun x hx' => hx.tr hs hx') ⟨Nat.le_refl _, fun _ _ => rfl⟩ (fun t ht => h5 t (Or.inl ht)) (fun t ht => (hx.2.2 t ht).imp id (fun q => h5 t (Or.inr q))) (by omega) (nC_le hU.sc) (by omega) (by omega)) (fun _ v ⟨q1, q2, q3, q4, q5, q6, q7, q8, q9⟩ => ?_)
  have hfo : ∀ k, k ≤ 98 → (k = 31 ∨ k = 32 ∨ (34 ≤ k ∧ k ≠ 86)) → Dfo.testBit k = false := by decide +kernel
  have I : ∀ k, k ≤ 98 → (34 ≤ k ∧ k ≠ 86) → gI v k = gI u k := fun k h1 h2 => by rw [q8.I k (hfo k h1 (by omega)), hg.I k (hb k h1 (by omega))]
  have L : ∀ k, k ≤ 98 → (34 ≤ k ∧ k ≠ 86) → gL v k = gL u k := fun k h1 h2 => by rw [q8.Ln k (hfo k h1 (by omega)), hg.Ln k (hb k h1 (by omega))]
  have N : ∀ k i, k ≤ 98 → (34 ≤ k ∧ k ≠ 86) → gN v k i = gN u k i := fun k i h1 h2 => by rw [q8.N k (hfo k h1 (by omega)), hg.N k (hb k h1 (by omega))]
  obtain ⟨-, -, hA, -, -, ⟨p1, p2⟩, ⟨p3, p4⟩, h61, h60, ⟨o1, o2, o3, o4⟩, ⟨r1, r2, r3, r4⟩, h84, h82⟩ := h
  refine ⟨⟨q1, q2, (hA.fr hg (fun k hk => hb k (by omega) (by omega))).fr q8 (fun k hk => hfo k (by omega) (by omega)), ⟨?_, ?_, fun t ht => ?_⟩, by omega, by rw [I 36 (by decide) (by decide)]; omega, by omega, by rw [L 61 (by decide) (by decide), L 62 (by decide) (by decide)]; exact h61, by rw [L 60 (by decide) (by decide)]; exact h60, ⟨?_, ?_, o3, fun i f hf => ?_⟩, ⟨?_, ?_, r3, fun i f hf => ?_⟩, by rw [I 84 (by decide) (by decide)]; exact h84, by rw [L 82 (by decide) (by decide)]; exact h82⟩, fun z ⟨y, y0, y1, y2⟩ => Or.inl ⟨y, y0, by rw [← q3]; exact y1, by rw [← q5 y (by rw [← q3]; exact y1)]; exact y2⟩⟩
  · rw [q8.Ln 31 (hfo 31 (by decide) (by decide)), q8.Ln 32 (hfo 32 (by decide) (by decide))]; exact hm.1.1
  · rw [q8.Ln 31 (hfo 31 (by decide) (by decide))]; exact hm.1.2
  · rw [q8.Ln 32 (hfo 32 (by decide) (by decide)), hm.1.1] at ht
    rw [q8.N 32 (hfo 32 (by decide) (by decide))]
    have := (hm.2 t ht).1
    omega
  · rw [I 66 (by decide) (by decide)]; exact o1
  · rw [L 65 (by decide) (by decide)]; exact o2
  · obtain ⟨x, z1, z2, z3, z4⟩ := o4 i f hf
    exact ⟨x, by rw [N 65 _ (by decide) (by decide)]; exact z1, z2, by omega, by rw [q5 x z3]; exact z4⟩
  · rw [I 83 (by decide) (by decide)]; exact r1
  · rw [L 82 (by decide) (by decide)]; exact r2
  · obtain ⟨x, z1, z2, z3, z4⟩ := r4 i f hf
    exact ⟨x, by rw [N 82 _ (by decide) (by decide)]; exact z1, z2, by omega, by rw [q5 x z3]; exact z4⟩
theorem MmK.mem {W : Wd} {u : Sg} (h : MmK u) : MemC nu2 W u := ⟨⟨h.1, h.2.1⟩, fun t ht => by
  have := h.2.2 t (by rw [h.1]; exact ht)
  exact ⟨by omega, fun e => by omega⟩⟩
theorem FoW.tm {W : Wd} {N : Nat → Prop} {Fo : List Nat} {a : Int} (hF : FoW W N Fo) (hS : isS Fo 0 a) (hl : lvL (frm Fo a) 0) : cltm W N (frm Fo a) := ⟨(hF _ hS.mem).1.1, hS.tm, (hF _ hS.mem).1.2.1, hl⟩
theorem FoW.ty {W : Wd} {N : Nat → Prop} {Fo : List Nat} {a : Int} (hF : FoW W N Fo) (hS : isS Fo 1 a) (hl : lvL (frm Fo a) 0) : clty W N (frm Fo a) := ⟨(hF _ hS.mem).1.1, hS.k8, (hF _ hS.mem).1.2.1, hl⟩
def okFi (Fo : List Nat) (a b : Int) : Prop := (isS Fo 0 a ∧ lvL (frm Fo a) 0) ∧ isS Fo 1 b ∧ lvL (frm Fo b) 0
def okAd (Fo : List Nat) (a : Int) : Prop := isS Fo 0 a ∧ lvL (frm Fo a) 0
theorem cFits {d : Nat} (hd : 1510 ≤ d) {W : Wd} {c : Nat} {Fo Pr : List Nat} {lc : Nat} {K : Int} {u : Sg} {X : Nat → Prop} (h : ReC W c Fo Pr lc K u) (hW : WOK W (Nm nu2 c)) (hG : WGK W (Nm nu2 c)) (hF : FoW W (Nm nu2 c) Fo) (h9 : 0 ≤ gI u 99 ∧ gI u 99 < 1000000) (hK : K < 1000000) (a b : Int) (hn6 : nC u ≤ 60000) (hl : Lim nu2 u X) (h5 : P5u u X) (hX : okFi Fo a b → adXX W X (frm Fo a)) : wp (runC d 80 [a, b] u) (FcC (okFi Fo a b) False (tvI (fitT W (frm Fo a) (frm Fo b))) (fun u' => ReC W c Fo Pr lc (K + 1) u' ∧ NdC u u' (fun _ => False)) (fun u' => ReC W c Fo Pr lc K u' ∧ NdC u u' (fun _ => False))) := by
  obtain ⟨d, rfl⟩ : ∃ e, d = e + 1 := ⟨d - 1, by omega⟩
  rw [runC_eq (by omega)]
  show wp (bX1_fits (runC d) a b u) _
  have hs := h.1.1
  have hn9 := nC_le hs
  have nd : NdC u (tS u) (fun _ => False) := fun z ⟨y, a, b, e⟩ => Or.inl ⟨y, a, b, e⟩
  have hP := hF.p
  unfold bX1_fits
  rcases cS (d := d) (by omega) h hP h9 (s := 0) (by decide) a with ⟨hS, x, x0, hx, ex, e⟩ | ⟨hS, e⟩
  · have e : runC d 11 [a] u = some ((x : Int), u) := e
    obtain ⟨fo, fz, -⟩ := hP _ hS.mem
    have fh := hP.ht hS.mem
    obtain ⟨c1, c2⟩ := cClosed hs h9 (d := d) (by omega) fo (by omega) x0 hx ex
    rw [cl_eq e, pr_n (by omega)]
    by_cases hcl : lvL (frm Fo a) 0
    · rw [cl_eq (c1 hcl), pr_n (by omega)]
      rcases cS (d := d) (by omega) h hP h9 (s := 1) (by decide) b with ⟨hS2, y, y0, hy, ey, e2⟩ | ⟨hS2, e2⟩
      · have e2 : runC d 2 [b] u = some ((y : Int), u) := e2
        obtain ⟨fo2, fz2, -⟩ := hP _ hS2.mem
        have fh2 := hP.ht hS2.mem
        obtain ⟨k1, k2⟩ := cClosed hs h9 (d := d) (by omega) fo2 (by omega) y0 hy ey
        rw [cl_eq e2, pr_n (by omega)]
        by_cases hcl2 : lvL (frm Fo b) 0
        · have ok : okFi Fo a b := ⟨⟨hS, hcl⟩, hS2, hcl2⟩
          have hr0 := h.2.2.2.2.1
          have h31 := h.2.2.2.1.2.1
          have e9 : gI u 9 = (nC u : Int) := hs.1.1.1.1
          have e10 : gI u 10 = (pC u : Int) := hs.1.1.2.1.1
          have e86 : gI u 86 = (c : Int) := h.1.2.2.1.1
          rw [cl_eq (k1 hcl2), pr_n (by omega), wp_un, wp_un, e9, e10]
          refine wp_call (tX1_fits0 hW hG (frm Fo a) (hF.tm hS hcl) d u x y X (by omega) h.2.1 h.1 h.2.2.2.1.mem x0 hx (by omega) ex y0 hy (by rw [ey]; exact hF.ty hS2 hcl2) (by omega) (hX ok) hl) (fun r u1 ⟨⟨b1, b2, b3, b4⟩, b5⟩ => ?_)
          rw [ey] at b1
          rw [wp_un, b4.I 86 (by decide +kernel), e86]
          refine wp_call (h.fgt (by omega) hK b2 b3 b5 b4 (by decide +kernel) h5) (fun _ v ⟨v1, v2⟩ => ?_)
          rw [wp_some]
          refine Or.inl ⟨ok, id, ?_, v1, v2⟩
          rcases b1 with ⟨z1, z2⟩ | ⟨z1, z2⟩
          · rw [z1, tvI_1 z2]
          · rw [z1, tvI_0 z2]
        · exact wp_thr1 (k2 hcl2) (fun q => hcl2 q.2.2) ⟨h.tS h9, nd⟩ _
      · have e2 : runC d 2 [b] u = some (exB + 1, tS u) := e2
        exact wp_thr1 e2 (fun q => hS2 q.2.1) ⟨h.tS h9, nd⟩ _
    · exact wp_thr1 (c2 hcl) (fun q => hcl q.1.2) ⟨h.tS h9, nd⟩ _
  · have e : runC d 11 [a] u = some (exB + 1, tS u) := e
    exact wp_thr1 e (fun q => hS q.1.1) ⟨h.tS h9, nd⟩ _
theorem adjs_L40 {d : Nat} (hd : 3 ≤ d) {c : Nat} {u : Sg} (hs : SC nu2 c u) {y ty : Nat} (y0 : 0 < y) (hy : y < nC u) (ey : trC nu2 u y = ty) (h8 : kd ty = 8) (hj : ∀ j ∈ (ps ty).drop 1, j < 30) (hlen : (ps ty).length ≤ 60000) {a3 a4 : Int} {Q : Int → Sg → Prop} {xx : Int → Int → Int → Sg → Option (Int × Sg)} : ∀ (m i f : Nat) (acc : Int) (P : Nat → Prop), i + m = (ps ty).length → m < f → 1 ≤ i → bitP acc P → (∀ v, bitP v (fun j => P j ∨ j ∈ (ps ty).drop i) → wp (xx a3 a4 v u) Q) → wp (bX1_adjectives_L40 (runC d) f a3 a4 (y : Int) acc (i : Int) u xx) Q := by
  intro m
  have hn := nodeC hs y0 hy
  rw [ey] at hn
  have hl3 : gL u 3 = gL u 0 := hs.1.1.2.2.2.1.2.2.1
  induction m with
  | zero =>
    intro i f acc P hi hf h1 hA k
    obtain ⟨f, rfl⟩ : ∃ f', f = f' + 1 := ⟨f - 1, by omega⟩
    rw [bX1_adjectives_L40, ld_nat (by omega), hn.2.2.1, if_neg (by omega)]
    refine k acc (hA.eqv (fun j _ => ?_))
    rw [List.drop_of_length_le (by omega)]
    simp
  | succ m ih =>
    intro i f acc P hi hf h1 hA k
    obtain ⟨f, rfl⟩ : ∃ f', f = f' + 1 := ⟨f - 1, by omega⟩
    have hil : i < (ps ty).length := by omega
    have hat := adjN (d := d) (i := i) (by omega) hs y0 hy (by rw [ey]; exact h8) (by rw [ey]; exact hil) h1
    rw [ey] at hat
    have hpj : pa ty i < 30 := hj _ (drop_adj hil h1)
    rw [bX1_adjectives_L40, ld_nat (by omega), hn.2.2.1, if_pos (by omega)]
    refine wp_eq hat ?_
    rw [wp_un, wp_un, wp_ar]
    refine ⟨⟨by omega, by omega⟩, ?_⟩
    rw [show (i : Int) + 1 = ((i + 1 : Nat) : Int) by omega]
    refine ih (i + 1) f _ _ (by omega) (by omega) (by omega) (hA.or (bitP_1 (by omega))) (fun v hv => k v (hv.eqv (fun j _ => ?_)))
    rw [drop_pa hil]
    simp [or_assoc]
theorem cAdjs {d : Nat} (hd : 1510 ≤ d) {W : Wd} {c : Nat} {Fo Pr : List Nat} {lc : Nat} {K : Int} {u : Sg} {X : Nat → Prop} (h : ReC W c Fo Pr lc K u) (hW : WOK W (Nm nu2 c)) (hG : WGK W (Nm nu2 c)) (hF : FoW W (Nm nu2 c) Fo) (h9 : 0 ≤ gI u 99 ∧ gI u 99 < 1000000) (hK : K < 1000000) (a : Int) (hn6 : nC u ≤ 60000) (hl : Lim nu2 u X) (h5 : P5u u X) (hX : okAd Fo a → adXX W X (frm Fo a)) : wp (runC d 90 [a] u) (FcC (okAd Fo a) False (setV (adT W (frm Fo a))) (fun u' => ReC W c Fo Pr lc (K + 1) u' ∧ NdC u u' (fun _ => False)) (fun u' => ReC W c Fo Pr lc K u' ∧ NdC u u' (fun _ => False))) := by
  obtain ⟨d, rfl⟩ : ∃ e, d = e + 1 := ⟨d - 1, by omega⟩
  rw [runC_eq (by omega)]
  show wp (bX1_adjectives (runC d) a u) _
  have hs := h.1.1
  have hn9 := nC_le hs
  have nd : NdC u (tS u) (fun _ => False) := fun z ⟨y, a, b, e⟩ => Or.inl ⟨y, a, b, e⟩
  have hP := hF.p
  unfold bX1_adjectives
  rcases cS (d := d) (by omega) h hP h9 (s := 0) (by decide) a with ⟨hS, x, x0, hx, ex, e⟩ | ⟨hS, e⟩
  · have e : runC d 11 [a] u = some ((x : Int), u) := e
    obtain ⟨fo, fz, -⟩ := hP _ hS.mem
    have fh := hP.ht hS.mem
    obtain ⟨c1, c2⟩ := cClosed hs h9 (d := d) (by omega) fo (by omega) x0 hx ex
    rw [cl_eq e, pr_n (by omega)]
    by_cases hcl : lvL (frm Fo a) 0
    · have ok : okAd Fo a := ⟨hS, hcl⟩
      have hr0 := h.2.2.2.2.1
      have h31 := h.2.2.2.1.2.1
      have e9 : gI u 9 = (nC u : Int) := hs.1.1.1.1
      have e10 : gI u 10 = (pC u : Int) := hs.1.1.2.1.1
      have e86 : gI u 86 = (c : Int) := h.1.2.2.1.1
      have htm := hF.tm hS hcl
      rw [cl_eq (c1 hcl), pr_n (by omega), wp_un, wp_un, e9, e10]
      refine wp_call (tX1_adj hW hG (frm Fo a) htm d u x X (by omega) h.2.1 h.1 h.2.2.2.1.mem x0 hx (by omega) ex (by omega) (hX ok) hl) (fun r u1 ⟨y, L, b0, y0, hy, ey, bL, b2, b3, b4, b5⟩ => ?_)
      subst b0
      have hps : ps (mk 8 0 (0 :: L)) = 0 :: L := ps_mk _ _ _
      have hkd : kd (mk 8 0 (0 :: L)) = 8 := kd_mk _ _ _
      have hn1 := nodeC b2.sc y0 hy
      rw [ey] at hn1
      have hlt : (ps (mk 8 0 (0 :: L))).length ≤ 60000 := by
        have := h5 _ (b2.2.2.2.2.1 _ ⟨y, y0, hy, ey⟩)
        unfold P5 at this
        omega
      refine adjs_L40 (by omega) b2.sc y0 hy ey hkd (fun j hj => ?_) hlt ((ps (mk 8 0 (0 :: L))).length - 1) 1 KF 0 _ (by rw [hps]; simp; omega) (Nat.lt_of_le_of_lt (by omega : _ ≤ 65536) KF_gt) (Nat.le_refl _) bitP_0 (fun v hv => ?_)
      · rw [hps] at hj
        exact adT_30 hW hG htm ((bL j).mp hj)
      · rw [hps] at hv
        have hv2 : bitP v (adT W (frm Fo a)) := hv.eqv (fun j _ => by
          rw [← bL j]
          simp)
        rw [wp_un, b4.I 86 (by decide +kernel), e86]
        refine wp_call (h.fgt (by omega) hK b2 b3 b5 b4 (by decide +kernel) h5) (fun _ v' ⟨v1, v2⟩ => ?_)
        rw [wp_some]
        exact Or.inl ⟨ok, id, setV_eq hv2, v1, v2⟩
    · exact wp_thr1 (c2 hcl) (fun q => hcl q.2) ⟨h.tS h9, nd⟩ _
  · have e : runC d 11 [a] u = some (exB + 1, tS u) := e
    exact wp_thr1 e (fun q => hS q.1) ⟨h.tS h9, nd⟩ _
