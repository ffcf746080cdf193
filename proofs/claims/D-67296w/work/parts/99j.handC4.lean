theorem adjC {d : Nat} (hd : 3 ≤ d) {ν : Nat → Nat} {c : Nat} {W : Wd} {S : Fs} {X : Nat → Prop} {Kl : List Nat} {u : Sg} {H : List Nat} {p : Nat → Nat} {M : List (Nat × Nat × Nat)} {J : List (Nat × Nat)} {x j : Nat} (hW : WOK W (Nm ν c)) (hK : ∀ f ∈ Kl, kd f = 14 → wh f < 20) (hKl : Kl.length ≤ 2500) (hC : CaP ν c W S Kl u H p M J) (hx : x < nC u) (hxH : trC ν u x ∈ H) (hj : j < 30) (hf : fA S (trC ν u x) j) (hl : Lim ν u X) :
    wp (runC d 50 [(x : Int), (j : Int)] u) (fun r u' => (r = 0 ∧ u' = u ∧ (trC ν u x, j) ∈ J) ∨ (r = 1 ∧ (trC ν u x, j) ∉ J ∧ CaP ν c W S Kl u' H p M (J ++ [(trC ν u x, j)]) ∧ Up ν c u u' X ∧ Gr FC DX1_adjectiveFact u u')) := by
  have hml := hC.ml hW hK hKl
  obtain ⟨h1, h2, ⟨h3, h3b⟩, h4, h5, h6, h7, ⟨h8, h9⟩, h10, h11⟩ := hC
  have hs := h1.1
  have hbd := hl.n hs
  refine wp_mono (rX1_adjFact hd h2 h5 hs (by omega) hx (by omega) (by omega)) (fun r u' h => h.imp (fun q => ⟨q.1, q.2.2, q.2.1⟩) (fun q => ?_))
  obtain ⟨q1, q2, q3, w, g⟩ := q
  obtain ⟨e, hU⟩ := g.ux (X := X) hs (by decide +kernel)
  refine ⟨q1, q2, ⟨h1.up hU.ux g (by decide +kernel), w, ⟨h3.up hs hU.ux g (fun k a b => ?_), by rw [g.I 36 (by decide +kernel)]; exact h3b⟩, h4.up hs hU.ux g (by decide +kernel) (by decide +kernel) (by decide +kernel) (by decide +kernel), q3, h6, h7, ⟨h8, h9⟩, ?_, fun q hq => ?_⟩, hU, g⟩
  · exact (by decide +kernel : ∀ k, k ≤ 43 → 36 ≤ k → DX1_adjectiveFact.testBit k = false) k b a
  · refine List.nodup_append.mpr ⟨h10, by simp, fun y hy z hz => ?_⟩
    rw [List.mem_singleton.mp hz]
    intro q; exact q2 (by rw [← q]; exact hy)
  · rcases List.mem_append.mp hq with z | z
    · exact h11 q z
    · rw [List.mem_singleton.mp z]
      exact ⟨hxH, hj, hf⟩
theorem hasType_L46 {d : Nat} (hd : 3 ≤ d) {ν : Nat → Nat} {c : Nat} {W : Wd} {S : Fs} {X : Nat → Prop} {Kl : List Nat} {H : List Nat} {p : Nat → Nat} {M : List (Nat × Nat × Nat)} {x y tx ty : Nat} {Qq : Int → Sg → Prop} (hW : WOK W (Nm ν c)) (hK : ∀ f ∈ Kl, kd f = 14 → wh f < 20) (hKl : Kl.length ≤ 2500) (hxH : tx ∈ H) (y0 : 0 < y) (h8 : kd ty = 8) (hlen : (ps ty).length ≤ 60000) (hadj : ∀ j ∈ adjT ty, j < 30 ∧ fA S tx j) : ∀ (m i f : Nat) (u : Sg) (J : List (Nat × Nat)) (r : Int), i + m = (ps ty).length → m < f → 1 ≤ i → CaP ν c W S Kl u H p M J → x < nC u → trC ν u x = tx → y < nC u → trC ν u y = ty → Lim ν u X → ∀ xx : Int → Int → Int → Sg → Option (Int × Sg), (∀ (r2 : Int) (u2 : Sg) (J2 : List (Nat × Nat)), CaP ν c W S Kl u2 H p M J2 → Up ν c u u2 X → Gr FC DX1_adjectiveFact u u2 → (∃ J3, J2 = J ++ J3) → (∀ j ∈ (ps ty).drop i, (tx, j) ∈ J2) → ((r2 = r ∧ J2 = J) ∨ (r2 = 1 ∧ J.length < J2.length)) → wp (xx (x : Int) r2 (y : Int) u2) Qq) → wp (bX1_hasType_L46 (runC d) f (x : Int) r (y : Int) (i : Int) u xx) Qq := by
  intro m
  induction m with
  | zero =>
    intro i f u J r hi hf h1 hC hx etx hy ety hl xx k
    obtain ⟨f, rfl⟩ : ∃ f', f = f' + 1 := ⟨f - 1, by omega⟩
    have hs := hC.1.1
    have hn := nodeC hs y0 hy
    rw [ety] at hn
    have l3 : gL u 3 = gL u 0 := hs.1.1.2.2.2.1.2.2.1
    rw [bX1_hasType_L46, ld_nat (by omega), hn.2.2.1, if_neg (by omega)]
    refine k r u J hC (Up.rf hs) Gr.rf ⟨[], by simp⟩ (fun j hj => ?_) (Or.inl ⟨rfl, rfl⟩)
    rw [List.drop_of_length_le (by omega)] at hj
    cases hj
  | succ m ih =>
    intro i f u J r hi hf h1 hC hx etx hy ety hl xx k
    obtain ⟨f, rfl⟩ : ∃ f', f = f' + 1 := ⟨f - 1, by omega⟩
    have hs := hC.1.1
    have hn := nodeC hs y0 hy
    rw [ety] at hn
    have l3 : gL u 3 = gL u 0 := hs.1.1.2.2.2.1.2.2.1
    have hil : i < (ps ty).length := by omega
    have hat := adjN (d := d) (i := i) hd hs y0 hy (by rw [ety]; exact h8) (by rw [ety]; exact hil) h1
    rw [ety] at hat
    have hj := hadj _ (drop_adj hil h1)
    rw [bX1_hasType_L46, ld_nat (by omega), hn.2.2.1, if_pos (by omega)]
    refine wp_eq hat ?_
    refine wp_call (adjC (x := x) (j := pa ty i) hd hW hK hKl hC hx (by rw [etx]; exact hxH) hj.1 (by rw [etx]; exact hj.2) hl) (fun v u1 h => ?_)
    rw [etx] at h
    rcases h with ⟨q1, q2, q3⟩ | ⟨q1, q2, q3, q4, q5⟩
    · subst q2
      rw [q1, if_pos rfl, wp_ar]
      refine ⟨⟨by omega, by omega⟩, ?_⟩
      rw [show (i : Int) + 1 = ((i + 1 : Nat) : Int) by omega]
      refine ih (i + 1) f u1 J r (by omega) (by omega) (by omega) hC hx etx hy ety hl xx (fun r2 u2 J2 z1 z2 z3 z4 z5 z6 => k r2 u2 J2 z1 z2 z3 z4 (fun j hj' => ?_) z6)
      rw [drop_pa hil] at hj'
      rcases List.mem_cons.mp hj' with w | w
      · obtain ⟨J3, e3⟩ := z4
        rw [w, e3]; exact List.mem_append_left _ q3
      · exact z5 j w
    · rw [q1, if_neg (by decide), wp_ar]
      refine ⟨⟨by omega, by omega⟩, ?_⟩
      rw [show (i : Int) + 1 = ((i + 1 : Nat) : Int) by omega]
      have hn1 := q4.ux.n hs
      refine ih (i + 1) f u1 _ 1 (by omega) (by omega) (by omega) q3 (by omega) (by rw [q4.ux.tr hs hx]; exact etx) (by omega) (by rw [q4.ux.tr hs hy]; exact ety) (q4.ux.lim hl) xx (fun r2 u2 J2 z1 z2 z3 z4 z5 z6 => k r2 u2 J2 z1 (q4.join z2) (q5.tr z3) ?_ (fun j hj' => ?_) (Or.inr ⟨?_, ?_⟩))
      · obtain ⟨J3, e3⟩ := z4
        exact ⟨[(tx, pa ty i)] ++ J3, by rw [e3, List.append_assoc]⟩
      · rw [drop_pa hil] at hj'
        obtain ⟨J3, e3⟩ := z4
        rcases List.mem_cons.mp hj' with w | w
        · rw [w, e3]; simp
        · exact z5 j w
      · rcases z6 with z | z <;> exact z.1
      · obtain ⟨J3, e3⟩ := z4
        rw [e3]; simp
/-- the facts of types are there -/
def chF (W : Wd) (t y : Nat) (H : List Nat) (M : List (Nat × Nat × Nat)) (J : List (Nat × Nat)) : Prop := ∀ z ∈ upT W y, (t, wh z, pa z 0) ∈ M ∧ (∀ j ∈ adjT z, (t, j) ∈ J) ∧ (pa z 0 ≠ 0 → pa z 0 ∈ H)
def rcd (r : Int) (H : List Nat) (M : List (Nat × Nat × Nat)) (J : List (Nat × Nat)) (H' : List Nat) (M' : List (Nat × Nat × Nat)) (J' : List (Nat × Nat)) : Prop := (r = 0 ∧ H' = H ∧ M' = M ∧ J' = J) ∨ (r = 1 ∧ M.length + J.length < M'.length + J'.length)
theorem paX.mono {W : Wd} {X Y : Nat → Prop} {y : Nat} (h : paX W X y) (hm : ∀ t, X t → Y t) : paX W Y y := fun q => ImT.mono hm _ _ (h q)
theorem tyX.mono {W : Wd} {X Y : Nat → Prop} {y : Nat} (h : tyX W X y) (hm : ∀ t, X t → Y t) : tyX W Y y := fun q => ImT.mono hm _ _ (h q)
theorem hasType_L5 {d n : Nat} {ν : Nat → Nat} {c : Nat} {W : Wd} {S : Fs} {X : XFm} {Kl Q : List Nat} {u : Sg} {H : List Nat} {p : Nat → Nat} {M : List (Nat × Nat × Nat)} {J : List (Nat × Nat)} {x tx : Nat} (hW : WOK W (Nm ν c)) (hGk : WGK W (Nm ν c)) (hK : ∀ f ∈ Kl, kd f = 14 → wh f < 20) (hKl : Kl.length ≤ 2500) (hAt : AtSp ν c W S X Kl n) (hd : 321 + 6 * n ≤ d) (hn : 100 ≤ H.length + n) (hs0 : SC ν c u) (hx : x < nC u) (etx : trC ν u x = tx) (hxH : tx ∈ H) (hb0 : gI u 45 = 0) (hr : rC u ≤ 20000) (hl : LimH ν u S X H) : ∀ (w f : Nat) (r1 : Int) (u1 : Sg) (H1 : List Nat) (p1 : Nat → Nat) (M1 : List (Nat × Nat × Nat)) (J1 : List (Nat × Nat)) (y : Nat), wh (trC ν u1 y) < w → w < f → ExC H p M J H1 p1 M1 J1 → CaP ν c W S Kl u1 H1 p1 M1 J1 → Up ν c u u1 (xf X H1) → GrH u u1 → gI u1 45 = 0 → ArgOK M1 H1 → (∀ z ∈ H1, z ∉ Q → GoodC W H1 M1 J1 z) → rcd r1 H M J H1 M1 J1 → 0 < y → y < nC u1 → clty W (Nm ν c) (trC ν u1 y) → tyF W S tx (trC ν u1 y) → (∀ z ∈ upT W (trC ν u1 y), (pa z 0 = 0 → paX W X.1 z) ∧ (pa z 0 ≠ 0 → paX W (X.2 (pa z 0)) z)) → (∀ z ∈ upT W (trC ν u1 y), (tx, wh z, pa z 0) ∈ ALM W Kl H) → wp (bX1_hasType_L5 (runC d) f (x : Int) r1 (y : Int) u1 (fun v2 s1 => some (v2, s1))) (fun r u' => AtR ν c W S X Kl Q u H p M J (fun H' M' J' => chF W tx (trC ν u1 y) H' M' J' ∧ (∀ t ∈ H1, t ∈ H') ∧ (∀ q ∈ M1, q ∈ M') ∧ (∀ q ∈ J1, q ∈ J') ∧ rcd r H M J H' M' J') u') := by
  intro w
  induction w with
  | zero => intro f r1 u1 H1 p1 M1 J1 y h; omega
  | succ w ih =>
    intro f r1 u1 H1 p1 M1 J1 y hwh hf hE hC hU hg hb hA hG hrc y0 hy hty hF hX hal
    obtain ⟨f, rfl⟩ : ∃ f', f = f' + 1 := ⟨f - 1, by omega⟩
    have hs1 := hC.1.1
    have hn1 := nodeC hs1 y0 hy
    have h8 := hty.2.1
    have l1 : gL u1 1 = gL u1 0 := hs1.1.1.2.2.2.1.1
    have hnn := hU.ux.n hs0
    have hx1 : x < nC u1 := by omega
    have etx1 : trC ν u1 x = tx := by rw [hU.ux.tr hs0 hx]; exact etx
    have hl1 := hl.up hU.ux (fun t ht => hE.H ht)
    have hr1 : rC u1 = rC u := hU.2.2.2.2.2.1
    have hUp := up_eq hW hty
    have hself : trC ν u1 y ∈ upT W (trC ν u1 y) := by rw [hUp]; exact List.mem_cons_self
    obtain ⟨F1, F2, F3⟩ := hF _ hself
    have h20 := hC.1.2.2.2.1.2.1.2
    have hwm := (hty.1.lc.2.2.1 h8).1
    have hadj : ∀ j ∈ adjT (trC ν u1 y), j < 30 ∧ fA S tx j := fun j hj => ⟨clty_adj hGk hty j hj, F2 j hj⟩
    obtain ⟨a, a1, a2, a3⟩ := rX1_argOf (d := d) (by omega) hs1 y0 hy (type_part hty).1
    have hca : trC ν u1 a ≠ 0 → cltm W (Nm ν c) (trC ν u1 a) ∧ fH S (trC ν u1 a) := fun h0 => by
      rw [a3] at h0 ⊢
      exact ⟨((type_part hty).2 h0).1, F3 h0⟩
    have hHl : H.length ≤ H1.length := by obtain ⟨⟨a', e⟩, _⟩ := hE; rw [e]; simp
    -- from a state in which the mode's fact is there: adjectives, then the parent
    have rest : ∀ (r2 : Int) (u2 : Sg) (H2 : List Nat) (p2 : Nat → Nat) (M2 : List (Nat × Nat × Nat)) (J2 : List (Nat × Nat)), (r2 = 0 ∨ r2 = 1) → ExC H1 p1 M1 J1 H2 p2 M2 J2 → CaP ν c W S Kl u2 H2 p2 M2 J2 → UpZ ν c S X u1 u2 H2 (pa (trC ν u1 y) 0 ∈ H2) → GrH u1 u2 → ((gI u2 45 = 0 ∧ ArgOK M2 H2 ∧ (∀ z ∈ H2, z ∉ Q → GoodC W H2 M2 J2 z) ∧ ((tx, wh (trC ν u1 y), pa (trC ν u1 y) 0) ∈ M2 ∧ (pa (trC ν u1 y) 0 ≠ 0 → pa (trC ν u1 y) 0 ∈ H2)) ∧ rcd r2 H M J H2 M2 J2) ∨ (gI u2 45 = 1 ∧ Bey S H2)) → wp (bX1_hasType_L46 (runC d) KF (x : Int) r2 (y : Int) 1 u2 (fun v5 v6 v7 s4 => cl (runC d 51 [v7] s4) fun v8 s9 => bX1_hasType_L5 (runC d) f v5 v6 v8 s9 (fun v2 s1 => some (v2, s1)))) (fun r u' => AtR ν c W S X Kl Q u H p M J (fun H' M' J' => chF W tx (trC ν u1 y) H' M' J' ∧ (∀ t ∈ H1, t ∈ H') ∧ (∀ q ∈ M1, q ∈ M') ∧ (∀ q ∈ J1, q ∈ J') ∧ rcd r H M J H' M' J') u') := fun r2 u2 H2 p2 M2 J2 hr2 hE2 hC2 hU2 hg2 hst => by
      have hs2 := hC2.1.1
      have hn2 := hU2.ux.n hs1
      have ety2 : trC ν u2 y = trC ν u1 y := hU2.ux.tr hs1 hy
      have etx2 : trC ν u2 x = tx := by rw [hU2.ux.tr hs1 hx1]; exact etx1
      have hlz := clty_len hty
      have hl0 := (type_part hty).1
      refine hasType_L46 (ty := trC ν u1 y) (by omega) hW hK hKl (hE2.H (hE.H hxH)) y0 h8 (by omega) hadj ((ps (trC ν u1 y)).length - 1) 1 KF u2 J2 r2 (by omega) (Nat.lt_of_le_of_lt (by omega : _ ≤ 65536) KF_gt) (Nat.le_refl _) hC2 (by omega) etx2 (by omega) ety2 (hU2.lm hl1 (fun t ht => hE2.H ht)) _ (fun r3 u3 J3 z1 z2 z3 z4 z5 z6 => ?_)
      have hs3 := z1.1.1
      have hn3 := z2.ux.n hs2
      have ety3 : trC ν u3 y = trC ν u1 y := by rw [z2.ux.tr hs2 (by omega)]; exact ety2
      have b3 : gI u3 45 = gI u2 45 := z3.I 45 (by decide +kernel)
      have hE3 : ExC H2 p2 M2 J2 H2 p2 M2 J3 := ⟨⟨[], by simp⟩, fun _ _ => rfl, (fun i a b => by omega), ⟨[], by simp⟩, z4⟩
      have hU3 := hU2.post z2 b3
      have hg3 : GrH u1 u3 := hg2.tr (z3.gh (by decide +kernel))
      have hEE := hE.tr (hE2.tr hE3)
      have hr3 : rC u3 = rC u := by have := hU3.r; omega
      -- once it is beyond, the way out
      have out : Bey S H2 → ∀ (r : Int) (u4 : Sg), CaP ν c W S Kl u4 H2 p2 M2 J3 → UpZ ν c S X u1 u4 H2 True → GrH u1 u4 → gI u4 45 = 1 → AtR ν c W S X Kl Q u H p M J (fun H' M' J' => chF W tx (trC ν u1 y) H' M' J' ∧ (∀ t ∈ H1, t ∈ H') ∧ (∀ q ∈ M1, q ∈ M') ∧ (∀ q ∈ J1, q ∈ J') ∧ rcd r H M J H' M' J') u4 := fun hbey r u4 hC4 hU4 hg4 hb4 => ⟨H2, p2, M2, J3, hEE, hC4, UpZ.pre hU hb0 hU4 (fun t ht => hE2.H ht), hg.tr hg4, Or.inr ⟨hb4, hbey⟩⟩
      by_cases h0 : wh (trC ν u1 y) = 0
      · refine wp_eq (rX1_parent0 (by omega) hs3 y0 (by omega) (by rw [ety3]; exact h8) (by rw [ety3]; exact h0)) ?_
        obtain ⟨f, rfl⟩ : ∃ f', f = f' + 1 := ⟨f - 1, by omega⟩
        rw [bX1_hasType_L5, if_pos rfl, wp_some]
        rcases hst with ⟨s1, s2, s3, ⟨s4, s5⟩, s6⟩ | ⟨s1, s2⟩
        · refine ⟨H2, p2, M2, J3, hEE, z1, UpZ.pre hU hb0 (hU3.w (fun _ => trivial)) (fun t ht => hE2.H ht), hg.tr hg3, Or.inl ⟨by rw [b3]; exact s1, s2, fun z hz hzQ => hE3.good (s3 z hz hzQ), ?_, fun t ht => hE2.H ht, fun q hq => hE2.M hq, fun q hq => hE3.J (hE2.J hq), ?_⟩⟩
          · intro z hz
            rw [hUp, if_pos h0] at hz
            rw [List.mem_singleton.mp hz]
            exact ⟨s4, fun j hj => z5 j hj, s5⟩
          · rcases z6 with ⟨e1, e2⟩ | ⟨e1, e2⟩
            · rw [e1, e2]; exact s6
            · refine Or.inr ⟨e1, ?_⟩
              rcases s6 with ⟨_, _, e4, e5⟩ | ⟨_, e4⟩
              · rw [e4, ← e5]; omega
              · omega
        · exact out s2 r3 u3 z1 (hU3.w (fun _ => trivial)) hg3 (by rw [b3]; exact s1)
      · obtain ⟨p1', p2'⟩ := pa_ok hW hty h0
        have hXG : ∀ G : List Nat, (pa (trC ν u1 y) 0 ≠ 0 → pa (trC ν u1 y) 0 ∈ G) → paX W (xf X G) (trC ν u1 y) := fun G hm => by
          by_cases q : pa (trC ν u1 y) 0 = 0
          · exact ((hX _ hself).1 q).mono (fun _ w => Or.inl w)
          · exact ((hX _ hself).2 q).mono (fun _ w => Or.inr ⟨_, hm q, w⟩)
        rcases hst with ⟨s1, s2, s3, ⟨s4, s5⟩, s6⟩ | ⟨s1, s2⟩
        · refine wp_call (tX1_parent (d := d) (by omega) z1.2.1 z1.1 hW y0 (by omega) (by rw [ety3]; exact hty) (by rw [ety3]; exact h0) (by omega) (by rw [ety3]; exact hXG H2 (fun q => s5 q)) ((hl1.up (hU3.z (by rw [b3]; exact s1)).ux (fun t ht => hE2.H ht)).l z1)) (fun v u4 ⟨y', v1, v2, v3, v4, v5, v6, v7⟩ => ?_)
          subst v1
          rw [ety3] at v4
          have hC4 := z1.up v5.ux v6 v7 (by decide +kernel)
          have hU4 := (hU3.z (by rw [b3]; exact s1)).jn v5 (fun _ q => q)
          have hg4 : GrH u1 u4 := hg3.tr (v7.gh (by decide +kernel))
          have b4 : gI u4 45 = gI u3 45 := v7.I 45 (by decide +kernel)
          rw [← v4] at p1' p2'
          have s6' : rcd r3 H M J H2 M2 J3 := by
            rcases z6 with ⟨e1, e2⟩ | ⟨e1, e2⟩
            · rw [e1, e2]; exact s6
            · refine Or.inr ⟨e1, ?_⟩
              rcases s6 with ⟨_, _, e4, e5⟩ | ⟨_, e4⟩
              · rw [e4, ← e5]; omega
              · omega
          have hsub : ∀ z ∈ upT W (trC ν u4 y'), z ∈ upT W (trC ν u1 y) := fun z hz => by rw [hUp, if_neg h0, ← v4]; exact List.mem_cons_of_mem _ hz
          refine wp_mono (ih f r3 u4 H2 p2 M2 J3 y' (by omega) (by omega) hEE hC4 (hU.jn hU4 (fun t ht => hE2.H ht)) (hg.tr hg4) (by rw [b4, b3]; exact s1) s2 (fun z hz hzQ => hE3.good (s3 z hz hzQ)) s6' v2 v3 p1' (fun z hz => hF z (hsub z hz)) (fun z hz => hX z (hsub z hz)) (fun z hz => hal z (hsub z hz))) (fun r u' h => h.imp (fun H' M' J' _ hp => ?_))
          obtain ⟨c1, c2, c3, c4, c5⟩ := hp
          refine ⟨fun z hz => ?_, fun t ht => c2 t (hE2.H ht), fun q hq => c3 q (hE2.M hq), fun q hq => c4 q (hE3.J (hE2.J hq)), c5⟩
          rw [hUp, if_neg h0] at hz
          rcases List.mem_cons.mp hz with e | e
          · rw [e]
            exact ⟨c3 _ s4, fun j hj => c4 _ (z5 j hj), fun q => c2 _ (s5 q)⟩
          · rw [← v4] at e
            exact c1 z e
        · obtain ⟨G0, g1, g2, gm, gU⟩ := hU3
          have key : ∃ G, OvL S H2 G ∧ (pa (trC ν u1 y) 0 ≠ 0 → pa (trC ν u1 y) 0 ∈ G) ∧ Up ν c u1 u3 (xf X G) := by
            by_cases q : pa (trC ν u1 y) 0 ≠ 0 ∧ pa (trC ν u1 y) 0 ∉ H2
            · have e := g2 (Or.inr (Or.inr q.2))
              rw [e] at gU
              exact ⟨_ :: H2, ⟨fun _ w => List.mem_cons_of_mem _ w, List.nodup_cons.mpr ⟨q.2, z1.2.2.1.1.2.2.1⟩, by have := z1.2.2.1.1.1.2.1; rw [List.length_cons]; omega, fun t ht => (List.mem_cons.mp ht).elim (fun e => by rw [e]; exact F3 q.1) (fun w => (z1.2.2.2.2.2.1 t w).2)⟩, fun _ => List.mem_cons_self, gU.mono (fun t w => Or.inr (xf_mono (fun _ w => List.mem_cons_of_mem _ w) t w))⟩
            · exact ⟨G0, g1, fun w => g1.1 _ (Classical.byContradiction (fun z => q ⟨w, z⟩)), gU⟩
          obtain ⟨G, gi, gq, gU⟩ := key
          have gl : Lim ν u3 (xf X G) := gU.ux.lim (hl1 G gi.2.1 gi.2.2.1 gi.2.2.2 (fun t ht => gi.1 t (hE2.H ht)))
          refine wp_call (tX1_parent (d := d) (by omega) z1.2.1 z1.1 hW y0 (by omega) (by rw [ety3]; exact hty) (by rw [ety3]; exact h0) (by omega) (by rw [ety3]; exact hXG G gq) gl) (fun v u4 ⟨y', v1, v2, v3, v4, v5, v6, v7⟩ => ?_)
          subst v1
          rw [ety3] at v4
          have hC4 := z1.up v5.ux v6 v7 (by decide +kernel)
          have hU4 := gU.jn v5 (fun _ q => q)
          have hg4 : GrH u1 u4 := hg3.tr (v7.gh (by decide +kernel))
          have b4 : gI u4 45 = gI u3 45 := v7.I 45 (by decide +kernel)
          obtain ⟨f, rfl⟩ : ∃ f', f = f' + 1 := ⟨f - 1, by omega⟩
          have hb1 : gI u4 45 = 1 := by rw [b4, b3]; exact s1
          rw [bX1_hasType_L5, if_neg (by omega), wp_un, hb1, if_neg (by decide), wp_some]
          refine out s2 r3 u4 hC4 ⟨G, gi, fun w => ?_, fun _ => hb1, hU4⟩ hg4 hb1
          rcases w with w | w | w
          · rw [hb1] at w; cases w
          · rw [hb] at w; cases w
          · exact absurd trivial w
    rw [bX1_hasType_L5, if_neg (by omega), wp_un, hb, if_pos rfl, wp_jn, ld_nat (by omega), hn1.2.1 (by omega)]
    refine wp_eq a1 ?_
    refine wp_call (tX1_modeFact (x := x) (m := wh (trC ν u1 y)) (a := a) hW hK hKl hAt (by omega) (by omega) hC hb hA hG hx1 (by rw [etx1]; exact hE.H hxH) (by omega) (by omega) (by rw [etx1, a3]; exact F1) (by rw [etx1, a3]; exact ExC.alm hE.1 (hal _ hself)) hca (by omega) hl1) (fun v u2 h => ?_)
    rw [etx1, a3] at h
    have hr01 : r1 = 0 ∨ r1 = 1 := by rcases hrc with q | q; exact Or.inl q.1; exact Or.inr q.1
    rcases h with ⟨q1, q2, q3⟩ | ⟨q1, q2, q3⟩
    · subst q2
      rw [q1, if_pos rfl]
      exact rest r1 u2 H1 p1 M1 J1 hr01 (ExC.rf _ _ _ _) hC (UpZ.of (OvL.rf hC) id (Up.rf hs1)) GrH.rf (Or.inl ⟨hb, hA, hG, ⟨q3, fun q => hA _ q3 q⟩, hrc⟩)
    · rw [q1, if_neg (by decide)]
      obtain ⟨H2, p2, M2, J2, e1, e2, e3, e4, e5⟩ := q3
      refine rest 1 u2 H2 p2 M2 J2 (Or.inr rfl) e1 e2 e3 e4 (e5.imp (fun ⟨s1, s2, s3, s4, s5, s6⟩ => ⟨s1, s2, s3, ⟨s4, s5⟩, Or.inr ⟨rfl, ?_⟩⟩) id)
      have hJ : J1.length ≤ J2.length := by obtain ⟨_, _, _, _, ⟨J3, e⟩⟩ := e1; rw [e]; simp
      rcases hrc with ⟨_, _, x3, x4⟩ | ⟨_, x3⟩
      · rw [← x3, ← x4]; omega
      · omega
theorem tX1_hasType {d n : Nat} {ν : Nat → Nat} {c : Nat} {W : Wd} {S : Fs} {X : XFm} {Kl Q : List Nat} {u : Sg} {H : List Nat} {p : Nat → Nat} {M : List (Nat × Nat × Nat)} {J : List (Nat × Nat)} {x y : Nat} (hW : WOK W (Nm ν c)) (hGk : WGK W (Nm ν c)) (hK : ∀ f ∈ Kl, kd f = 14 → wh f < 20) (hKl : Kl.length ≤ 2500) (hAt : AtSp ν c W S X Kl n) (hd : 322 + 6 * n ≤ d) (hn : 100 ≤ H.length + n) (hC : CaP ν c W S Kl u H p M J) (hb : gI u 45 = 0) (hA : ArgOK M H) (hG : ∀ z ∈ H, z ∉ Q → GoodC W H M J z) (hx : x < nC u) (hxH : trC ν u x ∈ H) (y0 : 0 < y) (hy : y < nC u) (hty : clty W (Nm ν c) (trC ν u y)) (hF : tyF W S (trC ν u x) (trC ν u y)) (hX : ∀ z ∈ upT W (trC ν u y), (pa z 0 = 0 → paX W X.1 z) ∧ (pa z 0 ≠ 0 → paX W (X.2 (pa z 0)) z)) (hal : ∀ z ∈ upT W (trC ν u y), (trC ν u x, wh z, pa z 0) ∈ ALM W Kl H) (hr : rC u ≤ 20000) (hl : LimH ν u S X H) :
    wp (runC d 48 [(x : Int), (y : Int)] u) (fun r u' => AtR ν c W S X Kl Q u H p M J (fun H' M' J' => chF W (trC ν u x) (trC ν u y) H' M' J' ∧ rcd r H M J H' M' J') u') := by
  obtain ⟨d, rfl⟩ : ∃ d', d = d' + 1 := ⟨d - 1, by omega⟩
  rw [runC_eq (by omega)]
  show wp (bX1_hasType (runC d) x y u) _
  unfold bX1_hasType
  have hwm := (hty.1.lc.2.2.1 hty.2.1).1
  have h20 := hC.1.2.2.2.1.2.1.2
  refine wp_mono (hasType_L5 hW hGk hK hKl hAt (by omega) hn hC.1.1 hx rfl hxH hb hr hl (wh (trC ν u y) + 1) KF 0 u H p M J y (by omega) (Nat.lt_of_le_of_lt (by omega : _ ≤ 65536) KF_gt) (ExC.rf _ _ _ _) hC (Up.rf hC.1.1) GrH.rf hb hA hG (Or.inl ⟨rfl, rfl, rfl, rfl⟩) y0 hy hty hF hX hal) (fun r u' h => h.imp (fun H' M' J' _ hp => ⟨hp.1, hp.2.2.2.2⟩))
