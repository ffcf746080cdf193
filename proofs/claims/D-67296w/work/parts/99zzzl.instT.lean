section MQ
variable {Mq : MqT}
/-- the numbers of nodes before a mark take the same room -/
theorem dSum_tr {ν : Nat → Nat} {c : Nat} {u u1 : Sg} (hs : ST ν c u) (hs1 : ST ν c u1) {n : Nat} (hn : n ≤ nT u) (hn1 : n ≤ nT u1) (h : ∀ x, x ≤ n → trT ν u1 x = trT ν u x) : dSum u1 n = dSum u n := by
  have key : ∀ m, m ≤ n → dSum u1 m = dSum u m := by
    intro m
    induction m with
    | zero => intro _; rfl
    | succ m ih =>
      intro hm
      have e1 : dSum u1 (m + 1) = dSum u1 m + (rawT u1 (m + 1)).2.length := rfl
      have e2 : dSum u (m + 1) = dSum u m + (rawT u (m + 1)).2.length := rfl
      have l1 : (rawT u1 (m + 1)).2.length = (gN u1 3 (m + 1)).toNat := by unfold rawT; simp
      have l2 : (rawT u (m + 1)).2.length = (gN u 3 (m + 1)).toNat := by unfold rawT; simp
      have n1 := (nodeT hs1 (x := m + 1) (by omega) (by omega)).2.1
      have n2 := (nodeT hs (x := m + 1) (by omega) (by omega)).2.1
      rw [h (m + 1) hm] at n1
      rw [e1, e2, ih (by omega), l1, l2, n1, n2]
  exact key n (Nat.le_refl _)
def Dfl : Nat := DX3_losing ||| DX3_forget
/-- after an instance -/
def InsQ (Mq : MqT) (ν : Nat → Nat) (c : Nat) (W : Wd) (S : Fs) (X : Nat → Prop) (Kl : List Nat) (l : Ls) (Fu Fi : Nat → Prop) (Cl Gl Nl Ol : List Nat) (c0 fi : Nat) (ν0 : Nat → Nat) (u0 u : Sg) (g : Nat) (P : Prop) : Int → Sg → Prop := fun _ u' => ∃ Cl' Gl', (∀ g ∈ Cl, g ∈ Cl') ∧ RdT Mq ν c W S X Kl l Fu Fi Cl' Gl' [] Nl Ol c0 fi ν0 u0 u' ∧ (nT u ≤ nT u' ∧ ∀ y, y ≤ nT u → trT ν u' y = trT ν u y) ∧ (P → g ∈ Kl ∨ g ∈ Cl') ∧ Cl'.length ≤ Cl.length + 1 ∧ Gl'.length ≤ Gl.length + 1
/-- an instance of a formula ALL -/
theorem tX3_instance {d : Nat} {ν : Nat → Nat} {c : Nat} {W : Wd} {S : Fs} {X : Nat → Prop} {Kl : List Nat} {l : Ls} {Fu Fi : Nat → Prop} {Cl Gl Nl Ol : List Nat} {c0 fi x f tn t : Nat} {ν0 : Nat → Nat} {u0 u : Sg} (hd : 25 + htT (pa f 1) ≤ d) (hd2 : 25 + htQ (pa f 1) ≤ d) (hW : WOK W (NT ν c)) (hK : KlOK W (NT ν c) Kl) (hl : LimRT ν0 u0 X Kl Fu Fi) (hKX : ∀ f ∈ Kl, ∀ z, subT z f → ndT ν0 u0 z) (hr0 : hT u0 ≤ 20000) (h : RdT Mq ν c W S X Kl l Fu Fi Cl Gl [] Nl Ol c0 fi ν0 u0 u) (hgl : Kl.length + Gl.length ≤ 500 ∨ Gl.length ≤ 100) (hCl : Cl.length ≤ 4999) (x0 : 0 < x) (hx : x ≤ nT u) (ex : trT ν u x = f) (h18 : kd f = 18) (hfr : frW W (NT ν c) f) (hfc : closT f) (hsz : szQ (pa f 1) ≤ 900) (hh : htQ (pa f 1) ≤ 900) (t0 : 0 < tn) (htn : tn ≤ nT u) (et : trT ν u tn = t) (htH : t ∈ l.1) (hFi : fitS (FsQ l) t (pa f 0) → Fi (sbT (putg t) 0 (pa f 1))) (hFu : fitS (FsQ l) t (pa f 0) → instOK (FsQ l) t (pa f 1) → Fu (sbT (putg t) 0 (pa f 1))) : wp (runT d 107 [(x : Int), (tn : Int)] u) (InsQ Mq ν c W S X Kl l Fu Fi Cl Gl Nl Ol c0 fi ν0 u0 u (sbT (putg t) 0 (pa f 1)) (fitS (FsQ l) t (pa f 0) ∧ instOK (FsQ l) t (pa f 1))) := by
  obtain ⟨d, rfl⟩ : ∃ d', d = d' + 2 := ⟨d - 2, by omega⟩
  rw [runT_eq (by omega)]
  show wp (bX3_instance (runT (d + 1)) x tn u) _
  unfold bX3_instance
  have hA := h.1
  have hC := hA.1
  have hs := hC.1.1
  have hw := hC.2.1
  obtain ⟨ty, b, hps, py, pb, k8, hbf, my, mb, _⟩ := all_parts hfr.1 h18
  obtain ⟨cty, hlb, hfb, _⟩ := all_clo hfr hfc h18
  rw [pb] at hd hd2 hsz hFi hFu hh hlb hfb ⊢
  rw [py] at hFi hFu cty ⊢
  have htc := (hC.2.2.2.2.2.1 t htH).1
  have hml := hC.ml hW (hK.wh hC.1.2.2.2.1.2.1.2) hK.1
  have hM9 := hC.2.2.2.2.2.2.2.1.2
  have nw0 : nw (kd f) = 0 := by rw [h18]; decide
  obtain ⟨yn, y1, y2, y3⟩ := partNT (d := d + 1) (i := 0) (by omega) hs x0 hx (by rw [ex, hps]; simp) (Or.inr rfl)
  rw [ex, nw0] at y1
  rw [ex, py] at y3
  have yn0 : 0 < yn := Nat.pos_of_ne_zero (fun q => by rw [q] at y3; rw [← y3, show trT ν u 0 = 0 from rfl, kd0] at k8; omega)
  have hhu := h.hh
  refine wp_eq y1 ?_
  obtain ⟨m1, m2⟩ := rX3_fitsHere (d := d + 1) (l := l) (x := tn) (y := yn) (by omega) hC.2.2.1.1 hs hC.2.2.2.1 (by omega) (fun q hq => (hM9 q hq).2.2.2.1) hC.2.2.2.2.1 (by omega) htn (by rw [et]; exact htH) yn0 (by omega) (by rw [y3]; exact k8) (by rw [y3]; exact cty.1.1) (by rw [y3]; exact fun q => (cty.1.lc.2.2.1 k8).2.1.mpr (by rw [q]; exact hW.1))
  rw [et, y3] at m1 m2
  by_cases hfit : fitS (FsQ l) t ty
  · refine wp_eq (m1 hfit) ?_
    rw [if_neg (by decide)]
    have hlg := h.limg hl hKX hgl (hFi hfit)
    have hgo : okT (sbT (putg t) 0 b) := okT_sb b hfb.1 (gOn_put hfb.1 htc.1.1 htc.2.1) 0
    -- the instance comes
    refine wp_jnG (fun j => ∀ u2 : Sg, RdT Mq ν c W S X Kl l Fu Fi Cl Gl [sbT (putg t) 0 b] Nl Ol c0 fi ν0 u0 u2 → UpT ν c u u2 (fun z => X z ∨ subT z (sbT (putg t) 0 b)) → WF FT u2 → instOK (FsQ l) t b → wp (j (x : Int) (tn : Int) u2) (InsQ Mq ν c W S X Kl l Fu Fi Cl Gl Nl Ol c0 fi ν0 u0 u (sbT (putg t) 0 b) (fitS (FsQ l) t ty ∧ instOK (FsQ l) t b))) (fun u2 hR2 hU2 w2 hok => ?_) (fun j5 hj5 => ?_)
    · have hs2 := hU2.1
      have hx2 : x ≤ nT u2 := Nat.le_trans hx hU2.n
      have ex2 : trT ν u2 x = f := by rw [hU2.tr hs hx]; exact ex
      have et2 : trT ν u2 tn = t := by rw [hU2.tr hs htn]; exact et
      obtain ⟨bn, b1, b2, b3⟩ := partNT (d := d + 1) (i := 1) (by omega) hs2 x0 hx2 (by rw [ex2, hps]; simp) (Or.inl (by rw [ex2]; omega))
      rw [ex2, nw0] at b1
      rw [ex2, pb] at b3
      have bn0 : 0 < bn := Nat.pos_of_ne_zero (fun q => isFo_pos hbf (by rw [← b3, q]; rfl))
      have hh2 : hT u2 = hT u := hU2.2.2.2.1
      show wp (cl (runT (d + 1) 7 [(x : Int), 1] u2) _) _
      refine wp_eq b1 ?_
      refine wp_call (tX3_put htc.1.1 htc.2.1 htc.2.2.1 b hfb.1 (d + 1) u2 bn 0 tn (fun z => X z ∨ subT z (sbT (putg t) 0 b)) (by omega) hsz w2 hs2 bn0 (by omega) b3 t0 (Nat.le_trans htn hU2.n) et2 (by omega) (by omega) (ImT_put htc.1.1 htc.2.1 b hfb.1 0 (fun z hz => Or.inr (Or.inr hz))) (hU2.lim hlg) (by omega)) (fun r u3 ⟨z, z1, z2, z3, z4, z5, z6, z7⟩ => ?_)
      rw [z1]
      have hR3 := hR2.frP (Or.inr rfl) z5 z6 z7 (by decide +kernel) (by decide +kernel) (by decide +kernel)
      refine wp_call (rdT_comes (d := d) (by omega) hKX hR3 (Or.inr ⟨rfl, hFi hfit⟩) (by omega) z2 z3 z4 (hFu hfit hok)) (fun r4 u4 ⟨Cl4, Gl4, c1, c2, e4, c3, c4, c5, _⟩ => ?_)
      rw [wp_some]
      exact ⟨Cl4, Gl4, c1, c2, ⟨by rw [e4.1.n]; exact Nat.le_trans hU2.n z5.n, fun y hy => by rw [e4.1.tr, z5.tr hs2 (Nat.le_trans hy hU2.n), hU2.tr hs hy]⟩, fun _ => c3, c4, c5⟩
    · -- what is lost
      have q8 : gI u 8 = (nT u : Int) := hs.1.1.1.1
      have q10 : gI u 10 = (dT u : Int) := hs.1.1.2.1.1
      rw [wp_un, q8, wp_un, q10, wp_un, wp_un]
      have g1 : Gr FT DX3_losing u (sI (sI u 71 0) 72 0) := (Gr_sI (by decide +kernel)).tr (Gr_sI (by decide +kernel))
      have w1 : WF FT (sI (sI u 71 0) 72 0) := wfBT (wfBT hw (Or.inl rfl)) (Or.inl rfl)
      have e1 : EqH u (sI (sI u 71 0) 72 0) := (EqH.sI (by omega)).trn (EqH.sI (by omega))
      have i71 : gI (sI (sI u 71 0) 72 0) 71 = 0 := rfl
      have i72 : gI (sI (sI u 71 0) 72 0) 72 = 0 := rfl
      generalize sI (sI u 71 0) 72 0 = u1 at *
      have hs1 := e1.st hs
      have t1 : ∀ y, trT ν u1 y = trT ν u y := fun y => e1.1.tr
      have n1 : nT u1 = nT u := e1.1.n
      have hR1 := h.frP (g := sbT (putg t) 0 b) (Or.inl rfl) (e1.up hs) w1 g1 (by decide +kernel) (by decide +kernel) (by decide +kernel)
      obtain ⟨bn, b1, b2, b3⟩ := partNT (d := d + 1) (i := 1) (by omega) hs1 x0 (by omega : x ≤ nT u1) (by rw [t1, ex, hps]; simp) (Or.inl (by rw [t1, ex]; omega))
      rw [t1, ex, nw0] at b1
      rw [t1 x, ex, pb] at b3
      have bn0 : 0 < bn := Nat.pos_of_ne_zero (fun q => isFo_pos hbf (by rw [← b3, q]; rfl))
      have hh1 : hT u1 = hT u := e1.hh
      refine wp_eq b1 ?_
      refine wp_call (tX3_losing htc.1.1 htc.2.1 htc.2.2.1 b hfb.1 (H := l.1) (p := l.2.1) (s := tn) (d + 1) u1 bn 0 (fun z => X z ∨ subT z (sbT (putg t) 0 b)) (by omega) (by omega) hsz w1 hs1 hR1.1.1.2.2.1.1 t0 (by omega) (by rw [t1]; exact et) bn0 (by omega) b3 (by omega) (by omega) (fun z hz => Or.inr hz) (e1.lim hlg) (by omega)) (fun r u2 ⟨a1, a2, a3, a4⟩ => ?_)
      have hR2 := hR1.frP (Or.inr rfl) a1 a2 a3 (by decide +kernel) (by decide +kernel) (by decide +kernel)
      have hU2 : UpT ν c u u2 (fun z => X z ∨ subT z (sbT (putg t) 0 b)) := (e1.up hs).join a1
      obtain ⟨⟨l1, l2⟩, l3, l4⟩ := a4
      rw [i71] at l2
      rw [i72] at l4
      rw [wp_un]
      by_cases hlose : exW anyW b 0
      · rw [l1 hlose, if_neg (by decide), wp_un]
        by_cases hmeet : exW (atI l.1 t) b 0
        · rw [l3 hmeet, if_neg (by decide)]
          exact hj5 u2 hR2 hU2 a2 (inst_iff.mp (Or.inr hmeet))
        · rw [l4 hmeet, if_pos rfl]
          -- all that was made goes
          have hnok : ¬ instOK (FsQ l) t b := fun q => (inst_iff.mpr q).elim (fun z => z hlose) hmeet
          have hs2 := hU2.1
          have hdm : dT u = dSum u2 (nT u) := by
            rw [dSum_tr hs hs2 (Nat.le_refl _) hU2.n (fun y hy => hU2.tr hs hy)]
            exact hs.2.1.1
          refine wp_call (tX3_forget (d := d + 1) (c' := c) (by omega) a2 hs2 hU2.n hdm hR2.2.2.2.2.2.2.1 (Nat.le_refl _) (fun y y0 hy e => hs2.2.2.1 y y0 (Nat.le_trans hy hU2.n) e)) (fun r3 u3 ⟨f1, f2, f3, f4, f5, f6, f7, f8, f9, f10, f11⟩ => ?_)
          rw [wp_some]
          have tr3 : ∀ y, y ≤ nT u → trT ν u3 y = trT ν u y := fun y hy => by rw [f4 y hy, hU2.tr hs hy]
          have nd3 : ∀ z, ndT ν u3 z → ndT ν u z := fun z ⟨y, y0, hy, e⟩ => ⟨y, y0, by omega, by rw [← tr3 y (by omega)]; exact e⟩
          have hx3 : UxT ν c u u3 X := by
            refine ⟨f1, ⟨by show nT u ≤ nT u3; omega, fun y y0 hy => ?_⟩, fun z hz => Or.inl (nd3 z hz)⟩
            have e2 := hU2.2.1.2 y y0 hy
            show labT ν (rawT u3 y) = labT ν (rawT u y)
            rw [f5]
            exact e2
          have gg : Gr FT Dfl u u3 := ((Gr.sub (by decide +kernel) g1).tr (Gr.sub (by decide +kernel) a3)).tr (Gr.sub (by decide +kernel) f11)
          obtain ⟨⟨z1, z2⟩, z3⟩ := h.2.2.2.2.1
          have hhT : hT u3 = hT u := by
            have : gI u3 13 = gI u2 13 := f7 13 (by omega) (by omega) (by omega) (by omega)
            have e2 : hT u2 = hT u := hU2.2.2.2.1
            rw [← e2]
            unfold hT
            rw [this]
          have hun : UNT ν u ν u3 X := ⟨by omega, tr3, fun z hz => Or.inl (nd3 z hz), hhT, fun i hi => by
            have : gN u3 12 i = gN u2 12 i := by show (u3.2.1 12).2 i = (u2.2.1 12).2 i; rw [f6 12 (by omega) (by omega) (by omega)]
            rw [this]
            exact hU2.2.2.2.2 i hi, gg.I 54 (by decide +kernel)⟩
          have hR3 := h.frG hx3 f10 gg (by decide +kernel) f8 (z3.tr (hun.mon (fun _ q => Or.inr (Or.inl q))))
          exact ⟨Cl, Gl, fun _ q => q, hR3, ⟨by omega, tr3⟩, fun q => absurd q.2 hnok, by omega, by omega⟩
      · rw [l2 hlose, if_pos rfl]
        exact hj5 u2 hR2 hU2 a2 (inst_iff.mp (Or.inl hlose))
  · refine wp_eq (m2 hfit) ?_
    rw [if_pos rfl, wp_some]
    exact ⟨Cl, Gl, fun _ q => q, h, ⟨Nat.le_refl _, fun _ _ => rfl⟩, fun q => absurd q.1 hfit, by omega, by omega⟩
end MQ
