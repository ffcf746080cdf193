/-! face: join -/
def okJn (Fo : List Nat) (k f g : Int) : Prop := (0 ≤ k ∧ k ≤ 4) ∧ isS Fo 2 f ∧ (k = 0 → g = -1) ∧ (k ≠ 0 → isS Fo 2 g)
def Djn : Nat := DX1_join
theorem DjnC : ∀ k, k = 13 ∨ k = 14 ∨ (21 ≤ k ∧ k ≤ 99) → (DX2_iff ||| DX1_either).testBit k = false := fun k hk => by
  rcases hk with q | q | q
  · rw [q]; decide +kernel
  · rw [q]; decide +kernel
  · exact (by decide +kernel : ∀ k, k ≤ 99 → 21 ≤ k → (DX2_iff ||| DX1_either).testBit k = false) k q.2 q.1
theorem tX1_either {d : Nat} (hd : 13 ≤ d) {W : Wd} {N : Nat → Prop} {c : Nat} {u : Sg} {x1 x2 : Nat} {X : Nat → Prop} (hw : WF FC u) (hs : SC nu2 c u) (hyn : YN nu2 u) (x10 : 0 < x1) (hx1 : x1 < nC u) (x20 : 0 < x2) (hx2 : x2 < nC u) (f1 : fF W N (trC nu2 u x1)) (f2 : fF W N (trC nu2 u x2)) (z1 : szT (trC nu2 u x1) ≤ 200) (z2 : szT (trC nu2 u x2) ≤ 200) (h5 : rC u ≤ 28000) (hX : ∀ t, jnX (trC nu2 u x1) (trC nu2 u x2) t → X t) (hl : Lim nu2 u X) : wp (runC d 27 [(x1 : Int), (x2 : Int)] u) (RsT nu2 c DX1_either u (notT (andT [notT (trC nu2 u x1), notT (trC nu2 u x2)])) X) := by
  obtain ⟨d, rfl⟩ : ∃ d', d = d' + 1 := ⟨d - 1, by omega⟩
  rw [runC_eq (by omega)]
  show wp (bX1_either (runC d) x1 x2 u) _
  unfold bX1_either
  have n1 := fF_not f1
  have n2 := fF_not f2
  refine wp_call (tX2_not (by omega) hw hs x10 hx1 (by omega) (not_ps f1.1.1.1) (hX _ (Or.inl rfl)) hl) (fun r1 u1 ⟨y1, e1, y10, hy1, ty1, up1, w1, g1⟩ => ?_)
  subst e1
  have m1 := up1.n hs
  have t2 : trC nu2 u1 x2 = trC nu2 u x2 := up1.tr hs hx2
  refine wp_call (tX2_not (by omega) w1 up1.sc x20 (by omega) (by rw [up1.r]; omega) (by rw [t2]; exact not_ps f2.1.1.1) (by rw [t2]; exact hX _ (Or.inr (Or.inl rfl))) (up1.lim hl)) (fun r2 u2 ⟨y2, e2, y20, hy2, ty2, up2, w2, g2⟩ => ?_)
  subst e2
  rw [t2] at ty2
  have m2 := up2.n up1.sc
  have t1 : trC nu2 u2 y1 = notT (trC nu2 u x1) := by rw [up2.tr up1.sc hy1, ty1]
  have up12 := up1.join up2
  have g12 := mkD (D := DX1_either) g1 g2 (by decide +kernel) (by decide +kernel)
  refine wp_call (tX2_and (by omega) w2 up2.sc (hyn.up hs up12.ux g12 (by decide +kernel) (by decide +kernel)) y10 (by omega) y20 hy2 (by rw [t1]; exact n1.1.1.1.1) (by rw [ty2]; exact n2.1.1.1.1) (by rw [t1]; omega) (by rw [ty2]; omega) (by rw [up12.r]; omega) (by rw [t1, ty2]; exact hX _ (Or.inr (Or.inr (Or.inr (Or.inl rfl))))) (up12.lim hl)) (fun r3 u3 ⟨y3, e3, y30, hy3, ty3, up3, w3, g3⟩ => ?_)
  subst e3
  rw [t1, ty2] at ty3
  have up13 := up12.join up3
  have ha := fF_and (W := W) (N := N) (L := [notT (trC nu2 u x1), notT (trC nu2 u x2)]) (fun f hf => by
    simp at hf
    rcases hf with e | e
    · rw [e]; exact n1.1
    · rw [e]; exact n2.1)
  refine wp_call (tX2_not (by omega) w3 up3.sc y30 hy3 (by rw [up13.r]; omega) (by rw [ty3]; exact not_ps ha.1.1.1.1) (by rw [ty3]; exact hX _ (Or.inr (Or.inr (Or.inr (Or.inr (Or.inl rfl)))))) (up13.lim hl)) (fun r4 u4 h4 => ?_)
  rw [wp_some]
  rw [ty3] at h4
  exact RsT.chain up13 (mkD (D := DX1_either) g12 g3 (by decide +kernel) (by decide +kernel)) (by decide +kernel) (by decide +kernel) h4
theorem cJoin {d : Nat} (hd : 310 ≤ d) {W : Wd} {c : Nat} {Fo Pr : List Nat} {lc : Nat} {K : Int} {u : Sg} {X : Nat → Prop} (h : ReC W c Fo Pr lc K u) (hF : FoW W (Nm nu2 c) Fo) (h9 : 0 ≤ gI u 99 ∧ gI u 99 < 1000000) (hFl : Fo.length < 400) (hK : K < 1000000) (k f g : Int) (hl : Lim nu2 u X) (h5 : P5u u X) (hX : ∀ t, jnX (frm Fo f) (frm Fo g) t → X t) : wp (runC d 25 [k, f, g] u) (FkC (okJn Fo k f g) (jnT k (frm Fo f) (frm Fo g)) W c Fo Pr lc K u X) := by
  obtain ⟨d, rfl⟩ : ∃ e, d = e + 1 := ⟨d - 1, by omega⟩
  rw [runC_eq (by omega)]
  show wp (bX1_join (runC d) k f g u) _
  have hs := h.1.1
  have hr0 := h.2.2.2.2.1
  have hn9 := nC_le hs
  have fin : ∀ {D : Nat} (r : Int) (u' : Sg), okJn Fo k f g → RsT nu2 c D u (jnT k (frm Fo f) (frm Fo g)) X r u' → D &&& (DX2_iff ||| DX1_either) = D → wp (cl (runC d 16 [r, (nC u : Int), (pC u : Int)] u') fun v s => pr v s (some (v, s))) (FkC (okJn Fo k f g) (jnT k (frm Fo f) (frm Fo g)) W c Fo Pr lc K u X) := fun r u' hok ⟨x, e, x0, hx, et, hU, hw1, hg⟩ hD => by
    rw [e]
    exact FkC.kp (by omega) h hU hw1 (hg.sub hD) DjnC h9 x0 hx et hFl hK (fun z q => h5 z (hU.2.2.2.2.1 z q)) hok
  have nok : k < 0 ∨ 4 < k → ¬ okJn Fo k f g := fun hk q => by have := q.1; omega
  unfold bX1_join
  rw [wp_jn]; dsimp only
  rw [wp_jn]; dsimp only
  by_cases k0 : k < 0
  · rw [if_pos k0, wp_jn]; dsimp only
    exact FkC.nb (by omega) h h9 (nok (Or.inl k0)) _
  rw [if_neg k0]
  by_cases k4 : k ≤ 4
  · rw [if_pos k4, wp_jn]; dsimp only
    have sf : ∀ (Kc : Int → Sg → Option (Int × Sg)) , (∀ x : Nat, isS Fo 2 f → 0 < x → x < nC u → trC nu2 u x = frm Fo f → wp (Kc (x : Int) u) (FkC (okJn Fo k f g) (jnT k (frm Fo f) (frm Fo g)) W c Fo Pr lc K u X)) → wp (cl (runC d 26 [f] u) fun v s => pr v s (Kc v s)) (FkC (okJn Fo k f g) (jnT k (frm Fo f) (frm Fo g)) W c Fo Pr lc K u X) := fun Kc hk => by
      rcases cS (d := d) (by omega) h hF.p h9 (s := 2) (by decide) f with ⟨hS, x, x0, hx, et, e⟩ | ⟨hS, e⟩
      · have e : runC d 26 [f] u = some ((x : Int), u) := e
        rw [cl_eq e, pr_n (by omega)]
        exact hk x hS x0 hx et
      · have e : runC d 26 [f] u = some (exB + 1, tS u) := e
        exact FkC.th e h h9 (fun q => hS q.2.1) _
    by_cases kz : k = 0
    · rw [if_pos kz, wp_jn]; dsimp only
      by_cases g1 : g = -1
      · rw [if_pos g1, if_pos rfl, wp_jn]; dsimp only
        rw [cl_eq (need_ok (by omega)), pr_0]
        refine sf _ (fun x hS x0 hx et => ?_)
        rw [if_pos kz, wp_jn]; dsimp only
        rw [wp_un, wp_un, hs.1.1.1.1, hs.1.1.2.1.1, if_pos kz]
        have ej : jnT k (frm Fo f) (frm Fo g) = notT (frm Fo f) := by unfold jnT; rw [if_pos kz]
        have hp := tX2_not (d := d) (X := X) (by omega) h.2.1 hs x0 hx (by omega) (by rw [et]; exact not_ps (hF _ hS.mem).1.1.1) (by rw [et]; exact hX _ (Or.inl rfl)) hl
        rw [et, ← ej] at hp
        exact wp_call hp (fun r u' q => fin r u' ⟨⟨by omega, k4⟩, hS, fun _ => g1, fun z => absurd kz z⟩ q (by decide +kernel))
      · rw [if_neg g1, if_neg (by decide), wp_jn]; dsimp only
        exact FkC.nb (by omega) h h9 (fun q => g1 (q.2.2.1 kz)) _
    · rw [if_neg kz, wp_jn]; dsimp only
      by_cases g1 : g = -1
      · rw [if_pos g1, if_neg (by decide), wp_jn]; dsimp only
        exact FkC.nb (by omega) h h9 (fun q => (q.2.2.2 kz).nn g1) _
      · rw [if_neg g1, if_pos rfl, wp_jn]; dsimp only
        rw [cl_eq (need_ok (by omega)), pr_0]
        refine sf _ (fun x hS x0 hx et => ?_)
        rw [if_neg kz]
        rcases cS (d := d) (by omega) h hF.p h9 (s := 2) (by decide) g with ⟨hS2, y, y0, hy, ey, e2⟩ | ⟨hS2, e2⟩
        · have e2 : runC d 26 [g] u = some ((y : Int), u) := e2
          have hok : okJn Fo k f g := ⟨⟨by omega, k4⟩, hS, fun z => absurd z kz, fun _ => hS2⟩
          have ff : fF W (Nm nu2 c) (frm Fo f) := ⟨(hF _ hS.mem).1, hS.fo⟩
          have fg : fF W (Nm nu2 c) (frm Fo g) := ⟨(hF _ hS2.mem).1, hS2.fo⟩
          have zf := (hF _ hS.mem).2
          have zg := (hF _ hS2.mem).2
          have nf := fF_not ff
          have ng := fF_not fg
          rw [cl_eq e2, pr_n (by omega), wp_jn]; dsimp only
          rw [wp_un, wp_un, hs.1.1.1.1, hs.1.1.2.1.1, if_neg kz]
          by_cases k1 : k = 1
          · have ej : jnT k (frm Fo f) (frm Fo g) = andT [frm Fo f, frm Fo g] := by unfold jnT; rw [if_neg kz, if_pos k1]
            rw [if_pos k1]
            have hp := tX2_and (d := d) (X := X) (by omega) h.2.1 hs h.1.2.1 x0 hx y0 hy (by rw [et]; exact ff.1.1.1) (by rw [ey]; exact fg.1.1.1) (by rw [et]; omega) (by rw [ey]; omega) (by omega) (by rw [et, ey]; exact hX _ (Or.inr (Or.inr (Or.inl rfl)))) hl
            rw [et, ey, ← ej] at hp
            exact wp_call hp (fun r u' q => fin r u' hok q (by decide +kernel))
          rw [if_neg k1]
          by_cases k2 : k = 2
          · have ej : jnT k (frm Fo f) (frm Fo g) = notT (andT [notT (frm Fo f), notT (frm Fo g)]) := by unfold jnT; rw [if_neg kz, if_neg k1, if_pos k2]
            rw [if_pos k2]
            have hp := tX1_either (d := d) (W := W) (N := Nm nu2 c) (X := X) (by omega) h.2.1 hs h.1.2.1 x0 hx y0 hy (by rw [et]; exact ff) (by rw [ey]; exact fg) (by rw [et]; exact zf) (by rw [ey]; exact zg) (by omega) (by rw [et, ey]; exact hX) hl
            rw [et, ey, ← ej] at hp
            exact wp_call hp (fun r u' q => fin r u' hok q (by decide +kernel))
          rw [if_neg k2]
          by_cases k3 : k = 3
          · have ej : jnT k (frm Fo f) (frm Fo g) = impT (frm Fo f) (frm Fo g) := by unfold jnT; rw [if_neg kz, if_neg k1, if_neg k2, if_pos k3]
            rw [if_pos k3]
            have hp := tX2_implies (d := d) (X := X) (by omega) h.2.1 hs h.1.2.1 x0 hx y0 hy (by rw [et]; exact ff.1.1.1) (by rw [ey]; exact fg.1.1.1) (by rw [et]; exact ff.2) (by rw [ey]; exact fg.2) (by rw [et]; omega) (by rw [ey]; omega) (by omega) (by rw [ey]; exact hX _ (Or.inr (Or.inl rfl))) (by rw [et, ey]; exact hX _ (Or.inr (Or.inr (Or.inr (Or.inr (Or.inr (Or.inl rfl))))))) (by rw [et, ey]; exact hX _ (Or.inr (Or.inr (Or.inr (Or.inr (Or.inr (Or.inr (Or.inl rfl)))))))) hl
            rw [et, ey, ← ej] at hp
            exact wp_call hp (fun r u' q => fin r u' hok q (by decide +kernel))
          · have ej : jnT k (frm Fo f) (frm Fo g) = iffT (frm Fo f) (frm Fo g) := by unfold jnT; rw [if_neg kz, if_neg k1, if_neg k2, if_neg k3]
            rw [if_neg k3]
            have i1 := fF_imp ff fg
            have i2 := fF_imp fg ff
            have hp := tX2_iff (d := d) (X := X) (by omega) h.2.1 hs h.1.2.1 x0 hx y0 hy (by rw [et]; exact ff.1.1.1) (by rw [ey]; exact fg.1.1.1) (by rw [et]; exact ff.2) (by rw [ey]; exact fg.2) (by rw [et]; omega) (by rw [ey]; omega) (by rw [ey]; omega) (by rw [et]; omega) (by rw [et, ey]; omega) (by rw [et, ey]; omega) (by omega) (by
              rw [et, ey]
              intro t ht
              refine hX t ?_
              unfold jnX
              rcases ht with q | q | q | q | q | q | q
              · exact Or.inr (Or.inl q)
              · exact Or.inr (Or.inr (Or.inr (Or.inr (Or.inr (Or.inl q)))))
              · exact Or.inr (Or.inr (Or.inr (Or.inr (Or.inr (Or.inr (Or.inl q))))))
              · exact Or.inl q
              · exact Or.inr (Or.inr (Or.inr (Or.inr (Or.inr (Or.inr (Or.inr (Or.inl q)))))))
              · exact Or.inr (Or.inr (Or.inr (Or.inr (Or.inr (Or.inr (Or.inr (Or.inr (Or.inl q))))))))
              · exact Or.inr (Or.inr (Or.inr (Or.inr (Or.inr (Or.inr (Or.inr (Or.inr (Or.inr q))))))))) hl
            rw [et, ey, ← ej] at hp
            exact wp_call hp (fun r u' q => fin r u' hok q (by decide +kernel))
        · have e2 : runC d 26 [g] u = some (exB + 1, tS u) := e2
          exact FkC.th e2 h h9 (fun q => hS2 (q.2.2.2 kz)) _
  · rw [if_neg k4, wp_jn]; dsimp only
    exact FkC.nb (by omega) h h9 (nok (Or.inr (by omega))) _
