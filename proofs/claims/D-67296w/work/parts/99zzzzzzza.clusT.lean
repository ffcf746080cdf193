/-! face: cluster in the model -/
theorem ReT.sl {W : Wd} {c : Nat} {Fo Pr : List Nat} {lc : Nat} {K : Int} {u : Sg} {k : Nat} {v : Int} (h : ReT W c Fo Pr lc K u) (hW : WOK W (NT nt2 (c + 2))) (h1 : 29 ≤ k) (h2 : k ≤ 36) (hk : FT.2.1 k = 1) (hv : inR v) : ReT W c Fo Pr lc K (sA u k (wnG W : Int) v) := by
  refine h.rs hW (fun j hj q => aA (by omega)) (fun j _ => rfl) (fun j q1 q2 => gL_sA _ _ _ _ _) (fun j i q1 q2 hi => ?_) (wfAT h.2.1 hk hv)
  rw [gN_sAn, if_neg (by omega)]
/-- what a registration comes to in the model -/
def RgM (ok : Prop) (W W' : Wd) (c : Nat) (Fo Pr : List Nat) (lc : Nat) (K : Int) (u : Sg) : Int → Sg → Prop := FcT ok (wnG W = 30) (wnG W : Int) (fun u' => ReT W' c Fo Pr lc K u' ∧ NdT u u' (fun _ => False)) (fun u' => ReT W c Fo Pr lc K u' ∧ NdT u u' (fun _ => False))
theorem RgM.bad {d : Nat} (hd : 3 ≤ d) {ok : Prop} {W W' : Wd} {c : Nat} {Fo Pr : List Nat} {lc : Nat} {K : Int} {u u1 : Sg} (h : ReT W c Fo Pr lc K u1) (hn : ∀ z, ndT nt2 u1 z → ndT nt2 u z) (hb : ¬ ok) : wp (cl (runT d 17 [1] u1) fun v s => some (v, s)) (RgM ok W W' c Fo Pr lc K u) :=
  wp_fails hd (Or.inr (Or.inr ⟨hb, rfl, by rw [gI_sI, if_pos rfl], h.s0 (by decide), fun z ⟨y, a, b, e⟩ => Or.inl (hn z ⟨y, a, b, e⟩)⟩))
theorem RgM.fu {d : Nat} (hd : 3 ≤ d) {ok : Prop} {W W' : Wd} {c : Nat} {Fo Pr : List Nat} {lc : Nat} {K : Int} {u u1 : Sg} (h : ReT W c Fo Pr lc K u1) (hn : ∀ z, ndT nt2 u1 z → ndT nt2 u z) (hok : ok) (hf : wnG W = 30) : wp (cl (runT d 17 [2] u1) fun v s => some (v, s)) (RgM ok W W' c Fo Pr lc K u) :=
  wp_fails hd (Or.inr (Or.inl ⟨hok, hf, rfl, by rw [gI_sI, if_pos rfl], h.s0 (by decide), fun z ⟨y, a, b, e⟩ => Or.inl (hn z ⟨y, a, b, e⟩)⟩))
theorem RgM.rg {d : Nat} (hd : 10 ≤ d) {ok : Prop} {W : Wd} {c : Nat} {Fo Pr : List Nat} {lc : Nat} {K : Int} {u u1 : Sg} {s o a b V : Nat} (h : ReT W c Fo Pr lc K u1) (hn : ∀ z, ndT nt2 u1 z → ndT nt2 u z) (hok : ok) (hlt : wnG W < 30) (hE : RgE u1 (wnG W) s o a b V) : wp (cl (runT d 46 [] u1) fun v s => some (v, s)) (RgM ok W (wRg W s o a b V) c Fo Pr lc K u) := by
  refine wp_call (tRegd hd h hlt hE) (fun r u' ⟨a1, a2, a3, a4⟩ => ?_)
  rw [wp_some]
  exact Or.inl ⟨hok, by omega, a1, a2, a3, fun z hz => Or.inl (hn z (a4 z hz))⟩
theorem set_bits {W : Wd} {s : Int} (h : okSet W s) (h15 : wnA W ≤ 15) (hs : inR s) : bitS s (adjT (mk 8 0 (0 :: setL s))) := by
  refine ⟨hs, fun j hj => ?_⟩
  unfold adjT
  rw [ps_mk]
  show _ ↔ j ∈ setL s
  rw [setL_mem]
  refine ⟨fun q => ⟨?_, q⟩, fun q => q.2⟩
  rcases Nat.lt_or_ge j 31 with z | z
  · exact z
  · rw [h j (by omega)] at q; cases q
theorem ty_tm {y : Nat} (ho : okT y) (h8 : kd y = 8) (h0 : pa y 0 ≠ 0) : isTm (pa y 0) := by
  have e : ∀ a js, ps y = a :: js → pa y 0 = a := fun a js q => by unfold pa; rw [q]; rfl
  rcases ho.n.2 with q | q | q | q | q | q | q | q | q | q | q | q | q | q <;> first | omega | (obtain ⟨-, p, l, hp, ht, -⟩ := q; rw [e _ _ hp] at h0 ⊢; exact ht.resolve_left h0)
theorem tClus {d : Nat} (hd : 310 ≤ d) {W : Wd} {c : Nat} {Fo Pr : List Nat} {lc : Nat} {K : Int} {u : Sg} (h : ReT W c Fo Pr lc K u) (hF : FoP Fo) (hW : WOK W (NT nt2 (c + 2))) (t o s : Int) (hsR : inR s) : wp (runT d 45 [t, o, s] u) (RgM (okCl W Fo t o s) W (wCl W Fo t o s) c Fo Pr lc K u) := by
  obtain ⟨d, rfl⟩ : ∃ e, d = e + 1 := ⟨d - 1, by omega⟩
  rw [runT_eq (by omega)]
  show wp (bX3_cluster (runT d) t o s u) _
  have hs := h.s0 (v := 0) (by decide)
  have hT := hs.1.1
  have hn9 := nT_le hT
  have hnd : ∀ z, ndT nt2 (sI u 0 0) z → ndT nt2 u z := fun z ⟨y, a, b, e⟩ => ⟨y, a, b, e⟩
  have h28 := hs.1.2.2.2.2.2.1.2.1
  have h15 := hs.1.2.2.2.2.2.1.2.2
  obtain ⟨g37, g30, gl, -⟩ := hs.1.2.2.2.2.2.2
  obtain ⟨st1, st2⟩ := tSet (d := d) (u := sI u 0 0) (by omega) h28 h15 hsR
  have bad : ¬ okCl W Fo t o s → wp (cl (runT d 17 [1] (sI u 0 0)) fun v s => some (v, s)) (RgM (okCl W Fo t o s) W (wCl W Fo t o s) c Fo Pr lc K u) := fun hb => RgM.bad (by omega) hs hnd hb
  unfold bX3_cluster
  rw [wp_jn]; dsimp only
  rw [wp_un]
  have vo : ∃ v : Int, runT d 25 [o, 1] (sI u 0 0) = some (v, sI u 0 0) ∧ ((v = 0 ∧ ¬ (isS Fo 1 o ∧ lvL (frm Fo o) 0)) ∨ ∃ x : Nat, v = (x : Int) ∧ 0 < x ∧ x ≤ nT (sI u 0 0) ∧ trT nt2 (sI u 0 0) x = frm Fo o ∧ (isS Fo 1 o ∧ lvL (frm Fo o) 0)) := by
    rcases tCl (d := d) (by omega) hs hF (s := 1) (by decide) o with ⟨q, x, x0, hx, et, e⟩ | ⟨q, e⟩
    · exact ⟨x, e, Or.inr ⟨x, rfl, x0, hx, et, q⟩⟩
    · exact ⟨0, e, Or.inl ⟨rfl, q⟩⟩
  obtain ⟨vz, ez, hz⟩ := vo
  rcases tS' (d := d) (by omega) hs hF (s := 1) (by decide) t with ⟨hS, x, x0, hx, et, e⟩ | ⟨hS, e⟩
  · have e : runT d 12 [t, 1] (sI u 0 0) = some ((x : Int), sI u 0 0) := e
    rw [cl_eq e, cl_eq ez, if_neg (by omega)]
    by_cases hok : okSet W s
    · rw [cl_eq (st1 hok), if_neg (by decide), wp_jn]; dsimp only
      rw [wp_jn]; dsimp only
      obtain ⟨fo, fz, -⟩ := hF _ hS.mem
      have k8 : kd (trT nt2 (sI u 0 0) x) = 8 := by rw [et]; exact hS.k8
      have l1 : 1 ≤ (ps (trT nt2 (sI u 0 0) x)).length := by rw [et]; exact ty_len fo hS.k8
      have n1 : nw (kd (trT nt2 (sI u 0 0) x)) = 1 := by rw [k8]; decide
      have hg : runT d 7 [(x : Int), 1] (sI u 0 0) = some (dt (sI u 0 0) x 1, sI u 0 0) := getT (d := d) (i := 1) (by omega) hT x0 hx (by omega)
      have hp := partT hT x0 hx (i := 0) (t := pa (frm Fo t) 0) (by
        rw [et]
        have l1' : 0 < (ps (frm Fo t)).length := by rw [← et]; omega
        unfold pa
        rw [List.getElem?_eq_getElem l1']; simp)
      rw [n1] at hp
      obtain ⟨p0, p1, -⟩ := hp
      obtain ⟨p2, p3⟩ := p1 (Or.inr rfl)
      have p0 : 0 ≤ dt (sI u 0 0) x 1 := p0
      obtain ⟨b, hb⟩ : ∃ b : Nat, dt (sI u 0 0) x 1 = (b : Int) := ⟨_, (Int.toNat_of_nonneg p0).symm⟩
      have p2 : (dt (sI u 0 0) x 1).toNat < x := p2
      have p3 : trT nt2 (sI u 0 0) (dt (sI u 0 0) x 1).toNat = pa (frm Fo t) 0 := p3
      rw [hb, Int.toNat_natCast] at p2 p3
      rw [cl_eq hg, hb]
      -- the end
      have tail : okCo Fo t o → inT nt2 (sI u 0 0) vz (coT Fo t o) → wp (un (gI (sI u 0 0) 37) fun v18 => if v18 = 30 then (cl (runT d 17 [2] (sI u 0 0)) fun v19 s20 => some (v19, s20)) else (un (gI (sI u 0 0) 37) fun v21 => stA (sI u 0 0) 29 v21 1 fun s22 => un (gI s22 37) fun v23 => stA s22 30 v23 (x : Int) fun s24 => un (gI s24 37) fun v25 => stA s24 31 v25 vz fun s26 => un (gI s26 37) fun v27 => stA s26 35 v27 s fun s28 => cl (runT d 46 [] s28) fun v29 s30 => some (v29, s30))) (RgM (okCl W Fo t o s) W (wCl W Fo t o s) c Fo Pr lc K u) := fun hco hin => by
        have hokC : okCl W Fo t o s := ⟨hS, hok, hco⟩
        have vr : inR vz := by obtain ⟨y, e, hy, _⟩ := hin; constructor <;> omega
        rw [wp_un, g37]
        by_cases hlt : wnG W = 30
        · rw [if_pos (by omega)]
          exact RgM.fu (by omega) hs hnd hokC hlt
        · rw [if_neg (by omega), wp_un, wp_stA]
          refine ⟨⟨by omega, by rw [gl 29 (by decide) (by decide)]; omega⟩, ?_⟩
          rw [wp_un, gI_sA, g37, wp_stA]
          refine ⟨⟨by omega, by rw [gL_sA, gl 30 (by decide) (by decide)]; omega⟩, ?_⟩
          rw [wp_un, gI_sA, gI_sA, g37, wp_stA]
          refine ⟨⟨by omega, by rw [gL_sA, gL_sA, gl 31 (by decide) (by decide)]; omega⟩, ?_⟩
          rw [wp_un, gI_sA, gI_sA, gI_sA, g37, wp_stA]
          refine ⟨⟨by omega, by rw [gL_sA, gL_sA, gL_sA, gl 35 (by decide) (by decide)]; omega⟩, ?_⟩
          have h4 := (((hs.sl hW (k := 29) (v := 1) (by decide) (by decide) rfl (by decide)).sl hW (k := 30) (v := (x : Int)) (by decide) (by decide) rfl ⟨by omega, by omega⟩).sl hW (k := 31) (v := vz) (by decide) (by decide) rfl vr).sl hW (k := 35) (v := s) (by decide) (by decide) rfl hsR
          have he : EqH (sI u 0 0) (sA (sA (sA (sA (sI u 0 0) 29 (wnG W : Int) 1) 30 (wnG W : Int) (x : Int)) 31 (wnG W : Int) vz) 35 (wnG W : Int) s) := (((EqH.sA (by decide)).trn (EqH.sA (by decide))).trn (EqH.sA (by decide))).trn (EqH.sA (by decide))
          refine RgM.rg (by omega) h4 (fun z hz => hnd z (he.1.nd.mp hz)) hokC (by omega) ⟨?_, fun _ => ⟨?_, ?_⟩, fun q => absurd rfl q, fun _ => ?_, fun q => absurd q (by decide)⟩
          · rw [gN_sAn, if_neg (by omega), gN_sAn, if_neg (by omega), gN_sAn, if_neg (by omega), gN_sAn, if_pos ⟨rfl, rfl⟩]; rfl
          · rw [gN_sAn, if_neg (by omega), gN_sAn, if_neg (by omega), gN_sAn, if_pos ⟨rfl, rfl⟩]
            exact inT.ee he ⟨x, rfl, hx, et⟩
          · rw [gN_sAn, if_neg (by omega), gN_sAn, if_pos ⟨rfl, rfl⟩]
            exact inT.ee he hin
          · rw [gN_sAn, if_pos ⟨rfl, rfl⟩]
            exact set_bits hok h15 hsR
      by_cases b0 : b = 0
      · have a0 : pa (frm Fo t) 0 = 0 := by rw [← p3, b0]; rfl
        rw [if_pos (by omega)]
        by_cases o1 : o = -1
        · rw [if_pos o1]
          have hv0 : vz = 0 := by
            rcases hz with ⟨q, _⟩ | ⟨y, _, _, _, _, q⟩
            · exact q
            · exact absurd o1 q.1.nn
          exact tail (Or.inl ⟨a0, o1⟩) (by unfold coT; rw [if_pos a0, hv0]; exact ⟨0, rfl, Nat.zero_le _, rfl⟩)
        · rw [if_neg o1]
          exact bad (fun q => by
            rcases q.2.2 with z | z
            · exact o1 z.2
            · exact z.1.1 a0)
      · have hbp : 0 < b := by omega
        have a0 : pa (frm Fo t) 0 ≠ 0 := by
          have := trT_pos hT hbp (by omega : b ≤ nT (sI u 0 0))
          omega
        rw [if_neg (by omega)]
        rcases hz with ⟨q, hno⟩ | ⟨y, ey, y0, hy, ety, hyes⟩
        · rw [if_pos q]
          exact bad (fun q => by
            rcases q.2.2 with z | z
            · exact a0 z.1
            · exact hno z.2)
        · have hnb := nodeT hT hbp (by omega : b ≤ nT (sI u 0 0))
          rw [p3] at hnb
          have hbl : b < gL (sI u 0 0) 1 := hT.k (by omega)
          rw [if_neg (by omega), wp_ld]
          refine ⟨⟨by omega, by omega⟩, ?_⟩
          rw [gA_nat, hnb.1]
          have hkk : kd (pa (frm Fo t) 0) = 1 ∨ kd (pa (frm Fo t) 0) = 2 ∨ kd (pa (frm Fo t) 0) = 3 ∨ kd (pa (frm Fo t) 0) = 4 ∨ kd (pa (frm Fo t) 0) = 5 ∨ (8 ≤ kd (pa (frm Fo t) 0) ∧ kd (pa (frm Fo t) 0) ≤ 18 ∧ kd (pa (frm Fo t) 0) ≠ 15) := by
            have := ty_tm fo hS.k8 a0
            unfold isTm at this
            omega
          have ht2 := (tkT_in hkk).1
          have nok : ¬ (kd (pa (frm Fo t) 0) = 3 ∧ wh (pa (frm Fo t) 0) = 0) → ¬ okCl W Fo t o s := fun hno q => by
            rcases q.2.2 with z | z
            · exact a0 z.1
            · exact hno z.1.2
          by_cases k2 : tkT (kd (pa (frm Fo t) 0)) = 2
          · have hk := ht2.mp k2
            have nw1 : nw (kd (pa (frm Fo t) 0)) = 1 := by rcases hk with q | q <;> rw [q] <;> decide
            have hg2 : runT d 7 [(b : Int), 0] (sI u 0 0) = some (dt (sI u 0 0) b 0, sI u 0 0) := getT (d := d) (i := 0) (by omega) hT hbp (by omega) (by rw [p3, nw1]; omega)
            rw [if_pos k2, cl_eq hg2]
            by_cases z0 : dt (sI u 0 0) b 0 = 0
            · rw [if_pos z0]
              have k3 : kd (pa (frm Fo t) 0) = 3 := by
                rcases hk with q | q
                · have := (hnb.2.2.1 q).2.1
                  rw [z0] at this
                  exact absurd this (by decide)
                · exact q
              have w0 := hnb.2.2.2.1 nw1 (by omega)
              refine tail (Or.inr ⟨⟨a0, k3, by omega⟩, hyes⟩) ?_
              unfold coT
              rw [if_neg a0]
              exact ⟨y, ey, hy, ety⟩
            · rw [if_neg z0]
              exact bad (nok (fun q => z0 (by rw [hnb.2.2.2.1 nw1 (by omega), q.2]; rfl)))
          · rw [if_neg k2]
            exact bad (nok (fun q => k2 (ht2.mpr (Or.inr q.1))))
    · rw [cl_eq (st2 hok), if_pos rfl]
      exact bad (fun q => hok q.2.1)
  · have e : runT d 12 [t, 1] (sI u 0 0) = some (0, sI u 0 0) := e
    rw [cl_eq e, cl_eq ez, if_pos rfl]
    exact bad (fun q => hS q.1)
