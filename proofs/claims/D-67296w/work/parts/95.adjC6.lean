theorem sA_eqs {u : Sg} {k : Nat} {i v : Int} (hk : 13 ≤ k) : EqS u (sA u k i v) := ⟨fun j hj => by show va_up u.2.1 k _ j = _; unfold va_up; rw [if_neg (by omega)], fun j hj => by rw [gI_sA]⟩
theorem sA_sc {ν : Nat → Nat} {c : Nat} {u : Sg} {k : Nat} {i v : Int} (hk : 13 ≤ k) (hs : SC ν c u) : SC ν c (sA u k i v) := by
  have hr := hs.r
  have er : rC (sA u k i v) = rC u := by unfold rC; rw [gI_sA]
  exact (sA_eqs hk).sc hs ⟨by rw [gI_sA, er]; exact hr.1, by rw [er, gL_sA]; exact hr.2.1⟩ ⟨by rw [gL_sA]; exact hr.2.2.1, by rw [gL_sA]; exact hr.2.2.2⟩
theorem tX1_adj {ν : Nat → Nat} {c : Nat} {W : Wd} (hW : WOK W (Nm ν c)) (hG : WGK W (Nm ν c)) : ∀ (t : Nat), cltm W (Nm ν c) t → AdSp ν c W t := by
  intro t
  induction t using Nat.strongRecOn with
  | ind t ih =>
    intro ht d u x X hd hw hc hm x0 hx h31 et hr hX hl
    obtain ⟨d, rfl⟩ : ∃ d', d = d' + 1 := ⟨d - 1, by omega⟩
    rw [runC_eq (by omega)]
    show wp (bX1_adjectivesOf0 (runC d) x u) (RdC ν c W X t u)
    unfold bX1_adjectivesOf0
    have hs := hc.1
    have hXt := hX t (sub_rf t) ht.2.1
    have hyt := ty_ok hW ht
    have hht : 1 ≤ htT t := by rw [htT_eq]; omega
    have hr12 := hs.r
    refine wp_jnG (fun j => wp (j (x : Int) u) (RdC ν c W X t u)) ?_ ?_
    · show wp (un (gI u 12) _) _
      rw [wp_un, hr12.1]
      refine wp_call (tX1_typeOf (d := d) (x := x) (X := X) (by omega) hw hc hW x0 hx (by rw [et]; exact ht) (by omega) (by rw [et]; exact hXt.1) hl) (fun r u1 ⟨y, z1, y0, z3, z4, z5, z6, z7⟩ => ?_)
      subst z1
      rw [et] at z4
      have hA1 : AdP ν c W u X (rC u) [] u1 := ⟨z5.ux, z6, z5.2.2.2.2.2.2, ⟨by rw [z5.2.2.2.2.2.1]; simp, fun q v h => by simp at h⟩, List.nodup_nil, (fun v h => by cases h), z7.sub (by decide +kernel), hm.up hs z5.ux z7 (by decide +kernel) (by decide +kernel) (by decide +kernel)⟩
      have hwm := (hyt.1.lc.2.2.1 hyt.2.1).1
      have h20 := hc.2.2.2.1.2.1.2
      have hs1 := z5.sc
      refine adj_L46 (by omega) hc hW hG hl (by omega) (wh (trC ν u1 y) + 1) KF u1 y [] (by omega) (Nat.lt_of_le_of_lt (by rw [z4]; omega : _ ≤ 65536) KF_gt) y0 z3 (by rw [z4]; exact hyt) (by rw [z4]; exact fun s hs' => (hXt.2.1 s hs').1) hA1 _ (fun u2 hx12 hA2 => ?_)
      rw [z4] at hA2
      have hs2 := hA2.1.1
      have hn2 := hA2.1.n hs
      have et2 : trC ν u2 x = t := by rw [hA2.1.tr hs hx]; exact et
      have hyn2 : y < nC u2 := Nat.lt_of_lt_of_le z3 (hx12.n hs1)
      have ey2 : trC ν u2 y = tyT W t := by rw [hx12.tr hs1 z3]; exact z4
      refine wp_jnG (fun j => ∀ u3 L3, Ux ν c u2 u3 X → AdP ν c W u X (rC u) L3 u3 → (∀ v, v ∈ L3 ↔ basA W (adT W) t v) → wp (j (x : Int) (rC u : Int) (y : Int) u3) (RdC ν c W X t u)) ?_ ?_
      · intro u3 L3 hx3 hA3 hL3
        have hn3 := hx3.n hs2
        refine adj_L361 (ty := tyT W t) (by omega) hc hW hG hl (by omega) y0 hyt hXt.2.1 31 KF u3 L3 (by omega) (Nat.lt_of_le_of_lt (by omega : _ ≤ 65536) KF_gt) (by omega) (by rw [hx3.tr hs2 hyn2]; exact ey2) hA3 _ (fun u4 L4 hx4 hA4 hsub hsnd hclo => ?_)
        have hL4 : ∀ j, j ∈ L4 ↔ adT W t j := fun j => ⟨fun hj => hsnd (adT W t) (adT.clu W t) (fun v hv => adT.bas ((hL3 v).mp hv)) j hj, fun hj => hj.min (fun i hi => hsub i ((hL3 i).mpr hi)) hclo⟩
        have hs4 := hA4.1.1
        have hlen4 := hA4.len
        have hn4 := hA4.1.n hs
        rw [wp_jn]
        refine wp_call (tX1_typed (d := d) (m := 0) (arg := 0) (b := rC u) (L := L4) (X := X) (by omega) hA4.2.1 hs4 hlen4.2 hA4.2.2.2.1.2 hA4.2.2.2.2.1 (by omega) (by omega) (by omega) (by omega) (fun L' hL' => hXt.2.2.2 L' hL'.1 (fun j => by rw [hL'.2.2.1 j]; exact hL4 j)) (hA4.1.lim hl)) (fun res u5 ⟨L', hL', w, w1, w0, w2, w3, w4, w5, w6, w7, w8, w9, w10⟩ => ?_)
        rw [show trC ν u4 0 = 0 from rfl] at w3
        have hx45 : Ux ν c u4 u5 X := ⟨w4, w5, w6⟩
        have hx5 : Ux ν c u u5 X := hA4.1.trn hx45
        have hm5 := hA4.2.2.2.2.2.2.2.up hs4 hx45 w10 (by decide +kernel) (by decide +kernel) (by decide +kernel)
        have hg5 : Gr FC DX1_adjectivesOf0 u u5 := hA4.2.2.2.2.2.2.1.tr (w10.sub (by decide +kernel))
        have g31 := hg5.2.2.1 31
        have hn5 := hx5.n hs
        have et5 : trC ν u5 x = t := by rw [hx5.tr hs hx]; exact et
        have hb5 := (hx5.lim hl).n w4
        rw [wp_un, if_pos (by omega)]
        show wp (stA u5 31 (x : Int) res fun s17 => un (gI s17 33) fun v18 => stA s17 32 (x : Int) v18 fun s19 => some (res, s19)) _
        rw [stA_pos ⟨by omega, by omega⟩, wp_un, gI_sA, stA_pos ⟨by omega, by rw [gL_sA, hm5.1.1]; omega⟩, wp_some]
        have i33 : inR (gI u5 33) := w9.1 33
        have e1 : EqS u5 (sA (sA u5 31 (x : Int) res) 32 (x : Int) (gI u5 33)) := (sA_eqs (by omega)).trn (sA_eqs (by omega))
        have s1 : SC ν c (sA (sA u5 31 (x : Int) res) 32 (x : Int) (gI u5 33)) := sA_sc (by omega) (sA_sc (by omega) w4)
        have hgr : Gr FC DX1_adjectivesOf0 u (sA (sA u5 31 (x : Int) res) 32 (x : Int) (gI u5 33)) := hg5.tr ((Gr_sA (by decide +kernel)).tr (Gr_sA (by decide +kernel)))
        refine ⟨w, L', w1, w0, by rw [e1.n]; exact w2, by rw [e1.tr]; exact w3, fun j => by rw [hL'.2.2.1 j]; exact hL4 j, ⟨s1.1, s1.2.1, s1.2.2, by rw [e1.st]; exact hx5.2.1, fun s hs' => hx5.2.2 s ((e1.nd s).mp hs'), ?_, fun i hi => ?_⟩, wfA (wfA w9 rfl (by rw [w1]; exact ⟨by omega, by omega⟩)) rfl i33, hgr, ?_⟩
        · show rC (sA (sA u5 31 (x : Int) res) 32 (x : Int) (gI u5 33)) = rC u
          unfold rC
          rw [gI_sA, gI_sA]
          exact w7
        · rw [gN_sA, if_neg (by omega), gN_sA, if_neg (by omega), w8 i hi, hA4.2.2.1 i hi]
        · refine ⟨by simp only [gL_sA]; exact hm5.1, fun s hs' => ⟨?_, fun he => ?_⟩⟩
          · rw [gL_sA, gL_sA] at hs'
            rw [gI_sA, gI_sA, gN_sAn]
            by_cases hsx : s = x
            · rw [if_pos ⟨rfl, hsx⟩]; exact Int.le_refl _
            · rw [if_neg (fun q => hsx q.2), gN_sAn, if_neg (by omega)]; exact (hm5.2 s hs').1
          rw [gL_sA, gL_sA] at hs'
          rw [gI_sA, gI_sA, gN_sAn] at he
          rw [e1.n, e1.tr, gN_sAn, if_neg (by omega), gN_sAn]
          by_cases hsx : s = x
          · rw [if_pos ⟨rfl, hsx⟩, hsx]
            refine ⟨x0, by omega, w, w1, w0, w2, L', by rw [e1.tr]; exact w3, fun j => ?_⟩
            rw [hL'.2.2.1 j, et5]; exact hL4 j
          · rw [if_neg (fun q => hsx q.2)]
            rw [if_neg (fun q => hsx q.2), gN_sAn, if_neg (by omega)] at he
            obtain ⟨a1, a2, v, a3, a4, a5, L5, a6, a7⟩ := (hm5.2 s hs').2 he
            exact ⟨a1, a2, v, a3, a4, a5, L5, by rw [e1.tr]; exact a6, a7⟩
      · intro j hj
        have hn := nodeC hs2 x0 (by omega : x < nC u2)
        rw [et2] at hn
        have l3 : gL u2 3 = gL u2 0 := hs2.1.1.2.2.2.1.2.2.1
        have hmem : ∀ v, v ∈ addAll [] ((upT W (tyT W t)).flatMap adjT) ↔ ∃ z ∈ upT W (tyT W t), v ∈ adjT z := fun v => by
          rw [addAll_mem, List.mem_flatMap]
          exact ⟨fun q => q.elim (fun z => by cases z) id, Or.inr⟩
        rw [ld_nat (by omega), hn.1]
        refine wp_ite (fun h4 => ?_) (fun h4 => ?_)
        · have k4 : kd t = 4 := by omega
          rw [ld_nat (by omega), hn.2.2.1]
          have h30 := hc.2.2.2.2.2.2.2.1
          refine adj_L130 (t := t) (by omega) hc hW hG hl (by omega) ht k4 (fun c1 h1 => ?_) hX x0 h31 (wnG W) 0 KF u2 _ (by omega) (Nat.lt_of_le_of_lt (by omega : _ ≤ 65536) KF_gt) (by omega) et2 hA2 _ (fun u3 L3 hx3 hA3 hL3 => hj u3 L3 hx3 hA3 (fun v => ?_))
          · obtain ⟨i, hi1, hi2, hi3⟩ := fms_at.mp h1
            have hil : i < (ps t).length := (List.getElem?_eq_some_iff.mp hi2).1
            have hcl := (fun_part ht k4 hil).1
            rw [pa_at hi2] at hcl
            exact fits_ad hW hG hcl (ih c1 (fms_lt h1) hcl)
          · rw [hL3, hmem]
            unfold basA
            constructor
            · rintro (q | ⟨g', q1, q2, q3, q4, q5, q6⟩)
              · exact Or.inl q
              · exact Or.inr ⟨k4, g', q2, q3, q4, q5, q6⟩
            · rintro (q | ⟨_, g', q2, q3, q4, q5, q6⟩)
              · exact Or.inl q
              · exact Or.inr ⟨g', Nat.zero_le _, q2, q3, q4, q5, q6⟩
        · refine hj u2 _ (Ux.rf hs2) hA2 (fun v => ?_)
          rw [hmem]
          unfold basA
          exact ⟨Or.inl, fun q => q.elim id (fun z => absurd (by have := z.1; omega) h4)⟩
    · intro j hj
      rw [wp_un, if_pos (by omega), ld_nat (by rw [hm.1.1]; omega), wp_un]
      refine wp_ite (fun he => ?_) (fun _ => hj)
      obtain ⟨a1, a2, v, a3, a4, a5, L5, a6, a7⟩ := (hm.2 x h31).2 he
      rw [ld_nat h31, wp_some]
      rw [et] at a7
      exact ⟨v, L5, a3, a4, a5, a6, a7, Up.rf hs, hw, Gr.rf, hm⟩
theorem tX1_fits0 {ν : Nat → Nat} {c : Nat} {W : Wd} (hW : WOK W (Nm ν c)) (hG : WGK W (Nm ν c)) (t : Nat) (ht : cltm W (Nm ν c) t) : FiSp ν c W t := fits_ad hW hG ht (tX1_adj hW hG t ht)
