def Dpu : Nat := 17042430230528
theorem hand_push {ν : Nat → Nat} {c : Nat} {W : Wd} {S : Fs} {Kl : List Nat} {u : Sg} {H : List Nat} {p : Nat → Nat} {M : List (Nat × Nat × Nat)} {J : List (Nat × Nat)} {x : Nat} {K : Sg → Option (Int × Sg)} {Q : Int → Sg → Prop} (hC : CaP ν c W S Kl u H p M J) (hlen : H.length < 100) (x0 : 0 < x) (hx : x < nC u) (hxl : x < gL u 42) (hnm : trC ν u x ∉ H) (ht : cltm W (Nm ν c) (trC ν u x)) (hf : fH S (trC ν u x)) (hE : ∀ t, fH S t → fE S t t) (k : ∀ s, Gr FC Dpu u s → CaP ν c W S Kl s (H ++ [trC ν u x]) (puP p H.length H.length) M J → wp (K s) Q) : wp (un (gI u 36) fun v14 => stA u 42 (x : Int) v14 fun s15 => un (gI s15 43) fun v16 => stA s15 39 (x : Int) v16 fun s17 => un (gI s17 43) fun v18 => stA s17 40 v18 (x : Int) fun s19 => un (gI s19 43) fun v20 => un (gI s19 43) fun v21 => stA s19 41 v20 v21 fun s22 => un (gI s22 43) fun v23 => ar (v23 + 1) fun v24 => un (sI s22 43 v24) fun s25 => K s25) Q := by
  obtain ⟨h1, h2, ⟨h3, h3b⟩, h4, h5, h6, h7, ⟨h8, h9⟩, h10, h11⟩ := hC
  have hs := h1.1
  obtain ⟨⟨a1, a2, a3, a4⟩, ⟨b1, b2, b3, b4, b5⟩, c3, c4, c5, c6, c7⟩ := h3
  rw [wp_un, stA_pos ⟨by omega, by omega⟩, wp_un, gI_sA, a1, stA_pos ⟨by omega, by rw [gL_sA]; omega⟩, wp_un, gI_sA, gI_sA, a1, stA_pos ⟨by omega, by rw [gL_sA, gL_sA]; omega⟩, wp_un, wp_un, gI_sA, gI_sA, gI_sA, a1, stA_pos ⟨by omega, by rw [gL_sA, gL_sA, gL_sA]; omega⟩, wp_un, gI_sA, gI_sA, gI_sA, gI_sA, a1, wp_ar]
  refine ⟨⟨by omega, by omega⟩, ?_⟩
  rw [wp_un]
  generalize es : sI (sA (sA (sA (sA u 42 (x : Int) (gI u 36)) 39 (x : Int) (H.length : Int)) 40 (H.length : Int) (x : Int)) 41 (H.length : Int) (H.length : Int)) 43 ((H.length : Int) + 1) = s
  have w : WF FC s := by
    rw [← es]
    exact wfI (wfA (wfA (wfA (wfA h2 rfl (h2.1 36)) rfl ⟨by omega, by omega⟩) rfl ⟨by omega, by omega⟩) rfl ⟨by omega, by omega⟩) rfl ⟨by omega, by omega⟩
  have G : Gr FC Dpu u s := by
    rw [← es]
    exact (Gr_sA (by decide +kernel)).tr ((Gr_sA (by decide +kernel)).tr ((Gr_sA (by decide +kernel)).tr ((Gr_sA (by decide +kernel)).tr (Gr_sI (by decide +kernel)))))
  obtain ⟨e, hU⟩ := G.ux (X := fun _ => False) hs (by decide +kernel)
  have L : ∀ j, gL s j = gL u j := fun j => by rw [← es, gL_sI, gL_sA, gL_sA, gL_sA, gL_sA]
  have I43 : gI s 43 = (H.length : Int) + 1 := by rw [← es, gI_sI, if_pos rfl]
  have I36 : gI s 36 = gI u 36 := by rw [← es]; rfl
  have N42 : ∀ i, gN s 42 i = if i = x then gI u 36 else gN u 42 i := fun i => by
    rw [← es, gN_sI, gN_sAn, if_neg (by omega), gN_sAn, if_neg (by omega), gN_sAn, if_neg (by omega), gN_sAn]
    by_cases q : i = x
    · rw [if_pos ⟨rfl, q⟩, if_pos q]
    · rw [if_neg (fun z => q z.2), if_neg q]
  have N39 : ∀ i, gN s 39 i = if i = x then (H.length : Int) else gN u 39 i := fun i => by
    rw [← es, gN_sI, gN_sAn, if_neg (by omega), gN_sAn, if_neg (by omega), gN_sAn]
    by_cases q : i = x
    · rw [if_pos ⟨rfl, q⟩, if_pos q]
    · rw [if_neg (fun z => q z.2), if_neg q, gN_sAn, if_neg (by omega)]
  have N40 : ∀ i, gN s 40 i = if i = H.length then (x : Int) else gN u 40 i := fun i => by
    rw [← es, gN_sI, gN_sAn, if_neg (by omega), gN_sAn]
    by_cases q : i = H.length
    · rw [if_pos ⟨rfl, q⟩, if_pos q]
    · rw [if_neg (fun z => q z.2), if_neg q, gN_sAn, if_neg (by omega), gN_sAn, if_neg (by omega)]
  have N41 : ∀ i, gN s 41 i = if i = H.length then (H.length : Int) else gN u 41 i := fun i => by
    rw [← es, gN_sI, gN_sAn]
    by_cases q : i = H.length
    · rw [if_pos ⟨rfl, q⟩, if_pos q]
    · rw [if_neg (fun z => q z.2), if_neg q, gN_sAn, if_neg (by omega), gN_sAn, if_neg (by omega), gN_sAn, if_neg (by omega)]
  refine k s G ⟨h1.up hU.ux G (by decide +kernel), w, ⟨⟨⟨by rw [I43, List.length_append]; rfl, by rw [List.length_append]; exact hlen, by rw [L]; exact a3, by rw [L]; exact a4⟩, ⟨by rw [L, L]; exact b1, by rw [L, L]; exact b2, by rw [L, L]; exact b3, by rw [L]; exact b4, by rw [L]; exact b5⟩, ?_, fun i t hi => ?_, fun y hy => ⟨?_, fun he => ?_⟩, fun i hi => ?_, fun i hi => ?_⟩, by rw [I36]; exact h3b⟩, h4.up hs hU.ux G (by decide +kernel) (by decide +kernel) (by decide +kernel) (by decide +kernel), h5.up hs hU.ux G (by decide +kernel) (by decide +kernel) (by decide +kernel), fun t hm => ?_, fun s' t' hq => ?_, ⟨h8, fun q hq => ?_⟩, h10, fun q hq => ?_⟩
  · refine List.nodup_append.mpr ⟨c3, by simp, fun y hy z hz => ?_⟩
    rw [List.mem_singleton.mp hz]
    intro q; exact hnm (by rw [← q]; exact hy)
  · by_cases hil : i < H.length
    · rw [List.getElem?_append_left hil] at hi
      obtain ⟨y, y1, y2, y3, y4, y5, y6, y7⟩ := c4 i t hi
      have hne : y ≠ x := fun q => hnm (by rw [← q, y4]; exact List.mem_of_getElem? hi)
      exact ⟨y, by rw [N40, if_neg (by omega)]; exact y1, y2, by rw [e.n]; exact y3, by rw [e.tr]; exact y4, by rw [L]; exact y5, by rw [N42, if_neg hne, I36]; exact y6, by rw [N39, if_neg hne]; exact y7⟩
    · rw [List.getElem?_append_right (by omega)] at hi
      have h0 : i - H.length = 0 := by have := (List.getElem?_eq_some_iff.mp hi).1; simp at this; omega
      rw [h0] at hi
      simp at hi
      have ei : i = H.length := by omega
      exact ⟨x, by rw [N40, if_pos ei], x0, by rw [e.n]; exact hx, by rw [e.tr]; exact hi, by rw [L]; exact hxl, by rw [N42, if_pos rfl, I36], by rw [N39, if_pos rfl, ei]⟩
  · rw [L] at hy
    rw [N42, I36]
    by_cases hyx : y = x
    · rw [if_pos hyx]; exact Int.le_refl _
    · rw [if_neg hyx]; exact (c5 y hy).1
  · rw [L] at hy
    rw [N42, I36] at he
    by_cases hyx : y = x
    · exact ⟨H.length, by rw [List.length_append]; exact Nat.lt_succ_self _, by rw [N40, if_pos rfl, hyx]⟩
    · rw [if_neg hyx] at he
      obtain ⟨i, i1, i2⟩ := (c5 y hy).2 he
      exact ⟨i, by rw [List.length_append]; omega, by rw [N40, if_neg (by omega)]; exact i2⟩
  · rw [List.length_append] at hi
    rw [N41]
    unfold puP
    by_cases q : i = H.length
    · rw [if_pos q, if_pos q]
    · rw [if_neg q, if_neg q]
      exact c6 i (by have : i < H.length + 1 := hi; omega)
  · rw [List.length_append] at hi
    unfold puP
    by_cases q : i = H.length
    · rw [if_pos q]; omega
    · rw [if_neg q]
      exact c7 i (by have : i < H.length + 1 := hi; omega)
  · rcases List.mem_append.mp hm with z | z
    · exact h6 t z
    · rw [List.mem_singleton.mp z]; exact ⟨ht, hf⟩
  · rcases (eqL_new c7 hnm s' t').mp hq with z | ⟨z1, z2⟩
    · exact h7 s' t' z
    · rw [z1, z2]; exact hE _ hf
  · obtain ⟨q1, q2, q3⟩ := h9 q hq
    exact ⟨List.mem_append_left _ q1, q2, ExC.alm ⟨_, rfl⟩ q3⟩
  · obtain ⟨q1, q2⟩ := h11 q hq
    exact ⟨List.mem_append_left _ q1, q2⟩
theorem CaP.room {ν : Nat → Nat} {c : Nat} {W : Wd} {S : Fs} {Kl : List Nat} {u u' : Sg} {H : List Nat} {p : Nat → Nat} {M : List (Nat × Nat × Nat)} {J : List (Nat × Nat)} {X : Nat → Prop} (h : CaP ν c W S Kl u H p M J) (hx : Ux ν c u u' X) (hw : WF FC u') (hg : Gr FC DX1_room_2 u u') (hH : HaC ν u' H p) : CaP ν c W S Kl u' H p M J := by
  obtain ⟨h1, h2, ⟨h3, h3b⟩, h4, h5, h6⟩ := h
  have hs := h1.1
  exact ⟨h1.up hx hg (by decide +kernel), hw, ⟨hH, by rw [hg.I 36 (by decide +kernel)]; exact h3b⟩, h4.up hs hx hg (by decide +kernel) (by decide +kernel) (by decide +kernel) (by decide +kernel), h5.up hs hx hg (by decide +kernel) (by decide +kernel) (by decide +kernel), h6⟩
/-- what may be made of terms -/
def XSp (W : Wd) (S : Fs) (X : XFm) : Prop := ∀ t, fH S t → tyX W (X.2 t) t ∧ ∀ z ∈ upT W (tyT W t), (pa z 0 = 0 → paX W X.1 z) ∧ (pa z 0 ≠ 0 → paX W (X.2 (pa z 0)) z)
theorem xf_at {X : XFm} {H : List Nat} {t : Nat} (ht : t ∈ H) (z : Nat) (hz : X.2 t z) : xf X H z := Or.inr ⟨t, ht, hz⟩
def StA (W : Wd) (S : Fs) (Q : List Nat) (u : Sg) (H : List Nat) (M : List (Nat × Nat × Nat)) (J : List (Nat × Nat)) : Prop := (gI u 45 = 0 ∧ ArgOK M H ∧ ∀ y ∈ H, y ∉ Q → GoodC W H M J y) ∨ (gI u 45 = 1 ∧ Bey S H)
theorem tX1_atB {d : Nat} {ν : Nat → Nat} {c : Nat} {W : Wd} {S : Fs} {Kl : List Nat} {u : Sg} {H : List Nat} {p : Nat → Nat} {M : List (Nat × Nat × Nat)} {J : List (Nat × Nat)} {x : Nat} (hd : 5 ≤ d) (hC : CaP ν c W S Kl u H p M J) (hb : gI u 45 = 1) (hx : x < nC u) : ∃ r, runC d 45 [(x : Int)] u = some (r, u) := by
  obtain ⟨d, rfl⟩ : ∃ d', d = d' + 2 := ⟨d - 2, by omega⟩
  rw [runC_eq (by omega)]
  show ∃ r, bX1_atHand (runC (d + 1)) x u = _
  unfold bX1_atHand
  obtain ⟨a1, a2⟩ := rX1_isAtHand (d := d) (by omega) hC.2.2.1.1 hC.1.1 hx
  by_cases hm : trC ν u x ∈ H
  · rw [cl_eq (a1 hm), if_neg (by decide)]; exact ⟨0, rfl⟩
  · rw [cl_eq (a2 hm), if_pos rfl, un_eq, hb, if_neg (by decide)]; exact ⟨0, rfl⟩
