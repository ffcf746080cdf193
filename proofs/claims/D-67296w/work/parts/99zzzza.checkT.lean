/-! a check of the model -/
section MQ
variable {Mq : MqT}
def PrT (ν : Nat → Nat) (u : Sg) (Pr : List Nat) : Prop := gI u 81 = (Pr.length : Int) ∧ Pr.length ≤ gL u 80 ∧ Pr.length ≤ 20 ∧ ∀ (i f : Nat), Pr[i]? = some f → ∃ x : Nat, gN u 80 i = (x : Int) ∧ 0 < x ∧ x ≤ nT u ∧ trT ν u x = f
theorem check_L34 {W : Wd} {X : Nat → Prop} {n d QB : Nat} {u0 : Sg} {Pr : List Nat} {a1 a2 a3 a4 : Int} {Q : Int → Sg → Prop} (hd : 1000 + n ≤ d) (hP : PrT nt2 u0 Pr) (hPo : ∀ f ∈ Pr, okT f ∧ isFo f ∧ loT f = 0 ∧ szQ f ≤ 900) (hr : hT u0 ≤ 20000) (hQB : QB ≤ 30000) (hl : LimT nt2 u0 X) {K : Int → Int → Int → Int → Int → Int → Sg → Option (Int × Sg)} : ∀ (Rm : List Nat) (i fu : Nat) (u : Sg) (c : Nat) (Dn : List (List (List Nat))) (a6 : Int) (hi : Nat), Pr.drop i = Rm → Rm.length < fu → tqRL (tqR W X n) (tqF n) Rm c → TrL Mq W X c u0 u 1 hi (n + 1) Dn a6 1 → hi + 2 * (Rm.map szQ).sum ≤ QB → (tqL (tqF n) Rm c).2 ≤ 8000 → (∀ u2 hi2 a, TrL Mq W X (tqL (tqF n) Rm c).2 u0 u2 1 hi2 (n + 1) (Dn ++ (tqL (tqF n) Rm c).1) a 1 → hi2 ≤ QB → wp (K a1 a2 a3 a4 ((1 : Nat) : Int) a u2) Q) → wp (bX3_checked_L34 (runT d) fu a1 a2 a3 a4 ((1 : Nat) : Int) a6 (i : Int) u K) Q := by
  obtain ⟨p1, p2, p3, p4⟩ := hP
  intro Rm
  induction Rm with
  | nil =>
    intro i fu u c Dn a6 hi hR hf hq hL hb hc hK
    obtain ⟨fu, rfl⟩ : ∃ f', fu = f' + 1 := ⟨fu - 1, by simp at hf; omega⟩
    have hI := hL.1
    have hlen : Pr.length ≤ i := by
      have := congrArg List.length hR
      rw [List.length_drop] at this
      simp at this
      omega
    rw [bX3_checked_L34, wp_un, hI.2.2.1.I 81 (by decide +kernel), p1, if_neg (by omega)]
    refine hK u hi a6 ?_ (by simp at hb; omega)
    show TrL Mq W X c u0 u 1 hi (n + 1) (Dn ++ []) a6 1
    rw [List.append_nil]
    exact hL
  | cons g Rm ihl =>
    intro i fu u c Dn a6 hi hR hf hq hL hb hc hK
    obtain ⟨fu, rfl⟩ : ∃ f', fu = f' + 1 := ⟨fu - 1, by simp at hf; omega⟩
    have hI := hL.1
    have hlen : i < Pr.length := Classical.byContradiction (fun q => by
      rw [List.drop_eq_nil_of_le (by omega)] at hR; cases hR)
    have hgi : Pr[i]? = some g := by
      have := congrArg (fun l => l[0]?) hR
      simpa using this
    have hgm : g ∈ Pr := List.mem_of_getElem? hgi
    obtain ⟨x, x1, x2, x3, x4⟩ := p4 i g hgi
    obtain ⟨o1, o2, o3, o4⟩ := hPo g hgm
    have l80 : gL u 80 = gL u0 80 := hI.2.2.1.Ln 80 (by decide +kernel)
    rw [bX3_checked_L34, wp_un, hI.2.2.1.I 81 (by decide +kernel), p1, if_pos (by omega), ld_nat (by omega), hI.2.2.1.N 80 (by decide +kernel), x1]
    have hb' : hi + 2 * (szQ g + (Rm.map szQ).sum) ≤ QB := by simpa using hb
    have hc1 := tqL_le (tqF_le n) Rm (tqF n g c).2
    have hc2 : (tqL (tqF n) Rm (tqF n g c).2).2 ≤ 8000 := hc
    have hhu := hI.2.1.2.2.2.1
    refine wp_call (tX3_tree n d u x g c hi hq.1 hd hI.1 hL.2.1 x2 (Nat.le_trans x3 hI.2.1.1) (by rw [hI.2.1.2.1 x x3]; exact x4) o1 o2 o3 o4 (by omega) (by omega) (by omega) (hI.2.1.lim hl)) (fun r u1 hP => ?_)
    obtain ⟨d', rfl⟩ : ∃ d', d = d' + 1 := ⟨d - 1, by omega⟩
    obtain ⟨hi', b1, b2⟩ := hL.hang (d := d') (by omega) hP
    refine wp_call b2 (fun r' u' hL' => ?_)
    rw [wp_ar]
    refine ⟨⟨by omega, by omega⟩, ?_⟩
    rw [show (i : Int) + 1 = ((i + 1 : Nat) : Int) by omega]
    refine ihl (i + 1) fu u' (tqF n g c).2 (Dn ++ [(tqF n g c).1]) r' hi' (by rw [← List.drop_drop, hR]; rfl) (by simp at hf; omega) hq.2 hL' (by split at b1 <;> omega) hc (fun u2 hi2 a z1 z2 => hK u2 hi2 a ?_ z2)
    have e : Dn ++ (tqL (tqF n) (g :: Rm) c).1 = Dn ++ [(tqF n g c).1] ++ (tqL (tqF n) Rm (tqF n g c).2).1 := by
      rw [List.append_assoc]; rfl
    rw [e]
    exact z1
theorem ArrT.tr {u u' : Sg} (h : ArrT Mq u) (g : Gr FT Dtr u u') (hm : MaT Mq u') (hc : CtT u') : ArrT Mq u' := by
  obtain ⟨a1, a2, a3, ⟨a4, a5, a6⟩, a7⟩ := h
  have b : ∀ k, (49 ≤ k ∧ k ≤ 77) → Nat.testBit Dtr k = false := fun k hk => (by decide +kernel : ∀ k, k ≤ 77 → 49 ≤ k → Nat.testBit Dtr k = false) k hk.2 hk.1
  refine ⟨fun k hk => ?_, fun k hk => ?_, fun k hk i hi => ?_, ⟨by rw [g.I 76 (b 76 (by omega))]; exact a4, by rw [g.I 76 (b 76 (by omega))]; exact a5, fun i hi => ?_⟩, hm⟩
  · by_cases q : k = 17
    · rw [q]; exact hc.1
    · by_cases q2 : k = 18
      · rw [q2]; exact hc.2
      · rw [g.Ln k (b k (by omega))]; exact a1 k hk
  · rw [g.Ln k (b k (by omega))]; exact a2 k hk
  · rw [g.Ln k (b k (by omega))] at hi
    rw [g.N k (b k (by omega)), g.I 54 (b 54 (by omega))]
    exact a3 k hk i hi
  · rw [g.Ln 74 (b 74 (by omega))] at hi
    rw [g.N 74 (b 74 (by omega)), g.I 76 (b 76 (by omega))]
    exact a6 i hi
theorem BkQ.arr {W : Wd} {ν : Nat → Nat} {c : Nat} {u s v : Sg} (h : BkQ Mq W ν c u s v) (hA : ArrT Mq s) : ArrT Mq v := by
  obtain ⟨_, _, _, hm, arr, fld, _⟩ := h
  obtain ⟨a1, a2, a3, ⟨a4, a5, a6⟩, a7⟩ := hA
  have A := fun k (hk : 12 ≤ k ∧ k ≠ 39 ∧ k ≠ 40) => arr k (by omega) hk.2.1 hk.2.2
  have i54 := fld 54 (by omega) (by omega) (by omega) (by omega) (by omega)
  have i76 := fld 76 (by omega) (by omega) (by omega) (by omega) (by omega)
  refine ⟨fun k hk => by rw [(A k (by omega)).1]; exact a1 k hk, fun k hk => by rw [(A k (by omega)).1]; exact a2 k hk, fun k hk i hi => ?_, ⟨by rw [i76]; exact a4, by rw [i76]; exact a5, fun i hi => ?_⟩, hm⟩
  · rw [(A k (by omega)).1] at hi
    rw [(A k (by omega)).2, i54]
    exact a3 k hk i hi
  · rw [(A 74 (by omega)).1] at hi
    rw [(A 74 (by omega)).2, i76]
    exact a6 i hi
/-- what a check of the model asks for, case by case -/
def ReqT (W : Wd) (c : Nat) (u : Sg) (B : Nat) (X : Nat → Prop) (S : Nat → Prop) : Prop := KOK W (NT nt2 (c + 2)) B S (fun _ => False) ∧ (∀ f, S f → htT f ≤ 300) ∧ (∀ l' : List Nat, l'.Nodup → (∀ f ∈ l', S f) → l'.length ≤ 2500) ∧ ∃ X2 : XFm, (∀ t, X t → X2.1 t) ∧ RfTX W (aS S) X2 nt2 u 16 S (fun _ => False)
theorem RfTX.op {W : Wd} {A : Nat → Prop} {X : XFm} {ν : Nat → Nat} {u s : Sg} (e : ∀ t, ndT ν s t → ndT ν u t ∨ X.1 t) : ∀ (n : Nat) (K O : Nat → Prop), RfTX W A X ν u n K O → RfTX W A X ν s n K O
  | 0, _, _, h => ⟨h.1, fun H a b c C x y z0 w v l hn hm => h.2.1 H a b c C x y z0 w v l hn (fun t ht => (hm t ht).elim (fun q => (e t q).imp id (fun y => Or.inl (Or.inl y))) Or.inr), fun _ _ _ _ => trivial⟩
  | n + 1, _, _, h => ⟨h.1, fun H a b c C x y z0 w v l hn hm => h.2.1 H a b c C x y z0 w v l hn (fun t ht => (hm t ht).elim (fun q => (e t q).imp id (fun y => Or.inl (Or.inl y))) Or.inr), fun a b c d => RfTX.op e n _ _ (h.2.2 a b c d)⟩
def Dck : Nat := DX3_caseOf ||| Dbk ||| Dtr ||| 2 ^ 82
/-- between the cases of a check -/
def CsI (Mq : MqT) (W : Wd) (c q i : Nat) (u v : Sg) : Prop := TW nt2 (c + 2) W v ∧ WF FT v ∧ ArrT Mq v ∧ (nT v = nT u ∧ dT v = dT u ∧ (∀ x, x ≤ nT u → trT nt2 v x = trT nt2 u x) ∧ hT v = hT u) ∧ (QS v q ∧ ∀ j, 43 ≤ j → j ≤ 47 → ∀ i, gN v j i = gN u j i) ∧ (gI v 54 = gI u 54 + (i : Int) ∧ gI v 76 ≤ gI u 76 + 17 * (i : Int)) ∧ Gr FT (DX3_caseOf ||| Dbk) u v
theorem RfC.un {W : Wd} {S : Nat → Prop} {r r' : Int} (h : RfC W S r) (h' : RfC W S r') : r = r' := RefS.u 16 S _ r r' h h'
theorem Ans.one {W : Wd} {x : List Nat} {a r a' : Int} (ha : a = 1 ∨ a = 2) (hr : RfC W (fun f => f ∈ x) r) (e : (r = 1 ∧ a' = a) ∨ (r = 0 ∧ a' = 0) ∨ (r ≠ 1 ∧ r ≠ 0 ∧ a' = 2)) : Ans (RfC W) a (famL [x]) a' := by
  have one : ∀ S, famL [x] S → S = fun f => f ∈ x := fun S ⟨y, hy, e⟩ => by rw [List.mem_singleton.mp hy] at e; exact e
  have mem : famL [x] (fun f => f ∈ x) := ⟨x, List.mem_cons_self, rfl⟩
  have hrr := RefS.rng 16 _ _ _ hr
  rcases e with ⟨e1, e2⟩ | ⟨e1, e2⟩ | ⟨e1, e3, e2⟩
  · rcases ha with q | q
    · exact Or.inr (Or.inr ⟨by omega, q, fun S hS => by rw [one S hS, ← e1]; exact hr⟩)
    · refine Or.inr (Or.inl ⟨by omega, by omega, fun S hS z => ?_, Or.inl q⟩)
      rw [one S hS] at z
      have := hr.un z
      omega
  · exact Or.inl ⟨e2, Or.inr ⟨_, mem, by rw [← e1]; exact hr⟩⟩
  · have e4 : r = 2 := by omega
    refine Or.inr (Or.inl ⟨e2, by omega, fun S hS z => ?_, Or.inr ⟨_, mem, by rw [← e4]; exact hr⟩⟩)
    rw [one S hS] at z
    have := hr.un z
    omega
theorem fam_take {L : List (List Nat)} {i : Nat} {x : List Nat} (h : L[i]? = some x) (S : Nat → Prop) : famL (L.take (i + 1)) S ↔ famL (L.take i) S ∨ famL [x] S := by
  rw [List.take_add_one, h]
  constructor
  · rintro ⟨y, hy, e⟩
    rcases List.mem_append.mp hy with q | q
    · exact Or.inl ⟨y, q, e⟩
    · exact Or.inr ⟨y, q, e⟩
  · rintro (⟨y, hy, e⟩ | ⟨y, hy, e⟩)
    · exact ⟨y, List.mem_append_left _ hy, e⟩
    · exact ⟨y, List.mem_append_right _ hy, e⟩
theorem Ans.more {Rf : (Nat → Prop) → Int → Prop} {C1 C : (Nat → Prop) → Prop} (hC : ∀ S, C1 S → C S) {a : Int} (h : Ans Rf a C1 0) : Ans Rf a C 0 := by
  rcases h with ⟨e, h⟩ | ⟨e, _⟩ | ⟨e, _⟩
  · exact Or.inl ⟨e, h.imp id (fun ⟨S, p, q⟩ => ⟨S, hC S p, q⟩)⟩
  · omega
  · omega
theorem check_L160 {W : Wd} {X : Nat → Prop} {B d c q n hi : Nat} {u0 u : Sg} {L : List (List Nat)} {a2 a3 a4 : Int} {Q : Int → Sg → Prop} (hd : 1730 + n ≤ d) (hB : B ≤ 300) (hr : hT u ≤ 20000) (hWc : ∀ f, wcT W (2 * f + 1) = pa (pa f 0) 0) (hc : c + 2 ≤ 3000) (hTu : TW nt2 (c + 2) W u) (h54 : 0 ≤ gI u 54 ∧ gI u 54 ≤ 999000) (h76 : 0 ≤ gI u 76 ∧ gI u 76 ≤ 1899990000) (hW : WOK W (NT nt2 (c + 2))) (hG : WGK W (NT nt2 (c + 2))) (hct : ∀ n, NT nt2 (c + 2) n → htT (wcT W n) ≤ 700) (hRep : RepN nt2 n u 1 hi L) (hhi : hi ≤ q) (h40 : L.length ≤ 40) (hnd : ∀ t, ndT nt2 u t → ndT nt2 u0 t ∨ X t) (hx5 : ∀ x ∈ L, x.length ≤ 5000) (hReq : ∀ x ∈ L, ReqT W c u0 B X (fun f => f ∈ x)) {K : Int → Int → Int → Int → Sg → Option (Int × Sg)} (hK : ∀ (a9 : Int) (i : Nat) (v : Sg), CsI Mq W c q i u v → i ≤ 40 → Ans (RfC W) 1 (famL L) a9 → wp (K a2 a3 a4 a9 v) Q) : ∀ (m i fu : Nat) (a9 : Int) (v : Sg), i + m = L.length → m < fu → CsI Mq W c q i u v → Ans (RfC W) 1 (famL (L.take i)) a9 → wp (bX3_checked_L160 (runT d) fu a2 a3 a4 ((1 : Nat) : Int) (L.length : Int) a9 (nT u : Int) (dT u : Int) ((c + 2 : Nat) : Int) (i : Int) v K) Q := by
  intro m
  induction m with
  | zero =>
    intro i fu a9 v hi' hf hI hA
    obtain ⟨fu, rfl⟩ : ∃ f', fu = f' + 1 := ⟨fu - 1, by omega⟩
    rw [bX3_checked_L160, wp_un, if_neg (fun z => by have := o_cmp_n.mp z; omega)]
    rw [List.take_of_length_le (by omega)] at hA
    exact hK a9 i v hI (by omega) hA
  | succ m ih =>
    intro i fu a9 v hi' hf hI hA
    obtain ⟨fu, rfl⟩ : ∃ f', fu = f' + 1 := ⟨fu - 1, by omega⟩
    rw [bX3_checked_L160, wp_un, if_pos (o_cmp_n.mpr (by omega))]
    by_cases h0 : a9 = 0
    · rw [if_pos h0]
      rw [h0] at hA ⊢
      exact hK 0 i v hI (by omega) (hA.more (fun S ⟨y, hy, e⟩ => ⟨y, List.mem_of_mem_take hy, e⟩))
    rw [if_neg h0]
    have ha12 : a9 = 1 ∨ a9 = 2 := by
      rcases hA with ⟨e, _⟩ | ⟨e, _⟩ | ⟨e, _⟩
      · exact absurd e h0
      · exact Or.inr e
      · exact Or.inl e
    have hil : i < L.length := by omega
    have gi : L[i]? = some L[i] := List.getElem?_eq_getElem hil
    generalize ex : L[i] = x at gi
    have hxm := List.mem_of_getElem? gi
    obtain ⟨k1, k2, k3, X2, k4, k5⟩ := hReq x hxm
    obtain ⟨t1, w1, ar1, ⟨n1, d1, tr1, h1⟩, ⟨q1, q2⟩, ⟨f1, f2⟩, g1⟩ := hI
    have hRv : RepN nt2 n v 1 hi L := RepN.fr n hRep (fun j hj i _ _ => q2 j (by omega) (by omega) i) (fun i _ _ => q2 45 (by omega) (by omega) i) (fun v' t ⟨y, y1, y2, y3⟩ => ⟨y, y1, by omega, by rw [tr1 y y2]; exact y3⟩)
    have hndv : ∀ t, ndT nt2 v t → ndT nt2 u0 t ∨ X2.1 t := fun t ⟨y, y0, y1, y2⟩ => (hnd t ⟨y, y0, by omega, by rw [← tr1 y (by omega)]; exact y2⟩).imp id (k4 t)
    have hcase := tX3_caseOf (d := d) (B := B) (A := aS (fun f => f ∈ x)) (X := X2) (i := i) (x := x) (by omega) hB (by omega) hWc hc t1 w1 ar1 ⟨by omega, by omega⟩ (by omega) (fun i _ _ => by unfold nt2; omega) hW hG hct q1 hRv hhi h40 gi (hx5 x hxm) k3 (fun t => Iff.rfl) k1 k2 (RfTX.op hndv _ _ _ k5)
    -- the rest, once a case is told
    refine wp_jnG (fun j => ∀ (s : Sg) (b r : Int), RfC W (fun f => f ∈ x) r → EndU Mq W nt2 (c + 2) v s → Gr FT DX3_caseOf v s → ((r = 1 ∧ b = a9) ∨ (r = 0 ∧ b = 0) ∨ (r ≠ 1 ∧ r ≠ 0 ∧ b = 2)) → wp (j a2 a3 a4 ((1 : Nat) : Int) (L.length : Int) b (nT u : Int) (dT u : Int) ((c + 2 : Nat) : Int) (i : Int) s) Q) (fun s b r z1 z2 z3 z4 => ?_) (fun j2 hj2 => ?_)
    · show wp (cl (runT d 110 [(nT u : Int), (dT u : Int)] s) fun v4 s5 => un (sI s5 19 ((c + 2 : Nat) : Int)) fun s6 => arL ((i : Int) + 1) fun v7 => bX3_checked_L160 (runT d) fu a2 a3 a4 ((1 : Nat) : Int) (L.length : Int) b (nT u : Int) (dT u : Int) ((c + 2 : Nat) : Int) v7 s6 K) Q
      obtain ⟨ν', c', e1, e2, e3, ⟨e4, e5, e6, e7⟩, e8, e9, e10⟩ := z2
      refine tX3_back (u := u) (by omega) hTu e1 e2 (by omega) (fun x hx => by rw [e5 x (by omega), tr1 x hx]) e8 e3.2.2.2.2 (fun v2 hB2 => ?_)
      have ar2 := hB2.arr e3
      obtain ⟨b1, b2, ⟨b3, b4, b5, b6⟩, b7, b8, b9, b10⟩ := hB2
      rw [wp_arL]
      refine ⟨⟨by omega, by omega⟩, ?_⟩
      rw [show (i : Int) + 1 = ((i + 1 : Nat) : Int) by omega]
      have qb := q_fr q1 z3 (fun j a b => (by decide +kernel : ∀ j, j ≤ 48 → 43 ≤ j → Nat.testBit DX3_caseOf j = false) j b a)
      have qc := q_fr qb.1 b10 (fun j a b => (by decide +kernel : ∀ j, j ≤ 48 → 43 ≤ j → Nat.testBit Dbk j = false) j b a)
      refine ih (i + 1) fu b v2 (by omega) (by omega) ⟨b1, b2, ar2, ⟨b3, b4, b5, by omega⟩, ⟨qc.1, fun j a b' i => by rw [qc.2 j a b', qb.2 j a b', q2 j a b']⟩, ⟨by rw [b9 54 (by omega) (by omega) (by omega) (by omega) (by omega)]; omega, by rw [b9 76 (by omega) (by omega) (by omega) (by omega) (by omega)]; omega⟩, (g1.tr (z3.sub (by decide +kernel))).tr (b10.sub (by decide +kernel))⟩ ?_
      exact Ans.seq (Rf := RfC W) (fun S r r' p1 p2 => RfC.un p1 p2) (fam_take gi) hA (Ans.one ha12 z1 z4)
    · refine wp_call (gX3_caseOf w1 ⟨by omega, by omega⟩ ⟨by omega, by omega⟩ hcase) (fun r s ⟨⟨c1, c2⟩, c3, _, _⟩ => ?_)
      refine wp_ite (fun r1 => hj2 s a9 r c1 c2 c3 (Or.inl ⟨r1, rfl⟩)) (fun r1 => ?_)
      rw [wp_jn]
      refine wp_ite (fun r0 => hj2 s 0 r c1 c2 c3 (Or.inr (Or.inl ⟨r0, rfl⟩))) (fun r0 => hj2 s 2 r c1 c2 c3 (Or.inr (Or.inr ⟨r1, r0, rfl⟩)))
end MQ
