/-! a case in the model, round by round -/
section MQ
variable {Mq : MqT}
theorem CaT.mono {ν : Nat → Nat} {c : Nat} {W : Wd} {S S' : Fs} {Kl Kl' : List Nat} {u : Sg} {l : Ls} (h : CaT ν c W S Kl u l) (hS : subF S S') (hK : ∀ f ∈ Kl, f ∈ Kl') : CaT ν c W S' Kl' u l := by
  obtain ⟨h1, h2, h3, h4, h5, h6, h7, ⟨h8, h9⟩, ⟨h10, h11⟩, h12⟩ := h
  obtain ⟨s1, s2, s3, s4⟩ := hS
  refine ⟨h1, h2, h3, h4, h5, fun t ht => ⟨(h6 t ht).1, s1 t (h6 t ht).2⟩, fun s t q => s2 s t (h7 s t q), ⟨h8, fun q hq => ?_⟩, ⟨h10, fun q hq => ?_⟩, h12⟩
  · obtain ⟨a, b, c1, c2⟩ := h9 q hq
    refine ⟨a, s3 _ _ _ b, ?_, c2⟩
    unfold ALM at c1 ⊢
    rcases List.mem_append.mp c1 with z | z
    · exact List.mem_append_left _ z
    · obtain ⟨f, f1, f2⟩ := List.mem_flatMap.mp z
      obtain ⟨f3, f4⟩ := List.mem_filter.mp f1
      exact List.mem_append_right _ (List.mem_flatMap.mpr ⟨f, List.mem_filter.mpr ⟨hK f f3, f4⟩, f2⟩)
  · obtain ⟨a, b, c1⟩ := h11 q hq
    exact ⟨a, b, s4 _ _ c1⟩
theorem tTT_of {ν : Nat → Nat} {c c0 fi : Nat} {W : Wd} {A : Nat → Prop} {Ol : List Nat} {l : Ls} (hH : ∀ t ∈ l.1, cltm W (NT ν c) t) (hN : NmOT ν c c0 Ol) (hA : ∀ t, (∃ i, i < fi ∧ l.1[i]? = some t) ↔ A t) (hnew : ∀ b, newc (fun f => f ∈ Ol) b → b ∈ l.1) : tT l fi = Tof A (fun f => f ∈ Ol) := by
  funext t
  refine propext (or_congr (hA t) ⟨fun ⟨a, b, c1⟩ => ?_, fun q => ?_⟩)
  · have hc := hH t a
    obtain ⟨i, i0, i1, i2⟩ := (hc.1.2 t (sub_rf t)).1 b
    have hi : c0 ≤ i := Classical.byContradiction (fun z => by have := (hN i i0 i1).1 (by omega); omega)
    obtain ⟨f, f1, f2⟩ := (hN i i0 i1).2 hi
    refine ⟨f, f1, ?_⟩
    have hp : ps t = [] := by
      rcases hc.1.1.n.2 with q | q | q | q | q | q | q | q | q | q | q | q | q | q <;> first | omega | exact q.2
    have := hc.1.1.n.1
    rw [b, hp, ← i2, f2] at this
    exact this
  · have hm := hnew t q
    obtain ⟨f, f1, f2⟩ := q
    refine ⟨hm, by rw [f2, kd_mk], by rw [f2, wh_mk]; omega⟩
theorem KOK.klT {W : Wd} {ν0 ν : Nat → Nat} {c0 c B : Nat} {Kn Ol : List Nat} (h : KOK W (NT ν0 c0) B (fun f => f ∈ Kn) (fun f => f ∈ Ol)) (hN : NuX ν0 c0 ν c) (hO : ∀ f ∈ Ol, NT ν c (2 * f + 1)) (hl : Kn.length ≤ 2500) : KlOK W (NT ν c) Kn ∧ ∀ f ∈ Kn, isFo f ∧ szQ f ≤ B := by
  refine ⟨⟨hl, fun f hf => ?_⟩, fun f hf => (h f hf).2.2⟩
  obtain ⟨a, b, _⟩ := h f hf
  exact ⟨a.mono (fun n hn => hn.elim hN.nt (fun ⟨g, g1, g2⟩ => by rw [g2]; exact hO g g1)), b⟩
/-- what a case of the model asks for -/
def LimBT (ν0 : Nat → Nat) (u0 : Sg) (S : Fs) (X : XFm) (K Fu Mk : Nat → Prop) : Prop := ∀ H : List Nat, H.Nodup → H.length ≤ 100 → (∀ t ∈ H, fH S t) → ∀ C : List Nat, C.Nodup → (∀ g ∈ C, Mk g ∧ ¬ K g) → (∃ g0, ∀ g ∈ C, Fu g ∨ g = g0) → ((∀ L : List Nat, L.Nodup → (∀ f ∈ L, K f) → L.length + C.length ≤ 501) ∨ C.length ≤ 101) → (C = [] ∨ (¬ manyS S ∧ ¬ conS S K)) → LimT ν0 u0 (Xc (xf X H) C)
def RfTB (W : Wd) (A : Nat → Prop) (X : XFm) (ν0 : Nat → Nat) (u0 : Sg) (nx : (Nat → Prop) → (Nat → Prop) → Prop) (K O : Nat → Prop) : Prop := XSo W A X K O ∧ LimBT ν0 u0 (facS W K O) X K (comS W A K O) (mkF (facS W K O) K (Tof A O) O) ∧ (¬ manyS (facS W K O) → ¬ conS (facS W K O) K → (∃ g, comS W A K O g ∧ ¬ K g) → ¬ overS (nxK W A K O) → nx (nxK W A K O) (nxO K O))
def RfTX (W : Wd) (A : Nat → Prop) (X : XFm) (ν0 : Nat → Nat) (u0 : Sg) : Nat → (Nat → Prop) → (Nat → Prop) → Prop
  | 0 => RfTB W A X ν0 u0 (fun _ _ => True)
  | n + 1 => RfTB W A X ν0 u0 (RfTX W A X ν0 u0 n)
theorem RfTX.eq (W : Wd) (A : Nat → Prop) (X : XFm) (ν0 : Nat → Nat) (u0 : Sg) (n : Nat) (K O : Nat → Prop) (h : RfTX W A X ν0 u0 n K O) : XSo W A X K O ∧ LimBT ν0 u0 (facS W K O) X K (comS W A K O) (mkF (facS W K O) K (Tof A O) O) ∧ (¬ manyS (facS W K O) → ¬ conS (facS W K O) K → (∃ g, comS W A K O g ∧ ¬ K g) → ¬ overS (nxK W A K O) → ∀ n', n = n' + 1 → RfTX W A X ν0 u0 n' (nxK W A K O) (nxO K O)) := by
  cases n with
  | zero => exact ⟨h.1, h.2.1, fun _ _ _ _ n' e => by omega⟩
  | succ n => exact ⟨h.1, h.2.1, fun a b c d n' e => by rw [show n' = n by omega]; exact h.2.2 a b c d⟩
theorem LimBT.h {ν0 ν : Nat → Nat} {u0 u : Sg} {S : Fs} {X : XFm} {K Fu Mk : Nat → Prop} {H : List Nat} (h : LimBT ν0 u0 S X K Fu Mk) (hU : UNT ν0 u0 ν u (xt X H)) : LimTH ν u S X H := fun H' a b c d => by
  have := h H' a b c [] List.nodup_nil (fun g hg => absurd hg List.not_mem_nil) ⟨0, fun g hg => absurd hg List.not_mem_nil⟩ (Or.inr (by simp)) (Or.inl rfl)
  exact fun l hn hm => this l hn (fun t ht => (hm t ht).elim (fun q => (hU.2.2.1 t q).imp id (fun z => Or.inl (xf_mono d t z))) (fun q => Or.inr (Or.inl q)))
/-- what is kept along with a case -/
def KsT (Mq : MqT) (ν : Nat → Nat) (c c0 : Nat) (Kn Nl Ol : List Nat) (b58 : Int) (u : Sg) : Prop := KnT ν u Kn ∧ ArT ν u 69 70 Nl ∧ (OpT ν u Ol ∧ NmOT ν c c0 Ol) ∧ gI u 58 = b58 ∧ MaT Mq u ∧ CtT u ∧ CoM u
def mkKsT : Nat := (2 ^ 17 + 2 ^ 18 + 2 ^ 38 + 2 ^ 39 + 2 ^ 40 + 2 ^ 41 + 2 ^ 42) + (2 ^ 49 + 2 ^ 50 + 2 ^ 51 + 2 ^ 54 + 2 ^ 58) + (2 ^ 69 + 2 ^ 70 + 2 ^ 73 + 2 ^ 74) + (2 ^ 76 + 2 ^ 77)
theorem mkKsT_bits {D : Nat} (h : D &&& mkKsT = 0) : ∀ k, (k = 17 ∨ k = 18 ∨ k = 38 ∨ k = 39 ∨ k = 40 ∨ k = 41 ∨ k = 42 ∨ k = 49 ∨ k = 50 ∨ k = 51 ∨ k = 54 ∨ k = 58 ∨ k = 69 ∨ k = 70 ∨ k = 73 ∨ k = 74 ∨ k = 76 ∨ k = 77) → D.testBit k = false := fun k hk => by
  have hk' := (by decide +kernel : ∀ k, k ≤ 77 → (k = 17 ∨ k = 18 ∨ k = 38 ∨ k = 39 ∨ k = 40 ∨ k = 41 ∨ k = 42 ∨ k = 49 ∨ k = 50 ∨ k = 51 ∨ k = 54 ∨ k = 58 ∨ k = 69 ∨ k = 70 ∨ k = 73 ∨ k = 74 ∨ k = 76 ∨ k = 77) → Nat.testBit mkKsT k = true) k (by omega) hk
  have h1 := congrArg (fun z => Nat.testBit z k) h
  simp only [Nat.testBit_and, Nat.zero_testBit] at h1
  rw [hk', Bool.and_true] at h1
  exact h1
theorem KsT.fr {ν : Nat → Nat} {c c0 D : Nat} {Kn Nl Ol : List Nat} {b58 : Int} {u u' : Sg} {X : Nat → Prop} (h : KsT Mq ν c c0 Kn Nl Ol b58 u) (hs : ST ν c u) (hU : UxT ν c u u' X) (hg : Gr FT D u u') (hD : D &&& mkKsT = 0) : KsT Mq ν c c0 Kn Nl Ol b58 u' := by
  obtain ⟨h1, h2, ⟨h3, h4⟩, h5, h6, h7, h8⟩ := h
  have b := mkKsT_bits hD
  refine ⟨MkL.up h1 hs hU hg (b 50 (by omega)) (b 49 (by omega)) (b 51 (by omega)) (b 54 (by omega)), h2.fr hs hU hg (b 69 (by omega)) (b 70 (by omega)), ⟨h3.fr hs hU hg (b 54 (by omega)) (b 77 (by omega)), h4⟩, by rw [hg.I 58 (b 58 (by omega))]; exact h5, h6.fr hg (b 39 (by omega)) (b 40 (by omega)) (b 38 (by omega)) (b 41 (by omega)) (b 42 (by omega)), ⟨by rw [hg.Ln 17 (b 17 (by omega))]; exact h7.1, by rw [hg.Ln 18 (b 18 (by omega))]; exact h7.2⟩, ⟨by rw [hg.Ln 73 (b 73 (by omega))]; exact h8.1, by rw [hg.Ln 74 (b 74 (by omega))]; exact h8.2.1, by rw [hg.I 76 (b 76 (by omega))]; exact h8.2.2.1, fun x hx => ?_⟩⟩
  rw [hg.Ln 74 (b 74 (by omega))] at hx
  rw [hg.N 74 (b 74 (by omega)), hg.I 76 (b 76 (by omega))]
  exact h8.2.2.2 x hx
theorem SnT.up {W : Wd} {Kl : List Nat} {u u' : Sg} {l l' : Ls} {ks ts : Nat} (h : SnT W Kl u l ks ts) (he : exL l l') (h67 : gI u' 67 = gI u 67) (h68 : gI u' 68 = gI u 68) : SnT W Kl u' l' ks ts := by
  obtain ⟨a, b, c1, d, e⟩ := h
  obtain ⟨H2, eH⟩ := he.1
  have hle := he.len
  refine ⟨by rw [h67]; exact a, by rw [h68]; exact b, c1, by omega, fun q => ?_⟩
  obtain ⟨e1, e2⟩ := e (by omega)
  refine ⟨fun i f hi hf => (e1 i f hi hf).mono he, fun i t hi ht => ?_⟩
  rw [eH, List.getElem?_append_left (by omega)] at ht
  exact (e2 i t hi ht).mono he.fs
theorem SnT.kl {W : Wd} {Kl C : List Nat} {u : Sg} {l : Ls} {ks ts : Nat} (h : SnT W Kl u l ks ts) : SnT W (Kl ++ C) u l ks ts := by
  obtain ⟨a, b, c1, d, e⟩ := h
  refine ⟨a, b, by rw [List.length_append]; omega, d, fun q => ⟨fun i f hi hf => ?_, (e q).2⟩⟩
  rw [List.getElem?_append_left (by omega)] at hf
  exact (e q).1 i f hi hf
/-- the terms of one formula, or of a new constant, come to hand -/
theorem rsT_terms {d : Nat} {ν : Nat → Nat} {c c0 : Nat} {W : Wd} {S : Fs} {X : XFm} {Kl Kn Nl Ol : List Nat} {b58 : Int} {ν0 : Nat → Nat} {u0 u : Sg} {l : Ls} {ks ts x t : Nat} (hEE : ∀ s, fH S s → fE S s s) (hd : 12 + htT t ≤ d) (hh : htT t ≤ 800) (hC : CaT ν c W S Kl u l) (hR : KsT Mq ν c c0 Kn Nl Ol b58 u) (hn : SnT W Kl u l ks ts) (hU : UNT ν0 u0 ν u (xt X l.1)) (x0 : 0 < x) (hx : x ≤ nT u) (et : trT ν u x = t) (hfr : frW W (NT ν c) t) (hlv : lvL t 0) (hfH : ∀ s, subT s t → isTm s → loT s = 0 → fH S s) : wp (runT d 64 [(x : Int)] u) (fun _ u' => ∃ l', exL l l' ∧ CaT ν c W S Kl u' l' ∧ KsT Mq ν c c0 Kn Nl Ol b58 u' ∧ SnT W Kl u' l' ks ts ∧ UNT ν0 u0 ν u' (xt X l'.1) ∧ (l'.1.length ≤ 100 → inHd t l'.1) ∧ gI u' 76 = gI u 76 ∧ (100 < l.1.length → l' = l)) := by
  have hs := hC.1.1
  have hnb := hs.1.1.1.2
  have hb1 := hs.1.1.2.2.2.2.2.2.1
  refine wp_mono (tX3_terms (X := X) hEE (htT t + 1) t (Nat.lt_succ_self _) d u x l hd hh hC x0 hx et hfr hlv hfH (by omega)) (fun r u' ⟨l1, ⟨a1, a2, a3, a4, a5⟩, g, b1, b2, b3, b4⟩ => ?_)
  obtain ⟨H2, eH⟩ := a1.1
  refine ⟨l1, a1, a2, hR.fr hs a3.ux g (by decide +kernel), hn.up a1 (g.I 67 (by decide +kernel)) (g.I 68 (by decide +kernel)), ?_, b2, g.I 76 (by decide +kernel), b3⟩
  refine (hU.mon (fun z hz => Or.inr ?_)).tr (a3.un hs (g.I 54 (by decide +kernel)))
  rw [eH]
  exact xt_mono z hz
/-- new constants come to hand -/
theorem case_L159 {d : Nat} {ν : Nat → Nat} {c c0 : Nat} {W : Wd} {S : Fs} {X : XFm} {Kl Kn Nl Ol : List Nat} {b58 a4 b76 : Int} {ν0 : Nat → Nat} {u0 : Sg} {ks ts : Nat} {Q : Int → Sg → Prop} (hd : 20 ≤ d) (hEE : ∀ s, fH S s → fE S s s) (hN : ∀ b ∈ Nl, cltm W (NT ν c) b ∧ kd b = 1 ∧ fH S b) (hNl : Nl.length ≤ 20000) {l0 : Ls} : ∀ (m i fu : Nat) (u : Sg) (l : Ls), i + m = Nl.length → m < fu → exL l0 l → CaT ν c W S Kl u l → KsT Mq ν c c0 Kn Nl Ol b58 u → SnT W Kl u l ks ts → UNT ν0 u0 ν u (xt X l.1) → gI u 76 = b76 → (∀ j b, j < i → Nl[j]? = some b → l.1.length ≤ 100 → b ∈ l0.1 ∨ b ∈ l.1) → ∀ xx : Int → Sg → Option (Int × Sg), (∀ (u2 : Sg) (l2 : Ls), exL l0 l2 → CaT ν c W S Kl u2 l2 → KsT Mq ν c c0 Kn Nl Ol b58 u2 → SnT W Kl u2 l2 ks ts → UNT ν0 u0 ν u2 (xt X l2.1) → gI u2 76 = b76 → (∀ b ∈ Nl, l2.1.length ≤ 100 → b ∈ l0.1 ∨ b ∈ l2.1) → wp (xx a4 u2) Q) → wp (bX3_caseOf_L159 (runT d) fu a4 (i : Int) u xx) Q := by
  intro m
  induction m with
  | zero =>
    intro i fu u l hi hf he hC hR hn hU hb hdn xx k
    obtain ⟨fu, rfl⟩ : ∃ f', fu = f' + 1 := ⟨fu - 1, by omega⟩
    rw [bX3_caseOf_L159, wp_un, hR.2.1.1, if_neg (by omega)]
    refine k u l he hC hR hn hU hb (fun b hb' => ?_)
    obtain ⟨j, hj⟩ := List.getElem?_of_mem hb'
    exact hdn j b (by have := (List.getElem?_eq_some_iff.mp hj).1; omega) hj
  | succ m ih =>
    intro i fu u l hi hf he hC hR hn hU hb hdn xx k
    obtain ⟨fu, rfl⟩ : ∃ f', fu = f' + 1 := ⟨fu - 1, by omega⟩
    have hil : i < Nl.length := by omega
    have gi : Nl[i]? = some Nl[i] := List.getElem?_eq_getElem hil
    generalize ef : Nl[i] = b at gi
    have hAr := hR.2.1
    obtain ⟨x, x1, x2, x3, x4⟩ := hAr.2.2 i b gi
    have l69 := hAr.2.1.1
    obtain ⟨n1, n2, n3⟩ := hN b (List.mem_of_getElem? gi)
    have hsub : ∀ s, subT s b → s = b := fun s hs' => by
      rw [subT_eq] at hs'
      rcases hs' with q | ⟨c1, q, _⟩
      · exact q
      · have hp : ps b = [] := by
          rcases n1.1.1.n.2 with z | z | z | z | z | z | z | z | z | z | z | z | z | z <;> first | omega | exact z.2
        have := (fms_ps q).1
        rw [hp] at this; cases this
    have hht : htT b = 1 := by
      have hp : ps b = [] := by
        rcases n1.1.1.n.2 with z | z | z | z | z | z | z | z | z | z | z | z | z | z <;> first | omega | exact z.2
      rw [htT_eq]
      unfold fms
      rw [if_neg (by omega), hp]
      rfl
    rw [bX3_caseOf_L159, wp_un, hAr.1, if_pos (by omega), ld_nat (by omega), x1]
    refine wp_call (rsT_terms (t := b) hEE (by omega) (by omega) hC hR hn hU x2 x3 x4 n1.1 n1.2.2.2 (fun s q _ _ => by rw [hsub s q]; exact n3)) (fun r u1 ⟨l1, a1, a2, a3, a4', a5, a6, a7, _⟩ => ?_)
    rw [wp_ar]
    refine ⟨⟨by omega, by omega⟩, ?_⟩
    rw [show (i : Int) + 1 = ((i + 1 : Nat) : Int) by omega]
    refine ih (i + 1) fu u1 l1 (by omega) (by omega) (he.tr a1) a2 a3 a4' a5 (by rw [a7]; exact hb) (fun j b' hj hj' hle => ?_) xx k
    by_cases hji : j = i
    · rw [hji, gi] at hj'
      rw [← Option.some.inj hj']
      exact Or.inr (a6 hle b (sub_rf b) n1.2.1 n1.2.2.1)
    · have := a1.len
      exact (hdn j b' (by omega) hj' (by omega)).imp id (fun q => a1.H q)
end MQ
