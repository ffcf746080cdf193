/-! a case of the model from its start -/
section MQ
variable {Mq : MqT}
def DstT : Nat := 2 ^ 50 + 2 ^ 54 + 2 ^ 57 + (2 ^ 62 + 2 ^ 65 + 2 ^ 67 + 2 ^ 68)
/-- what is kept while the terms come to hand -/
def K0T (Mq : MqT) (ν : Nat → Nat) (Kn : List Nat) (u : Sg) : Prop := KnT ν u Kn ∧ OpT ν u [] ∧ MaT Mq u ∧ CtT u ∧ CoM u ∧ 16 ≤ gL u 69
theorem K0T.fr {ν : Nat → Nat} {c D : Nat} {Kn : List Nat} {u u' : Sg} {X : Nat → Prop} (h : K0T Mq ν Kn u) (hs : ST ν c u) (hU : UxT ν c u u' X) (hg : Gr FT D u u') (hD : D &&& mkKsT = 0) : K0T Mq ν Kn u' := by
  obtain ⟨h1, h3, h6, h7, h8, h9⟩ := h
  have b := mkKsT_bits hD
  refine ⟨MkL.up h1 hs hU hg (b 50 (by omega)) (b 49 (by omega)) (b 51 (by omega)) (b 54 (by omega)), h3.fr hs hU hg (b 54 (by omega)) (b 77 (by omega)), h6.fr hg (b 39 (by omega)) (b 40 (by omega)) (b 38 (by omega)) (b 41 (by omega)) (b 42 (by omega)), ⟨by rw [hg.Ln 17 (b 17 (by omega))]; exact h7.1, by rw [hg.Ln 18 (b 18 (by omega))]; exact h7.2⟩, ⟨by rw [hg.Ln 73 (b 73 (by omega))]; exact h8.1, by rw [hg.Ln 74 (b 74 (by omega))]; exact h8.2.1, by rw [hg.I 76 (b 76 (by omega))]; exact h8.2.2.1, fun x hx => ?_⟩, by rw [hg.Ln 69 (b 69 (by omega))]; exact h9⟩
  rw [hg.Ln 74 (b 74 (by omega))] at hx
  rw [hg.N 74 (b 74 (by omega)), hg.I 76 (b 76 (by omega))]
  exact h8.2.2.2 x hx
/-- the facts of the terms alone -/
def S0 (A : Nat → Prop) : Fs := (A, fun s t => s = t ∧ A t, fun _ _ _ => False, fun _ _ => False)
theorem caseT_st {ν : Nat → Nat} {c : Nat} {W : Wd} {u s : Sg} (hT : TW ν c W u) (hA : ArrT Mq u) (h54 : 0 ≤ gI u 54) (hw : WF FT s) (e : EqH u s) (g : Gr FT DstT u s) (L : ∀ k, gL s k = gL u k) (N : ∀ k i, gN s k i = gN u k i) (i54 : gI s 54 = gI u 54 + 1) (i50 : gI s 50 = 0) (i57 : gI s 57 = 0) (i62 : gI s 62 = 0) (i65 : gI s 65 = 0) (S : Fs) (Kl : List Nat) : CaT ν c W S Kl s ([], fun i => i, [], []) ∧ K0T Mq ν [] s := by
  obtain ⟨a1, a2, a3, ⟨a4, a5, a6⟩, a7⟩ := hA
  have hs := hT.1
  have nil : ∀ (i t : Nat), ([] : List Nat)[i]? = some t → False := fun i t h => by simp at h
  have A1 : ∀ k, k = 17 ∨ k = 18 ∨ k = 49 ∨ k = 51 ∨ k = 52 ∨ k = 53 ∨ k = 55 ∨ k = 56 ∨ k = 59 ∨ k = 60 ∨ k = 61 ∨ k = 63 ∨ k = 64 ∨ k = 69 ∨ k = 73 ∨ k = 74 ∨ k = 77 → 16 ≤ gL s k := fun k hk => by rw [L]; exact a1 k hk
  have A2 : ∀ k, k = 51 ∨ k = 52 ∨ k = 53 ∨ k = 74 ∨ k = 77 → gL s k ≤ 300000 := fun k hk => by rw [L]; exact a2 k hk
  have A3 : ∀ k, k = 51 ∨ k = 52 ∨ k = 77 → ∀ i, i < gL s k → gN s k i < gI s 54 := fun k hk i hi => by
    rw [L] at hi
    rw [N, i54]
    have := a3 k hk i hi
    omega
  have I76 : gI s 76 = gI u 76 := g.I 76 (by decide +kernel)
  refine ⟨⟨hT.up (e.up (X := fun _ => False) hs).ux g (by decide +kernel), hw, ⟨⟨⟨by rw [i57]; rfl, by simp, by simp, by simp, A1 55 (by omega), A1 56 (by omega)⟩, ⟨A1 53 (by omega), A1 52 (by omega), A2 52 (by omega), A2 53 (by omega)⟩, List.nodup_nil, fun i t h => (nil i t h).elim, fun x hx => ?_, fun i hi => absurd hi (Nat.not_lt_zero i), fun i hi => absurd hi (Nat.not_lt_zero i)⟩, by omega⟩, ⟨⟨by rw [i62]; rfl, by simp, by simp, by simp, A1 59 (by omega), A1 60 (by omega), A1 61 (by omega)⟩, fun k t m a h => by simp at h⟩, ⟨⟨by rw [i65]; rfl, by simp, by simp, A1 63 (by omega), A1 64 (by omega)⟩, fun k t j h => by simp at h⟩, fun t ht => absurd ht List.not_mem_nil, fun s' t h => ?_, ⟨List.nodup_nil, fun q hq => absurd hq List.not_mem_nil⟩, ⟨List.nodup_nil, fun q hq => absurd hq List.not_mem_nil⟩, fun _ x hx => absurd hx List.not_mem_nil⟩, ⟨⟨by rw [i50]; rfl, by simp, A1 49 (by omega)⟩, ⟨A1 51 (by omega), A2 51 (by omega)⟩, List.nodup_nil, fun i t h => (nil i t h).elim, fun x hx => ?_⟩, ⟨⟨A1 77 (by omega), A2 77 (by omega)⟩, fun x hx => ?_, fun f hf => absurd hf List.not_mem_nil⟩, a7.fr g (by decide +kernel) (by decide +kernel), ⟨A1 17 (by omega), A1 18 (by omega)⟩, ⟨A1 73 (by omega), ⟨A1 74 (by omega), A2 74 (by omega)⟩, ⟨by rw [I76]; exact a4, by rw [I76]; exact a5⟩, fun x hx => ?_⟩, A1 69 (by omega)⟩
  · have := A3 52 (by omega) x hx
    exact ⟨by omega, fun q => by omega⟩
  · obtain ⟨i, j, hi, _⟩ := h
    exact (nil _ _ hi).elim
  · have := A3 51 (by omega) x hx
    exact ⟨by omega, fun q => by omega⟩
  · have := A3 77 (by omega) x hx
    exact ⟨by omega, fun q => by omega⟩
  · rw [L] at hx
    rw [N, I76]
    exact a6 x hx
theorem case_L49 {d : Nat} {ν : Nat → Nat} {c : Nat} {W : Wd} {A : Nat → Prop} {X : XFm} {Kn : List Nat} {u0 : Sg} {Q : Int → Sg → Prop} (hd : 1700 ≤ d) (hKn : Kn.length ≤ 2500) (hK : ∀ f ∈ Kn, htT f ≤ 300 ∧ frW W (NT ν c) f ∧ lvL f 0 ∧ ∀ s, subT s f → isTm s → loT s = 0 → A s) : ∀ (m i fu : Nat) (u : Sg) (l : Ls), i + m = Kn.length → m < fu → CaT ν c W (S0 A) Kn u l → K0T Mq ν Kn u → SnT W Kn u l 0 0 → UNT ν u0 ν u (xt X l.1) → gI u 76 = gI u0 76 → (l.1.length ≤ 100 → ∀ j f, j < i → Kn[j]? = some f → inHd f l.1) → ∀ xx : Sg → Option (Int × Sg), (∀ (u2 : Sg) (l2 : Ls), CaT ν c W (S0 A) Kn u2 l2 → K0T Mq ν Kn u2 → SnT W Kn u2 l2 0 0 → UNT ν u0 ν u2 (xt X l2.1) → gI u2 76 = gI u0 76 → (l2.1.length ≤ 100 → ∀ f ∈ Kn, inHd f l2.1) → wp (xx u2) Q) → wp (bX3_caseOf_L49 (runT d) fu (i : Int) u xx) Q := by
  intro m
  induction m with
  | zero =>
    intro i fu u l hi hf hC hR hn hU hb hdn xx k
    obtain ⟨fu, rfl⟩ : ∃ f', fu = f' + 1 := ⟨fu - 1, by omega⟩
    rw [bX3_caseOf_L49, wp_un, hR.1.1.1, if_neg (by omega)]
    refine k u l hC hR hn hU hb (fun hle f hf' => ?_)
    obtain ⟨j, hj⟩ := List.getElem?_of_mem hf'
    exact hdn hle j f (by have := (List.getElem?_eq_some_iff.mp hj).1; omega) hj
  | succ m ih =>
    intro i fu u l hi hf hC hR hn hU hb hdn xx k
    obtain ⟨fu, rfl⟩ : ∃ f', fu = f' + 1 := ⟨fu - 1, by omega⟩
    have hil : i < Kn.length := by omega
    have gi : Kn[i]? = some Kn[i] := List.getElem?_eq_getElem hil
    generalize ef : Kn[i] = f at gi
    obtain ⟨x, x1, x0, x2, x3, _⟩ := hR.1.2.2.2.1 i f gi
    have l49 := hR.1.1.2.1
    have h57 := hC.2.2.1.1.1.1
    rw [bX3_caseOf_L49, wp_un, hR.1.1.1, if_pos (by omega), wp_un, h57]
    refine wp_ite (fun hle => ?_) (fun hgt => ?_)
    · have hs := hC.1.1
      have hnb := hs.1.1.1.2
      have hb1 := hs.1.1.2.2.2.2.2.2.1
      obtain ⟨k1, k2, k3, k4⟩ := hK f (List.mem_of_getElem? gi)
      rw [ld_nat (by omega), x1]
      refine wp_call (tX3_terms (X := X) (S := S0 A) (fun s hs' => ⟨rfl, hs'⟩) (htT f + 1) f (Nat.lt_succ_self _) d u x l (by omega) (by omega) hC x0 x2 x3 k2 k3 k4 (by omega)) (fun r u' ⟨l1, ⟨a1, a2, a3, a4, a5⟩, g, b1, b2, b3, b4⟩ => ?_)
      rw [wp_ar]
      refine ⟨⟨by omega, by omega⟩, ?_⟩
      rw [show (i : Int) + 1 = ((i + 1 : Nat) : Int) by omega]
      have hlen := a1.len
      refine ih (i + 1) fu u' l1 (by omega) (by omega) a2 (hR.fr hs a3.ux g (by decide +kernel)) (hn.up a1 (g.I 67 (by decide +kernel)) (g.I 68 (by decide +kernel))) ?_ (by rw [g.I 76 (by decide +kernel)]; exact hb) (fun hle' j f' hj hj' => ?_) xx k
      · obtain ⟨H2, eH⟩ := a1.1
        refine (hU.mon (fun z hz => Or.inr ?_)).tr (a3.un hs (g.I 54 (by decide +kernel)))
        rw [eH]
        exact xt_mono z hz
      · by_cases hji : j = i
        · rw [hji, gi] at hj'
          rw [← Option.some.inj hj']
          exact b2 hle'
        · exact fun s p1 p2 p3 => a1.H (hdn (by omega) j f' (by omega) hj' s p1 p2 p3)
    · exact k u l hC hR hn hU hb (fun hle => by omega)
theorem LimBT.eqh {ν : Nat → Nat} {u s : Sg} {S : Fs} {X : XFm} {K Fu Mk : Nat → Prop} (h : LimBT ν u S X K Fu Mk) (e : EqH u s) : LimBT ν s S X K Fu Mk := fun H a b c C x y z w v => e.lim (h H a b c C x y z w v)
theorem RfTX.eqh {W : Wd} {A : Nat → Prop} {X : XFm} {ν : Nat → Nat} {u s : Sg} (e : EqH u s) : ∀ (n : Nat) (K O : Nat → Prop), RfTX W A X ν u n K O → RfTX W A X ν s n K O
  | 0, _, _, h => ⟨h.1, h.2.1.eqh e, fun _ _ _ _ => trivial⟩
  | n + 1, _, _, h => ⟨h.1, h.2.1.eqh e, fun a b c d => RfTX.eqh e n _ _ (h.2.2 a b c d)⟩
/-- what is so after a case of the model -/
def EndU (Mq : MqT) (W : Wd) (ν : Nat → Nat) (c : Nat) (u u' : Sg) : Prop := ∃ ν' c', TW ν' c' W u' ∧ WF FT u' ∧ ArrT Mq u' ∧ (nT u ≤ nT u' ∧ (∀ x, x ≤ nT u → trT ν' u' x = trT ν u x) ∧ hT u' = hT u ∧ ∀ i, i < hT u → gN u' 12 i = gN u 12 i) ∧ NuX ν c ν' c' ∧ gI u' 54 = gI u 54 + 1 ∧ gI u' 76 ≤ gI u 76 + 17
theorem tX3_caseOf {d : Nat} {W : Wd} {A : Nat → Prop} {X : XFm} {B c q n e hi i : Nat} {ν : Nat → Nat} {u : Sg} {L : List (List Nat)} {x : List Nat} (hd : 1720 + n ≤ d) (hB : B ≤ 300) (hr : hT u ≤ 20000) (hWc : ∀ f, wcT W (2 * f + 1) = pa (pa f 0) 0) (hc : c ≤ 3000) (hTW : TW ν c W u) (hw : WF FT u) (hArr : ArrT Mq u) (h54 : 0 ≤ gI u 54 ∧ gI u 54 ≤ 1000000) (h76 : gI u 76 ≤ 1900000000) (hNe : ∀ i, 2 ≤ i → i < c → ν i % 2 = 0) (hW : WOK W (NT ν c)) (hG : WGK W (NT ν c)) (hct : ∀ n, NT ν c n → htT (wcT W n) ≤ 700) (hQ : QS u q) (hRep : RepN ν n u e hi L) (hhi : hi ≤ q) (h40 : L.length ≤ 40) (hx : L[i]? = some x) (hx5 : x.length ≤ 5000) (hlen : ∀ l' : List Nat, l'.Nodup → (∀ f ∈ l', f ∈ x) → l'.length ≤ 2500) (hA : ∀ t, A t ↔ ∃ f, f ∈ x ∧ subT t f ∧ isTm t ∧ loT t = 0) (hK : KOK W (NT ν c) B (fun f => f ∈ x) (fun _ => False)) (hht : ∀ f ∈ x, htT f ≤ 300) (hX : RfTX W A X ν u 16 (fun f => f ∈ x) (fun _ => False)) : wp (runT d 61 [(e : Int), (i : Int)] u) (fun r u' => RefS W A 16 (fun f => f ∈ x) (fun _ => False) r ∧ EndU Mq W ν c u u') := by
  obtain ⟨d, rfl⟩ : ∃ d', d = d' + 1 := ⟨d - 1, by omega⟩
  rw [runT_eq (by omega)]
  show wp (bX3_caseOf (runT d) e i u) _
  unfold bX3_caseOf
  rw [wp_un, wp_ar]
  refine ⟨⟨by omega, by omega⟩, ?_⟩
  rw [wp_un, wp_un, wp_un, wp_un, wp_un, wp_un, wp_un]
  generalize es : sI (sI (sI (sI (sI (sI (sI u 54 (gI u 54 + 1)) 50 0) 57 0) 62 0) 65 0) 67 0) 68 0 = s
  have w : WF FT s := by
    rw [← es]
    exact wfIT (wfIT (wfIT (wfIT (wfIT (wfIT (wfIT hw rfl ⟨by omega, by omega⟩) rfl ⟨by omega, by omega⟩) rfl ⟨by omega, by omega⟩) rfl ⟨by omega, by omega⟩) rfl ⟨by omega, by omega⟩) rfl ⟨by omega, by omega⟩) rfl ⟨by omega, by omega⟩
  have g : Gr FT DstT u s := by
    rw [← es]
    exact (Gr_sI (by decide +kernel)).tr ((Gr_sI (by decide +kernel)).tr ((Gr_sI (by decide +kernel)).tr ((Gr_sI (by decide +kernel)).tr ((Gr_sI (by decide +kernel)).tr ((Gr_sI (by decide +kernel)).tr (Gr_sI (by decide +kernel)))))))
  have ee : EqH u s := by
    rw [← es]
    exact (EqH.sI (by omega)).trn ((EqH.sI (by omega)).trn ((EqH.sI (by omega)).trn ((EqH.sI (by omega)).trn ((EqH.sI (by omega)).trn ((EqH.sI (by omega)).trn (EqH.sI (by omega)))))))
  have L0 : ∀ k, gL s k = gL u k := fun k => by rw [← es]; rfl
  have N0 : ∀ k i, gN s k i = gN u k i := fun k i => by rw [← es]; rfl
  have i54 : gI s 54 = gI u 54 + 1 := by rw [← es]; rfl
  have i67 : gI s 67 = 0 := by rw [← es]; rfl
  have i68 : gI s 68 = 0 := by rw [← es]; rfl
  have i76 : gI s 76 = gI u 76 := by rw [← es]; rfl
  have i48 : gI s 48 = gI u 48 := by rw [← es]; rfl
  obtain ⟨hC0, hK0⟩ := caseT_st (s := s) hTW hArr h54.1 w ee g L0 N0 i54 (by rw [← es]; rfl) (by rw [← es]; rfl) (by rw [← es]; rfl) (by rw [← es]; rfl) (S0 A) (addK [] x)
  have a76 := hArr.2.2.2.1.1
  clear es
  have hs := hTW.1
  have hss : ST ν c s := ee.st hs
  have hQs : QS s q := ⟨by rw [i48]; exact hQ.1, hQ.2.1, fun j a b => by rw [L0]; exact hQ.2.2 j a b⟩
  have hRs : RepN ν n s e hi L := RepN.fr n hRep (fun j _ i _ _ => N0 j i) (fun i _ _ => N0 45 i) (fun v t ht => ht.ee ee)
  have hX := RfTX.eqh ee _ _ _ hX
  have hrs : hT s ≤ 20000 := by rw [ee.hh]; exact hr
  refine wp_call (tX3_leaves hss hQs (by omega) n e hi L hRs hhi i x h40 hx d s [] (by omega) ⟨w, ⟨EqT.rf, rfl, rfl⟩, Gr.rf, hK0.1, fun _ _ => rfl, fun _ _ _ => ⟨rfl, fun _ => rfl⟩⟩ (by simp; omega)) (fun r u2 ⟨w2, e2, g2, k2, i2, n2⟩ => ?_)
  generalize eKn : addK [] x = Kn at *
  have hm : ∀ f, f ∈ Kn ↔ f ∈ x := fun f => by
    rw [← eKn, addK_mem]
    exact ⟨fun q => q.elim (fun z => absurd z List.not_mem_nil) id, Or.inr⟩
  have eK : (fun f => f ∈ Kn) = (fun f => f ∈ x) := by funext f; exact propext (hm f)
  have eO : (fun (f : Nat) => f ∈ ([] : List Nat)) = (fun _ => False) := by funext f; exact propext ⟨fun q => absurd q List.not_mem_nil, False.elim⟩
  rw [← eK, ← eO] at hK hX ⊢
  have hKn : Kn.length ≤ 2500 := hlen Kn k2.2.2.1 (fun f hf => (hm f).mp hf)
  obtain ⟨hKO, hKf⟩ := hK.klT (NuX.rf ν c) (fun f hf => absurd hf List.not_mem_nil) hKn
  have hClo : Clo W (fun f => f ∈ Kn) (newc (fun f => f ∈ ([] : List Nat))) (facS W (fun f => f ∈ Kn) (fun f => f ∈ ([] : List Nat))) := Der_clo _ _ _
  have U2 : UpT ν c s u2 (xt X []) := e2.up hss
  have hC2 : CaT ν c W (S0 A) Kn u2 ([], fun i => i, [], []) := hC0.upD U2.ux w2 g2 (by decide +kernel)
  have hK2 : K0T Mq ν Kn u2 := by
    obtain ⟨_, h3, h6, h7, h8, h9⟩ := hK0
    refine ⟨k2, h3.fr hss U2.ux g2 (by decide +kernel) (by decide +kernel), h6.fr g2 (by decide +kernel) (by decide +kernel), ⟨by rw [g2.Ln 17 (by decide +kernel)]; exact h7.1, by rw [g2.Ln 18 (by decide +kernel)]; exact h7.2⟩, ⟨by rw [g2.Ln 73 (by decide +kernel)]; exact h8.1, by rw [g2.Ln 74 (by decide +kernel)]; exact h8.2.1, by rw [g2.I 76 (by decide +kernel)]; exact h8.2.2.1, fun x hx => ?_⟩, by rw [g2.Ln 69 (by decide +kernel)]; exact h9⟩
    rw [g2.Ln 74 (by decide +kernel)] at hx
    rw [g2.N 74 (by decide +kernel), g2.I 76 (by decide +kernel)]
    exact h8.2.2.2 x hx
  have hS2 : SnT W Kn u2 ([], fun i => i, [], []) 0 0 := ⟨by rw [i2 67 (by omega), i67]; rfl, by rw [i2 68 (by omega), i68]; rfl, Nat.zero_le _, Nat.zero_le _, fun _ => ⟨fun i f hi => absurd hi (Nat.not_lt_zero i), fun i t hi => absurd hi (Nat.not_lt_zero i)⟩⟩
  refine case_L49 (X := X) (u0 := s) (by omega) hKn (fun f hf => ⟨hht f ((hm f).mp hf), (hKO.2 f hf).1, (hKO.2 f hf).2.2, fun s' q1 q2 q3 => (hA s').mpr ⟨f, (hm f).mp hf, q1, q2, q3⟩⟩) Kn.length 0 KF u2 ([], fun i => i, [], []) (by omega) (Nat.lt_of_le_of_lt (by omega : _ ≤ 65536) KF_gt) hC2 hK2 hS2 (U2.un hss (i2 54 (by omega))) (i2 76 (by omega)) (fun _ j f hj => absurd hj (Nat.not_lt_zero j)) _ (fun u3 l3 C3 K3 S3 U3 i3 hin => ?_)
  have h57 := C3.2.2.1.1.1
  rw [wp_un, h57.1, wp_un, wp_un]
  generalize es5 : sI (sI u3 58 (l3.1.length : Int)) 70 0 = u5
  have g5 : Gr FT (2 ^ 58 + 2 ^ 70) u3 u5 := by
    rw [← es5]
    exact (Gr_sI (by decide +kernel)).tr (Gr_sI (by decide +kernel))
  have w5 : WF FT u5 := by
    rw [← es5]
    exact wfIT (wfIT C3.2.1 rfl ⟨by omega, by omega⟩) rfl ⟨by omega, by omega⟩
  have e5 : EqH u3 u5 := by
    rw [← es5]
    exact (EqH.sI (by omega)).trn (EqH.sI (by omega))
  have hs3 := C3.1.1
  have U5 : UpT ν c u3 u5 (xt X l3.1) := e5.up hs3
  have i58 : gI u5 58 = (l3.1.length : Int) := by rw [← es5]; rfl
  have i70 : gI u5 70 = 0 := by rw [← es5]; rfl
  clear es5
  have C5 : CaT ν c W (S0 A) Kn u5 l3 := C3.upD U5.ux w5 g5 (by decide +kernel)
  have hsub : subF (S0 A) (facS W (fun f => f ∈ Kn) (fun f => f ∈ ([] : List Nat))) := by
    have hAf : ∀ t, A t → fH (facS W (fun f => f ∈ Kn) (fun f => f ∈ ([] : List Nat))) t := fun t ht => by
      obtain ⟨f, f1, f2, f3, f4⟩ := (hA t).mp ht
      exact hClo.1.1 f ((hm f).mpr f1) t f2 f3 f4
    refine ⟨hAf, fun s' t ⟨q1, q2⟩ => ?_, fun _ _ _ q => q.elim, fun _ _ q => q.elim⟩
    rw [q1]
    exact hClo.2.1.1 t (hAf t q2)
  have hKs5 : KsT Mq ν c c Kn [] [] (l3.1.length : Int) u5 := by
    obtain ⟨h1, h3, h6, h7, h8, h9⟩ := K3
    refine ⟨MkL.up h1 hs3 U5.ux g5 (by decide +kernel) (by decide +kernel) (by decide +kernel) (by decide +kernel), ⟨by rw [i70]; rfl, ⟨Nat.zero_le _, by rw [g5.Ln 69 (by decide +kernel)]; exact h9⟩, fun i f hi => by simp at hi⟩, ⟨h3.fr hs3 U5.ux g5 (by decide +kernel) (by decide +kernel), fun i a b => ⟨fun _ => hNe i a b, fun q => by omega⟩⟩, i58, h6.fr g5 (by decide +kernel) (by decide +kernel), ⟨by rw [g5.Ln 17 (by decide +kernel)]; exact h7.1, by rw [g5.Ln 18 (by decide +kernel)]; exact h7.2⟩, ⟨by rw [g5.Ln 73 (by decide +kernel)]; exact h8.1, by rw [g5.Ln 74 (by decide +kernel)]; exact h8.2.1, by rw [g5.I 76 (by decide +kernel)]; exact h8.2.2.1, fun x hx => ?_⟩⟩
    rw [g5.Ln 74 (by decide +kernel)] at hx
    rw [g5.N 74 (by decide +kernel), g5.I 76 (by decide +kernel)]
    exact h8.2.2.2 x hx
  have hA0 : ∀ t, A t → cltm W (NT ν c) t := fun t ht => by
    obtain ⟨f, f1, f2, f3, f4⟩ := (hA t).mp ht
    obtain ⟨a, b⟩ := hKO.2 f ((hm f).mpr f1)
    exact ⟨a.sub f2, f3, f4, fun l hl h3' => b.2 l (lv_in f a.1 f2 hl) h3'⟩
  have hmA : ∀ t ∈ l3.1, A t := fun t ht => (C3.2.2.2.2.2.1 t ht).2
  refine wp_mono (case_L100 (fi := l3.1.length) (A := A) (X := X) (by omega) hB hrs hWc hc hA0 ⟨by rw [i76]; exact a76, by rw [i76]; exact h76⟩ 16 (Nat.le_refl _) KF ν c u5 Kn [] [] l3 0 0 (Nat.lt_of_le_of_lt (by omega : _ ≤ 65536) KF_gt) ⟨CaT.mono C5 hsub (fun _ q => q), hKs5, S3.up ⟨⟨[], by simp⟩, ⟨[], by simp⟩, ⟨[], by simp⟩, fun _ _ q => q⟩ (g5.I 67 (by decide +kernel)) (g5.I 68 (by decide +kernel)), U3.tr (U5.un hs3 (g5.I 54 (by decide +kernel))), ⟨hW, hG, NuX.rf _ _, hct⟩, ⟨by simp, List.nodup_nil, fun f hf => absurd hf List.not_mem_nil, fun f hf => absurd hf List.not_mem_nil⟩, ⟨hKn, fun f hf => by have := hht f ((hm f).mp hf); omega⟩, ⟨rfl, fun b => ⟨fun q => absurd q List.not_mem_nil, fun ⟨f, f1, _⟩ => absurd f1 List.not_mem_nil⟩⟩, fun hle => ⟨Nat.le_refl _, fun t => ⟨fun ⟨i, i1, i2⟩ => hmA t (List.mem_of_getElem? i2), fun ht => ?_⟩, fun b hb => absurd hb List.not_mem_nil⟩⟩ hK hX (by rw [g5.I 76 (by decide +kernel), i3]; omega)) (fun r u' ⟨h, ν', c', z1, z2, z3, ⟨y1, y2, y3, y4, y5, y6⟩, z5, z6⟩ => ⟨h, ν', c', z1, z2, z3, ⟨by rw [← ee.1.n]; exact y1, fun x hx => by rw [y2 x (by rw [ee.1.n]; exact hx), ee.1.tr], by rw [y4, ee.hh], fun i hi => by rw [y5 i (by rw [ee.hh]; exact hi), ee.hN]⟩, z5, by rw [y6, i54], by rw [i76] at z6; exact z6⟩)
  obtain ⟨f, f1, f2, f3, f4⟩ := (hA t).mp ht
  obtain ⟨i, hi⟩ := List.getElem?_of_mem (hin hle f ((hm f).mpr f1) t f2 f3 f4)
  exact ⟨i, (List.getElem?_eq_some_iff.mp hi).1, hi⟩
end MQ
