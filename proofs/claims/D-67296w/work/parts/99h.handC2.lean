def mkCa : Nat := 154742357345674298663133184
theorem maskCa {D : Nat} (h : D &&& mkCa = 0) : ∀ k, (k = 13 ∨ k = 14 ∨ (67 ≤ k ∧ k ≤ 86) ∨ (36 ≤ k ∧ k ≤ 43) ∨ (46 ≤ k ∧ k ≤ 52)) → D.testBit k = false := fun k hk => by
  have h1 := congrArg (fun z => Nat.testBit z k) h
  simp only [Nat.testBit_and, Nat.zero_testBit] at h1
  have h2 : Nat.testBit mkCa k = true := (by decide +kernel : ∀ k, k ≤ 86 → (k = 13 ∨ k = 14 ∨ (67 ≤ k ∧ k ≤ 86) ∨ (36 ≤ k ∧ k ≤ 43) ∨ (46 ≤ k ∧ k ≤ 52)) → Nat.testBit mkCa k = true) k (by omega) hk
  rw [h2, Bool.and_true] at h1
  exact h1
theorem CW.up2 {ν : Nat → Nat} {c D : Nat} {W : Wd} {u u' : Sg} {X : Nat → Prop} (h : CW ν c W u) (hx : Ux ν c u u' X) (hg : Gr FC D u u') (hb : ∀ k, (k = 13 ∨ k = 14 ∨ (67 ≤ k ∧ k ≤ 86)) → D.testBit k = false) : CW ν c W u' := by
  refine h.up hx hg ?_
  refine Nat.eq_of_testBit_eq (fun k => ?_)
  rw [Nat.testBit_and, Nat.zero_testBit]
  by_cases hk : k = 13 ∨ k = 14 ∨ (67 ≤ k ∧ k ≤ 86)
  · rw [hb k hk]; rfl
  · have : Nat.testBit mkW k = false := by
      by_cases h87 : k ≤ 86
      · exact (by decide +kernel : ∀ k, k ≤ 86 → ¬ (k = 13 ∨ k = 14 ∨ (67 ≤ k ∧ k ≤ 86)) → Nat.testBit mkW k = false) k h87 hk
      · refine Nat.testBit_lt_two_pow (Nat.lt_of_lt_of_le (by decide +kernel : mkW < 2 ^ 87) (Nat.pow_le_pow_right (by decide) (by omega)))
    rw [this, Bool.and_false]
theorem CaP.up {ν : Nat → Nat} {c D : Nat} {W : Wd} {S : Fs} {Kl : List Nat} {u u' : Sg} {H : List Nat} {p : Nat → Nat} {M : List (Nat × Nat × Nat)} {J : List (Nat × Nat)} {X : Nat → Prop} (h : CaP ν c W S Kl u H p M J) (hx : Ux ν c u u' X) (hw : WF FC u') (hg : Gr FC D u u') (hD : D &&& mkCa = 0) : CaP ν c W S Kl u' H p M J := by
  obtain ⟨h1, h2, ⟨h3, h3b⟩, h4, h5, h6⟩ := h
  have hs := h1.1
  have hb := maskCa hD
  exact ⟨h1.up2 hx hg (fun k hk => hb k (by omega)), hw, ⟨h3.up hs hx hg (fun k a b => hb k (by omega)), by rw [hg.I 36 (hb 36 (by omega))]; exact h3b⟩, h4.up hs hx hg (hb 46 (by omega)) (hb 47 (by omega)) (hb 48 (by omega)) (hb 51 (by omega)), h5.up hs hx hg (hb 49 (by omega)) (hb 50 (by omega)) (hb 52 (by omega)), h6⟩
/-- what is known and opened stays, as the arrays grow -/
def Kp (u u' : Sg) : Prop := ∀ k, k = 37 ∨ k = 38 → gL u k ≤ gL u' k ∧ (∀ i, i < gL u k → gN u' k i = gN u k i) ∧ ∀ i, gL u k ≤ i → i < gL u' k → gN u' k i = 0
theorem Kp.rf {u : Sg} : Kp u u := fun _ _ => ⟨Nat.le_refl _, fun _ _ => rfl, fun i a b => by omega⟩
theorem Kp.tr {u u1 u2 : Sg} (h : Kp u u1) (h' : Kp u1 u2) : Kp u u2 := fun k hk => by
  obtain ⟨a1, a2, a3⟩ := h k hk
  obtain ⟨b1, b2, b3⟩ := h' k hk
  refine ⟨by omega, fun i hi => by rw [b2 i (by omega), a2 i hi], fun i h1 h2 => ?_⟩
  by_cases q : i < gL u1 k
  · rw [b2 i q, a3 i h1 q]
  · exact b3 i (by omega) h2
theorem Gr.kp {D : Nat} {u u' : Sg} (h : Gr FC D u u') (h37 : D.testBit 37 = false) (h38 : D.testBit 38 = false) : Kp u u' := fun k hk => by
  have hb : D.testBit k = false := by rcases hk with q | q <;> rw [q] <;> assumption
  have e := h.Ln k hb
  exact ⟨by omega, fun i _ => h.N k hb i, fun i a b => by omega⟩
def GrH (u u' : Sg) : Prop := Gr FC DX1_atHand u u' ∧ Kp u u'
theorem GrH.rf {u : Sg} : GrH u u := ⟨Gr.rf, Kp.rf⟩
theorem GrH.tr {u u1 u2 : Sg} (h : GrH u u1) (h' : GrH u1 u2) : GrH u u2 := ⟨h.1.tr h'.1, h.2.tr h'.2⟩
theorem Gr.gh {D : Nat} {u u' : Sg} (h : Gr FC D u u') (hD : D &&& DX1_atHand = D ∧ D.testBit 37 = false ∧ D.testBit 38 = false) : GrH u u' := ⟨h.sub hD.1, h.kp hD.2.1 hD.2.2⟩
/-- trees that may come: some at any time, some for each term at hand -/
abbrev XFm : Type := (Nat → Prop) × (Nat → Nat → Prop)
def xf (X : XFm) (H : List Nat) : Nat → Prop := fun z => X.1 z ∨ ∃ t, t ∈ H ∧ X.2 t z
theorem xf_mono {X : XFm} {H H' : List Nat} (h : ∀ t ∈ H, t ∈ H') (z : Nat) (hz : xf X H z) : xf X H' z := hz.imp id (fun ⟨t, a, b⟩ => ⟨t, h t a, b⟩)
def LimH (ν : Nat → Nat) (u : Sg) (S : Fs) (X : XFm) (H : List Nat) : Prop := ∀ H' : List Nat, H'.Nodup → H'.length ≤ 101 → (∀ t ∈ H', fH S t) → (∀ t ∈ H, t ∈ H') → Lim ν u (xf X H')
theorem LimH.l {ν : Nat → Nat} {c : Nat} {W : Wd} {S : Fs} {X : XFm} {Kl : List Nat} {u : Sg} {H : List Nat} {p : Nat → Nat} {M : List (Nat × Nat × Nat)} {J : List (Nat × Nat)} (h : LimH ν u S X H) (hC : CaP ν c W S Kl u H p M J) : Lim ν u (xf X H) := h H hC.2.2.1.1.2.2.1 (by have := hC.2.2.1.1.1.2.1; omega) (fun t ht => (hC.2.2.2.2.2.1 t ht).2) (fun _ q => q)
theorem Ux.mono {ν : Nat → Nat} {c : Nat} {u u' : Sg} {X Y : Nat → Prop} (h : Ux ν c u u' X) (hm : ∀ t, X t → Y t) : Ux ν c u u' Y := ⟨h.1, h.2.1, fun t ht => (h.2.2 t ht).imp id (hm t)⟩
theorem LimH.up {ν : Nat → Nat} {c : Nat} {S : Fs} {X : XFm} {u u1 : Sg} {H H1 : List Nat} (h : LimH ν u S X H) (hU : Ux ν c u u1 (xf X H1)) (hs : ∀ t ∈ H, t ∈ H1) : LimH ν u1 S X H1 := fun H' a b c1 d => (hU.mono (xf_mono d)).lim (h H' a b c1 (fun t ht => d t (hs t ht)))
theorem LimH.sub {ν : Nat → Nat} {S : Fs} {X : XFm} {u : Sg} {H H1 : List Nat} (h : LimH ν u S X H) (hs : ∀ t ∈ H, t ∈ H1) : LimH ν u S X H1 := fun H' a b c1 d => h H' a b c1 (fun t ht => d t (hs t ht))
theorem LimH.eq {ν : Nat → Nat} {S : Fs} {X : XFm} {u u1 : Sg} {H : List Nat} (h : LimH ν u S X H) (e : EqS u u1) : LimH ν u1 S X H := fun H' a b c1 d => e.lim (h H' a b c1 d)
theorem Up.jn {ν : Nat → Nat} {c : Nat} {X : XFm} {u u1 u2 : Sg} {H1 H2 : List Nat} (h : Up ν c u u1 (xf X H1)) (h' : Up ν c u1 u2 (xf X H2)) (hs : ∀ t ∈ H1, t ∈ H2) : Up ν c u u2 (xf X H2) := (h.mono (fun t q => Or.inr (xf_mono hs t q))).trn h' |>.mono (fun t q => Or.inr (q.elim id id))
/-- the terms at hand, and one that was refused -/
def OvL (S : Fs) (H G : List Nat) : Prop := (∀ t ∈ H, t ∈ G) ∧ G.Nodup ∧ G.length ≤ 101 ∧ ∀ t ∈ G, fH S t
theorem OvL.rf {ν : Nat → Nat} {c : Nat} {W : Wd} {S : Fs} {Kl : List Nat} {u : Sg} {H : List Nat} {p : Nat → Nat} {M : List (Nat × Nat × Nat)} {J : List (Nat × Nat)} (hC : CaP ν c W S Kl u H p M J) : OvL S H H := ⟨fun _ q => q, hC.2.2.1.1.2.2.1, by have := hC.2.2.1.1.1.2.1; omega, fun t ht => (hC.2.2.2.2.2.1 t ht).2⟩
/-- the store has grown by what goes with the terms at hand; once it is beyond, also with one that was refused -/
def UpZ (ν : Nat → Nat) (c : Nat) (S : Fs) (X : XFm) (u u' : Sg) (H : List Nat) (Z : Prop) : Prop := ∃ G, OvL S H G ∧ (gI u' 45 = 0 ∨ gI u 45 = 1 ∨ ¬ Z → G = H) ∧ (gI u 45 = 1 → gI u' 45 = 1) ∧ Up ν c u u' (xf X G)
section UPZ
variable {ν : Nat → Nat} {c : Nat} {S : Fs} {X : XFm} {u u1 u2 u' : Sg} {H H1 H2 H' : List Nat} {Z Z' : Prop}
theorem UpZ.of (ov : OvL S H H) (hb : gI u 45 = 1 → gI u' 45 = 1) (h : Up ν c u u' (xf X H)) : UpZ ν c S X u u' H Z := ⟨H, ov, fun _ => rfl, hb, h⟩
theorem UpZ.z (h : UpZ ν c S X u u' H Z) (hb : gI u' 45 = 0) : Up ν c u u' (xf X H) := by
  obtain ⟨G, _, e, _, hu⟩ := h
  rw [e (Or.inl hb)] at hu
  exact hu
theorem UpZ.ux (h : UpZ ν c S X u u' H Z) : Ux ν c u u' (fun _ => True) := by
  obtain ⟨G, _, _, _, hu⟩ := h
  exact hu.ux.mono (fun _ _ => trivial)
theorem UpZ.r (h : UpZ ν c S X u u' H Z) : rC u' = rC u := by
  obtain ⟨G, _, _, _, hu⟩ := h
  exact hu.2.2.2.2.2.1
theorem UpZ.w (h : UpZ ν c S X u u' H Z) (k : Z → Z') : UpZ ν c S X u u' H Z' := by
  obtain ⟨G, a, b, e, hu⟩ := h
  exact ⟨G, a, fun q => b (q.imp id (fun w => w.imp id (fun m z => m (k z)))), e, hu⟩
theorem UpZ.pre (h : Up ν c u u1 (xf X H1)) (hb : gI u 45 = 0) (h2 : UpZ ν c S X u1 u2 H2 Z) (hs : ∀ t ∈ H1, t ∈ H2) : UpZ ν c S X u u2 H2 Z := by
  obtain ⟨G, a, b, e, hu⟩ := h2
  refine ⟨G, a, fun q => b (q.imp id (fun w => w.imp (fun z => ?_) id)), fun z => ?_, h.jn hu (fun t ht => a.1 t (hs t ht))⟩
  · rw [hb] at z; cases z
  · rw [hb] at z; cases z
theorem UpZ.post (h : UpZ ν c S X u u1 H1 Z) (h2 : Up ν c u1 u2 (xf X H1)) (hb : gI u2 45 = gI u1 45) : UpZ ν c S X u u2 H1 Z := by
  obtain ⟨G, a, b, e, hu⟩ := h
  exact ⟨G, a, by rw [hb]; exact b, by rw [hb]; exact e, hu.jn (h2.mono (fun t z => Or.inr (xf_mono a.1 t z))) (fun _ z => z)⟩
theorem UpZ.tr (h1 : UpZ ν c S X u u1 H1 True) (h2 : UpZ ν c S X u1 u2 H2 Z) (hp : ∃ a, H2 = H1 ++ a) (hb : gI u1 45 = 0 ∨ (gI u1 45 = 1 ∧ H1.length = 100)) (h100 : H2.length ≤ 100) (hz : gI u1 45 = 1 → Z) : UpZ ν c S X u u2 H2 Z := by
  obtain ⟨G1, a1, b1, c1, d1⟩ := h1
  obtain ⟨G2, a2, b2, c2, d2⟩ := h2
  obtain ⟨a, ha⟩ := hp
  rcases hb with q | ⟨q, l⟩
  · rw [b1 (Or.inl q)] at d1
    refine ⟨G2, a2, fun w => b2 ?_, fun w => ?_, d1.jn d2 (fun t ht => a2.1 t (by rw [ha]; exact List.mem_append_left _ ht))⟩
    · rcases w with w | w | w
      · exact Or.inl w
      · have := c1 w; rw [q] at this; cases this
      · exact Or.inr (Or.inr w)
    · have := c1 w; rw [q] at this; cases this
  · have e2 := b2 (Or.inr (Or.inl q))
    have ea : a = [] := by
      have := congrArg List.length ha
      rw [List.length_append] at this
      exact List.length_eq_zero_iff.mp (by omega)
    rw [ea, List.append_nil] at ha
    subst ha
    rw [e2] at d2
    refine ⟨G1, a1, fun w => ?_, fun w => c2 q, d1.jn (d2.mono (fun t z => Or.inr (xf_mono a1.1 t z))) (fun _ z => z)⟩
    rcases w with w | w | w
    · have := c2 q; rw [w] at this; cases this
    · exact b1 (Or.inr (Or.inl w))
    · exact absurd (hz q) w
theorem UpZ.lm (hl : LimH ν u S X H) (h : UpZ ν c S X u u' H' Z) (hs : ∀ t ∈ H, t ∈ H') : Lim ν u' (xf X H') := by
  obtain ⟨G, a, _, _, d⟩ := h
  have := d.ux.lim (hl G a.2.1 a.2.2.1 a.2.2.2 (fun t ht => a.1 t (hs t ht)))
  exact fun l hn hm => this l hn (fun t ht => (hm t ht).imp id (xf_mono a.1 t))
end UPZ
def AtZ (ν : Nat → Nat) (c : Nat) (W : Wd) (S : Fs) (X : XFm) (Kl Q : List Nat) (u : Sg) (H : List Nat) (p : Nat → Nat) (M : List (Nat × Nat × Nat)) (J : List (Nat × Nat)) (Z : List Nat → Prop) (P : List Nat → List (Nat × Nat × Nat) → List (Nat × Nat) → Prop) (u' : Sg) : Prop := ∃ H' p' M' J', ExC H p M J H' p' M' J' ∧ CaP ν c W S Kl u' H' p' M' J' ∧ UpZ ν c S X u u' H' (Z H') ∧ GrH u u' ∧ ((gI u' 45 = 0 ∧ ArgOK M' H' ∧ (∀ x ∈ H', x ∉ Q → GoodC W H' M' J' x) ∧ P H' M' J') ∨ (gI u' 45 = 1 ∧ Bey S H'))
def AtR (ν : Nat → Nat) (c : Nat) (W : Wd) (S : Fs) (X : XFm) (Kl Q : List Nat) (u : Sg) (H : List Nat) (p : Nat → Nat) (M : List (Nat × Nat × Nat)) (J : List (Nat × Nat)) (P : List Nat → List (Nat × Nat × Nat) → List (Nat × Nat) → Prop) (u' : Sg) : Prop := AtZ ν c W S X Kl Q u H p M J (fun _ => True) P u'
theorem AtZ.r {ν : Nat → Nat} {c : Nat} {W : Wd} {S : Fs} {X : XFm} {Kl Q : List Nat} {u : Sg} {H : List Nat} {p : Nat → Nat} {M : List (Nat × Nat × Nat)} {J : List (Nat × Nat)} {Z : List Nat → Prop} {P : List Nat → List (Nat × Nat × Nat) → List (Nat × Nat) → Prop} {u' : Sg} (h : AtZ ν c W S X Kl Q u H p M J Z P u') : AtR ν c W S X Kl Q u H p M J P u' := by
  obtain ⟨H', p', M', J', h1, h2, h3, h4, h5⟩ := h
  exact ⟨H', p', M', J', h1, h2, h3.w (fun _ => trivial), h4, h5⟩
def AtSp (ν : Nat → Nat) (c : Nat) (W : Wd) (S : Fs) (X : XFm) (Kl : List Nat) (n : Nat) : Prop := ∀ (d : Nat) (u : Sg) (x : Nat) (H : List Nat) (p : Nat → Nat) (M : List (Nat × Nat × Nat)) (J : List (Nat × Nat)) (Q : List Nat), 320 + 6 * n ≤ d → 100 ≤ H.length + n → CaP ν c W S Kl u H p M J → gI u 45 = 0 → (∀ q ∈ M, q.2.2 ≠ 0 → q.2.2 ∈ H ∨ q.2.2 = trC ν u x) → (∀ y ∈ H, y ∉ Q → GoodC W H M J y) → 0 < x → x < nC u → cltm W (Nm ν c) (trC ν u x) → fH S (trC ν u x) → rC u ≤ 20000 → LimH ν u S X H → wp (runC d 45 [(x : Int)] u) (fun _ u' => AtZ ν c W S X Kl Q u H p M J (fun H' => trC ν u x ∈ H') (fun H' _ _ => trC ν u x ∈ H') u')
theorem ExC.alm {W : Wd} {Kl H H' : List Nat} (h : ∃ H2, H' = H ++ H2) {q : Nat × Nat × Nat} (hq : q ∈ ALM W Kl H) : q ∈ ALM W Kl H' := by
  obtain ⟨a, ha⟩ := h
  unfold ALM at hq ⊢
  rw [ha, List.flatMap_append]
  rcases List.mem_append.mp hq with z | z
  · exact List.mem_append_left _ (List.mem_append_left _ z)
  · exact List.mem_append_right _ z
/-- an array of the class twice as long, with its frame -/
theorem wp_cpyC {u : Sg} {id D : Nat} {n : Int} {K : Sg → Option (Int × Sg)} {Q : Int → Sg → Prop} (hw : WF FC u) (hk : FC.2.1 id = 1) (hin : id ∈ FC.2.2) (hD : D.testBit id = true) (hn : n = ((2 * gL u id : Nat) : Int)) (h1 : 16 ≤ gL u id) (h2 : gL u id ≤ 60000000) (k : ∀ u', WF FC u' → Gr FC D u u' → (∀ j, gI u' j = gI u j) → (∀ j, j ≠ id → gL u' j = gL u j ∧ ∀ i, gN u' j i = gN u j i) → gL u' id = 2 * gL u id → (∀ i, i < gL u id → gN u' id i = gN u id i) → wp (K u') Q) : wp (cpy u id n K) Q := by
  rw [wp_cpy, hn]
  obtain ⟨j, hj⟩ := List.getElem?_of_mem hin
  refine ⟨⟨by rw [Int.toNat_natCast]; omega, by rw [Int.toNat_natCast]; omega, by omega⟩, k _ (hw.sN hk (by rw [Int.toNat_natCast]; omega) (fun i => ?_)) (Gr_sN FC_ok hj hD ?_ (by rw [Int.toNat_natCast]; omega)) (fun _ => rfl) (fun j hj => ⟨by rw [gL_sN', if_neg hj], fun i => by rw [gN_sN', if_neg hj]⟩) (by rw [gL_sN', if_pos rfl, Int.toNat_natCast]) (fun i hi => ?_)⟩
  · by_cases hi : i < gL u id
    · rw [if_pos hi]; exact hw.2.2.2.1 id i (by rw [hk]; decide)
    · rw [if_neg hi]; decide
  · show (2 + 1) * gL u id ≤ 2 * ((2 * gL u id : Nat) : Int).toNat
    rw [Int.toNat_natCast]; omega
  · rw [gN_sN', if_pos rfl, if_pos hi]; rfl
def D0m : Nat := 2744381022928896
theorem mf_L3 {d : Nat} {ν : Nat → Nat} {c : Nat} {u : Sg} {M : List (Nat × Nat × Nat)} (hM : FcM ν u M) (hs : SC ν c u) {x m a : Nat} (hx : x < nC u) (ha : a < nC u) {xx : Int → Int → Int → Sg → Option (Int × Sg)} {xy : Sg → Option (Int × Sg)} : ∀ (n i f : Nat), i + n = M.length → n < f → ((∃ k, i ≤ k ∧ M[k]? = some (trC ν u x, m, trC ν u a)) → bX1_hasModeFact_L3 (runC d) f (x : Int) (m : Int) (a : Int) (i : Int) u xx xy = xy u) ∧ (¬ (∃ k, i ≤ k ∧ M[k]? = some (trC ν u x, m, trC ν u a)) → bX1_hasModeFact_L3 (runC d) f (x : Int) (m : Int) (a : Int) (i : Int) u xx xy = xx (x : Int) (m : Int) (a : Int) u) := by
  obtain ⟨⟨m1, m2, m3, m4, m5, m6⟩, m7⟩ := hM
  intro n
  induction n with
  | zero =>
    intro i f hi hf
    obtain ⟨f, rfl⟩ : ∃ f', f = f' + 1 := ⟨f - 1, by omega⟩
    rw [bX1_hasModeFact_L3, un_eq, m1, if_neg (by omega)]
    exact ⟨fun ⟨k, q1, q2⟩ => by have := (List.getElem?_eq_some_iff.mp q2).1; omega, fun _ => rfl⟩
  | succ n ih =>
    intro i f hi hf
    obtain ⟨f, rfl⟩ : ∃ f', f = f' + 1 := ⟨f - 1, by omega⟩
    have hil : i < M.length := by omega
    obtain ⟨t', m', a', hget⟩ : ∃ t' m' a', M[i]? = some (t', m', a') := ⟨_, _, _, List.getElem?_eq_getElem hil⟩
    obtain ⟨⟨y, y1, y2, y3⟩, e2, ⟨z, z1, z2, z3⟩⟩ := m7 i t' m' a' hget
    have nxt := ih (i + 1) f (by omega) (by omega)
    have cont : ¬ (t' = trC ν u x ∧ m' = m ∧ a' = trC ν u a) → ((∃ k, i ≤ k ∧ M[k]? = some (trC ν u x, m, trC ν u a)) → (ar ((i : Int) + 1) fun v5 => bX1_hasModeFact_L3 (runC d) f (x : Int) (m : Int) (a : Int) v5 u xx xy) = xy u) ∧ (¬ (∃ k, i ≤ k ∧ M[k]? = some (trC ν u x, m, trC ν u a)) → (ar ((i : Int) + 1) fun v5 => bX1_hasModeFact_L3 (runC d) f (x : Int) (m : Int) (a : Int) v5 u xx xy) = xx (x : Int) (m : Int) (a : Int) u) := fun hno => by
      rw [ar_pos ⟨by omega, by omega⟩, show (i : Int) + 1 = ((i + 1 : Nat) : Int) by omega]
      refine ⟨fun ⟨k, q1, q2⟩ => nxt.1 ⟨k, ?_, q2⟩, fun q => nxt.2 (fun ⟨k, q1, q2⟩ => q ⟨k, by omega, q2⟩)⟩
      by_cases hk : k = i
      · rw [hk, hget] at q2
        have e := Option.some.inj q2
        simp only [Prod.mk.injEq] at e
        exact absurd e hno
      · omega
    rw [bX1_hasModeFact_L3, un_eq, m1, if_pos (by omega), ld_nat (by omega), y1]
    by_cases hxy : (y : Int) = (x : Int)
    · have eyx : y = x := by omega
      rw [if_pos hxy, ld_nat (by omega), e2]
      by_cases hm : (m' : Int) = (m : Int)
      · rw [if_pos hm, ld_nat (by omega), z1]
        by_cases hz : (z : Int) = (a : Int)
        · have eza : z = a := by omega
          rw [if_pos hz]
          exact ⟨fun _ => rfl, fun q => absurd ⟨i, Nat.le_refl _, by rw [hget, ← eyx, y3, show m' = m by omega, ← eza, z3]⟩ q⟩
        · rw [if_neg hz]
          refine cont (fun q => hz ?_)
          rw [trC_inj hs z2 ha (by rw [z3]; exact q.2.2)]
      · rw [if_neg hm]
        exact cont (fun q => hm (by rw [q.2.1]))
    · rw [if_neg hxy]
      refine cont (fun q => hxy ?_)
      rw [trC_inj hs y2 hx (by rw [y3]; exact q.1)]
/-- a new mode fact is written down -/
theorem mf_add {ν : Nat → Nat} {c : Nat} {u : Sg} {M : List (Nat × Nat × Nat)} {x m a : Nat} {K : Sg → Option (Int × Sg)} {Q : Int → Sg → Prop} (hw : WF FC u) (hM : FcM ν u M) (hs : SC ν c u) (hMl : M.length ≤ 60000) (hx : x < nC u) (ha : a < nC u) (hn : nC u ≤ 90000) (hm : m < 1000) (k : ∀ s, WF FC s → Gr FC D0m u s → FcM ν s (M ++ [(trC ν u x, m, trC ν u a)]) → wp (K s) Q) :
    wp (jn (fun (a1 a2 a3 : Int) (s6 : Sg) => un (gI s6 51) fun v7 => stA s6 46 v7 a1 fun s8 => un (gI s8 51) fun v9 => stA s8 47 v9 a2 fun s10 => un (gI s10 51) fun v11 => stA s10 48 v11 a3 fun s12 => un (gI s12 51) fun v13 => ar (v13 + 1) fun v14 => un (sI s12 51 v14) fun s15 => K s15) fun j5 => un (gI u 51) fun v18 => un (gL u 46 : Int) fun v19 => if v18 = v19 then (un (gI u 51) fun v20 => ar (2 * v20) fun v21 => cpy u 46 v21 fun s22 => un (gI s22 51) fun v23 => ar (2 * v23) fun v24 => cpy s22 47 v24 fun s25 => un (gI s25 51) fun v26 => ar (2 * v26) fun v27 => cpy s25 48 v27 fun s28 => j5 (x : Int) (m : Int) (a : Int) s28) else (j5 (x : Int) (m : Int) (a : Int) u)) Q := by
  obtain ⟨⟨m1, m2, m3, m4, m5, m6⟩, m7⟩ := hM
  have put : ∀ s : Sg, WF FC s → Gr FC D0m u s → gI s 51 = (M.length : Int) → M.length < gL s 46 → gL s 47 = gL s 46 → gL s 48 = gL s 46 → 512 ≤ gL s 46 → gL s 46 ≤ 131072 → (∀ i, i < M.length → gN s 46 i = gN u 46 i ∧ gN s 47 i = gN u 47 i ∧ gN s 48 i = gN u 48 i) → wp (un (gI s 51) fun v7 => stA s 46 v7 (x : Int) fun s8 => un (gI s8 51) fun v9 => stA s8 47 v9 (m : Int) fun s10 => un (gI s10 51) fun v11 => stA s10 48 v11 (a : Int) fun s12 => un (gI s12 51) fun v13 => ar (v13 + 1) fun v14 => un (sI s12 51 v14) fun s15 => K s15) Q := fun s w0 g0 i1 i2 i3 i4 i5 i6 i7 => by
    rw [wp_un, i1, stA_pos ⟨by omega, by omega⟩, wp_un, gI_sA, i1, stA_pos ⟨by omega, by rw [gL_sA]; omega⟩, wp_un, gI_sA, gI_sA, i1, stA_pos ⟨by omega, by rw [gL_sA, gL_sA]; omega⟩, wp_un, gI_sA, gI_sA, gI_sA, i1, wp_ar]
    refine ⟨⟨by omega, by omega⟩, ?_⟩
    rw [wp_un]
    have G : Gr FC D0m u (sI (sA (sA (sA s 46 (M.length : Int) (x : Int)) 47 (M.length : Int) (m : Int)) 48 (M.length : Int) (a : Int)) 51 ((M.length : Int) + 1)) := g0.tr ((Gr_sA (by decide +kernel)).tr ((Gr_sA (by decide +kernel)).tr ((Gr_sA (by decide +kernel)).tr (Gr_sI (by decide +kernel)))))
    obtain ⟨e, hU⟩ := G.ux (X := fun _ => False) hs (by decide +kernel)
    refine k _ (wfI (wfA (wfA (wfA w0 rfl ⟨by omega, by omega⟩) rfl ⟨by omega, by omega⟩) rfl ⟨by omega, by omega⟩) rfl ⟨by omega, by omega⟩) G ⟨⟨by rw [gI_sI, if_pos rfl, List.length_append]; rfl, by rw [gL_sI, gL_sA, gL_sA, gL_sA, List.length_append]; exact i2, by rw [gL_sI, gL_sA, gL_sA, gL_sA, gL_sI, gL_sA, gL_sA, gL_sA]; exact i3, by rw [gL_sI, gL_sA, gL_sA, gL_sA, gL_sI, gL_sA, gL_sA, gL_sA]; exact i4, by rw [gL_sI, gL_sA, gL_sA, gL_sA]; exact i5, by rw [gL_sI, gL_sA, gL_sA, gL_sA]; exact i6⟩, fun k' t m' a' hk => ?_⟩
    have r46 : ∀ i, gN (sI (sA (sA (sA s 46 (M.length : Int) (x : Int)) 47 (M.length : Int) (m : Int)) 48 (M.length : Int) (a : Int)) 51 ((M.length : Int) + 1)) 46 i = if i = M.length then (x : Int) else gN s 46 i := fun i => by
      rw [gN_sI, gN_sAn, if_neg (by omega), gN_sAn, if_neg (by omega), gN_sAn]
      by_cases q : i = M.length
      · rw [if_pos ⟨rfl, q⟩, if_pos q]
      · rw [if_neg (fun z => q z.2), if_neg q]
    have r47 : ∀ i, gN (sI (sA (sA (sA s 46 (M.length : Int) (x : Int)) 47 (M.length : Int) (m : Int)) 48 (M.length : Int) (a : Int)) 51 ((M.length : Int) + 1)) 47 i = if i = M.length then (m : Int) else gN s 47 i := fun i => by
      rw [gN_sI, gN_sAn, if_neg (by omega), gN_sAn]
      by_cases q : i = M.length
      · rw [if_pos ⟨rfl, q⟩, if_pos q]
      · rw [if_neg (fun z => q z.2), if_neg q, gN_sAn, if_neg (by omega)]
    have r48 : ∀ i, gN (sI (sA (sA (sA s 46 (M.length : Int) (x : Int)) 47 (M.length : Int) (m : Int)) 48 (M.length : Int) (a : Int)) 51 ((M.length : Int) + 1)) 48 i = if i = M.length then (a : Int) else gN s 48 i := fun i => by
      rw [gN_sI, gN_sAn]
      by_cases q : i = M.length
      · rw [if_pos ⟨rfl, q⟩, if_pos q]
      · rw [if_neg (fun z => q z.2), if_neg q, gN_sAn, if_neg (by omega), gN_sAn, if_neg (by omega)]
    rw [r46, r47, r48]
    by_cases hkl : k' < M.length
    · rw [List.getElem?_append_left hkl] at hk
      obtain ⟨b1, b2, b3⟩ := m7 k' t m' a' hk
      rw [if_neg (by omega), if_neg (by omega), if_neg (by omega), (i7 k' hkl).1, (i7 k' hkl).2.1, (i7 k' hkl).2.2]
      exact ⟨b1.up hs hU.ux, b2, b3.up hs hU.ux⟩
    · rw [List.getElem?_append_right (by omega)] at hk
      have h0 : k' - M.length = 0 := by have := (List.getElem?_eq_some_iff.mp hk).1; simp at this; omega
      rw [h0] at hk
      simp at hk
      have ek : k' = M.length := by omega
      rw [if_pos ek, if_pos ek, if_pos ek, ← hk.1, ← hk.2.1, ← hk.2.2]
      exact ⟨⟨x, rfl, by rw [e.n]; exact hx, by rw [e.tr]⟩, rfl, ⟨a, rfl, by rw [e.n]; exact ha, by rw [e.tr]⟩⟩
  rw [wp_jn, wp_un, m1, wp_un]
  refine wp_ite (fun he => ?_) (fun he => ?_)
  · rw [wp_un, wp_ar]
    refine ⟨⟨by omega, by omega⟩, ?_⟩
    refine wp_cpyC (D := D0m) hw rfl (by decide) (by decide +kernel) (by omega) (by omega) (by omega) (fun s1 w1 g1 a1 a2 a3 a4 => ?_)
    rw [wp_un, a1, m1, wp_ar]
    refine ⟨⟨by omega, by omega⟩, ?_⟩
    have l47 := (a2 47 (by omega)).1
    refine wp_cpyC (D := D0m) w1 rfl (by decide) (by decide +kernel) (by rw [l47]; omega) (by omega) (by omega) (fun s2 w2 g2 b1 b2 b3 b4 => ?_)
    rw [wp_un, b1, a1, m1, wp_ar]
    refine ⟨⟨by omega, by omega⟩, ?_⟩
    have l48 := (a2 48 (by omega)).1
    have l48' := (b2 48 (by omega)).1
    refine wp_cpyC (D := D0m) w2 rfl (by decide) (by decide +kernel) (by rw [l48', l48]; omega) (by omega) (by omega) (fun s3 w3 g3 c1 c2 c3 c4 => ?_)
    have l46 := (b2 46 (by omega)).1
    have l46' := (c2 46 (by omega)).1
    have l47' := (c2 47 (by omega)).1
    refine put s3 w3 ((g1.tr g2).tr g3) (by rw [c1, b1, a1]; exact m1) (by omega) (by omega) (by omega) (by omega) (by omega) (fun i hi => ⟨?_, ?_, ?_⟩)
    · rw [(c2 46 (by omega)).2, (b2 46 (by omega)).2, a4 i (by omega)]
    · rw [(c2 47 (by omega)).2, b4 i (by omega), (a2 47 (by omega)).2]
    · rw [c4 i (by omega), (b2 48 (by omega)).2, (a2 48 (by omega)).2]
  · exact put u hw Gr.rf m1 (by omega) m3 m4 m5 m6 (fun i hi => ⟨rfl, rfl, rfl⟩)
