/-! openings: what the leaves are, and where their parts lie -/
theorem gN0_putg {t : Nat} (h : t ≠ 0) : gN0 (putg t) := fun e l h0 _ => by
  unfold putg
  split
  · exact h
  · exact h0
theorem ImT_all {X : Nat → Prop} {t : Nat} (ht : clT1 t) : ∀ (b : Nat), okT b → ∀ d, ImT X (putg t) b d → ∀ s, subT s (sbT (putg t) d b) → X s ∨ subT s t := by
  intro b
  induction b using Nat.strongRecOn with
  | ind b ih =>
    intro ho d him s hs
    have h0 : t ≠ 0 := okT_0 ht.1
    rw [ImT_eq] at him
    obtain ⟨i0, i1⟩ := him
    by_cases hk : kd b ≤ 3
    · rw [sbT_eq, if_pos hk] at hs i0
      unfold putg at hs i0
      by_cases q : kd b = 2 ∧ wh b = d
      · rw [if_pos q] at hs; exact Or.inr hs
      · rw [if_neg q] at hs i0
        rw [subT_eq] at hs
        rcases hs with e | ⟨c, hc, _⟩
        · rw [e]; exact Or.inl i0
        · rw [fms_lf ho.n hk] at hc; cases hc
    · rw [subT_eq] at hs
      rcases hs with e | ⟨c, hc, hsc⟩
      · rw [e]; exact Or.inl i0
      · by_cases k18 : kd b = 18
        · obtain ⟨y, f, hp, y8, ff, my, mf⟩ := ps_all1 ho k18
          have fm := (fms_all (d := d) (gN0_putg h0) k18 hp (okT_0 (ho.c my)) (okT_0 (ho.c mf))).1
          rw [fm] at hc
          rcases List.mem_cons.mp hc with q | q
          · rw [q] at hsc
            have j1 := i1 0 y (by rw [hp]; rfl) (Or.inr rfl) (okT_0 (ho.c my))
            rw [if_neg (by omega)] at j1
            exact ih y (fms_lt my) (ho.c my) d j1 s hsc
          · rw [List.mem_singleton.mp q] at hsc
            have j1 := i1 1 f (by rw [hp]; rfl) (Or.inl (by omega)) (okT_0 (ho.c mf))
            rw [if_pos ⟨k18, by omega⟩] at j1
            exact ih f (fms_lt mf) (ho.c mf) (d + 1) j1 s hsc
        · rw [fms_sbn (gN0_putg h0) hk k18] at hc
          obtain ⟨c0, m0, e0⟩ := List.mem_map.mp hc
          obtain ⟨i, i8, ig, iz⟩ := fms_at.mp m0
          have j1 := i1 i c0 ig i8 iz
          rw [if_neg (fun q => k18 q.1)] at j1
          rw [← e0] at hsc
          exact ih c0 (fms_lt m0) (ho.c m0) d j1 s hsc
/-- a leaf of an opening: no AND, no NOT of an AND or an ALL -/
def LfK (z : Nat) : Prop := kd z ≠ 17 ∧ ¬ (kd z = 16 ∧ (kd (pa z 0) = 17 ∨ kd (pa z 0) = 18))
def LeafC (W : Wd) (X : Nat → Prop) (n p : Nat) : Prop := ∀ c, opR W X n p c → ∀ x ∈ (tqF n p c).1, ∀ z ∈ x, LfK z ∧ ∀ s, subT s z → X s ∨ subT s p
theorem opRL_leaf {W : Wd} {X : Nat → Prop} {n : Nat} : ∀ (l : List Nat) (c : Nat), (∀ p ∈ l, okT p ∧ isFo p ∧ htT p < n) → (∀ p ∈ l, LeafC W X n p) → opRL (opR W X n) (opF n) l c → ∀ A ∈ (tqL (tqF n) l c).1, ∀ x ∈ A, ∀ z ∈ x, LfK z ∧ ∃ p ∈ l, ∀ s, subT s z → X s ∨ subT s p
  | [], _, _, _, _, A, hA => by cases hA
  | p :: l, c, ho, hL, hR, A, hA => by
    intro x hx z hz
    have hA : A ∈ (tqF n p c).1 :: (tqL (tqF n) l (tqF n p c).2).1 := hA
    obtain ⟨r1, r2⟩ : opR W X n p c ∧ opRL (opR W X n) (opF n) l (opF n p c).2 := hR
    obtain ⟨o1, o2, o3⟩ := ho p List.mem_cons_self
    have ec := (op_tq n p o3 o1 o2 c).1
    rcases List.mem_cons.mp hA with w | w
    · rw [w] at hx
      obtain ⟨q1, q2⟩ := hL p List.mem_cons_self c r1 x hx z hz
      exact ⟨q1, p, List.mem_cons_self, q2⟩
    · rw [ec] at w
      obtain ⟨q1, p', q2, q3⟩ := opRL_leaf l _ (fun q hq => ho q (List.mem_cons_of_mem _ hq)) (fun q hq => hL q (List.mem_cons_of_mem _ hq)) r2 A w x hx z hz
      exact ⟨q1, p', List.mem_cons_of_mem _ q2, q3⟩
theorem op_leaf {W : Wd} {X : Nat → Prop} : ∀ (n f : Nat), okT f → isFo f → htT f < n → LeafC W X n f := by
  intro n
  induction n with
  | zero => intro f _ _ h; omega
  | succ n ih =>
    intro f ho hf hh c hR x hx z hz
    rw [opR] at hR
    rw [tqF] at hx
    have one : ∀ {w : Nat}, x ∈ [[w]] → z = w := fun {w} q => by
      rw [List.mem_singleton.mp q] at hz
      exact List.mem_singleton.mp hz
    by_cases k9 : kd f = 9
    · rw [if_pos k9] at hx
      rw [List.mem_singleton.mp hx] at hz
      cases hz
    rw [if_neg k9] at hx
    by_cases k17 : kd f = 17
    · rw [if_pos k17] at hx
      have hl : ∀ p ∈ ps f, isFo p := by
        rcases ho.n.2 with q | q | q | q | q | q | q | q | q | q | q | q | q | q <;> first | omega | exact fun p hp => (q.2.2.2 p hp).1
      have mf : ∀ p ∈ ps f, p ∈ fms f := fun p hp => fms_mem hp (by omega) (isFo_pos (hl p hp))
      have hp : ∀ p ∈ ps f, okT p ∧ isFo p ∧ htT p < n := fun p hp => ⟨ho.c (mf p hp), hl p hp, by have := ht_c (mf p hp); omega⟩
      obtain ⟨A, a1, x', a2, a3⟩ := prodL_in hx hz
      obtain ⟨q1, p, q2, q3⟩ := opRL_leaf (ps f) c hp (fun p hq => ih p (hp p hq).1 (hp p hq).2.1 (hp p hq).2.2) (hR.1 k17).1 A a1 x' a2 z a3
      exact ⟨q1, fun s hs => (q3 s hs).imp id (fun w => sub_c (mf p q2) w)⟩
    rw [if_neg k17] at hx
    by_cases k16 : kd f = 16
    · rw [if_pos k16] at hx
      obtain ⟨g, hp, fg, kg, mg⟩ := ps_not1 ho k16
      have og := ho.c mg
      have pa0 : pa f 0 = g := by unfold pa; rw [hp]; rfl
      have hg := ht_c mg
      rw [pa0] at hR hx
      by_cases g9 : kd g = 9
      · rw [if_pos g9] at hx; cases hx
      rw [if_neg g9] at hx
      by_cases g17 : kd g = 17
      · rw [if_pos g17] at hx
        obtain ⟨r1, r2, _⟩ := hR.2.1 k16 g17
        have hl : ∀ p ∈ ps g, isFo p := by
          rcases og.n.2 with q | q | q | q | q | q | q | q | q | q | q | q | q | q <;> first | omega | exact fun p hp => (q.2.2.2 p hp).1
        have mf : ∀ p ∈ ps g, p ∈ fms g := fun p hp => fms_mem hp (by omega) (isFo_pos (hl p hp))
        have hq : ∀ q ∈ (ps g).map notT, okT q ∧ isFo q ∧ htT q < n := fun q hq => by
          obtain ⟨p, p1, p2⟩ := List.mem_map.mp hq
          rw [← p2]
          have op := og.c (mf p p1)
          have h1 := ht_not op
          have h2 := ht_c (mf p p1)
          exact ⟨(okT_not op (hl p p1)).1, (okT_not op (hl p p1)).2, by omega⟩
        obtain ⟨A, a1, a2⟩ := List.mem_flatten.mp hx
        obtain ⟨q1, q, q2, q3⟩ := opRL_leaf ((ps g).map notT) c hq (fun p hp' => ih p (hq p hp').1 (hq p hp').2.1 (hq p hp').2.2) r2 A a1 x a2 z hz
        obtain ⟨p, p1, p2⟩ := List.mem_map.mp q2
        refine ⟨q1, fun s hs => ?_⟩
        rcases q3 s hs with w | w
        · exact Or.inl w
        · rw [← p2] at w
          rcases sub_ntT (og.c (mf p p1)) w with v | v
          · rw [v]; exact Or.inl (r1 p p1)
          · exact Or.inr (sub_c mg (sub_c (mf p p1) v))
      rw [if_neg g17] at hx
      by_cases g18 : kd g = 18
      · rw [if_pos g18] at hx
        obtain ⟨⟨_, r2, r3, r4⟩, r5⟩ := hR.2.2 k16 g18
        obtain ⟨y, b, hpg, y8, fb, my, mb⟩ := ps_all1 og g18
        have ob := og.c mb
        have pa1 : pa g 1 = b := by unfold pa; rw [hpg]; rfl
        rw [pa1] at r3 r4 r5 hx
        have ck := clT1_const (2 * c)
        have oi := okT_sb b ob (gOn_put ob ck.1 ck.2.1) 0
        have fi := (sb_fo (g := putg (mk 1 (2 * c) [])) (d := 0) fb).1
        have hb := ht_c mb
        have h1 := ht_put_le (ht_con (2 * c)) b ob 0
        have h2 := ht_not oi
        obtain ⟨q1, q2⟩ := ih _ (okT_not oi fi).1 (okT_not oi fi).2 (by omega) (c + 1) r5 x hx z hz
        refine ⟨q1, fun s hs => ?_⟩
        rcases q2 s hs with w | w
        · exact Or.inl w
        · rcases sub_ntT oi w with v | v
          · rw [v]; exact Or.inl r4
          · rcases ImT_all ck b ob 0 r3 s v with t | t
            · exact Or.inl t
            · rw [sub_const t]; exact Or.inl r2
      rw [if_neg g18] at hx
      rw [one hx]
      exact ⟨⟨k17, fun q => by rw [pa0] at q; omega⟩, fun s hs => Or.inr hs⟩
    rw [if_neg k16] at hx
    rw [one hx]
    exact ⟨⟨k17, fun q => k16 q.1⟩, fun s hs => Or.inr hs⟩
