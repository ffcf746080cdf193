theorem tX1_closeTerm {d : Nat} (hd : 931 ≤ d) {ν : Nat → Nat} {c : Nat} {W : Wd} {S : Fs} {X : XFm} {K B : Nat → Prop} {Kl : List Nat} {u : Sg} {l : Ls} {x : Nat} (hW : WOK W (Nm ν c)) (hG : WGK W (Nm ν c)) (hK : KlOK W (Nm ν c) Kl) (hAt : ∀ n, AtSp ν c W S X Kl n) (hS : Clo W K B S) (hXT : XTm W S X) (hC : CaL ν c W S Kl u l) (hgd : GdL W u l) (hl : LimH ν u S X l.1) (hr : rC u ≤ 20000) (x0 : 0 < x) (hx : x < nC u) (hxH : trC ν u x ∈ l.1) : wp (runC d 60 [(x : Int)] u) (fun r u' => ∃ l1, ClW ν c W S X Kl u l (kd (trC ν u x) = 4 → ∀ g, g < wnG W → clT W (FsO l) g (trC ν u x)) r u' l1) := by
  obtain ⟨d, rfl⟩ : ∃ d', d = d' + 1 := ⟨d - 1, by omega⟩
  rw [runC_eq (by omega)]
  show wp (bX1_closeTerm (runC d) x u) _
  unfold bX1_closeTerm
  have hs := hC.1.1
  have hn := nodeC hs x0 hx
  have l1' : gL u 1 = gL u 0 := hs.1.1.2.2.2.1.1
  have l3 : gL u 3 = gL u 0 := hs.1.1.2.2.2.1.2.2.1
  obtain ⟨t1, t2⟩ := hC.2.2.2.2.2.1 _ hxH
  rw [ld_nat (by omega), hn.1]
  refine wp_ite (fun h4 => ?_) (fun h4 => ?_)
  · have h4 : kd (trC ν u x) = 4 := by omega
    rw [ld_nat (by omega), hn.2.1 (by omega), ld_nat (by omega), hn.2.2.1]
    have gg2 := hC.1.2.2.2.2.2.2.2.1
    refine closeTerm_L41 (C0 := True) (l0 := l) (by omega) hW hG hK hAt hS hXT hs hl hr x0 t1 t2 h4 (wnG W) 0 KF u l 0 (by omega) (Nat.lt_of_le_of_lt (by omega : _ ≤ 65536) KF_gt) (ClW.rf hC hgd ⟨trivial, fun g h => by omega⟩) hgd.1 hx rfl hxH _ _ (fun u2 l2 fl2 z1 z2 => ?_) (fun u2 l2 z1 z2 => ?_)
    · rw [wp_some]
      exact ⟨l2, z1.mono (fun q _ => q.2)⟩
    · rw [wp_some]
      exact ⟨l2, z1.mono (fun q => q.elim)⟩
  · rw [wp_some]
    exact ⟨l, ClW.rf hC hgd (fun q => absurd (by omega) h4)⟩
theorem ClW.by1 {ν : Nat → Nat} {c : Nat} {W : Wd} {S : Fs} {X : XFm} {Kl : List Nat} {u0 u1 : Sg} {l0 l1 : Ls} {C C' : Prop} {f f' : Int} (h : ClW ν c W S X Kl u0 l0 C f u1 l1) (hb : gI u1 45 ≠ 0) : ClW ν c W S X Kl u0 l0 C' f' u1 l1 := by
  obtain ⟨h1, h2, h3, h4, h5⟩ := h
  exact ⟨h1, h2, h3, h4, Or.inr (h5.resolve_left (fun q => hb q.1.1))⟩
theorem close_L327 {d : Nat} (hd : 931 ≤ d) {ν : Nat → Nat} {c : Nat} {W : Wd} {S : Fs} {X : XFm} {K B : Nat → Prop} {Kl : List Nat} {u0 : Sg} {l0 : Ls} {C0 : Prop} {Q : Int → Sg → Prop} (hW : WOK W (Nm ν c)) (hG : WGK W (Nm ν c)) (hK : KlOK W (Nm ν c) Kl) (hAt : ∀ n, AtSp ν c W S X Kl n) (hS : Clo W K B S) (hXT : XTm W S X) (hl : LimH ν u0 S X l0.1) (hr : rC u0 ≤ 20000) : ∀ (m i f : Nat) (u1 : Sg) (l1 : Ls) (fl : Int), 100 < i + m → i ≤ 100 → m < f → ClW ν c W S X Kl u0 l0 (C0 ∧ ∀ i' t, i' < i → l0.1[i']? = some t → kd t = 4 → ∀ g, g < wnG W → clT W (FsO l0) g t) fl u1 l1 → ∀ xx : Int → Sg → Option (Int × Sg), (∀ (u2 : Sg) (l2 : Ls) (fl2 : Int), ClW ν c W S X Kl u0 l0 (C0 ∧ ∀ t ∈ l0.1, kd t = 4 → ∀ g, g < wnG W → clT W (FsO l0) g t) fl2 u2 l2 → wp (xx fl2 u2) Q) → wp (bX1_close_L327 (runC d) f fl (i : Int) u1 xx) Q := by
  intro m
  induction m with
  | zero => intro i f u1 l1 fl h1 h2; omega
  | succ m ih =>
    intro i f u1 l1 fl h1 h2 hf hw xx k
    obtain ⟨f, rfl⟩ : ∃ f', f = f' + 1 := ⟨f - 1, by omega⟩
    have hC := hw.2.1
    have hs := hC.1.1
    have hH : HaC ν u1 l1.1 l1.2.1 := hC.2.2.1.1
    have h43 := hH.1.1
    have h100 := hH.1.2.1
    have h101 := hH.1.2.2.1
    rw [bX1_close_L327, wp_un, h43]
    refine wp_ite (fun hlt => ?_) (fun hge => ?_)
    · rw [wp_un]
      refine wp_ite (fun hb => ?_) (fun hb => k u1 l1 fl (hw.by1 hb))
      have hi : i < l1.1.length := by omega
      have gi : l1.1[i]? = some l1.1[i] := List.getElem?_eq_getElem hi
      obtain ⟨x, x1, x2, x3, x4, x5⟩ := hH.2.2.2.1 i _ gi
      have hrr : rC u1 = rC u0 := hw.2.2.1.r
      rw [ld_nat (by omega), x1]
      refine wp_call (tX1_closeTerm (x := x) (by omega) hW hG hK hAt hS hXT hC (hw.gl hb) (hw.lm hl hb) (by omega) x2 x3 (by rw [x4]; exact List.mem_of_getElem? gi)) (fun r u2 ⟨l2, z1⟩ => ?_)
      rw [x4] at z1
      rw [wp_un, wp_ar]
      refine ⟨⟨by omega, by omega⟩, ?_⟩
      rw [show (i : Int) + 1 = ((i + 1 : Nat) : Int) by omega]
      refine ih (i + 1) f u2 l2 _ (by omega) (by omega) (by omega) (hw.seq (Or.inl hb) z1 (fun e q1 q2 => ⟨q1.1, fun i' t r1 r2 => ?_⟩)) xx k
      by_cases hii : i' = i
      · subst e
        rw [hii, gi] at r2
        rw [← Option.some.inj r2]
        exact q2
      · exact q1.2 i' t (by omega) r2
    · refine k u1 l1 fl (hw.mono2 (fun e q => ⟨q.1, fun t ht => ?_⟩))
      obtain ⟨i', hi'⟩ := List.getElem?_of_mem ht
      refine q.2 i' t ?_ hi'
      rw [← e] at hi'
      have := (List.getElem?_eq_some_iff.mp hi').1
      omega
theorem close_L363 {d : Nat} (hd : 931 ≤ d) {ν : Nat → Nat} {c : Nat} {W : Wd} {S : Fs} {X : XFm} {K B : Nat → Prop} {Kl : List Nat} {u0 : Sg} {l0 : Ls} {C0 : Prop} {Q : Int → Sg → Prop} (hW : WOK W (Nm ν c)) (hG : WGK W (Nm ν c)) (hK : KlOK W (Nm ν c) Kl) (hS : Clo W K B S) (hl : LimH ν u0 S X l0.1) : ∀ (m g f : Nat) (u1 : Sg) (l1 : Ls) (fl : Int), g + m = wnG W → m < f → ClW ν c W S X Kl u0 l0 (C0 ∧ ∀ g', g' < g → wgS W g' = 0 → ∀ t ∈ l0.1, clG W (FsO l0) g' t) fl u1 l1 → ∀ xx : Int → Sg → Option (Int × Sg), (∀ (u2 : Sg) (l2 : Ls) (fl2 : Int), ClW ν c W S X Kl u0 l0 (C0 ∧ ∀ g, g < wnG W → wgS W g = 0 → ∀ t ∈ l0.1, clG W (FsO l0) g t) fl2 u2 l2 → wp (xx fl2 u2) Q) → wp (bX1_close_L363 (runC d) f fl (g : Int) u1 xx) Q := by
  intro m
  induction m with
  | zero =>
    intro g f u1 l1 fl h1 hf hw xx k
    obtain ⟨f, rfl⟩ : ∃ f', f = f' + 1 := ⟨f - 1, by omega⟩
    obtain ⟨gg1, gg2, ⟨gg3, gg4, gg5, gg6, gg7⟩, gg8⟩ := hw.2.1.1.2.2.2.2.2.2
    rw [bX1_close_L363, wp_un, gg1, if_neg (by omega)]
    exact k u1 l1 fl (hw.mono (fun q => ⟨q.1, fun g' hg' => q.2 g' (by omega)⟩))
  | succ m ih =>
    intro g f u1 l1 fl h1 hf hw xx k
    obtain ⟨f, rfl⟩ : ∃ f', f = f' + 1 := ⟨f - 1, by omega⟩
    have hC := hw.2.1
    obtain ⟨gg1, gg2, ⟨gg3, gg4, gg5, gg6, gg7⟩, gg8⟩ := hC.1.2.2.2.2.2.2
    have hgl : g < wnG W := by omega
    obtain ⟨s1, _⟩ := gg8 g hgl
    rw [bX1_close_L363, wp_un, gg1, if_pos (by omega), wp_un]
    refine wp_ite (fun hb => ?_) (fun hb => k u1 l1 fl (hw.by1 hb))
    rw [ld_nat (by omega), s1]
    refine wp_ite (fun h0 => ?_) (fun h0 => ?_)
    · refine wp_call (tX1_closeClasses (X := X) (by omega) hW hG hK hS hC (hw.gl hb) (hw.lm hl hb) hgl (by omega)) (fun r u2 ⟨l2, z1, z2⟩ => ?_)
      rw [wp_un, wp_ar]
      refine ⟨⟨by omega, by omega⟩, ?_⟩
      rw [show (g : Int) + 1 = ((g + 1 : Nat) : Int) by omega]
      refine ih (g + 1) f u2 l2 _ (by omega) (by omega) (hw.seq (Or.inl hb) z1 (fun e q1 q2 => ⟨q1.1, fun g' r1 r2 => ?_⟩)) xx k
      by_cases hgg : g' = g
      · subst e
        rw [hgg]; exact q2
      · exact q1.2 g' (by omega) r2
    · rw [wp_ar]
      refine ⟨⟨by omega, by omega⟩, ?_⟩
      rw [show (g : Int) + 1 = ((g + 1 : Nat) : Int) by omega]
      refine ih (g + 1) f u1 l1 fl (by omega) (by omega) (hw.mono (fun q => ⟨q.1, fun g' r1 r2 => ?_⟩)) xx k
      by_cases hgg : g' = g
      · rw [hgg] at r2; omega
      · exact q.2 g' (by omega) r2
def AllC (W : Wd) (Kl : List Nat) (l : Ls) : Prop := (∀ f ∈ Kl, KP W l f) ∧ (∀ i j, j < i → AkP l i j) ∧ (∀ t ∈ l.1, kd t = 4 → ∀ g, g < wnG W → clT W (FsO l) g t) ∧ ∀ g, g < wnG W → wgS W g = 0 → ∀ t ∈ l.1, clG W (FsO l) g t
/-- what closing comes to -/
def ClE (ν : Nat → Nat) (c : Nat) (W : Wd) (S : Fs) (X : XFm) (Kl : List Nat) (u : Sg) (l : Ls) (u' : Sg) : Prop := ∃ l', exL l l' ∧ CaL ν c W S Kl u' l' ∧ UpZ ν c S X u u' l'.1 True ∧ GrH u u' ∧ ((GdL W u' l' ∧ AllC W Kl l') ∨ (gI u' 45 = 1 ∧ Bey S l'.1))
theorem msL_le {ν : Nat → Nat} {c : Nat} {W : Wd} {S : Fs} {Kl : List Nat} {u : Sg} {l : Ls} (hW : WOK W (Nm ν c)) (hK : KlOK W (Nm ν c) Kl) (hC : CaL ν c W S Kl u l) : msL l ≤ 56000 := by
  have h20 := hC.1.2.2.2.1.2.1.2
  have := CaP.ml hC hW (hK.wh h20) hK.1
  have h1 : l.1.length ≤ 100 := hC.2.2.1.1.1.2.1
  have h2 := ctP_le l.2.1 l.1.length
  unfold msL
  omega
theorem tX1_close {d : Nat} (hd : 932 ≤ d) {ν : Nat → Nat} {c : Nat} {W : Wd} {S : Fs} {X : XFm} {K B : Nat → Prop} {Kl : List Nat} {u : Sg} {l : Ls} (hW : WOK W (Nm ν c)) (hG : WGK W (Nm ν c)) (hK : KlOK W (Nm ν c) Kl) (hKK : ∀ f ∈ Kl, K f) (hAt : ∀ n, AtSp ν c W S X Kl n) (hS : Clo W K B S) (hXK : XKn W X Kl) (hXT : XTm W S X) (hC : CaL ν c W S Kl u l) (hst : GdL W u l ∨ (gI u 45 = 1 ∧ Bey S l.1)) (hl : LimH ν u S X l.1) (hr : rC u ≤ 20000) (hkn : KnC ν u Kl) (hhk : gI u 45 = 0 → HKn Kl l.1) : wp (runC d 54 [] u) (fun _ u' => ClE ν c W S X Kl u l u') := by
  obtain ⟨d, rfl⟩ : ∃ d', d = d' + 1 := ⟨d - 1, by omega⟩
  rw [runC_eq (by omega)]
  show wp (bX1_close (runC d) u) _
  unfold bX1_close
  have hs := hC.1.1
  have loop : ∀ (n f : Nat) (fl : Int) (u1 : Sg) (l1 : Ls), 56000 < msL l1 + n → n + 1 < f → exL l l1 → CaL ν c W S Kl u1 l1 → UpZ ν c S X u u1 l1.1 True → GrH u u1 → (GdL W u1 l1 ∨ (gI u1 45 = 1 ∧ Bey S l1.1)) → (gI u1 45 = 0 → gI u 45 = 0) → (gI u1 45 = 0 → fl = 0 → AllC W Kl l1) → wp (bX1_close_L2 (runC d) f fl u1 (fun s1 => some (0, s1))) (fun _ u' => ClE ν c W S X Kl u l u') := by
    intro n
    induction n with
    | zero =>
      intro f fl u1 l1 h1 hf he hC1
      have := msL_le hW hK hC1
      omega
    | succ n ih =>
      intro f fl u1 l1 h1 hf he hC1 hU hg hst1 hb0 hall
      obtain ⟨f, rfl⟩ : ∃ f', f = f' + 1 := ⟨f - 1, by omega⟩
      rw [bX1_close_L2]
      refine wp_ite (fun hfl => ?_) (fun hfl => ?_)
      · rw [wp_some]
        exact ⟨l1, he, hC1, hU, hg, hst1.imp (fun q => ⟨q, hall q.1 hfl⟩) id⟩
      · rw [wp_un]
        refine wp_ite (fun hb => ?_) (fun hb => ?_)
        · have hgd : GdL W u1 l1 := hst1.resolve_right (fun q => by rw [q.1] at hb; cases hb)
          have hs1 := hC1.1.1
          have hrr : rC u1 = rC u := hU.r
          have hkn1 := hkn.up hs hU.ux hg.1 (by decide +kernel) (by decide +kernel)
          have hhk1 : HKn Kl l1.1 := fun f hf s h1 h2 h3 => he.H (hhk (hb0 hb) f hf s h1 h2 h3)
          have hl1 := hl.up (hU.z hb).ux (fun t ht => he.H ht)
          have hK500 := hK.1
          have gg2 := hC1.1.2.2.2.2.2.2.2.1
          refine close_L17 (C0 := True) (l0 := l1) (by omega) hW hG hK hKK hAt hS hXK hs1 hl1 (by omega) hkn1 hhk1 Kl.length 0 KF u1 l1 0 (by omega) (Nat.lt_of_le_of_lt (by omega : _ ≤ 65536) KF_gt) (ClW.rf hC1 hgd ⟨trivial, fun i' f h => by omega⟩) _ (fun u2 l2 fl2 z2 => ?_)
          refine close_L247 (C0 := ∀ f ∈ Kl, KP W l1 f) (by omega) hS 101 0 KF u2 l2 fl2 (by omega) (by omega) (Nat.lt_of_le_of_lt (by omega : _ ≤ 65536) KF_gt) (z2.mono (fun q => ⟨q.2, fun i' j' r1 r2 => by omega⟩)) _ (fun u3 l3 fl3 z3 => ?_)
          refine close_L327 (C0 := (∀ f ∈ Kl, KP W l1 f) ∧ ∀ i j, j < i → AkP l1 i j) (by omega) hW hG hK hAt hS hXT hl1 (by omega) 101 0 KF u3 l3 fl3 (by omega) (by omega) (Nat.lt_of_le_of_lt (by omega : _ ≤ 65536) KF_gt) (z3.mono (fun q => ⟨q, fun i' t r1 => by omega⟩)) _ (fun u4 l4 fl4 z4 => ?_)
          refine close_L363 (C0 := ((∀ f ∈ Kl, KP W l1 f) ∧ ∀ i j, j < i → AkP l1 i j) ∧ ∀ t ∈ l1.1, kd t = 4 → ∀ g, g < wnG W → clT W (FsO l1) g t) (by omega) hW hG hK hS hl1 (wnG W) 0 KF u4 l4 fl4 (by omega) (Nat.lt_of_le_of_lt (by omega : _ ≤ 65536) KF_gt) (z4.mono (fun q => ⟨q, fun g' r1 => by omega⟩)) _ (fun u5 l5 fl5 z5 => ?_)
          obtain ⟨w1, w2, w3, w4, w5⟩ := z5
          rcases w5 with ⟨w5, w6⟩ | w5
          · rcases w6 with ⟨e1, e2, e3⟩ | ⟨e1, e2⟩
            · -- nothing new: it is closed
              obtain ⟨f, rfl⟩ : ∃ f', f = f' + 1 := ⟨f - 1, by omega⟩
              rw [e1, bX1_close_L2, if_pos rfl, wp_some]
              exact ⟨l5, he.tr w1, w2, hU.tr w3 w1.1 (Or.inl hb) w2.2.2.1.1.1.2.1 (fun _ => trivial), hg.tr w4, Or.inl ⟨w5, by rw [e2]; exact ⟨e3.1.1.1, e3.1.1.2, e3.1.2, e3.2⟩⟩⟩
            · exact ih f fl5 u5 l5 (by omega) (by omega) (he.tr w1) w2 (hU.tr w3 w1.1 (Or.inl hb) w2.2.2.1.1.1.2.1 (fun _ => trivial)) (hg.tr w4) (Or.inl w5) (fun _ => hb0 hb) (fun _ q => by omega)
          · obtain ⟨f, rfl⟩ : ∃ f', f = f' + 1 := ⟨f - 1, by omega⟩
            rw [bX1_close_L2]
            have fin : wp (some ((0 : Int), u5)) (fun _ u' => ClE ν c W S X Kl u l u') := by
              rw [wp_some]
              exact ⟨l5, he.tr w1, w2, hU.tr w3 w1.1 (Or.inl hb) w2.2.2.1.1.1.2.1 (fun _ => trivial), hg.tr w4, Or.inr w5⟩
            refine wp_ite (fun _ => fin) (fun _ => ?_)
            rw [wp_un, w5.1, if_neg (by decide)]
            exact fin
        · rw [wp_some]
          exact ⟨l1, he, hC1, hU, hg, Or.inr (hst1.resolve_left (fun q => hb q.1))⟩
  exact loop 56001 KF 1 u l (by omega) (Nat.lt_of_le_of_lt (by omega : _ ≤ 65536) KF_gt) (exL.rf l) hC (UpZ.of (OvL.rf hC) id (Up.rf hs)) GrH.rf hst id (fun _ q => by omega)
