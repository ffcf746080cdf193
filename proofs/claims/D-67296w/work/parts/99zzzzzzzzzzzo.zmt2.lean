/-! names in the types of binders: kept by all calls -/
def cLm (Λ : List Nat) : List Nat := Λ.map (fun l => 2 * l + 1)
theorem cLm_odd {Λ : List Nat} : ∀ j, 2 * j ∉ cLm Λ := fun j h => by
  obtain ⟨l, _, e⟩ := List.mem_map.mp h
  omega
theorem cLm_len {Λ : List Nat} : (cLm Λ).length = Λ.length := List.length_map _
/-- a closed formula whose binders' types have their constants in a list; all its parts have few such names -/
def TQ (Λ : List Nat) (f : Nat) : Prop := (okT f ∧ isFo f) ∧ tcv (cLm Λ) f 0 ∧ Alls (NtL Λ.length) f
theorem TQ.nt {Λ : List Nat} {f : Nat} (h : tcv (cLm Λ) f 0) : NtL Λ.length f := ⟨cLm Λ, by rw [cLm_len]; exact Nat.le_refl _, fun _ => h⟩
theorem TQ.lo {Λ : List Nat} {f : Nat} (ho : okT f) (hf : isFo f) (h14 : kd f ≤ 14) : TQ Λ f := ⟨⟨ho, hf⟩, tc_lo h14, fun s hs => NtL.lo (by
  have : ∀ (t : Nat), okT t → kd t ≤ 14 → ∀ s, subT s t → kd s ≤ 14 := by
    intro t
    induction t using Nat.strongRecOn with
    | ind t ih =>
      intro ot k s hs
      rw [subT_eq] at hs
      rcases hs with e | ⟨z, hz, q⟩
      · rw [e]; exact k
      · exact ih z (fms_lt hz) (ot.c hz) (by have := kd_14 ot.n k hz; omega) s q
  exact this f ho h14 s hs)⟩
theorem TQ.yes {Λ : List Nat} : TQ Λ yesT := by
  have h := fF_yes (W := default) (N := fun _ => True)
  exact TQ.lo h.1.1.1 h.2 (by unfold yesT; rw [kd_mk]; decide)
theorem TQ.mono {Λ Λ' : List Nat} {f : Nat} (hL : ∀ l ∈ Λ, l ∈ Λ') (hn : Λ.length ≤ Λ'.length) (h : TQ Λ f) : TQ Λ' f := ⟨h.1, tc_mono (fun z hz => by
  obtain ⟨l, hl, e⟩ := List.mem_map.mp hz
  exact List.mem_map.mpr ⟨l, hL l hl, e⟩) f h.1.1 h.1.2 0 h.2.1, fun s hs => (h.2.2 s hs).mono hn⟩
theorem TQ.part {Λ : List Nat} {f p : Nat} (h : TQ Λ f) (k : kd f = 16 ∨ kd f = 17) (hp : p ∈ ps f) : TQ Λ p := by
  obtain ⟨fp, mp⟩ := ps_67 h.1.1 k p hp
  exact ⟨⟨h.1.1.c mp, fp⟩, (tc_pl k).mp h.2.1 p hp, h.2.2.sub (sub_c mp (sub_rf p))⟩
theorem TQ.nd {Λ : List Nat} {k : Nat} {l : List Nat} (hk : k = 16 ∨ k = 17) (ho : okT (mk k 0 l)) (hl : ∀ p ∈ l, TQ Λ p) : TQ Λ (mk k 0 l) := by
  have kk : kd (mk k 0 l) = k := kd_mk _ _ _
  have pp : ps (mk k 0 l) = l := ps_mk _ _ _
  have ht : tcv (cLm Λ) (mk k 0 l) 0 := (tc_pl (by omega)).mpr (fun c hc => by rw [pp] at hc; exact (hl c hc).2.1)
  exact ⟨⟨ho, by unfold isFo; omega⟩, ht, Alls.top (TQ.nt ht) (fun z hz => by
    have := (fms_ps hz).1
    rw [pp] at this
    exact (hl z this).2.2)⟩
theorem TQ.not {Λ : List Nat} {f : Nat} (h : TQ Λ f) : TQ Λ (notT f) := by
  have ho := (okT_not h.1.1 h.1.2).1
  unfold notT at ho ⊢
  by_cases h16 : kd f = 16
  · rw [if_pos h16] at ho ⊢
    obtain ⟨g, e, _, _, _⟩ := ps_not1 h.1.1 h16
    rw [e]
    exact h.part (Or.inl h16) (by rw [e]; exact List.mem_cons_self)
  · rw [if_neg h16] at ho ⊢
    exact TQ.nd (Or.inl rfl) ho (fun p hp => by rw [List.mem_singleton.mp hp]; exact h)
theorem TQ.and {Λ : List Nat} {L : List Nat} (h : ∀ f ∈ L, TQ Λ f) : TQ Λ (andT L) := by
  have ho := (okT_and (fun f hf => (h f hf).1)).1
  have hfl : ∀ g ∈ L.flatMap flt, TQ Λ g := fun g hg => by
    obtain ⟨f, hf, q⟩ := List.mem_flatMap.mp hg
    rcases flt_in q with e | ⟨e, z⟩
    · rw [e]; exact h f hf
    · exact (h f hf).part (Or.inr e) z
  unfold andT at ho ⊢
  by_cases hn : noT ∈ L
  · rw [if_pos hn] at ho ⊢
    exact h _ hn
  · rw [if_neg hn] at ho ⊢
    cases hl : L.flatMap flt with
    | nil => exact TQ.yes
    | cons a l =>
      rw [hl] at hfl ho
      cases l with
      | nil => exact hfl a List.mem_cons_self
      | cons b l => exact TQ.nd (Or.inr rfl) ho hfl
theorem TQ.jn {Λ : List Nat} {k : Int} {x y : Nat} (hx : TQ Λ x) (hy : k ≠ 0 → TQ Λ y) : TQ Λ (jnT k x y) := by
  unfold jnT
  by_cases k0 : k = 0
  · rw [if_pos k0]; exact hx.not
  rw [if_neg k0]
  have hY := hy k0
  have two : ∀ {a b : Nat}, TQ Λ a → TQ Λ b → TQ Λ (andT [a, b]) := fun {a b} ha hb => TQ.and (fun z hz => by
    rcases List.mem_cons.mp hz with q | q
    · rw [q]; exact ha
    · rw [List.mem_singleton.mp q]; exact hb)
  have im : ∀ {a b : Nat}, TQ Λ a → TQ Λ b → TQ Λ (impT a b) := fun {a b} ha hb => (two ha hb.not).not
  by_cases k1 : k = 1
  · rw [if_pos k1]; exact two hx hY
  rw [if_neg k1]
  by_cases k2 : k = 2
  · rw [if_pos k2]; exact (two hx.not hY.not).not
  rw [if_neg k2]
  by_cases k3 : k = 3
  · rw [if_pos k3]; exact im hx hY
  rw [if_neg k3]
  exact two (im hx hY) (im hY hx)
theorem TQ.bd {W : Wd} {Λ : List Nat} {o : Int} {x y : Nat} (hy : TQ Λ y) (hx : kd x = 1) (ot : okT (wcT W (wh x))) (t8 : kd (wcT W (wh x)) = 8) (lt : loT (wcT W (wh x)) = 0) (hc : ∀ l ∈ lvT (wcT W (wh x)), kd l = 1 → l ∈ Λ) (oA : okT (bdA W o x y)) : TQ Λ (bdT W o x y) := by
  have hF : TQ Λ (bdF o y) := by
    unfold bdF
    split
    · exact hy
    · exact hy.not
  have oG : okT (bdG o x y) := okT_sb _ hF.1.1 (gOn_bindg hF.1.1) 0
  have fG : isFo (bdG o x y) := by
    have := (sb_kd (g := bindg x) (d := 0) (t := bdF o y) (by have := hF.1.2; unfold isFo at this; omega)).1
    have := hF.1.2
    unfold isFo bdG at *
    omega
  have tG : tcv (cLm Λ) (bdG o x y) 1 := tc_up cLm_odd _ hF.1.1 hF.1.2 0 hF.2.1
  have aG : Alls (NtL Λ.length) (bdG o x y) := fun s hs => by
    unfold bdG at hs
    rcases sub_sb (bdF o y) hs with ⟨l, d', hcl, q⟩ | ⟨z, d', hcz, hk, q⟩
    · obtain ⟨ol, k3, _⟩ := lv_ok (bdF o y) hF.1.1 l hcl
      have k4 := (gLf_bind (x := x) (e := d') l k3 (okT_0 ol)).1
      have : s = bindg x d' l ∨ ∃ z ∈ fms (bindg x d' l), subT s z := by rw [subT_eq] at q; exact q
      rcases this with w | ⟨z, hz, _⟩
      · rw [w]; exact NtL.lo (by omega)
      · rw [fms_lf (okT_bindg ol).n k4] at hz; cases hz
    · rw [q]
      exact NtL.bd (sub_ok _ hF.1.1 hcz) hx (hF.2.2 z hcz)
  have hA : TQ Λ (bdA W o x y) := by
    unfold bdA alT at oA ⊢
    split
    · exact TQ.yes
    · rename_i q
      rw [if_neg q] at oA
      have kk : kd (mk 18 0 [wcT W (wh x), bdG o x y]) = 18 := kd_mk _ _ _
      have pp : ps (mk 18 0 [wcT W (wh x), bdG o x y]) = [wcT W (wh x), bdG o x y] := ps_mk _ _ _
      have ht : tcv (cLm Λ) (mk 18 0 [wcT W (wh x), bdG o x y]) 0 := (tc_all kk pp).mpr ⟨⟨fun l hl k1 => List.mem_map.mpr ⟨l, hc l hl k1, rfl⟩, fun j hj => by
        have := hv_lo _ ot _ hj
        omega⟩, tG⟩
      refine ⟨⟨oA, by unfold isFo; omega⟩, ht, Alls.top (TQ.nt ht) (fun z hz => ?_)⟩
      have := (fms_ps hz).1
      rw [pp] at this
      rcases List.mem_cons.mp this with w | w
      · rw [w]
        have := TQ.lo (Λ := Λ) (f := wcT W (wh x)) ot
        intro s hs
        refine NtL.lo ?_
        have h8 : kd s ≤ 8 := kd_s8 ot (by omega) hs
        omega
      · rw [List.mem_singleton.mp w]; exact aG
  unfold bdT
  split
  · exact hA
  · exact hA.not
/-- the constants of the kept types, told by few leaves -/
def tmF (f : Nat) : List Nat := if kd f = 8 then (fms f).flatMap hdL else mgF f
def TmF (Fo : List Nat) : List Nat := Fo.flatMap tmF
theorem TmF_ap {Fo : List Nat} {t : Nat} : (∀ l ∈ TmF Fo, l ∈ TmF (Fo ++ [t])) ∧ (TmF Fo).length ≤ (TmF (Fo ++ [t])).length := by
  unfold TmF
  rw [List.flatMap_append]
  exact ⟨fun l hl => List.mem_append_left _ hl, by rw [List.length_append]; omega⟩
theorem TmF_mg {Fo : List Nat} {l : Nat} (h : l ∈ MgF Fo) : l ∈ TmF Fo := by
  obtain ⟨f, hf, q⟩ := List.mem_flatMap.mp h
  refine List.mem_flatMap.mpr ⟨f, hf, ?_⟩
  unfold tmF
  have k4 : kd f = 4 := by
    unfold mgF at q
    split at q
    · rename_i w; exact w.1
    · cases q
  rw [if_neg (by omega)]
  exact q
theorem tm_ty {Fo : List Nat} {A : Nat} (ho : okT A) (h8 : kd A = 8) (hA : A ∈ Fo) (hK : ∀ z ∈ fms A, KpT Fo z) {l : Nat} (hl : l ∈ lvT A) (k1 : kd l = 1) : l ∈ TmF Fo := by
  rw [lvT_eq, if_neg (by omega)] at hl
  obtain ⟨c, hc, hlc⟩ := List.mem_flatMap.mp hl
  rcases lm_tm c (ho.c hc) (kd_14 ho.n (by omega) hc) (hK c hc) l hlc k1 with q | q
  · refine List.mem_flatMap.mpr ⟨A, hA, ?_⟩
    unfold tmF
    rw [if_pos h8]
    exact List.mem_flatMap.mpr ⟨c, hc, q⟩
  · exact TmF_mg q
/-- no part of a kept formula has more names in the types of its binders -/
def KfZ (Fo : List Nat) : Prop := ∀ f ∈ Fo, isFo f → TQ (TmF Fo) f
theorem KfZ.ap {Fo : List Nat} {t : Nat} (h : KfZ Fo) (ht : isFo t → TQ (TmF Fo) t) : KfZ (Fo ++ [t]) := fun f hf k => by
  rcases List.mem_append.mp hf with q | q
  · exact (h f q k).mono TmF_ap.1 TmF_ap.2
  · rw [List.mem_singleton.mp q] at k ⊢; exact (ht k).mono TmF_ap.1 TmF_ap.2
theorem KfZ.tm {Fo : List Nat} {t : Nat} (h : KfZ Fo) (ho : okT t) (hk : kd t ≤ 14) : KfZ (Fo ++ [t]) := h.ap (fun q => TQ.lo ho q hk)
theorem KfZ.jn {Fo : List Nat} {k : Int} {x y : Nat} (h : KfZ Fo) (hx : x ∈ Fo) (fx : isFo x) (hy : k ≠ 0 → y ∈ Fo) (fy : k ≠ 0 → isFo y) : KfZ (Fo ++ [jnT k x y]) := h.ap (fun _ => TQ.jn (h x hx fx) (fun q => h y (hy q) (fy q)))
theorem KfZ.bd {W : Wd} {c : Nat} {Fo : List Nat} {o : Int} {x y : Nat} (h : KfZ Fo) (hI : KfI W c Fo) (hy : y ∈ Fo) (fy : isFo y) (hx : kd x = 1) (tk : wcT W (wh x) ∈ Fo) (ot : okT (wcT W (wh x))) (t8 : kd (wcT W (wh x)) = 8) (lt : loT (wcT W (wh x)) = 0) (oA : okT (bdA W o x y)) : KfZ (Fo ++ [bdT W o x y]) := h.ap (fun _ => TQ.bd (h y hy fy) hx ot t8 lt (fun l hl k1 => tm_ty ot t8 tk (fun z hz s hs a b => hI.1 _ tk (by omega) s (sub_c hz hs) a b) hl k1) oA)
