/-! names in kept formulas: few, by the kept atoms and types -/
theorem NmL.of {Λ : List Nat} {s : Nat} (ho : okT s) (hlo : loT s = 0) (h : ∀ l ∈ lvT s, kd l = 1 → l ∈ Λ) : NmL Λ.length s := ⟨Λ.map (fun l => 2 * l + 1), by rw [List.length_map]; exact Nat.le_refl _, fun l hl k1 => List.mem_map.mpr ⟨l, h l hl k1, rfl⟩, fun j hj => by
  have := hv_lo s ho j hj
  omega⟩
/-- names of constants among some -/
def inNm (Λ : List Nat) (n : Nat) : Prop := mk 1 n [] ∈ Λ
theorem fr_N {W : Wd} {N N' : Nat → Prop} {t : Nat} (h : frW W N t) (hc : ∀ l ∈ lvT t, kd l = 1 → N' (wh l)) : frW W N' t := ⟨h.1, fun s hs => ⟨fun k1 => hc s (lv_in t h.1 hs (by rw [lvT_eq, if_pos (by omega)]; exact List.mem_cons_self)) k1, (h.2 s hs).2⟩⟩
theorem c1_mk {l : Nat} (ho : okT l) (k1 : kd l = 1) : l = mk 1 (wh l) [] := by
  have hp : ps l = [] := by
    rcases ho.n.2 with q | q | q | q | q | q | q | q | q | q | q | q | q | q <;> first | omega | exact q.2
  have e := ho.n.1
  rw [k1, hp] at e
  exact e
theorem fr_in {W : Wd} {N : Nat → Prop} {Λ : List Nat} {t : Nat} (h : frW W N t) : (∀ l ∈ lvT t, kd l = 1 → l ∈ Λ) ↔ frW W (inNm Λ) t := by
  constructor
  · intro hc
    refine fr_N h (fun l hl k1 => ?_)
    have := c1_mk (lv_ok t h.1 l hl).1 k1
    unfold inNm
    rw [← this]
    exact hc l hl k1
  · intro hc l hl k1
    have h1 := (hc.2 l (lv_is t hl)).1 k1
    unfold inNm at h1
    rw [← c1_mk (lv_ok t h.1 l hl).1 k1] at h1
    exact h1
theorem lo_14 : ∀ (t : Nat), okT t → kd t ≤ 14 → loT t = 0 → ∀ s, subT s t → loT s = 0 := by
  intro t
  induction t using Nat.strongRecOn with
  | ind t ih =>
    intro ot k14 l0 s hs
    rw [subT_eq] at hs
    rcases hs with e | ⟨z, hz, q⟩
    · rw [e]; exact l0
    · have := lo_part ot.n (by omega) hz
      exact ih z (fms_lt hz) (ot.c hz) (by have := kd_14 ot.n k14 hz; omega) (by omega) s q
/-- terms, types and atoms have fewer -/
def NmK (m : Nat) (s : Nat) : Prop := (kd s ≤ 8 → NmL (1 + m) s) ∧ (kd s ≤ 14 → NmL (2 + m) s)
theorem NmK.mono {m m' s : Nat} (h : NmK m s) (hm : m ≤ m') : NmK m' s := ⟨fun q => (h.1 q).mono (by omega), fun q => (h.2 q).mono (by omega)⟩
theorem NmK_hi {m s : Nat} (h : 15 ≤ kd s) : NmK m s := ⟨fun q => by omega, fun q => by omega⟩
theorem NmK_yes {m : Nat} : NmK m yesT := ⟨fun _ => NmL.yes, fun _ => NmL.yes⟩
theorem hdL_l {t l : Nat} (h : l ∈ hdL t) : l ∈ lvT t := (List.mem_filter.mp (List.mem_of_mem_take h)).1
/-- a kept term, type or atom -/
theorem NmK.kp {Fo : List Nat} {f : Nat} (ho : okT f) (h14 : kd f ≤ 14) (hlo : loT f = 0) (h : ∀ c ∈ fms f, KpT Fo c) (h8 : kd f ≤ 8 → KpT Fo f) : Alls (NmK (MgF Fo).length) f := fun s hs => by
  have os := sub_ok f ho hs
  have k14 := kd_sub14 ho h14 hs
  have l0 := lo_14 f ho h14 hlo s hs
  have tm : ∀ t, okT t → kd t ≤ 8 → loT t = 0 → KpT Fo t → NmL (1 + (MgF Fo).length) t := fun t ot k8 lt hK => by
    have h1 := NmL.of (Λ := hdL t ++ MgF Fo) ot lt (fun l hl k1 => List.mem_append.mpr (lm_tm t ot k8 hK l hl k1))
    refine h1.mono ?_
    rw [List.length_append]
    have := hdL_le t
    omega
  have kp : kd s ≤ 8 → KpT Fo s := fun k8 => by
    have hs' := hs
    rw [subT_eq] at hs'
    rcases hs' with e | ⟨z, hz, q⟩
    · rw [e] at k8 ⊢; exact h8 k8
    · exact fun r hr p q' => h z hz r (sub_tr z hr q) p q'
  refine ⟨fun k8 => tm s os k8 l0 (kp k8), fun _ => ?_⟩
  by_cases k8 : kd s ≤ 8
  · exact (tm s os k8 l0 (kp k8)).mono (by omega)
  · -- an atom: it is f itself
    have hsf : s = f := by
      have hs' := hs
      rw [subT_eq] at hs'
      rcases hs' with e | ⟨z, hz, q⟩
      · exact e
      · exfalso
        have kz := kd_14 ho.n h14 hz
        rw [subT_eq] at q
        rcases q with w | ⟨y, hy, w⟩
        · rw [w] at k8; omega
        · have := kd_sub8 (ho.c hz) kz hy w
          omega
    have len2 : (fms f).length ≤ 2 := by
      have h1 : (fms f).length ≤ (if kd f = 8 then (ps f).take 1 else ps f).length := List.length_filter_le _ _
      rw [hsf] at k8
      rw [if_neg (by omega)] at h1
      rcases ho.n.2 with w | w | w | w | w | w | w | w | w | w | w | w | w | w <;> first | omega | skip
      · rw [w.2.2] at h1; exact Nat.le_trans h1 (by simp)
      · obtain ⟨_, _, a, b, e, _⟩ := w; rw [e] at h1; simpa using h1
      · obtain ⟨_, a, e, _⟩ := w; rw [e] at h1; exact Nat.le_trans h1 (by simp)
      · obtain ⟨_, a, b, e, _⟩ := w; rw [e] at h1; simpa using h1
    have h1 := NmL.of (Λ := (fms f).flatMap hdL ++ MgF Fo) ho hlo (fun l hl k1 => by
      rw [lvT_eq, if_neg (by rw [hsf] at k8; omega)] at hl
      obtain ⟨c, hc, hlc⟩ := List.mem_flatMap.mp hl
      rcases lm_tm c (ho.c hc) (kd_14 ho.n h14 hc) (h c hc) l hlc k1 with q | q
      · exact List.mem_append_left _ (List.mem_flatMap.mpr ⟨c, hc, q⟩)
      · exact List.mem_append_right _ q)
    rw [hsf]
    refine h1.mono ?_
    rw [List.length_append, List.length_flatMap]
    have : ((fms f).map (fun a => (hdL a).length)).sum ≤ 1 * (fms f).length := sum_le_c (fun c _ => hdL_le c)
    omega
theorem NmK.bd {m s x d : Nat} (ho : okT s) (hx : kd x = 1) (hk : ¬ kd s ≤ 3) (h : NmK m s) : NmK m (sbT (bindg x) d s) := by
  have k1 := (sb_kd (g := bindg x) (d := d) hk).1
  exact ⟨fun q => NmL.bd ho hx (h.1 (by omega)), fun q => NmL.bd ho hx (h.2 (by omega))⟩
theorem NmK.sb {m x f e : Nat} (ho : okT f) (hx : kd x = 1) (h : Alls (NmK m) f) : Alls (NmK m) (sbT (bindg x) e f) := fun s hs => by
  rcases sub_sb f hs with ⟨l, d', hc, q⟩ | ⟨z, d', hc, hk, q⟩
  · obtain ⟨o, k3, _⟩ := lv_ok f ho l hc
    have k4 := (gLf_bind (x := x) (e := d') l k3 (okT_0 o)).1
    have e1 : sbT (bindg x) d' l = bindg x d' l := by rw [sbT_eq, if_pos k3]
    have : s = bindg x d' l ∨ ∃ z ∈ fms (bindg x d' l), subT s z := by rw [subT_eq] at q; exact q
    rcases this with w | ⟨z, hz, _⟩
    · rw [w, ← e1]
      have h1 := (h l (lv_is f hc)).1 (by omega)
      exact ⟨fun _ => NmL.bd o hx h1, fun _ => (NmL.bd o hx h1).mono (by omega)⟩
    · rw [fms_lf (okT_bindg o).n k4] at hz; cases hz
  · rw [q]
    exact NmK.bd (sub_ok f ho hc) hx hk (h z hc)
