/-! names in kept formulas: kept by all calls -/
theorem LmF_len {Fo : List Nat} {t : Nat} : (LmF Fo).length ≤ (LmF (Fo ++ [t])).length := by
  unfold LmF
  rw [List.flatMap_append, List.length_append]
  exact Nat.le_add_right _ _
theorem MgF_len {Fo : List Nat} {t : Nat} : (MgF Fo).length ≤ (MgF (Fo ++ [t])).length := by
  unfold MgF
  rw [List.flatMap_append, List.length_append]
  exact Nat.le_add_right _ _
theorem KpT.ap {Fo : List Nat} {f t : Nat} (h : KpT Fo f) : KpT (Fo ++ [t]) f := fun s hs a b => List.mem_append_left _ (h s hs a b)
/-- a kept formula's constants, and its names -/
def NmF (Fo : List Nat) (f : Nat) : Prop := (∀ l ∈ lvT f, kd l = 1 → l ∈ LmF Fo) ∧ Alls (NmL (LmF Fo).length) f ∧ Alls (NmK (MgF Fo).length) f
def KfC (Fo : List Nat) : Prop := ∀ f ∈ Fo, isFo f → NmF Fo f
theorem NmF.ap {Fo : List Nat} {t f : Nat} (h : NmF Fo f) : NmF (Fo ++ [t]) f := ⟨fun l hl k1 => LmF_ap (h.1 l hl k1), fun s hs => (h.2.1 s hs).mono LmF_len, fun s hs => (h.2.2 s hs).mono MgF_len⟩
theorem KfC.ap {Fo : List Nat} {t : Nat} (h : KfC Fo) (ht : isFo t → NmF (Fo ++ [t]) t) : KfC (Fo ++ [t]) := fun f hf k => by
  rcases List.mem_append.mp hf with q | q
  · exact (h f q k).ap
  · rw [List.mem_singleton.mp q] at k ⊢; exact ht k
theorem KfC.tm {Fo : List Nat} {t : Nat} (h : KfC Fo) (hk : kd t ≤ 8) : KfC (Fo ++ [t]) := h.ap (fun q => by unfold isFo at q; omega)
theorem KfC.atm {W : Wd} {c : Nat} {Fo : List Nat} {t : Nat} (h : KfC Fo) (hI : KfI W c Fo) (hf : fW W (Nm nu2 c) t) (hk : 9 ≤ kd t ∧ kd t ≤ 14) (hc : ∀ z ∈ fms t, z ∈ Fo) : KfC (Fo ++ [t]) := by
  have ho := hf.1.1
  have hkp : ∀ z ∈ fms t, KpT (Fo ++ [t]) z := fun z hz => (hI.1 z (hc z hz) (kd_14 ho.n hk.2 hz)).ap
  have c1 : ∀ l ∈ lvT t, kd l = 1 → l ∈ LmF (Fo ++ [t]) := fun l hl k1 => lm_at ho (by omega) hk.2 (List.mem_append_right _ (List.mem_singleton.mpr rfl)) hkp hl k1
  exact h.ap (fun _ => ⟨c1, NmB.at (W := W) (N := inNm (LmF (Fo ++ [t]))) (fun n hn => hn) ⟨(fr_in hf.1).mp c1, hf.2⟩ hk.2, NmK.kp ho hk.2 hf.2.1 hkp (fun q => by omega)⟩)
theorem fF_in {W : Wd} {N : Nat → Prop} {Λ : List Nat} {f : Nat} (h : fF W N f) (hc : ∀ l ∈ lvT f, kd l = 1 → l ∈ Λ) : fF W (inNm Λ) f := ⟨⟨(fr_in h.1.1).mp hc, h.1.2⟩, h.2⟩
theorem fF_out {W : Wd} {Λ : List Nat} {f : Nat} (h : fF W (inNm Λ) f) : ∀ l ∈ lvT f, kd l = 1 → l ∈ Λ := (fr_in h.1.1).mpr h.1.1
theorem NmF.jn {W : Wd} {c : Nat} {Fo : List Nat} {k : Int} {x y : Nat} (hx : fF W (Nm nu2 c) x ∧ szT x ≤ 200) (hy : k ≠ 0 → fF W (Nm nu2 c) y ∧ szT y ≤ 200) (nx : NmF Fo x) (ny : k ≠ 0 → NmF Fo y) : NmF Fo (jnT k x y) := by
  have ix := fF_in hx.1 nx.1
  have iy := fun q => fF_in (hy q).1 (ny q).1
  refine ⟨fF_out (fF_jn ix iy hx.2 (fun q => (hy q).2)).1, NmB.jn (W := W) (N := inNm (LmF Fo)) (fun n hn => hn) ⟨ix, nx.2.1⟩ (fun q => ⟨iy q, (ny q).2.1⟩), ?_⟩
  exact Alls.jn (P := NmK (MgF Fo).length) (fun s q => NmK_hi q) NmK_yes ⟨hx.1.1.1.1, hx.1.2, nx.2.2⟩ (fun q => ⟨(hy q).1.1.1.1, (hy q).1.2, (ny q).2.2⟩)
theorem NmF.bd {W : Wd} {c : Nat} {Fo : List Nat} {o : Int} {x y : Nat} (hI : KfI W c Fo) (hy : fF W (Nm nu2 c) y) (zy : szT y ≤ 200) (ny : NmF Fo y) (hx : kd x = 1) (tk : wcT W (wh x) ∈ Fo) (ht : clty W (Nm nu2 c) (wcT W (wh x))) (zt : szT (wcT W (wh x)) ≤ 200) : NmF Fo (bdT W o x y) := by
  have iy := fF_in hy ny.1
  have kpt : KpT Fo (wcT W (wh x)) := hI.1 _ tk (by have := ht.2.1; omega)
  have tc : ∀ l ∈ lvT (wcT W (wh x)), kd l = 1 → l ∈ LmF Fo := fun l hl k1 => lm_at ht.1.1 (by have := ht.2.1; omega) (by have := ht.2.1; omega) tk (fun z hz s hs a b => kpt s (sub_c hz hs) a b) hl k1
  have it : clty W (inNm (LmF Fo)) (wcT W (wh x)) := ⟨(fr_in ht.1).mp tc, ht.2⟩
  obtain ⟨⟨b1, _⟩, b2, _⟩ := fF_bd (o := o) (x := x) iy zy it zt
  refine ⟨fF_out b2, NmB.bd (fun n hn => hn) iy ny.2.1 hx it b1, ?_⟩
  have hP : ∀ s, 15 ≤ kd s → NmK (MgF Fo).length s := fun s q => NmK_hi q
  have a2 : Alls (NmK (MgF Fo).length) (bdF o y) ∧ okT (bdF o y) := by
    unfold bdF
    split
    · exact ⟨ny.2.2, hy.1.1.1⟩
    · exact ⟨Alls.not hP hy.1.1.1 ny.2.2, (okT_not hy.1.1.1 hy.2).1⟩
  have ty : Alls (NmK (MgF Fo).length) (wcT W (wh x)) := NmK.kp ht.1.1 (by have := ht.2.1; omega) ht.2.2.1 (fun z hz s hs a b => kpt s (sub_c hz hs) a b) (fun _ => kpt)
  have a3 : Alls (NmK (MgF Fo).length) (bdA W o x y) := by
    unfold bdA bdG alT
    split
    · exact Alls.yes NmK_yes
    · refine Alls.mk (NmK_hi (by rw [kd_mk]; decide)) (fun z hz => ?_)
      rcases List.mem_cons.mp hz with q | q
      · rw [q]; exact ty
      · rw [List.mem_singleton.mp q]; exact NmK.sb a2.2 hx a2.1
  unfold bdT
  split
  · exact a3
  · exact Alls.not hP b1.1.1.1 a3
theorem KfC.jn {W : Wd} {c : Nat} {Fo : List Nat} {k : Int} {x y : Nat} (h : KfC Fo) (mx : x ∈ Fo) (hx : fF W (Nm nu2 c) x ∧ szT x ≤ 200) (my : k ≠ 0 → y ∈ Fo) (hy : k ≠ 0 → fF W (Nm nu2 c) y ∧ szT y ≤ 200) : KfC (Fo ++ [jnT k x y]) := h.ap (fun _ => (NmF.jn hx hy (h x mx hx.1.2) (fun q => h y (my q) (hy q).1.2)).ap)
theorem KfC.bd {W : Wd} {c : Nat} {Fo : List Nat} {o : Int} {x y : Nat} (h : KfC Fo) (hI : KfI W c Fo) (my : y ∈ Fo) (hy : fF W (Nm nu2 c) y) (zy : szT y ≤ 200) (hx : kd x = 1) (tk : wcT W (wh x) ∈ Fo) (ht : clty W (Nm nu2 c) (wcT W (wh x))) (zt : szT (wcT W (wh x)) ≤ 200) : KfC (Fo ++ [bdT W o x y]) := h.ap (fun _ => (NmF.bd hI hy zy (h y my hy.2) hx tk ht zt).ap)
