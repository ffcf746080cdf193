/-! worlds as lists up to order; a contract over a part of the law's world is one over the whole -/
theorem va_P_iff {D : va_G} {cl0 : List vw_C} {ws : va_W} {H : Heap} : va_P D cl0 ws H ↔ ∀ q ∈ ws, va_at D cl0 q H := by
  constructor
  · intro h q hq
    obtain ⟨k, hk⟩ := List.mem_iff_getElem?.mp hq
    exact h k q hk
  · intro h k q hk
    exact h q (List.mem_of_getElem? hk)
theorem va_D_iff {A : Nat → Prop} {ws : va_W} : va_D A ws ↔ (ws.map Prod.fst).Nodup ∧ ∀ q ∈ ws, A q.1 := by
  constructor
  · intro h
    refine ⟨List.pairwise_iff_getElem.mpr (fun i j hi hj hij => ?_), fun q hq => ?_⟩
    · rw [List.getElem_map, List.getElem_map]
      intro e
      rw [List.length_map] at hi hj
      have := h.1 i j _ _ (List.getElem?_eq_getElem hi) (List.getElem?_eq_getElem hj) e
      omega
    · obtain ⟨k, hk⟩ := List.mem_iff_getElem?.mp hq
      exact h.2 k q hk
  · intro h
    refine ⟨fun i j p q hi hj e => ?_, fun k q hk => h.2 q (List.mem_of_getElem? hk)⟩
    have hi' : (ws.map Prod.fst)[i]? = some p.1 := by rw [List.getElem?_map, hi]; rfl
    have hj' : (ws.map Prod.fst)[j]? = some q.1 := by rw [List.getElem?_map, hj]; rfl
    exact (List.getElem?_inj (List.getElem?_eq_some_iff.mp hi').1 h.1).mp (by rw [hi', hj', e])
theorem va_A_iff {ws : va_W} {sz q : Nat} : va_A ws sz q ↔ (∃ e, (q, e) ∈ ws) ∨ sz ≤ q := by
  unfold va_A
  constructor
  · rintro (⟨k, e, h⟩ | h)
    · exact Or.inl ⟨e, List.mem_of_getElem? h⟩
    · exact Or.inr h
  · rintro (⟨e, h⟩ | h)
    · obtain ⟨k, hk⟩ := List.mem_iff_getElem?.mp h
      exact Or.inl ⟨k, e, hk⟩
    · exact Or.inr h
/-- what a part's end says of the whole -/
theorem Qx.lift {F : Fm} {G : Gm} {ad adF : Nat → Nat} {σ σF τ σ2 : Sg} {ret : Option FieldType} {r : Rs} {sz : Nat} {a : Array Value} {st : State} {o : Outcome} {t : State} {Rw : va_W}
    (hst : va_P G.1 clA (wl FL G ad σ) st.heap) (hsz : st.heap.size = sz) (hDst : va_D (fun _ => True) (wl FL G ad σ)) (hp : (wl FL G ad σ).Perm (wl F G adF σF ++ Rw))
    (h2 : ∀ ad1, adM σF adF τ ad1 → ∃ ad2, adM σ ad σ2 ad2 ∧ (wl FL G ad2 σ2).Perm (wl F G ad1 τ ++ Rw)) (hwf : WF F τ → WF FL σ2) (hrr : ∀ v, r = .inl (some v) → ∀ a a' : Nat → Nat, toV a v = toV a' v)
    (h : Qx F G clA (va_A (wl F G adF σF) sz) σF adF ret r τ a st o t) : Qx FL G clA (va_A (wl FL G ad σ) sz) σ ad ret r σ2 a st o t := by
  obtain ⟨ad1, hm, hrs, hret, hw, hP1, hD1, hK, hF1, hF2⟩ := h
  obtain ⟨ad2, hm2, hp2⟩ := h2 ad1 hm
  rw [va_P_iff] at hst hP1
  rw [va_D_iff] at hDst hD1
  have hnd : ((wl F G adF σF ++ Rw).map Prod.fst).Nodup := (hp.map Prod.fst).nodup_iff.mp hDst.1
  rw [List.map_append, List.nodup_append] at hnd
  have hR : ∀ q ∈ Rw, va_at G.1 clA q st.heap := fun q hq => hst q (hp.mem_iff.mpr (List.mem_append_right _ hq))
  have hRlt : ∀ q ∈ Rw, q.1 < sz := fun q hq => by rw [← hsz]; exact (hR q hq).lt
  have hRn : ∀ q ∈ Rw, ¬ va_A (wl F G adF σF) sz q.1 := fun q hq h => by
    rw [va_A_iff] at h
    rcases h with ⟨e, h⟩ | h
    · exact hnd.2.2 q.1 (List.mem_map.mpr ⟨_, h, rfl⟩) q.1 (List.mem_map.mpr ⟨q, hq, rfl⟩) rfl
    · have := hRlt q hq; omega
  have hsub : ∀ q, va_A (wl F G adF σF) sz q → va_A (wl FL G ad σ) sz q := fun q h => by
    rw [va_A_iff] at h ⊢
    rcases h with ⟨e, h⟩ | h
    · exact Or.inl ⟨e, hp.mem_iff.mpr (List.mem_append_left _ h)⟩
    · exact Or.inr h
  refine ⟨ad2, hm2, ?_, hret, hwf hw, va_P_iff.mpr (fun q hq => ?_), va_D_iff.mpr ⟨?_, fun q hq => ?_⟩, hK, hF1, fun q hq hn => hF2 q hq (fun h => hn (hsub q h))⟩
  · rcases r with v | k
    · cases v with
      | none => exact hrs
      | some v =>
        have hrs : o = .returned (some (toV ad1 v)) := hrs
        show o = .returned (some (toV ad2 v))
        rw [hrs, hrr v rfl ad1 ad2]
    · exact hrs
  · rcases List.mem_append.mp (hp2.mem_iff.mp hq) with h | h
    · exact hP1 q h
    · exact (hR q h).kept (hF2 q.1 (by rw [hsz]; exact hRlt q h) (hRn q h))
  · refine (hp2.map Prod.fst).nodup_iff.mpr ?_
    rw [List.map_append, List.nodup_append]
    refine ⟨hD1.1, hnd.2.1, fun x hx y hy e => ?_⟩
    obtain ⟨p1, m1, rfl⟩ := List.mem_map.mp hx
    obtain ⟨p2, m2, rfl⟩ := List.mem_map.mp hy
    have := hD1.2 p1 m1
    rw [e] at this
    exact hRn p2 m2 this
  · rcases List.mem_append.mp (hp2.mem_iff.mp hq) with h | h
    · exact hsub _ (hD1.2 q h)
    · exact va_A_iff.mpr (Or.inl ⟨q.2, hp.mem_iff.mpr (List.mem_append_right _ h)⟩)
/-- the part's premise out of the whole's -/
theorem PcX.sub {F : Fm} {G : Gm} {ad adF : Nat → Nat} {σ σF : Sg} {sz : Nat} {As AsF : List AV} {Rw : va_W} (hp : (wl FL G ad σ).Perm (wl F G adF σF ++ Rw)) (hwf : WF FL σ → WF F σF) (hAs : As.map (toV ad) = AsF.map (toV adF)) {a : Array Value} {U : State} (h : PcX FL G clA ad σ sz As a U) : PcX F G clA adF σF sz AsF a U := by
  obtain ⟨q0, q1, qw, qP, qK, qD⟩ := h
  rw [va_P_iff] at qP
  rw [va_D_iff] at qD
  have hnd : ((wl F G adF σF ++ Rw).map Prod.fst).Nodup := (hp.map Prod.fst).nodup_iff.mp qD.1
  rw [List.map_append, List.nodup_append] at hnd
  exact ⟨by rw [← hAs]; exact q0, q1, hwf qw, va_P_iff.mpr (fun q hq => qP q (hp.mem_iff.mpr (List.mem_append_left _ hq))), qK, va_D_iff.mpr ⟨hnd.1, fun _ _ => trivial⟩⟩
theorem Met.lift {F : Fm} {l : Launch} {y : MethodName} {ws : List Cond} {rm : Room} {mc ms : Nat} {G : Gm} {ad adF : Nat → Nat} {σ σF τ σ2 : Sg} {ret : Option FieldType} {r : Rs} {sz : Nat} {Rw : va_W} {As AsF : List AV}
    (hp : (wl FL G ad σ).Perm (wl F G adF σF ++ Rw)) (h2 : ∀ ad1, adM σF adF τ ad1 → ∃ ad2, adM σ ad σ2 ad2 ∧ (wl FL G ad2 σ2).Perm (wl F G ad1 τ ++ Rw)) (hwd : WF FL σ → WF F σF) (hwf : WF FL σ → WF F τ → WF FL σ2) (hrr : ∀ v, r = .inl (some v) → ∀ a a' : Nat → Nat, toV a v = toV a' v) (hAs : As.map (toV ad) = AsF.map (toV adF))
    (h : Met l y ws rm (PcX F G clA adF σF sz AsF) (Qx F G clA (va_A (wl F G adF σF) sz) σF adF ret r τ) mc ms (va_A (wl F G adF σF) sz)) : Met l y ws rm (PcX FL G clA ad σ sz As) (Qx FL G clA (va_A (wl FL G ad σ) sz) σ ad ret r σ2) mc ms (va_A (wl FL G ad σ) sz) := by
  refine MetFree.mono h (fun a s q => PcX.sub hp hwd hAs q) (fun _ _ _ _ _ q => q) (fun a st o t hpc hq => ?_)
  obtain ⟨q0, q1, qw, qP, qK, qD⟩ := hpc
  obtain ⟨hq, L, hL, hb⟩ := hq
  refine ⟨Qx.lift qP q1 qD hp h2 (hwf qw) hrr hq, L, hL, fun q hm => ?_⟩
  have := hb q hm
  rw [va_A_iff] at this ⊢
  rcases this with ⟨e, h⟩ | h
  · exact Or.inl ⟨e, hp.mem_iff.mpr (List.mem_append_left _ h)⟩
  · exact Or.inr h
theorem MetG.lift {F : Fm} {l : Launch} {y : MethodName} {ws : List Cond} {rm : Room} {mc ms : Nat} {G : Gm} {ad adF : Nat → Nat} {σ σF τ σ2 : Sg} {ret : Option FieldType} {r : Rs} {sz : Nat} {Rw : va_W} {As AsF : List AV}
    (hp : (wl FL G ad σ).Perm (wl F G adF σF ++ Rw)) (h2 : ∀ ad1, adM σF adF τ ad1 → ∃ ad2, adM σ ad σ2 ad2 ∧ (wl FL G ad2 σ2).Perm (wl F G ad1 τ ++ Rw)) (hwd : WF FL σ → WF F σF) (hwf : WF FL σ → WF F τ → WF FL σ2) (hrr : ∀ v, r = .inl (some v) → ∀ a a' : Nat → Nat, toV a v = toV a' v) (hAs : As.map (toV ad) = AsF.map (toV adF))
    (h : MetG l y ws rm (PcXX F G clA adF σF sz AsF) (Qx F G clA (va_A (wl F G adF σF) sz) σF adF ret r τ) mc ms (va_A (wl F G adF σF) sz)) : MetG l y ws rm (PcXX FL G clA ad σ sz As) (Qx FL G clA (va_A (wl FL G ad σ) sz) σ ad ret r σ2) mc ms (va_A (wl FL G ad σ) sz) := by
  refine MetFree.mono h (fun a s q => ⟨PcX.sub hp hwd hAs q.1, q.2⟩) (fun _ _ _ _ _ q => q) (fun a st o t hpc hq => ?_)
  obtain ⟨⟨q0, q1, qw, qP, qK, qD⟩, -⟩ := hpc
  obtain ⟨hq, L, hL, hb⟩ := hq
  refine ⟨Qx.lift qP q1 qD hp h2 (hwf qw) hrr hq, L, hL, fun q hm => ?_⟩
  have := hb q hm
  rw [va_A_iff] at this ⊢
  rcases this with ⟨e, h⟩ | h
  · exact Or.inl ⟨e, hp.mem_iff.mpr (List.mem_append_left _ h)⟩
  · exact Or.inr h
/-! the parts of the law's world -/
theorem fvs_cg {kd kd' : Nat → Nat} {ad ad' : Nat → Nat} {σ σ' : Sg} {b b' n : Nat} (h : ∀ k, k < n → toV ad (fv kd σ (b + k)) = toV ad' (fv kd' σ' (b' + k))) : fvs kd ad σ b n = fvs kd' ad' σ' b' n :=
  List.map_congr_left fun k hk => h k (List.mem_range.mp hk)
theorem fv_cg {kd kd' : Nat → Nat} {ad ad' : Nat → Nat} {σ σ' : Sg} {i i' : Nat} (hk : kd i = kd' i') (hI : gI σ i = gI σ' i') (ha : ad (10 + i) = ad' (10 + i')) (h0 : ∀ k, kd i = k + 5 → ad k = ad' k) : toV ad (fv kd σ i) = toV ad' (fv kd' σ' i') := by
  unfold fv
  rw [← hk]
  match h : kd i with
  | 0 => show Value.int _ = Value.int _; rw [hI]
  | 1 => show Value.ref _ = Value.ref _; rw [ha]
  | 2 => show Value.ref _ = Value.ref _; rw [ha]
  | 3 => show Value.ref _ = Value.ref _; rw [ha]
  | 4 => show Value.int _ = Value.int _; rw [hI]
  | k + 5 => show Value.ref _ = Value.ref _; rw [h0 k h]
theorem arE_cg {G : Gm} {kd kd' : Nat → Nat} {σ σ' : Sg} {i i' : Nat} (hk : kd i = kd' i') (hA : σ.2.1 i = σ'.2.1 i') : arE G kd σ i = arE G kd' σ' i' := by
  unfold arE
  rw [hk, gL_of hA, gF_of hA]
def rwC (G : Gm) (ad : Nat → Nat) (σ : Sg) : va_W := (ad 2, .inr (2, fvs kdL ad σ 200 83)) :: arW G kdL ad σ ([90] ++ FT.2.2.map (200 + ·))
def rwT (G : Gm) (ad : Nat → Nat) (σ : Sg) : va_W := (ad 0, .inr (0, fvs kdL ad σ 0 21)) :: (ad 1, .inr (1, fvs kdL ad σ 30 57)) :: (arW G kdL ad σ FC.2.2 ++ arW G kdL ad σ [90])
theorem FC_lt : ∀ id ∈ FC.2.2, id < 90 := by decide
theorem worldC {G : Gm} {ad ad' : Nat → Nat} {σ σ' : Sg} (hI : ∀ k, k < 90 → gI σ k = gI σ' k) (hA : ∀ k, k < 90 → σ.2.1 k = σ'.2.1 k) (ha : ∀ k, k < 100 → ad k = ad' k) : (wl FL G ad σ).Perm (wl FC G ad' σ' ++ rwC G ad σ) := by
  have hf : ∀ k, k < 90 → toV ad (fv kdL σ k) = toV ad' (fv kdC σ' k) := fun k hk => fv_cg (kdL_c hk) (hI k hk) (ha _ (by omega)) (fun j hj => ha j (by have := kdL_le k; omega))
  have e0 : fvs kdL ad σ 0 21 = fvs kdC ad' σ' 0 21 := fvs_cg (fun k hk => by rw [Nat.zero_add]; exact hf k (by omega))
  have e1 : fvs kdL ad σ 30 57 = fvs kdC ad' σ' 30 57 := fvs_cg (fun k hk => hf _ (by omega))
  have e2 : arW G kdL ad σ FC.2.2 = arW G kdC ad' σ' FC.2.2 := List.map_congr_left fun id hid => by
    have := FC_lt id hid
    rw [ha _ (by omega), arE_cg (kdL_c this) (hA id this)]
  have e3 : wl FL G ad σ = (ad 0, .inr (0, fvs kdL ad σ 0 21)) :: (ad 1, .inr (1, fvs kdL ad σ 30 57)) :: (ad 2, .inr (2, fvs kdL ad σ 200 83)) :: (arW G kdL ad σ FC.2.2 ++ arW G kdL ad σ ([90] ++ FT.2.2.map (200 + ·))) := by
    show obW kdL ad σ 0 _ ++ arW G kdL ad σ (FC.2.2 ++ _) = _
    unfold arW
    rw [List.map_append]
    rfl
  have e4 : wl FC G ad' σ' = (ad' 0, .inr (0, fvs kdC ad' σ' 0 21)) :: (ad' 1, .inr (1, fvs kdC ad' σ' 30 57)) :: arW G kdC ad' σ' FC.2.2 := rfl
  rw [e3, e4, e0, e1, e2, ha 0 (by omega), ha 1 (by omega)]
  refine List.Perm.cons _ (List.Perm.cons _ ?_)
  exact List.perm_middle.symm
theorem worldT {G : Gm} {ad ad' : Nat → Nat} {σ σ' : Sg} (hI : ∀ k, gI σ (200 + k) = gI σ' k) (hA : ∀ k, σ.2.1 (200 + k) = σ'.2.1 k) (h2 : ad 2 = ad' 0) (ha : ∀ k, ad (10 + (200 + k)) = ad' (10 + k)) : (wl FL G ad σ).Perm (wl FT G ad' σ' ++ rwT G ad σ) := by
  have h5 : ∀ k, k < 83 → kdT k ≠ 5 := by decide
  have e0 : fvs kdL ad σ 200 83 = fvs kdT ad' σ' 0 83 := fvs_cg (fun k hk => by
    rw [Nat.zero_add]
    exact fv_cg (kdL_t k) (hI k) (ha k) (fun j hj => by rw [kdL_t] at hj; have h1 := h5 k hk; have h2 := kdT_le k; omega))
  have e2 : arW G kdL ad σ (FT.2.2.map (200 + ·)) = arW G kdT ad' σ' FT.2.2 := by
    unfold arW
    rw [List.map_map]
    exact List.map_congr_left fun id hid => by
      show (ad (10 + (200 + id)), arE G kdL σ (200 + id)) = _
      rw [ha, arE_cg (kdL_t id) (hA id)]
  have e3 : wl FL G ad σ = (ad 0, .inr (0, fvs kdL ad σ 0 21)) :: (ad 1, .inr (1, fvs kdL ad σ 30 57)) :: (ad 2, .inr (2, fvs kdL ad σ 200 83)) :: ((arW G kdL ad σ FC.2.2 ++ arW G kdL ad σ [90]) ++ arW G kdL ad σ (FT.2.2.map (200 + ·))) := by
    show obW kdL ad σ 0 _ ++ arW G kdL ad σ (FC.2.2 ++ ([90] ++ _)) = _
    unfold arW
    rw [List.map_append, List.map_append, List.append_assoc]
    rfl
  have e4 : wl FT G ad' σ' = (ad' 0, .inr (2, fvs kdT ad' σ' 0 83)) :: arW G kdT ad' σ' FT.2.2 := rfl
  rw [e3, e4, e0, e2, h2]
  unfold rwT
  generalize arW G kdL ad σ FC.2.2 ++ arW G kdL ad σ [90] = X
  generalize arW G kdT ad' σ' FT.2.2 = Y
  rw [List.cons_append]
  refine (List.perm_middle (l₁ := [_, _])).trans (List.Perm.cons _ ?_)
  exact List.perm_append_comm (l₁ := _ :: _ :: X) (l₂ := Y)
def uaC (ad ad1 : Nat → Nat) : Nat → Nat := fun k => if k < 10 then ad k else if k < 100 then ad1 k else ad k
def uaT (ad ad1 : Nat → Nat) : Nat → Nat := fun k => if k < 210 then ad k else ad1 (k - 200)
def daT (ad : Nat → Nat) : Nat → Nat := fun k => if k < 10 then ad (k + 2) else ad (k + 200)
theorem lfC {G : Gm} {ad : Nat → Nat} {σ τ : Sg} (ad1 : Nat → Nat) (hm : adM (dnC σ) ad τ ad1) : ∃ ad2, adM σ ad (umC σ τ) ad2 ∧ (wl FL G ad2 (umC σ τ)).Perm (wl FC G ad1 τ ++ rwC G ad σ) := by
  have u1 : ∀ k, k < 100 → uaC ad ad1 k = ad1 k := fun k hk => by
    unfold uaC
    split
    · exact (hm.1 k (by assumption)).symm
    · rfl
  have u2 : ∀ k, 100 ≤ k → uaC ad ad1 k = ad k := fun k hk => by
    unfold uaC
    rw [if_neg (by omega), if_neg (by omega)]
  have u3 : ∀ k, k < 10 → uaC ad ad1 k = ad k := fun k hk => by
    unfold uaC
    rw [if_pos hk]
  refine ⟨uaC ad ad1, ⟨u3, fun id => ?_⟩, ?_⟩
  · by_cases q : id < 90
    · have h := hm.2 id
      rw [gL_of (dnC_A q)] at h
      rw [gL_of (umC_A q)]
      exact ⟨h.1, fun e => by rw [u1 _ (by omega)]; exact h.2 e⟩
    · rw [gL_of (umC_A' (by omega))]
      exact ⟨Nat.le_refl _, fun _ => u2 _ (by omega)⟩
  · have e : rwC G (uaC ad ad1) (umC σ τ) = rwC G ad σ := by
      unfold rwC
      have e1 : fvs kdL (uaC ad ad1) (umC σ τ) 200 83 = fvs kdL ad σ 200 83 := fvs_cg (fun k hk => fv_cg rfl (umC_I' (by omega)) (u2 _ (by omega)) (fun j hj => u3 j (by have := kdL_le (200 + k); omega)))
      have e2 : arW G kdL (uaC ad ad1) (umC σ τ) ([90] ++ FT.2.2.map (200 + ·)) = arW G kdL ad σ ([90] ++ FT.2.2.map (200 + ·)) := List.map_congr_left fun id hid => by
        have hge : 90 ≤ id := by
          rcases List.mem_append.mp hid with h | h
          · have := List.mem_singleton.mp h; omega
          · obtain ⟨j, -, rfl⟩ := List.mem_map.mp h
            show 90 ≤ 200 + j
            omega
        rw [u2 _ (by omega), arE_cg rfl (umC_A' hge)]
      rw [e1, e2, u3 2 (by omega)]
    rw [← e]
    exact worldC (fun k hk => umC_I (by omega)) (fun k hk => umC_A hk) u1
theorem lfT {G : Gm} {ad : Nat → Nat} {σ τ : Sg} (ad1 : Nat → Nat) (hm : adM (dnT σ) (daT ad) τ ad1) : ∃ ad2, adM σ ad (umT σ τ) ad2 ∧ (wl FL G ad2 (umT σ τ)).Perm (wl FT G ad1 τ ++ rwT G ad σ) := by
  have u1 : ∀ k, uaT ad ad1 (10 + (200 + k)) = ad1 (10 + k) := fun k => by
    unfold uaT
    rw [if_neg (by omega), show 10 + (200 + k) - 200 = 10 + k by omega]
  have u2 : ∀ k, k < 210 → uaT ad ad1 k = ad k := fun k hk => by
    unfold uaT
    rw [if_pos hk]
  have u3 : ∀ k, daT ad (10 + k) = ad (10 + (200 + k)) := fun k => by
    unfold daT
    rw [if_neg (by omega), show 10 + k + 200 = 10 + (200 + k) by omega]
  refine ⟨uaT ad ad1, ⟨fun k hk => u2 k (by omega), fun id => ?_⟩, ?_⟩
  · rcases lt_or_t id with q | ⟨k, rfl⟩
    · rw [gL_of (umT_A' q)]
      exact ⟨Nat.le_refl _, fun _ => u2 _ (by omega)⟩
    · have h := hm.2 k
      rw [gL_of umT_A, u1]
      refine ⟨h.1, fun e => ?_⟩
      rw [h.2 e, u3]
  · have e : rwT G (uaT ad ad1) (umT σ τ) = rwT G ad σ := by
      have f : ∀ k, k < 90 → toV (uaT ad ad1) (fv kdL (umT σ τ) k) = toV ad (fv kdL σ k) := fun k hk => fv_cg rfl (umT_I' (by omega)) (u2 _ (by omega)) (fun j hj => u2 j (by have := kdL_le k; omega))
      have e0 : fvs kdL (uaT ad ad1) (umT σ τ) 0 21 = fvs kdL ad σ 0 21 := fvs_cg (fun k hk => f _ (by omega))
      have e1 : fvs kdL (uaT ad ad1) (umT σ τ) 30 57 = fvs kdL ad σ 30 57 := fvs_cg (fun k hk => f _ (by omega))
      have a : ∀ l : List Nat, (∀ id ∈ l, id < 200) → arW G kdL (uaT ad ad1) (umT σ τ) l = arW G kdL ad σ l := fun l hl => List.map_congr_left fun id hid => by
        rw [u2 _ (by have := hl id hid; omega), arE_cg rfl (umT_A' (hl id hid))]
      unfold rwT
      rw [e0, e1, a FC.2.2 (fun id hid => by have := FC_lt id hid; omega), a [90] (by decide), u2 0 (by omega), u2 1 (by omega)]
    rw [← e]
    refine worldT (fun k => umT_I) (fun k => umT_A) ?_ u1
    rw [u2 2 (by omega), hm.1 0 (by omega)]
    rfl
