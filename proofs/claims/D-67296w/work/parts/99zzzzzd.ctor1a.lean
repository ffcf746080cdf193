/-! the class's constructor: its parts -/
theorem wf_zN {F : Fm} {σ : Sg} (h : WF F σ) {id n : Nat} (hn : n < 2147483648) : WF F (sN σ id n (fun _ => 0)) := by
  obtain ⟨h1, h2, h3, h4, h5, h6⟩ := h
  refine ⟨h1, fun k => ?_, fun k j hk => ?_, fun k j hk => ?_, fun k j hk => ?_, h6⟩
  · rw [gL_sN]; split
    · exact hn
    · exact h2 k
  · rw [gF_sN]; split
    · show inL 0; decide
    · exact h3 k j hk
  · rw [gF_sN]; split
    · show inR 0; decide
    · exact h4 k j hk
  · rw [gF_sN]; split
    · exact Or.inl rfl
    · exact h5 k j hk
theorem vun {f : Nat → Nat} {i v k : Nat} (h : k ≠ i) : va_up f (10 + i) v (10 + k) = f (10 + k) := by rw [va_up, if_neg (by omega)]
theorem aNk {σ : Sg} {id n k : Nat} {f : Nat → Int} (h : k ≠ id) : (sN σ id n f).2.1 k = σ.2.1 k := by
  show va_up σ.2.1 id (n, f) k = _
  rw [va_up, if_neg h]
theorem aIk {σ : Sg} {id k : Nat} {v : Int} : (sI σ id v).2.1 k = σ.2.1 k := rfl
theorem gNk {σ : Sg} {id n k : Nat} {f : Nat → Int} : gI (sN σ id n f) k = gI σ k := rfl
theorem gIk {σ : Sg} {id k : Nat} {v : Int} (h : k ≠ id) : gI (sI σ id v) k = gI σ k := by rw [gI_sI, if_neg h]
/-- the class's state behind its store's making -/
def s1of (σ2 : Sg) : Sg := (σ2.1, σ2.2.1, gC σ2 + 1, gS σ2 + 21)
theorem gC_s1 {σ2 : Sg} : gC (s1of σ2) = gC σ2 + 1 := rfl
theorem gS_s1 {σ2 : Sg} : gS (s1of σ2) = gS σ2 + 21 := rfl
theorem gC_sIz {σ : Sg} {k : Nat} {v : Int} : gC (sI σ k v) = gC σ := rfl
theorem gS_sIz {σ : Sg} {k : Nat} {v : Int} : gS (sI σ k v) = gS σ := rfl
theorem gSx {σ : Sg} {a m id n : Nat} {f : Nat → Int} (h : gS σ = a + m) : gS (sN σ id n f) = a + (m + n) := by rw [gS_sN, h, Nat.add_assoc]
theorem gSy {σ : Sg} {a m k : Nat} {v : Int} (h : gS σ = a + m) : gS (sI σ k v) = a + m := h
theorem bw_endC {G : Gm} {ad ad2 : Nat → Nat} {σ σ2 : Sg} {set arrs : List Nat} (hs : ∀ j, j < 57 → kdC (30 + j) = 0 ∨ kdC (30 + j) = 4 ∨ 30 + j ∈ set) (hp : FC.2.2.Perm (FS.2.2 ++ arrs)) (hI : ∀ k, k < 21 → gI σ k = gI σ2 k) (hA : ∀ k, k < 21 → σ.2.1 k = σ2.2.1 k) (h0 : ad 0 = ad2 0) (ha : ∀ k, k < 21 → ad (10 + k) = ad2 (10 + k)) : (wl FC G ad σ).Perm (bw G kdC (1, 30, 57, 1, wl FS G ad2 σ2) ad σ set arrs) := by
  have h5 : ∀ k, k < 21 → kdC k ≤ 4 := by decide
  have e0 : fvs kdC ad σ 0 21 = fvs kdC ad2 σ2 0 21 := fvs_cg (fun k hk => by
    rw [Nat.zero_add]
    exact fv_cg rfl (hI k hk) (ha k hk) (fun j hj => by have := h5 k hk; omega))
  have e2 : arW G kdC ad σ FS.2.2 = arW G kdC ad2 σ2 FS.2.2 := List.map_congr_left fun id hid => by
    have hlt : id < 21 := (by decide : ∀ id ∈ FS.2.2, id < 21) id hid
    rw [ha id hlt, arE_cg rfl (hA id hlt)]
  have e3 : wl FC G ad σ = (ad 0, .inr (0, fvs kdC ad σ 0 21)) :: (ad 1, .inr (1, fvs kdC ad σ 30 57)) :: arW G kdC ad σ FC.2.2 := rfl
  have e4 : wl FS G ad2 σ2 = (ad2 0, .inr (0, fvs kdC ad2 σ2 0 21)) :: arW G kdC ad2 σ2 FS.2.2 := rfl
  have e5 : bw G kdC (1, 30, 57, 1, wl FS G ad2 σ2) ad σ set arrs = (ad 1, .inr (1, bfs kdC ad σ set 30 57)) :: (wl FS G ad2 σ2 ++ arW G kdC ad σ arrs) := rfl
  rw [e5, bfs_all hs, e4, e3, e0, h0, ← e2]
  refine (List.Perm.swap _ _ _).trans (List.Perm.cons _ (List.Perm.cons _ ?_))
  have := hp.map (fun id => (ad (10 + id), arE G kdC σ id))
  rw [List.map_append] at this
  exact this
/-- the row of its end -/
theorem bl_ret {p : Program} {l : Launch} {e : Env} {R : Room} {s : State} {m : MethodId} {q : Nat} {below : List Frame} {meth : Method} {c : Code} {G : Gm} {A : Nat → Prop} {kd : Nat → Nat} {B : Bm} {ad : Nat → Nat} {σ : Sg} {set arrs : List Nat} {pc : Nat} {cc : ByteArray} {own : String} {F : Fm} {ob : Nat} (ok : OKx p s m #[.ref q] meth c (cc, own, 1, none) G clA A) (hpm : (wl F G ad σ).Perm (bw G kd B ad σ set arrs)) (hw : WF F σ) (had : ad ob = q) (d : decode cc pc = .ok (.return_, 1)) : WB p l e R s m #[.ref q] below meth c G A kd B (MQ below (QcI F G ob q A σ) #[.ref q] s (gC σ) (gS σ) A) ad σ set arrs pc [] := by
  intro H locs ls hP hD hS hl
  exact W.vret ok.1 ok.2.1 ok.2.2.2.2.2.2.1 (fun t ht hW => ⟨rfl, ad, had, hw, by rw [ht]; exact va_P_perm hpm hP, va_D_perm hpm hD, va_K.moved hW.alike ok.2.2.2.2.2.2.2.1, hS.F ht⟩) hS.2.2 d ok.2.2.2.2.2.1
set_option maxRecDepth 4000 in
theorem fs2_def : ∀ j, j < 21 → defaultValue (tyX2 j) = vp_V (bfs kdC (fun _ => 0) zS [] 0 21) j
  | 0, _ => rfl | 1, _ => rfl | 2, _ => rfl | 3, _ => rfl | 4, _ => rfl | 5, _ => rfl | 6, _ => rfl | 7, _ => rfl | 8, _ => rfl | 9, _ => rfl | 10, _ => rfl | 11, _ => rfl | 12, _ => rfl | 13, _ => rfl | 14, _ => rfl | 15, _ => rfl | 16, _ => rfl | 17, _ => rfl | 18, _ => rfl | 19, _ => rfl | 20, _ => rfl
  | j + 21, h => absurd h (by omega)
