/-! an array field that becomes longer -/
def cpy {β : Type} (σ : Sg) (id : Nat) (n : Int) (K : Sg → Option β) : Option β :=
  if 3 * gL σ id ≤ 2 * n.toNat ∧ gL σ id + 16 ≤ n.toNat ∧ n ≤ 134217728 then K (sN σ id n.toNat (fun j => if j < gL σ id then gF σ id j else 0)) else none
def morN (L : Nat) (n : Int) : Nat := if n.toNat + 1 < 2 * L then 2 * L else n.toNat + 1
def mor {β : Type} (σ : Sg) (id : Nat) (n : Int) (K : Sg → Option β) : Option β :=
  if n < (gL σ id : Int) then K σ else if 16 ≤ gL σ id ∧ morN (gL σ id) n ≤ 134217728 then K (sN σ id (morN (gL σ id) n) (fun j => if j < gL σ id then gF σ id j else 0)) else none
theorem gI_sN (σ : Sg) (k n : Nat) (f : Nat → Int) (j : Nat) : gI (sN σ k n f) j = gI σ j := rfl
theorem gL_sN (σ : Sg) (k n : Nat) (f : Nat → Int) (j : Nat) : gL (sN σ k n f) j = if j = k then n else gL σ j := by
  by_cases h : j = k
  · subst h; simp [gL, sN, va_up]
  · simp [gL, sN, va_up, h]
theorem gF_sN (σ : Sg) (k n : Nat) (f : Nat → Int) (j : Nat) : gF (sN σ k n f) j = if j = k then f else gF σ j := by
  by_cases h : j = k
  · subst h; simp [gF, sN, va_up]
  · simp [gF, sN, va_up, h]
theorem gC_sN (σ : Sg) (k n : Nat) (f : Nat → Int) : gC (sN σ k n f) = gC σ + 1 := rfl
theorem gS_sN (σ : Sg) (k n : Nat) (f : Nat → Int) : gS (sN σ k n f) = gS σ + n := rfl
theorem sum_sN {σ : Sg} {k n : Nat} {f : Nat → Int} : ∀ (l : List Nat), l.Nodup → (k ∈ l → (l.map (gL (sN σ k n f))).sum + gL σ k = (l.map (gL σ)).sum + n) ∧ (k ∉ l → (l.map (gL (sN σ k n f))).sum = (l.map (gL σ)).sum)
  | [], _ => ⟨(fun h => by cases h), fun _ => rfl⟩
  | a :: l, hn => by
    obtain ⟨h1, h2⟩ := List.nodup_cons.mp hn
    obtain ⟨i1, i2⟩ := sum_sN (σ := σ) (k := k) (n := n) (f := f) l h2
    simp only [List.map_cons, List.sum_cons, gL_sN, List.mem_cons]
    constructor
    · rintro (h | h)
      · subst h
        rw [if_pos rfl]
        have := i2 h1
        omega
      · have hne : a ≠ k := fun q => h1 (q ▸ h)
        rw [if_neg hne]
        have := i1 h
        omega
    · intro h
      rw [if_neg (fun q => h (Or.inl q.symm))]
      have := i2 (fun q => h (Or.inr q))
      omega
theorem SL_sN {F : Fm} (hF : FOK F) {σ : Sg} {j k n : Nat} {f : Nat → Int} (hj : F.2.2[j]? = some k) : SL F (sN σ k n f) + gL σ k = SL F σ + n :=
  (sum_sN F.2.2 hF.1).1 (List.mem_of_getElem? hj)
theorem Gr_sN {F : Fm} (hF : FOK F) {D : Nat} {σ : Sg} {j k n : Nat} {f : Nat → Int} (hj : F.2.2[j]? = some k) (hk : D.testBit k = true) (h1 : (F.1.length + 1) * gL σ k ≤ F.1.length * n) (h2 : gL σ k + 16 ≤ n) : Gr F D σ (sN σ k n f) := by
  have hs := SL_sN hF (σ := σ) (n := n) (f := f) hj
  refine ⟨⟨by rw [gC_sN]; omega, by rw [gS_sN]; omega⟩, fun q hq => ⟨rfl, ?_⟩, fun q => ?_, ?_, ?_⟩
  · have hne : q ≠ k := fun h => by rw [h, hk] at hq; cases hq
    simp [sN, va_up, hne]
  · rw [gL_sN]; split
    · rename_i h; subst h; omega
    · exact Nat.le_refl _
  · rw [gS_sN]
    have e : (F.1.length + 1) * SL F (sN σ k n f) + (F.1.length + 1) * gL σ k = (F.1.length + 1) * SL F σ + (F.1.length + 1) * n := by rw [← Nat.mul_add, hs, Nat.mul_add]
    have e2 : (F.1.length + 1) * n = F.1.length * n + n := by rw [Nat.add_mul, Nat.one_mul]
    omega
  · rw [gC_sN]; omega
theorem WF.sN {F : Fm} {σ : Sg} {id n : Nat} {f : Nat → Int} (h : WF F σ) (hk : F.2.1 id = 1) (hn : n < 2147483648) (hf : ∀ j, inR (f j)) : WF F (sN σ id n f) := by
  refine ⟨h.1, fun j => ?_, fun j q hj => ?_, fun j q hj => ?_, fun j q hj => ?_, h.2.2.2.2.2⟩
  · rw [gL_sN]; split; exact hn; exact h.2.1 j
  · rw [gF_sN]; split
    · rename_i e; subst e; rw [hk] at hj; cases hj
    · exact h.2.2.1 _ _ hj
  · rw [gF_sN]; split
    · exact hf q
    · exact h.2.2.2.1 _ _ hj
  · rw [gF_sN]; split
    · rename_i e; subst e; rw [hk] at hj; cases hj
    · exact h.2.2.2.2.1 _ _ hj
theorem fv_ref {kd : Nat → Nat} {ad : Nat → Nat} {σ : Sg} {id q n : Nat} {f : Nat → Int} {j : Nat} (hj : j ≠ id) (hj10 : ∀ k, kd j = k + 5 → k < 10) : toV (va_up ad (10 + id) q) (fv kd (sN σ id n f) j) = toV ad (fv kd σ j) := by
  unfold fv
  split
  · rfl
  · show Value.ref _ = Value.ref _
    rw [va_up, if_neg (by omega)]
  · show Value.ref _ = Value.ref _
    rw [va_up, if_neg (by omega)]
  · show Value.ref _ = Value.ref _
    rw [va_up, if_neg (by omega)]
  · rfl
  · rename_i k hk
    have := hj10 k hk
    show Value.ref _ = Value.ref _
    rw [va_up, if_neg (by omega)]
theorem fvs_new {kd : Nat → Nat} {ad : Nat → Nat} {σ : Sg} {b N k q n : Nat} {f : Nat → Int} (hk : k < N) (hkd : kd (b + k) = 1) (h10 : ∀ j k, kd j = k + 5 → k < 10) : fvs kd (va_up ad (10 + (b + k)) q) (sN σ (b + k) n f) b N = (fvs kd ad σ b N).set k (.ref q) := by
  refine List.ext_getElem? (fun j => ?_)
  rw [List.getElem?_set]
  by_cases hj : k = j
  · subst hj
    rw [if_pos rfl, if_pos (by rw [fvs_len]; exact hk), fvs_at hk]
    unfold fv
    rw [hkd]
    show some (Value.ref _) = _
    rw [va_up, if_pos rfl]
  · rw [if_neg hj]
    by_cases hn : j < N
    · rw [fvs_at hn, fvs_at hn, fv_ref (by omega) (h10 _)]
    · rw [List.getElem?_eq_none (by rw [fvs_len]; omega), List.getElem?_eq_none (by rw [fvs_len]; omega)]
theorem fvs_new_ne {kd : Nat → Nat} {ad : Nat → Nat} {σ : Sg} {id b N q n : Nat} {f : Nat → Int} (h : id < b ∨ b + N ≤ id) (h10 : ∀ j k, kd j = k + 5 → k < 10) : fvs kd (va_up ad (10 + id) q) (sN σ id n f) b N = fvs kd ad σ b N := by
  unfold fvs
  refine List.map_congr_left (fun k hk => ?_)
  have := List.mem_range.mp hk
  rw [fv_ref (by omega) (h10 _)]
/-- an object's number is below ten -/
def FO10 (F : Fm) : Prop := ∀ j k, F.2.1 j = k + 5 → k < 10
theorem wl_new {F : Fm} (hF : FOK F) (h10 : FO10 F) (hlen : F.1.length ≤ 10) {G : Gm} {ad : Nat → Nat} {σ : Sg} {ob k ci b N j q n : Nat} {f : Nat → Int} (hob : F.1[ob]? = some (ci, b, N)) (hk : k < N) (hj : F.2.2[j]? = some (b + k)) (hkd : F.2.1 (b + k) = 1) :
    wl F G (va_up ad (10 + (b + k)) q) (sN σ (b + k) n f) = ((wl F G ad σ).set ob (ad ob, .inr (ci, (fvs F.2.1 ad σ b N).set k (.ref q)))).set (F.1.length + j) (q, .inl (G.2.1, n, .inl fun i => Int32.ofInt (f i))) := by
  have hl : ob < F.1.length := (List.getElem?_eq_some_iff.mp hob).1
  have hlj : j < F.2.2.length := (List.getElem?_eq_some_iff.mp hj).1
  have eo : obW F.2.1 (va_up ad (10 + (b + k)) q) (sN σ (b + k) n f) 0 F.1 = (obW F.2.1 ad σ 0 F.1).set ob (ad ob, .inr (ci, (fvs F.2.1 ad σ b N).set k (.ref q))) := by
    refine List.ext_getElem? (fun i => ?_)
    rw [List.getElem?_set, obW_len, obW_at, obW_at]
    have e10 : ∀ i, i < F.1.length → va_up ad (10 + (b + k)) q (0 + i) = ad i := fun i hi => by rw [va_up, if_neg (by omega), Nat.zero_add]
    by_cases hi : ob = i
    · subst hi
      rw [if_pos rfl, if_pos hl, hob]
      simp only [Option.map_some]
      rw [e10 _ hl, fvs_new hk hkd h10]
    · rw [if_neg hi]
      cases hoj : F.1[i]? with
      | none => rfl
      | some oj =>
        simp only [Option.map_some]
        have hli : i < F.1.length := (List.getElem?_eq_some_iff.mp hoj).1
        have h1 := hF.2 ob hl i hli hi
        rw [List.getD_eq_getElem?_getD, List.getD_eq_getElem?_getD, hob, hoj] at h1
        simp only [Option.getD_some] at h1
        rw [e10 _ hli, fvs_new_ne (by omega) h10, Nat.zero_add]
  have ea : arW G F.2.1 (va_up ad (10 + (b + k)) q) (sN σ (b + k) n f) F.2.2 = (arW G F.2.1 ad σ F.2.2).set j (q, .inl (G.2.1, n, .inl fun i => Int32.ofInt (f i))) := by
    refine List.ext_getElem? (fun i => ?_)
    rw [List.getElem?_set, arW, arW, List.getElem?_map, List.getElem?_map, List.length_map]
    by_cases hi : j = i
    · subst hi
      rw [if_pos rfl, if_pos hlj, hj]
      simp only [Option.map_some]
      rw [va_up, if_pos rfl, arE_i hkd, gL_sN, gF_sN, if_pos rfl, if_pos rfl]
    · rw [if_neg hi]
      cases hid : F.2.2[i]? with
      | none => rfl
      | some id' =>
        have hne : id' ≠ b + k := by
          intro h; subst h
          exact hi ((List.getElem?_inj hlj hF.1).mp (hj.trans hid.symm))
        simp only [Option.map_some]
        rw [va_up, if_neg (by omega)]
        congr 2
        unfold arE
        rw [gL_sN, gF_sN, if_neg hne, if_neg hne]
  rw [wl, wl, eo, ea, List.set_append_left _ _ (by rw [obW_len]; exact hl), List.set_append_right _ _ (by rw [List.length_set, obW_len]; omega), List.length_set, obW_len, show F.1.length + j - F.1.length = j by omega]
theorem P_new {D : va_G} {cl0 : List vw_C} {ws : va_W} {H : Heap} {A : Nat → Prop} {ob r : Nat} {x y : Nat × va_E} (hr : ob ≠ r) (hol : ob < ws.length) (hrl : r < ws.length) (hP : va_P D cl0 ((ws ++ [y]).set ob x) H) (hD : va_D A ((ws ++ [y]).set ob x)) : va_P D cl0 ((ws.set ob x).set r y) H ∧ va_D A ((ws.set ob x).set r y) := by
  have key : ∀ (i : Nat) (z : Nat × va_E), ((ws.set ob x).set r y)[i]? = some z → ((ws ++ [y]).set ob x)[if i = r then ws.length else i]? = some z := by
    intro i z hz
    have hil : i < ws.length := by
      have := (List.getElem?_eq_some_iff.mp hz).1
      simpa using this
    rw [List.set_append_left _ _ hol]
    by_cases hi : i = r
    · subst hi
      rw [List.getElem?_set, if_pos rfl, if_pos (by rw [List.length_set]; exact hil)] at hz
      rw [if_pos rfl, List.getElem?_append_right (by rw [List.length_set]; exact Nat.le_refl _), List.length_set, Nat.sub_self]
      exact hz
    · rw [List.getElem?_set, if_neg (fun h => hi h.symm)] at hz
      rw [if_neg hi, List.getElem?_append_left (by rw [List.length_set]; exact hil)]
      exact hz
  refine ⟨fun i z hz => hP _ z (key i z hz), fun i j p q hi hj hpq => ?_, fun i z hz => hD.2 _ z (key i z hz)⟩
  have := hD.1 _ _ p q (key i p hi) (key j q hj) hpq
  have hil : i < ws.length := by simpa using (List.getElem?_eq_some_iff.mp hi).1
  have hjl : j < ws.length := by simpa using (List.getElem?_eq_some_iff.mp hj).1
  split at this <;> split at this <;> omega
section G8
variable {p : Program} {l : Launch} {e : Env} {R : Room} {s : State} {m : MethodId} {args : Array Value} {below : List Frame} {meth : Method} {c : Code}
variable {J : Jm} {D : Nat} {G : Gm} {cl0 : List vw_C} {A : Nat → Prop} {F : Fm} {ad0 : Nat → Nat} {σ0 σ : Sg} {α : Type} {rv : α → Rs} {o : Option (α × Sg)} {pc : Nat} {loc : Lc} {stk : List AV}
variable {C : String} {T : u_T} {N ci b ob i1 i2 d : Nat}
theorem avO_up {ad : Nat → Nat} {id q : Nat} : ∀ k, k < 10 → va_up ad (10 + id) q k = ad k := fun k hk => by rw [va_up, if_neg (by omega)]
/-- behind the call that made the new array: the field is set -/
theorem g_grow {K : Sg → Option (α × Sg)} {id n' : Nat} {f : Nat → Int} (hF : FOK F) (h10 : FO10 F) (hlen : F.1.length ≤ 10) (k j : Nat) (hid : b + k = id) (hcl : cl0[ci]? = some (C, T, N)) (hob : F.1[ob]? = some (ci, b, N)) (hj : F.2.2[j]? = some id) (hk : k < N) (hin : ∀ w ∈ u_ws C T N, w ∈ lw_all) (ty0 : Nat → FieldType) (hty : ∀ k, k < N → parseFieldDescriptor (T k).2.2.1 = some (ty0 k)) (hnm : ∀ a, a < N → ∀ b, b < N → a ≠ b → (T a).2.1 ≠ (T b).2.1) (hC : (T k).1 = C) (hkd : F.2.1 id = 1) (hti : ty0 k = .array .int) (hfin : (T k).2.2.2 = false) (hq : Cond.fieldLink J.2.1 i2 C (T k).2.1 (T k).2.2.1 ∈ lw_all) (hno : stk.all avO = true) (hno2 : loc.all (fun q => avO q.2) = true) (dd : decode J.1 pc = .ok (.putfield i2, 3))
    (hn : gL σ id + 1 ≤ n') (wf : WF F σ → WF F (sN σ id n' f)) (kk : WG p l e R s m args below meth c J D G cl0 A F ad0 σ0 rv (K (sN σ id n' f)) (sN σ id n' f) (pc + 3) loc stk) (ok : OKx p s m args meth c J G cl0 A) {r : α} {σ' : Sg} (ho : K (sN σ id n' f) = some (r, σ')) (h1 : gC σ0 ≤ gC σ) (h2 : gS σ0 ≤ gS σ) (h3 : R.cells = gC σ' - gC σ0) (h4 : R.slots = gS σ' - gS σ0) (hw : WF F σ) {ad : Nat → Nat} (q : Nat) {H : Heap} {locs : List Loc} {ls : Array Slot} (ha : adM σ0 ad0 σ ad)
    (hP : va_P G.1 cl0 (wl F G ad σ ++ [(q, .inl (G.2.1, n', .inl fun i => Int32.ofInt (f i)))]) H) (hD : va_D A (wl F G ad σ ++ [(q, .inl (G.2.1, n', .inl fun i => Int32.ofInt (f i)))])) (hS : va_S A s.heap H locs) (hl : lv_has ls J.2.2.1 (lcV ad loc)) :
    W p l e R s m args below meth c H locs (gC σ - gC σ0 + 1) (gS σ - gS σ0 + n') (MQ below (Qx F G cl0 A σ0 ad0 J.2.2.2 (rv r) σ') args s (gC σ' - gC σ0) (gS σ' - gS σ0) A) (F0 m pc ls (.ref q :: .ref (ad ob) :: stk.map (toV ad))) := by
  subst hid
  have hol : ob < (wl F G ad σ).length := (List.getElem?_eq_some_iff.mp (wl_ob (G := G) (ad := ad) (σ := σ) hob)).1
  have hjl : F.1.length + j < (wl F G ad σ).length := (List.getElem?_eq_some_iff.mp (wl_ar (G := G) (ad := ad) (σ := σ) hj)).1
  have hob' : ob < F.1.length := (List.getElem?_eq_some_iff.mp hob).1
  refine va_put ok.1 ok.2.1 ok.2.2.2.2.1 hin ty0 hty hnm ok.2.2.2.1 ok.2.2.2.2.2.2.2.1 hP hD hS ob (va_getl (wl_ob hob)) hcl k hk (ok.2.2.2.2.1 _ hq) (fun x h => by rw [← hC]; exact h) hfin ((hty k hk).trans (by rw [hti])) rfl rfl (by rw [fvs_len]; exact hk) dd (fun H1 locs1 hP1 hD1 hS1 => ?_)
  obtain ⟨hP2, hD2⟩ := P_new (r := F.1.length + j) (by omega) hol hjl hP1 hD1
  rw [← wl_new hF h10 hlen hob hk hj hkd] at hP2 hD2
  have kl : lcV (va_up ad (10 + (b + k)) q) loc = lcV ad loc := avO_loc avO_up hno2
  have ks : stk.map (toV (va_up ad (10 + (b + k)) q)) = stk.map (toV ad) := avO_stk avO_up hno
  have had : adM σ ad (sN σ (b + k) n' f) (va_up ad (10 + (b + k)) q) := ⟨avO_up, fun i => by
    rw [gL_sN]
    by_cases hi : i = b + k
    · subst hi; rw [if_pos rfl]; exact ⟨by omega, fun h => by omega⟩
    · rw [if_neg hi]; exact ⟨Nat.le_refl _, fun _ => by rw [va_up, if_neg (by omega)]⟩⟩
  have ww := kk.2 ok r σ' ho (by rw [gC_sN]; omega) (by rw [gS_sN]; omega) h3 h4 (wf hw) _ H1 locs1 ls (ha.tr had) hP2 hD2 hS1 (by rw [kl]; exact hl)
  rw [ks, gC_sN, gS_sN, show gC σ + 1 - gC σ0 = gC σ - gC σ0 + 1 by omega, show gS σ + n' - gS σ0 = gS σ - gS σ0 + n' by omega] at ww
  exact ww
theorem cp_fun {σ : Sg} {id : Nat} : (fun j => if j < gL σ id then Int32.ofInt (gF σ id j) else 0) = (fun i => Int32.ofInt ((fun j => if j < gL σ id then gF σ id j else 0) i)) := by
  funext j
  by_cases h : j < gL σ id
  · simp [h]
  · simp [h]
theorem cp_rng {F : Fm} {σ : Sg} {id : Nat} (hw : WF F σ) (hkd : F.2.1 id = 1) (j : Nat) : inR ((fun j => if j < gL σ id then gF σ id j else 0) j) := by
  show inR (if j < gL σ id then gF σ id j else 0)
  split
  · exact hw.2.2.2.1 id j (by rw [hkd]; decide)
  · decide
theorem g_newArr {y : MethodName} {cy : ByteArray} {nLy fr : Nat} {K : Sg → Option (α × Sg)} {n : Int} {id n' : Nat} (hF : FOK F) (h10 : FO10 F) (hlen : F.1.length ≤ 10) (k j : Nat) (hid : b + k = id) (hcl : cl0[ci]? = some (C, T, N)) (hob : F.1[ob]? = some (ci, b, N)) (hj : F.2.2[j]? = some id) (hk : k < N) (hin : ∀ w ∈ u_ws C T N, w ∈ lw_all) (ty0 : Nat → FieldType) (hty : ∀ k, k < N → parseFieldDescriptor (T k).2.2.1 = some (ty0 k)) (hnm : ∀ a, a < N → ∀ b, b < N → a ≠ b → (T a).2.1 ≠ (T b).2.1) (hC : (T k).1 = C) (hkd : F.2.1 id = 1) (hti : ty0 k = .array .int) (hfin : (T k).2.2.2 = false) (hq2 : Cond.fieldLink J.2.1 i2 C (T k).2.1 (T k).2.2.1 ∈ lw_all)
    (hfr : fr ≤ R.frames ∧ 20 + (nLy + 11) + 40 * fr ≤ R.locals + 40) (hfr0 : 1 ≤ fr) (hst : (stk.map avC).sum ≤ 7) (hno : stk.all avO = true) (hno2 : loc.all (fun q => avO q.2) = true) (hV : GoodIn lw_all (va_wsS J.2.1 i1 y (ws_ y cy nLy (some (.array .int))))) (hd : y.cls ≠ "java/lang/invoke/MethodHandle" ∧ y.cls ≠ "java/lang/invoke/VarHandle" ∧ (parseMethodDescriptor y.desc).map (fun d => d.parameters.length) = some 2) (d1 : decode J.1 pc = .ok (.invokestatic i1, 3)) (d2 : decode J.1 (pc + 3) = .ok (.putfield i2, 3))
    (hn0 : 0 ≤ n) (hn : gL σ id + 1 ≤ n') (hn2 : n' < 2147483648) (hg : gC σ + 1 ≤ gC (sN σ id n' (fun j => if j < gL σ id then gF σ id j else 0)) ∧ gS σ + n' ≤ gS (sN σ id n' (fun j => if j < gL σ id then gF σ id j else 0)))
    (hM : ∀ (ad : Nat → Nat) (sz : Nat), Met l y (ws_ y cy nLy (some (.array .int))) ({ frames := fr - 1, cells := 1, slots := n', locals := 40 * (fr - 1) } : Room) (PcN G cl0 (wl F G ad σ) sz (ad (10 + id)) (Int32.ofNat n.toNat)) (QcN G cl0 (wl F G ad σ) sz n' (fun j => if j < gL σ id then Int32.ofInt (gF σ id j) else 0)) 1 n' (va_A (wl F G ad σ) sz))
    (kk : ∀ σ2, WG p l e R s m args below meth c J D G cl0 A F ad0 σ0 rv (K σ2) σ2 (pc + 3 + 3) loc stk) (ok : OKx p s m args meth c J G cl0 A) {r : α} {σ' : Sg} (ho : K (sN σ id n' (fun j => if j < gL σ id then gF σ id j else 0)) = some (r, σ')) (h1 : gC σ0 ≤ gC σ) (h2 : gS σ0 ≤ gS σ) (h3 : R.cells = gC σ' - gC σ0) (h4 : R.slots = gS σ' - gS σ0) (hw : WF F σ) {ad : Nat → Nat} {H : Heap} {locs : List Loc} {ls : Array Slot} (ha : adM σ0 ad0 σ ad)
    (hP : va_P G.1 cl0 (wl F G ad σ) H) (hD : va_D A (wl F G ad σ)) (hS : va_S A s.heap H locs) (hl : lv_has ls J.2.2.1 (lcV ad loc)) :
    W p l e R s m args below meth c H locs (gC σ - gC σ0) (gS σ - gS σ0) (MQ below (Qx F G cl0 A σ0 ad0 J.2.2.2 (rv r) σ') args s (gC σ' - gC σ0) (gS σ' - gS σ0) A) (F0 m pc ls ((vI n :: vR (10 + id) :: vR ob :: stk).map (toV ad))) := by
  have wf : WF F σ → WF F (sN σ id n' (fun j => if j < gL σ id then gF σ id j else 0)) := fun hw => hw.sN hkd hn2 (cp_rng hw hkd)
  have hps := (kk _).1 (wf hw) r σ' ho
  have a1 := hps.1.1.1
  have a2 := hps.1.1.2
  have hK := ok.2.2.2.2.2.2.2.1
  have e32 : Int32.ofInt n = Int32.ofNat n.toNat := by rw [← Int32.ofInt_eq_ofNat]; congr 1; omega
  have hrun := va_runS (p := p) (e := e) (R := R) (below := below) (meth := meth) (locs := locs) (cells := gC σ - gC σ0) (slots := gS σ - gS σ0) (H := H) (g := F0 m pc ls ((vI n :: vR (10 + id) :: vR ob :: stk).map (toV ad))) (As := [.ref (ad (10 + id)), .int (Int32.ofNat n.toNat)]) (rest := .ref (ad ob) :: stk.map (toV ad)) ⟨ok.1, ok.2.1, ok.2.2.1, ok.2.2.2.1, ok.2.2.2.2.1⟩ (hM ad H.size) (va_cwS 2 ok.2.2.2.2.1 hV rfl rfl rfl hd ⟨by show fr - 1 + 1 ≤ _; omega, by show 8 + (nLy + 11) + 40 * (fr - 1) ≤ R.locals; omega⟩) ⟨?_, ?_⟩ rfl rfl hl.1 ?_ ?_ d1 ⟨by omega, by omega⟩
  · intro T hT X
    obtain ⟨v, st₀, t, T', L, e0, X', hL, e1, e2, ⟨q, hv, hP1, hD1, hK1, hz, hkp⟩, st⟩ := hrun T hT X
    have hv' : v = some (.ref q) := by injection hv
    subst hv'
    have hfree : ∀ q, va_A (wl F G ad σ) H.size q → A q := by
      intro q hq
      rcases hq with ⟨i, en, hi⟩ | hq
      · exact hD.2 i (q, en) hi
      · exact ok.2.2.2.2.2.2.2.2 q (Nat.le_trans hS.1 hq)
    rw [e0] at hz hkp
    have hh : T'.heap = t.heap := e1
    have hS1 : va_S A s.heap T'.heap (locs ++ L) := by
      rw [hh]
      refine ⟨Nat.le_trans hS.1 hz, fun q g1 g2 => ?_, fun q hq => ?_⟩
      · rw [hkp q (Nat.lt_of_lt_of_le g1 hS.1) (fun z => g2 (hfree q z))]
        exact hS.2.1 q g1 g2
      · rcases List.mem_append.mp hq with h | h
        · exact hS.2.2 q h
        · exact hfree _ (hL q h)
    rw [cp_fun] at hP1 hD1
    have ww := g_grow (p := p) (l := l) (e := e) (R := R) (below := below) (meth := meth) (c := c) (rv := rv) (pc := pc + 3) (loc := loc) (stk := stk) hF h10 hlen k j hid hcl hob hj hk hin ty0 hty hnm hC hkd hti hfin hq2 hno hno2 d2 hn wf (kk _) ok ho h1 h2 h3 h4 hw q ha (H := T'.heap) (locs := locs ++ L) (ls := ls) (by rw [hh]; exact hP1) (hD1.weaken (fun _ _ _ h => hfree _ h)) hS1 hl
    obtain ⟨t2, b1, b2⟩ := ww T' rfl X'
    exact ⟨t2, st t2 b1, b2⟩
  · intro a U g mk q
    obtain ⟨q0, q1, qP, qK, qD⟩ := q
    exact ⟨q0, q1, qP, va_K.moved (u := U) (U := U.calling g mk a) (Vm.Alike.refl U.vm) qK, qD⟩
  · intro U hU hW
    exact ⟨rfl, by rw [hU], by rw [hU]; exact hP, va_K.moved hW.alike hK, hD.weaken (fun _ _ _ _ => trivial)⟩
  · show (Value.int (Int32.ofInt n) :: _) = _
    rw [e32]
    rfl
  · refine lv_room ?_
    rw [List.map_cons, List.map_map]
    have : ((fun v : Value => v.category) ∘ toV ad) = avC := funext fun a => toV_cat ad a
    rw [this]
    show List.sum (1 :: _) ≤ 8
    rw [List.sum_cons]
    omega
theorem g_cpy {K : Sg → Option (α × Sg)} {n : Int} {id : Nat} (hF : FOK F) (h10 : FO10 F) (hlen : F.1.length = 2) (k j : Nat) (hid : b + k = id) (hcl : cl0[ci]? = some (C, T, N)) (hob : F.1[ob]? = some (ci, b, N)) (hj : F.2.2[j]? = some id) (hk : k < N) (hin : ∀ w ∈ u_ws C T N, w ∈ lw_all) (ty0 : Nat → FieldType) (hty : ∀ k, k < N → parseFieldDescriptor (T k).2.2.1 = some (ty0 k)) (hnm : ∀ a, a < N → ∀ b, b < N → a ≠ b → (T a).2.1 ≠ (T b).2.1) (hC : (T k).1 = C) (hkd : F.2.1 id = 1) (hti : ty0 k = .array .int) (hfin : (T k).2.2.2 = false) (hDk : D.testBit id = true) (hq1 : Cond.methodLink J.2.1 i1 yJ0_copyOf ∈ lw_all) (hq2 : Cond.fieldLink J.2.1 i2 C (T k).2.1 (T k).2.2.1 ∈ lw_all) (hRf : d + 1 ≤ R.frames) (hRl : 40 * (d + 1) ≤ R.locals) (hd2 : 1 ≤ d) (hst : (stk.map avC).sum ≤ 7) (hno : stk.all avO = true) (hno2 : loc.all (fun q => avO q.2) = true) (d1 : decode J.1 pc = .ok (.invokestatic i1, 3)) (d2 : decode J.1 (pc + 3) = .ok (.putfield i2, 3)) (kk : ∀ σ2, WG p l e R s m args below meth c J D G cl0 A F ad0 σ0 rv (K σ2) σ2 (pc + 3 + 3) loc stk) : WG p l e R s m args below meth c J D G cl0 A F ad0 σ0 rv (cpy σ id n K) σ pc loc (vI n :: vR (10 + id) :: vR ob :: stk) := by
  refine ⟨fun hw r σ' ho => ?_, fun ok r σ' ho h1 h2 h3 h4 hw ad H locs ls ha hP hD hS hl => ?_⟩
  · unfold cpy at ho
    split at ho
    · rename_i hc
      exact Ps.back (Gr_sN hF hj hDk (by rw [hlen]; exact hc.1) hc.2.1) (fun hw => hw.sN hkd (by omega) (cp_rng hw hkd)) (kk _).1 hw r σ' ho
    · cases ho
  · unfold cpy at ho
    split at ho
    · rename_i hc
      have hx := fun (ad : Nat → Nat) => wl_ar (G := G) (ad := ad) (σ := σ) hj
      simp only [arE_i hkd] at hx
      exact g_newArr (y := yJ0_copyOf) (cy := cJ0_copyOf) (nLy := 3) (fr := 2) hF h10 (by omega) k j hid hcl hob hj hk hin ty0 hty hnm hC hkd hti hfin hq2 ⟨by omega, by omega⟩ (by omega) hst hno hno2 (lw_S hq1 q201 q165 q202) (by decide +kernel) d1 d2 (by omega) (by omega) (by omega) ⟨Nat.le_refl _, Nat.le_refl _⟩ (fun ad sz => ct_copyOf l (hx ad) (by omega) (by omega)) kk ok ho h1 h2 h3 h4 hw ha hP hD hS hl
    · cases ho
theorem fvs_same {kd : Nat → Nat} {ad : Nat → Nat} {σ : Sg} {b N k : Nat} (hk : k < N) (hkd : kd (b + k) = 1) : (fvs kd ad σ b N).set k (.ref (ad (10 + (b + k)))) = fvs kd ad σ b N := by
  refine List.ext_getElem? (fun j => ?_)
  rw [List.getElem?_set]
  by_cases hj : k = j
  · subst hj
    rw [if_pos rfl, if_pos (by rw [fvs_len]; exact hk), fvs_at hk]
    unfold fv
    rw [hkd]
    rfl
  · rw [if_neg hj]
theorem g_more {K : Sg → Option (α × Sg)} {n : Int} {id : Nat} (hF : FOK F) (h10 : FO10 F) (hlen : F.1.length = 1) (k j : Nat) (hid : b + k = id) (hcl : cl0[ci]? = some (C, T, N)) (hob : F.1[ob]? = some (ci, b, N)) (hj : F.2.2[j]? = some id) (hk : k < N) (hin : ∀ w ∈ u_ws C T N, w ∈ lw_all) (ty0 : Nat → FieldType) (hty : ∀ k, k < N → parseFieldDescriptor (T k).2.2.1 = some (ty0 k)) (hnm : ∀ a, a < N → ∀ b, b < N → a ≠ b → (T a).2.1 ≠ (T b).2.1) (hC : (T k).1 = C) (hkd : F.2.1 id = 1) (hti : ty0 k = .array .int) (hfin : (T k).2.2.2 = false) (hDk : D.testBit id = true) (hn : inR n) (hq1 : Cond.methodLink J.2.1 i1 yX3_more ∈ lw_all) (hq2 : Cond.fieldLink J.2.1 i2 C (T k).2.1 (T k).2.2.1 ∈ lw_all) (hRf : d + 1 ≤ R.frames) (hRl : 40 * (d + 1) ≤ R.locals) (hd2 : 2 ≤ d) (hst : (stk.map avC).sum ≤ 7) (hno : stk.all avO = true) (hno2 : loc.all (fun q => avO q.2) = true) (d1 : decode J.1 pc = .ok (.invokestatic i1, 3)) (d2 : decode J.1 (pc + 3) = .ok (.putfield i2, 3)) (kk : ∀ σ2, WG p l e R s m args below meth c J D G cl0 A F ad0 σ0 rv (K σ2) σ2 (pc + 3 + 3) loc stk) : WG p l e R s m args below meth c J D G cl0 A F ad0 σ0 rv (mor σ id n K) σ pc loc (vI n :: vR (10 + id) :: vR ob :: stk) := by
  have hV : GoodIn lw_all (va_wsS J.2.1 i1 yX3_more (ws_ yX3_more cX3_more 4 (some (.array .int)))) := lw_S hq1 q1105 q168 q1106
  have hmN : ∀ L : Nat, 16 ≤ L → ¬ n < (L : Int) → n.toNat + 1 ≤ morN L n ∧ 2 * L ≤ morN L n := fun L _ _ => by
    unfold morN; split <;> omega
  refine ⟨fun hw r σ' ho => ?_, fun ok r σ' ho h1 h2 h3 h4 hw ad H locs ls ha hP hD hS hl => ?_⟩
  · unfold mor at ho
    split at ho
    · exact (kk σ).1 hw r σ' ho
    · split at ho
      · rename_i hq hc
        have := hmN _ hc.1 hq
        exact Ps.back (Gr_sN hF hj hDk (by rw [hlen]; omega) (by omega)) (fun hw => hw.sN hkd (by omega) (cp_rng hw hkd)) (kk _).1 hw r σ' ho
      · cases ho
  · have hx := fun (ad : Nat → Nat) => wl_ar (G := G) (ad := ad) (σ := σ) hj
    simp only [arE_i hkd] at hx
    unfold mor at ho
    split at ho
    · rename_i hlt
      have hLb := hw.2.1 id
      have hps := (kk σ).1 hw r σ' ho
      have a1 := hps.1.1.1
      have a2 := hps.1.1.2
      have hK := ok.2.2.2.2.2.2.2.1
      have hn32 : Int32.ofInt n < Int32.ofNat (gL σ id) := by
        rw [Int32.lt_iff_toInt_lt, i_ofInt hn, (n_ofNat hLb).2.2]; exact hlt
      have hrun := va_runS (p := p) (e := e) (R := R) (below := below) (meth := meth) (locs := locs) (cells := gC σ - gC σ0) (slots := gS σ - gS σ0) (H := H) (g := F0 m pc ls ((vI n :: vR (10 + id) :: vR ob :: stk).map (toV ad))) (As := [.ref (ad (10 + id)), .int (Int32.ofInt n)]) (rest := .ref (ad ob) :: stk.map (toV ad)) ⟨ok.1, ok.2.1, ok.2.2.1, ok.2.2.2.1, ok.2.2.2.2.1⟩ (ct_more0 l (G := G) (cl0 := cl0) (sz := H.size) (hx ad) hn32) (va_cwS 2 ok.2.2.2.2.1 hV rfl rfl rfl (by decide +kernel) ⟨by show 1 + 1 ≤ _; omega, by show 8 + (4 + 11) + 40 ≤ R.locals; omega⟩) ⟨?_, ?_⟩ rfl rfl hl.1 rfl ?_ d1 ⟨by omega, by omega⟩
      · intro T hT X
        obtain ⟨v, st₀, t, T', L, e0, X', hL, e1, e2, ⟨hv, hP1, hK1, hz, hkp⟩, st⟩ := hrun T hT X
        have hv' : v = some (.ref (ad (10 + id))) := by injection hv
        subst hv'
        have hfree : ∀ q, va_A (wl F G ad σ) H.size q → A q := by
          intro q hq
          rcases hq with ⟨i, en, hi⟩ | hq
          · exact hD.2 i (q, en) hi
          · exact ok.2.2.2.2.2.2.2.2 q (Nat.le_trans hS.1 hq)
        rw [e0] at hz hkp
        have hh : T'.heap = t.heap := e1
        have hS1 : va_S A s.heap T'.heap (locs ++ L) := by
          rw [hh]
          refine ⟨Nat.le_trans hS.1 hz, fun q g1 g2 => ?_, fun q hq => ?_⟩
          · rw [hkp q (Nat.lt_of_lt_of_le g1 hS.1) (fun z => g2 (hfree q z))]
            exact hS.2.1 q g1 g2
          · rcases List.mem_append.mp hq with h | h
            · exact hS.2.2 q h
            · exact hfree _ (hL q h)
        have ww : W p l e R s m args below meth c T'.heap (locs ++ L) (gC σ - gC σ0) (gS σ - gS σ0) (MQ below (Qx F G cl0 A σ0 ad0 J.2.2.2 (rv r) σ') args s (gC σ' - gC σ0) (gS σ' - gS σ0) A) (F0 m (pc + 3) ls (.ref (ad (10 + id)) :: .ref (ad ob) :: stk.map (toV ad))) := by
          refine va_put ok.1 ok.2.1 ok.2.2.2.2.1 hin ty0 hty hnm ok.2.2.2.1 ok.2.2.2.2.2.2.2.1 (by rw [hh]; exact hP1) hD hS1 ob (wl_ob hob) hcl k hk (ok.2.2.2.2.1 _ hq2) (fun x h => by rw [← hC]; exact h) hfin ((hty k hk).trans (by rw [hti])) rfl rfl (by rw [fvs_len]; exact hk) d2 (fun H1 locs1 hP1 hD1 hS1 => ?_)
          have es : (wl F G ad σ).set ob (ad ob, .inr (ci, (fvs F.2.1 ad σ b N).set k (.ref (ad (10 + id))))) = wl F G ad σ := by
            subst hid
            rw [fvs_same hk hkd]
            refine List.ext_getElem? (fun i => ?_)
            rw [List.getElem?_set]
            by_cases hi : ob = i
            · subst hi
              rw [if_pos rfl, if_pos (List.getElem?_eq_some_iff.mp (wl_ob (G := G) (ad := ad) (σ := σ) hob)).1, wl_ob hob]
            · rw [if_neg hi]
          rw [es] at hP1 hD1
          exact (kk σ).2 ok r σ' ho h1 h2 h3 h4 hw ad H1 locs1 ls ha hP1 hD1 hS1 hl
        obtain ⟨t2, b1, b2⟩ := ww T' rfl X'
        exact ⟨t2, st t2 b1, b2⟩
      · intro a U g mk q
        obtain ⟨q0, q1, qP, qK, qD⟩ := q
        exact ⟨q0, q1, qP, va_K.moved (u := U) (U := U.calling g mk a) (Vm.Alike.refl U.vm) qK, qD⟩
      · intro U hU hW
        exact ⟨rfl, by rw [hU], by rw [hU]; exact hP, va_K.moved hW.alike hK, hD.weaken (fun _ _ _ _ => trivial)⟩
      · refine lv_room ?_
        rw [List.map_cons, List.map_map]
        have : ((fun v : Value => v.category) ∘ toV ad) = avC := funext fun a => toV_cat ad a
        rw [this]
        show List.sum (1 :: _) ≤ 8
        rw [List.sum_cons]
        omega
    · split at ho
      · rename_i hq hc
        have := hmN _ hc.1 hq
        exact g_newArr (y := yX3_more) (cy := cX3_more) (nLy := 4) (fr := 3) hF h10 (by omega) k j hid hcl hob hj hk hin ty0 hty hnm hC hkd hti hfin hq2 ⟨by omega, by omega⟩ (by omega) hst hno hno2 hV (by decide +kernel) d1 d2 (by omega) (by omega) (by omega) ⟨Nat.le_refl _, Nat.le_refl _⟩ (fun ad sz => ct_more l (hx ad) (by omega) (by unfold morN; rfl) hc.2) kk ok ho h1 h2 h3 h4 hw ha hP hD hS hl
      · cases ho
end G8
