/-! an object under construction: its arrays come one by one -/
def bv (kd : Nat → Nat) (ad : Nat → Nat) (σ : Sg) (set : List Nat) (id : Nat) : Value := if kd id = 0 ∨ kd id = 4 ∨ id ∈ set then toV ad (fv kd σ id) else .null
def bfs (kd : Nat → Nat) (ad : Nat → Nat) (σ : Sg) (set : List Nat) (b n : Nat) : List Value := (List.range n).map fun k => bv kd ad σ set (b + k)
/-- what is there: class's number, first field, fields, the object's place; the rest of the world -/
abbrev Bm : Type := Nat × Nat × Nat × Nat × va_W
def bw (G : Gm) (kd : Nat → Nat) (B : Bm) (ad : Nat → Nat) (σ : Sg) (set arrs : List Nat) : va_W := (ad B.2.2.2.1, .inr (B.1, bfs kd ad σ set B.2.1 B.2.2.1)) :: (B.2.2.2.2 ++ arW G kd ad σ arrs)
theorem bfs_at {kd : Nat → Nat} {ad : Nat → Nat} {σ : Sg} {set : List Nat} {b n j : Nat} (h : j < n) : (bfs kd ad σ set b n)[j]? = some (bv kd ad σ set (b + j)) := by
  unfold bfs
  rw [List.getElem?_map, List.getElem?_range h]
  rfl
theorem bfs_len {kd : Nat → Nat} {ad : Nat → Nat} {σ : Sg} {set : List Nat} {b n : Nat} : (bfs kd ad σ set b n).length = n := by
  unfold bfs
  rw [List.length_map, List.length_range]
theorem bfs_set {kd : Nat → Nat} {ad ad' : Nat → Nat} {σ σ' : Sg} {set set' : List Nat} {b n k : Nat} {v : Value} (hk : k < n) (h1 : bv kd ad' σ' set' (b + k) = v) (h2 : ∀ j, j < n → j ≠ k → bv kd ad' σ' set' (b + j) = bv kd ad σ set (b + j)) : bfs kd ad' σ' set' b n = (bfs kd ad σ set b n).set k v := by
  refine List.ext_getElem? (fun j => ?_)
  rw [List.getElem?_set, bfs_len]
  by_cases hj : k = j
  · subst hj
    rw [if_pos rfl, if_pos hk, bfs_at hk, h1]
  · rw [if_neg hj]
    by_cases hn : j < n
    · rw [bfs_at hn, bfs_at hn, h2 j hn (fun e => hj e.symm)]
    · rw [List.getElem?_eq_none (by rw [bfs_len]; omega), List.getElem?_eq_none (by rw [bfs_len]; omega)]
theorem bfs_all {kd : Nat → Nat} {ad : Nat → Nat} {σ : Sg} {set : List Nat} {b n : Nat} (h : ∀ j, j < n → kd (b + j) = 0 ∨ kd (b + j) = 4 ∨ b + j ∈ set) : bfs kd ad σ set b n = fvs kd ad σ b n :=
  List.map_congr_left fun k hk => by
    unfold bv
    rw [if_pos (h k (List.mem_range.mp hk))]
def WB (p : Program) (l : Launch) (e : Env) (R : Room) (s : State) (m : MethodId) (args : Array Value) (below : List Frame) (meth : Method) (c : Code) (G : Gm) (A : Nat → Prop) (kd : Nat → Nat) (B : Bm) (Q : State → Prop) (ad : Nat → Nat) (σ : Sg) (set arrs : List Nat) (pc : Nat) (stk : List Value) : Prop :=
  ∀ (H : Heap) (locs : List Loc) (ls : Array Slot), va_P G.1 clA (bw G kd B ad σ set arrs) H → va_D A (bw G kd B ad σ set arrs) → va_S A s.heap H locs → lv_has ls 1 [(0, .ref (ad B.2.2.2.1))] → W p l e R s m args below meth c H locs (gC σ) (gS σ) Q (F0 m pc ls stk)
section BL
variable {p : Program} {l : Launch} {e : Env} {R : Room} {s : State} {m : MethodId} {args : Array Value} {below : List Frame} {meth : Method} {c : Code} {G : Gm} {A : Nat → Prop} {kd : Nat → Nat} {ci b N ob : Nat} {Wr : va_W} {Q : State → Prop} {ad : Nat → Nat} {σ : Sg} {set arrs : List Nat} {pc : Nat} {stk : List Value} {cc : ByteArray} {own : String}
theorem bl_lift {pc' : Nat} {stk' : List Value} (h : ∀ (H : Heap) (locs : List Loc) (cells slots : Nat) (ls : Array Slot), lv_has ls 1 [(0, .ref (ad ob))] → W p l e R s m args below meth c H locs cells slots Q (F0 m pc' ls stk') → W p l e R s m args below meth c H locs cells slots Q (F0 m pc ls stk)) (k : WB p l e R s m args below meth c G A kd (ci, b, N, ob, Wr) Q ad σ set arrs pc' stk') : WB p l e R s m args below meth c G A kd (ci, b, N, ob, Wr) Q ad σ set arrs pc stk :=
  fun H locs ls hP hD hS hl => h H locs _ _ ls hl (k H locs ls hP hD hS hl)
theorem bl_aload (ok : OKx p s m args meth c (cc, own, 1, none) G clA A) (d : decode cc pc = .ok (.aload_n 0, 1)) (k : WB p l e R s m args below meth c G A kd (ci, b, N, ob, Wr) Q ad σ set arrs (pc + 1) (.ref (ad ob) :: stk)) : WB p l e R s m args below meth c G A kd (ci, b, N, ob, Wr) Q ad σ set arrs pc stk :=
  bl_lift (fun H locs cells slots ls hl w => lv_aload_n ok.1 ok.2.1 d rfl (lv_at hl 0 rfl) w) k
theorem bl_iconst (ok : OKx p s m args meth c (cc, own, 1, none) G clA A) {n : Int} (d : decode cc pc = .ok (.iconst n, 1)) (k : WB p l e R s m args below meth c G A kd (ci, b, N, ob, Wr) Q ad σ set arrs (pc + 1) (.int (Int32.ofInt n) :: stk)) : WB p l e R s m args below meth c G A kd (ci, b, N, ob, Wr) Q ad σ set arrs pc stk :=
  bl_lift (fun H locs cells slots ls hl w => lv_iconst ok.1 ok.2.1 d rfl w) k
theorem bl_bipush (ok : OKx p s m args meth c (cc, own, 1, none) G clA A) {n : Int} (hn : (Int8.ofInt n).toInt32 = Int32.ofInt n) (d : decode cc pc = .ok (.bipush n, 2)) (k : WB p l e R s m args below meth c G A kd (ci, b, N, ob, Wr) Q ad σ set arrs (pc + 2) (.int (Int32.ofInt n) :: stk)) : WB p l e R s m args below meth c G A kd (ci, b, N, ob, Wr) Q ad σ set arrs pc stk :=
  bl_lift (fun H locs cells slots ls hl w => lv_bipush ok.1 ok.2.1 d hn w) k
theorem bl_sipush (ok : OKx p s m args meth c (cc, own, 1, none) G clA A) {n : Int} (hn : (Int16.ofInt n).toInt32 = Int32.ofInt n) (d : decode cc pc = .ok (.sipush n, 3)) (k : WB p l e R s m args below meth c G A kd (ci, b, N, ob, Wr) Q ad σ set arrs (pc + 3) (.int (Int32.ofInt n) :: stk)) : WB p l e R s m args below meth c G A kd (ci, b, N, ob, Wr) Q ad σ set arrs pc stk :=
  bl_lift (fun H locs cells slots ls hl w => lv_sipush ok.1 ok.2.1 d hn w) k
theorem bl_ldc (ok : OKx p s m args meth c (cc, own, 1, none) G clA A) {n : Int} {i : Nat} {v : Int32} (hn : v = Int32.ofInt n) (hq : Cond.constant own i v ∈ lw_all) (d : decode cc pc = .ok (.ldc i, 2)) (k : WB p l e R s m args below meth c G A kd (ci, b, N, ob, Wr) Q ad σ set arrs (pc + 2) (.int (Int32.ofInt n) :: stk)) : WB p l e R s m args below meth c G A kd (ci, b, N, ob, Wr) Q ad σ set arrs pc stk :=
  bl_lift (fun H locs cells slots ls hl w => lv_ldc ok.1 ok.2.1 ok.2.2.2.1 (ok.2.2.2.2.1 _ hq) d (by subst hn; exact w)) k
theorem bl_ldcw (ok : OKx p s m args meth c (cc, own, 1, none) G clA A) {n : Int} {i : Nat} {v : Int32} (hn : v = Int32.ofInt n) (hq : Cond.constant own i v ∈ lw_all) (d : decode cc pc = .ok (.ldc_w i, 3)) (k : WB p l e R s m args below meth c G A kd (ci, b, N, ob, Wr) Q ad σ set arrs (pc + 3) (.int (Int32.ofInt n) :: stk)) : WB p l e R s m args below meth c G A kd (ci, b, N, ob, Wr) Q ad σ set arrs pc stk :=
  bl_lift (fun H locs cells slots ls hl w => lv_ldcw ok.1 ok.2.1 ok.2.2.2.1 (ok.2.2.2.2.1 _ hq) d (by subst hn; exact w)) k
variable {T : u_T} {index k id : Nat}
/-- a new array in a field -/
theorem bl_arr (ok : OKx p s m args meth c (cc, own, 1, none) G clA A) {atype : ArrayType} {ty : FieldType} {t0 n : Nat} {cA0 : ClassId} {a0 : vp_A} (hid : b + k = id) (hob : ob < 10) (hk : k < N) (hkd : kd id = 1 ∨ kd id = 2 ∨ kd id = 3) (h10 : ∀ j k, kd j = k + 5 → k < 10) (hs1 : id ∉ set) (hs2 : id ∉ arrs)
    (hcl : clA[ci]? = some (own, T, N)) (hin : ∀ w ∈ u_ws own T N, w ∈ lw_all) (ty0 : Nat → FieldType) (hty : ∀ k, k < N → parseFieldDescriptor (T k).2.2.1 = some (ty0 k)) (hnm : ∀ a, a < N → ∀ b, b < N → a ≠ b → (T a).2.1 ≠ (T b).2.1) (hC : (T k).1 = own) (hfin : (T k).2.2.2 = false ∨ ((T k).2.2.2 = true ∧ meth.name = "<init>")) (hq : Cond.fieldLink own index own (T k).2.1 (T k).2.2.1 ∈ lw_all)
    (hat : newarray.typeOf atype = ty) (hword : Cond.arrayClass (newarray.typeOf atype) ∈ lw_all) (htys : (tysA G)[t0]? = some (cA0, ty)) (hp : ∀ C, ty ≠ .object C) (hfty : ty0 k = .array ty) (harE : arE G kd (sN σ id n (fun _ => 0)) id = .inl (cA0, a0)) (ha : ∀ cA : ClassId, vp_cell cA a0 = arrV cA n (fun _ => defaultValue ty)) (hn : n < 1000000) (hby : componentBytes ty ≤ 8) (hc : gC σ + 1 ≤ R.cells) (hs : gS σ + n ≤ R.slots) (d1 : decode cc pc = .ok (.newarray atype, 2)) (d2 : decode cc (pc + 2) = .ok (.putfield index, 3))
    (kk : ∀ q, WB p l e R s m args below meth c G A kd (ci, b, N, ob, Wr) Q (va_up ad (10 + id) q) (sN σ id n (fun _ => 0)) (id :: set) (arrs ++ [id]) (pc + 2 + 3) stk) : WB p l e R s m args below meth c G A kd (ci, b, N, ob, Wr) Q ad σ set arrs pc (.int (Int32.ofInt (n : Int)) :: .ref (ad ob) :: stk) := by
  intro H locs ls hP hD hS hl
  have hx := ok.1
  have hb := ok.2.1
  have hts := ok.2.2.2.2.1
  have hK := ok.2.2.2.2.2.2.2.1
  obtain ⟨hn1, hn2, -⟩ := n_ofNat (n := n) (by omega)
  rw [Int32.ofInt_eq_ofNat]
  refine va_newa (atype := atype) hx hb (hts _ hword) hat hK hP hD hS ok.2.2.2.2.2.2.2.2 (a0 := a0) ha hn1 hn2 (by have := Nat.mul_le_mul_left n hby; omega) hc hs d1 (fun q cA H1 hK1 hP1 hD1 hS1 => ?_)
  have hcA : cA = cA0 := by
    have e1 := (hK1.2 3 (cA, ty) rfl).2
    have e2 := (hK.2 t0 (cA0, ty) htys).2
    cases ty with
    | object C => exact absurd rfl (hp C)
    | _ => exact Option.some.inj (e1.symm.trans e2)
  subst hcA
  have he : (bw G kd (ci, b, N, ob, Wr) ad σ set arrs ++ [(q, Sum.inl (cA, a0))])[0]? = some (ad ob, .inr (ci, bfs kd ad σ set b N)) := rfl
  have u1 : ∀ j, j ≠ 10 + id → va_up ad (10 + id) q j = ad j := fun j hj => by rw [va_up, if_neg hj]
  have u2 : va_up ad (10 + id) q (10 + id) = q := by rw [va_up, if_pos rfl]
  have ef : bfs kd (va_up ad (10 + id) q) (sN σ id n (fun _ => 0)) (id :: set) b N = (bfs kd ad σ set b N).set k (.ref q) := by
    refine bfs_set hk ?_ (fun j hj hne => ?_)
    · unfold bv
      rw [hid, if_pos (Or.inr (Or.inr List.mem_cons_self))]
      unfold fv
      rcases hkd with h | h | h <;> (rw [h]; show Value.ref _ = _; rw [u2])
    · unfold bv
      have hne' : b + j ≠ id := by omega
      have e1 : toV (va_up ad (10 + id) q) (fv kd (sN σ id n (fun _ => 0)) (b + j)) = toV ad (fv kd σ (b + j)) := fv_cg rfl rfl (u1 _ (by omega)) (fun z hz => u1 z (by have := h10 _ _ hz; omega))
      rw [e1]
      by_cases hz : kd (b + j) = 0 ∨ kd (b + j) = 4 ∨ b + j ∈ set
      · rw [if_pos hz, if_pos (by rcases hz with h | h | h; exact Or.inl h; exact Or.inr (Or.inl h); exact Or.inr (Or.inr (List.mem_cons_of_mem _ h)))]
      · rw [if_neg hz, if_neg (fun h => hz (by rcases h with h | h | h; exact Or.inl h; exact Or.inr (Or.inl h); exact Or.inr (Or.inr ((List.mem_cons.mp h).resolve_left hne'))))]
  have ea : arW G kd (va_up ad (10 + id) q) (sN σ id n (fun _ => 0)) (arrs ++ [id]) = arW G kd ad σ arrs ++ [(q, .inl (cA, a0))] := by
    unfold arW
    rw [List.map_append]
    congr 1
    · refine List.map_congr_left fun z hz => ?_
      have hne : z ≠ id := fun h => hs2 (h ▸ hz)
      rw [u1 _ (by omega), arE_cg (σ' := σ) rfl (by show va_up σ.2.1 id _ z = _; rw [va_up, if_neg hne])]
    · show [(va_up ad (10 + id) q (10 + id), arE G kd (sN σ id n (fun _ => 0)) id)] = _
      rw [u2, harE]
  have ew : (bw G kd (ci, b, N, ob, Wr) ad σ set arrs ++ [(q, Sum.inl (cA, a0))]).set 0 (ad ob, .inr (ci, (bfs kd ad σ set b N).set k (.ref q))) = bw G kd (ci, b, N, ob, Wr) (va_up ad (10 + id) q) (sN σ id n (fun _ => 0)) (id :: set) (arrs ++ [id]) := by
    show (ad ob, Sum.inr (ci, (bfs kd ad σ set b N).set k (.ref q))) :: ((Wr ++ arW G kd ad σ arrs) ++ [(q, Sum.inl (cA, a0))]) = (va_up ad (10 + id) q ob, .inr (ci, bfs kd (va_up ad (10 + id) q) (sN σ id n (fun _ => 0)) (id :: set) b N)) :: (Wr ++ arW G kd (va_up ad (10 + id) q) (sN σ id n (fun _ => 0)) (arrs ++ [id]))
    rw [ef, ea, u1 ob (by omega), List.append_assoc]
  have fin : ∀ (H2 : Heap) (locs2 : List Loc), va_P G.1 clA ((bw G kd (ci, b, N, ob, Wr) ad σ set arrs ++ [(q, Sum.inl (cA, a0))]).set 0 (ad ob, .inr (ci, (bfs kd ad σ set b N).set k (.ref q)))) H2 → va_D A ((bw G kd (ci, b, N, ob, Wr) ad σ set arrs ++ [(q, Sum.inl (cA, a0))]).set 0 (ad ob, .inr (ci, (bfs kd ad σ set b N).set k (.ref q)))) → va_S A s.heap H2 locs2 → W p l e R s m args below meth c H2 locs2 (gC σ + 1) (gS σ + n) Q (F0 m (pc + 2 + 3) ls stk) := fun H2 locs2 hP2 hD2 hS2 => by
    rw [ew] at hP2 hD2
    exact kk q H2 locs2 ls hP2 hD2 hS2 (by rw [u1 ob (by omega)]; exact hl)
  rcases hfin with hfin | ⟨hfin, hini⟩
  · exact va_put hx hb hts hin ty0 hty hnm ok.2.2.2.1 hK hP1 hD1 hS1 0 he hcl k hk (hts _ hq) (fun x h => by rw [← hC]; exact h) hfin ((hty k hk).trans (by rw [hfty])) rfl rfl (by rw [bfs_len]; exact hk) d2 fin
  · exact va_putF hx hb hts hin ty0 hty hnm ok.2.2.2.1 hK hP1 hD1 hS1 0 he hcl k hk (hts _ hq) (fun x h => by rw [← hC]; exact h) hfin hini hC ((hty k hk).trans (by rw [hfty])) rfl rfl (by rw [bfs_len]; exact hk) d2 fin
/-- a number in a field -/
theorem bl_int (ok : OKx p s m args meth c (cc, own, 1, none) G clA A) {v : Int} (hid : b + k = id) (hk : k < N) (hkd : kd id = 0) 
    (hcl : clA[ci]? = some (own, T, N)) (hin : ∀ w ∈ u_ws own T N, w ∈ lw_all) (ty0 : Nat → FieldType) (hty : ∀ k, k < N → parseFieldDescriptor (T k).2.2.1 = some (ty0 k)) (hnm : ∀ a, a < N → ∀ b, b < N → a ≠ b → (T a).2.1 ≠ (T b).2.1) (hC : (T k).1 = own) (hfin : (T k).2.2.2 = false) (hq : Cond.fieldLink own index own (T k).2.1 (T k).2.2.1 ∈ lw_all) (hfty : ty0 k = .int) (d2 : decode cc pc = .ok (.putfield index, 3))
    (kk : WB p l e R s m args below meth c G A kd (ci, b, N, ob, Wr) Q ad (sI σ id v) set arrs (pc + 3) stk) : WB p l e R s m args below meth c G A kd (ci, b, N, ob, Wr) Q ad σ set arrs pc (.int (Int32.ofInt v) :: .ref (ad ob) :: stk) := by
  intro H locs ls hP hD hS hl
  have hts := ok.2.2.2.2.1
  have he : (bw G kd (ci, b, N, ob, Wr) ad σ set arrs)[0]? = some (ad ob, .inr (ci, bfs kd ad σ set b N)) := rfl
  have ef : bfs kd ad (sI σ id v) set b N = (bfs kd ad σ set b N).set k (.int (Int32.ofInt v)) := by
    refine bfs_set hk ?_ (fun j hj hne => ?_)
    · unfold bv
      rw [hid, if_pos (Or.inl hkd)]
      unfold fv
      rw [hkd]
      show Value.int (Int32.ofInt (gI (sI σ id v) id)) = _
      rw [gI_sI, if_pos rfl]
    · unfold bv
      rw [fv_cg (σ' := σ) (ad' := ad) rfl (by rw [gI_sI, if_neg (by omega)]) rfl (fun _ _ => rfl)]
  have ew : (bw G kd (ci, b, N, ob, Wr) ad σ set arrs).set 0 (ad ob, .inr (ci, (bfs kd ad σ set b N).set k (.int (Int32.ofInt v)))) = bw G kd (ci, b, N, ob, Wr) ad (sI σ id v) set arrs := by
    show (ad ob, Sum.inr (ci, (bfs kd ad σ set b N).set k (.int (Int32.ofInt v)))) :: (Wr ++ arW G kd ad σ arrs) = (ad ob, .inr (ci, bfs kd ad (sI σ id v) set b N)) :: (Wr ++ arW G kd ad (sI σ id v) arrs)
    rw [ef]
    rfl
  refine va_put ok.1 ok.2.1 hts hin ty0 hty hnm ok.2.2.2.1 ok.2.2.2.2.2.2.2.1 hP hD hS 0 he hcl k hk (hts _ hq) (fun x h => by rw [← hC]; exact h) hfin ((hty k hk).trans (by rw [hfty])) rfl rfl (by rw [bfs_len]; exact hk) d2 (fun H2 locs2 hP2 hD2 hS2 => ?_)
  rw [ew] at hP2 hD2
  exact kk H2 locs2 ls hP2 hD2 hS2 hl
end BL
