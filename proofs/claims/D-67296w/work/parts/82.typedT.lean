/-! a type put together, in the model: its adjectives lie in order -/
theorem sA_id (σ : Sg) (k i : Nat) : sA σ k (i : Int) (gN σ k i) = σ := by
  have e : va_up (gF σ k) ((i : Int).toNat) (gN σ k i) = gF σ k := by
    funext p
    unfold va_up
    by_cases h : p = (i : Int).toNat
    · rw [if_pos h, h]; rfl
    · rw [if_neg h]
  have e2 : va_up σ.2.1 k (gL σ k, gF σ k) = σ.2.1 := by
    funext p
    unfold va_up
    by_cases h : p = k
    · rw [if_pos h, h]; rfl
    · rw [if_neg h]
  unfold sA
  rw [e, e2]
theorem sI_id (σ : Sg) (k : Nat) : sI σ k (gI σ k) = σ := by
  have e : va_up σ.1 k (gI σ k) = σ.1 := by
    funext p
    unfold va_up
    by_cases h : p = k
    · rw [if_pos h, h]; rfl
    · rw [if_neg h]
  unfold sI
  rw [e]
theorem typedT_L31 {d : Nat} {u : Sg} {b n i f : Nat} {a1 a2 : Int} {Q : Int → Sg → Prop} (hl : b + n ≤ gL u 12) (hbn : b + n ≤ 60000) (hi : i < n) (hasc : ∀ q, q + 1 < n → gN u 12 (b + q) < gN u 12 (b + q + 1)) (hf : 0 < f) (xx : Int → Int → Int → Int → Int → Int → Int → Sg → Option (Int × Sg)) (k : wp (xx a1 a2 (b : Int) ((b + n : Nat) : Int) ((b + i : Nat) : Int) (gN u 12 (b + i)) ((b + i : Nat) : Int) u) Q) : wp (bX3_typed_L31 (runT d) f a1 a2 (b : Int) ((b + n : Nat) : Int) ((b + i : Nat) : Int) (gN u 12 (b + i)) ((b + i : Nat) : Int) u xx) Q := by
  obtain ⟨f, rfl⟩ : ∃ f', f = f' + 1 := ⟨f - 1, by omega⟩
  rw [bX3_typed_L31]
  refine wp_ite (fun _ => k) (fun h => ?_)
  rw [wp_ar]
  refine ⟨⟨by omega, by omega⟩, ?_⟩
  have := hasc (i - 1) (by omega)
  rw [show b + (i - 1) + 1 = b + i by omega] at this
  rw [show ((b + i : Nat) : Int) - 1 = ((b + (i - 1) : Nat) : Int) by omega, ld_nat (by omega), if_pos (by omega)]
  exact k
theorem typedT_L11 {d : Nat} {u : Sg} {b n : Nat} {a1 a2 : Int} {Q : Int → Sg → Prop} (hl : b + n ≤ gL u 12) (hbn : b + n ≤ 60000) (hasc : ∀ q, q + 1 < n → gN u 12 (b + q) < gN u 12 (b + q + 1)) : ∀ (m i f : Nat), (i + m = n ∨ (n < i ∧ m = 0)) → m < f → 1 ≤ i → ∀ xx : Int → Int → Int → Int → Sg → Option (Int × Sg), wp (xx a1 a2 (b : Int) ((b + n : Nat) : Int) u) Q → wp (bX3_typed_L11 (runT d) f a1 a2 (b : Int) ((b + n : Nat) : Int) ((b + i : Nat) : Int) u xx) Q := by
  intro m
  induction m with
  | zero =>
    intro i f hi hf h1 xx k
    obtain ⟨f, rfl⟩ : ∃ f', f = f' + 1 := ⟨f - 1, by omega⟩
    rw [bX3_typed_L11, if_neg (by omega)]
    exact k
  | succ m ih =>
    intro i f hi hf h1 xx k
    obtain ⟨f, rfl⟩ : ∃ f', f = f' + 1 := ⟨f - 1, by omega⟩
    have hKF := KF_big
    rw [bX3_typed_L11, if_pos (by omega), ld_nat (by omega)]
    refine typedT_L31 hl hbn (by omega) hasc (by omega) _ ?_
    rw [stA_pos ⟨by omega, by omega⟩, sA_id, wp_ar]
    refine ⟨⟨by omega, by omega⟩, ?_⟩
    rw [show ((b + i : Nat) : Int) + 1 = ((b + (i + 1) : Nat) : Int) by omega]
    exact ih (i + 1) f (by omega) (by omega) (by omega) xx k
theorem typedT_L94 {d : Nat} {u : Sg} {b n : Nat} {a1 a2 : Int} {Q : Int → Sg → Prop} (hl : b + n ≤ gL u 12) (hbn : b + n ≤ 60000) (hasc : ∀ q, q + 1 < n → gN u 12 (b + q) < gN u 12 (b + q + 1)) : ∀ (m i f : Nat), i + m = n → m < f → ∀ xx : Int → Int → Int → Int → Sg → Option (Int × Sg), wp (xx a1 a2 (b : Int) ((b + n : Nat) : Int) u) Q → wp (bX3_typed_L94 (runT d) f a1 a2 (b : Int) ((b + n : Nat) : Int) ((b + i : Nat) : Int) ((b + i : Nat) : Int) u xx) Q := by
  intro m
  induction m with
  | zero =>
    intro i f hi hf xx k
    obtain ⟨f, rfl⟩ : ∃ f', f = f' + 1 := ⟨f - 1, by omega⟩
    have e : i = n := by omega
    subst e
    rw [bX3_typed_L94, if_neg (by omega)]
    exact k
  | succ m ih =>
    intro i f hi hf xx k
    obtain ⟨f, rfl⟩ : ∃ f', f = f' + 1 := ⟨f - 1, by omega⟩
    have nxt : wp (ar (((b + i : Nat) : Int) + 1) fun v3 => ld u 12 ((b + i : Nat) : Int) fun v4 => stA u 12 ((b + i : Nat) : Int) v4 fun s5 => ar (((b + i : Nat) : Int) + 1) fun v6 => bX3_typed_L94 (runT d) f a1 a2 (b : Int) ((b + n : Nat) : Int) v3 v6 s5 xx) Q := by
      rw [wp_ar]
      refine ⟨⟨by omega, by omega⟩, ?_⟩
      rw [ld_nat (by omega), stA_pos ⟨by omega, by omega⟩, sA_id, wp_ar]
      refine ⟨⟨by omega, by omega⟩, ?_⟩
      rw [show ((b + i : Nat) : Int) + 1 = ((b + (i + 1) : Nat) : Int) by omega]
      exact ih (i + 1) f (by omega) (by omega) xx k
    rw [bX3_typed_L94, if_pos (by omega), wp_jn]
    refine wp_ite (fun h => nxt) (fun h => ?_)
    have := hasc (i - 1) (by omega)
    rw [show b + (i - 1) + 1 = b + i by omega] at this
    have key : ∀ v8 : Int, v8 = ((b + (i - 1) : Nat) : Int) → wp (ld u 12 v8 fun v9 => if gN u 12 (b + i) = v9 then (ar (((b + i : Nat) : Int) + 1) fun v10 => bX3_typed_L94 (runT d) f a1 a2 (b : Int) ((b + n : Nat) : Int) ((b + i : Nat) : Int) v10 u xx) else (ar (((b + i : Nat) : Int) + 1) fun v3 => ld u 12 ((b + i : Nat) : Int) fun v4 => stA u 12 ((b + i : Nat) : Int) v4 fun s5 => ar (((b + i : Nat) : Int) + 1) fun v6 => bX3_typed_L94 (runT d) f a1 a2 (b : Int) ((b + n : Nat) : Int) v3 v6 s5 xx)) Q := fun v8 e => by
      subst e
      rw [ld_nat (by omega), if_neg (by omega)]
      exact nxt
    rw [ld_nat (by omega), wp_ar]
    exact ⟨⟨by omega, by omega⟩, key _ (by omega)⟩
theorem typedT_L174 {d : Nat} (hd : 3 ≤ d) {ν : Nat → Nat} {c : Nat} {u0 : Sg} {b : Nat} {L : List Nat} {vs : List Int} {a6 : Int} {Q : Int → Sg → Prop} (hrc : hT u0 = b + L.length) (hrow : ∀ (q v : Nat), L[q]? = some v → gN u0 12 (b + q) = (v : Int)) (hsm : ∀ v ∈ L, v < 1000000) (hr : hT u0 + vs.length + L.length ≤ 29000) : ∀ (m i f : Nat) (u : Sg), i + m = L.length → m < f → Hand ν c u0 u (vs ++ (L.take i).map (fun (v : Nat) => (v : Int))) → ∀ xx : Int → Int → Sg → Option (Int × Sg), (∀ u2, Hand ν c u0 u2 (vs ++ L.map (fun (v : Nat) => (v : Int))) → wp (xx (b : Int) a6 u2) Q) → wp (bX3_typed_L174 (runT d) f (b : Int) ((b + L.length : Nat) : Int) a6 ((b + i : Nat) : Int) u xx) Q := by
  intro m
  induction m with
  | zero =>
    intro i f u hi hf hH xx k
    obtain ⟨f, rfl⟩ : ∃ f', f = f' + 1 := ⟨f - 1, by omega⟩
    rw [bX3_typed_L174, if_neg (by omega)]
    rw [List.take_of_length_le (by omega)] at hH
    exact k u hH
  | succ m ih =>
    intro i f u hi hf hH xx k
    obtain ⟨f, rfl⟩ : ∃ f', f = f' + 1 := ⟨f - 1, by omega⟩
    have hil : i < L.length := by omega
    have hget : L[i]? = some L[i] := List.getElem?_eq_getElem hil
    have hv := hrow i _ hget
    have hs := hsm _ (List.mem_of_getElem? hget)
    have hh := hH.2.2.1
    rw [List.length_append, List.length_map, List.length_take] at hh
    have hr2 := hH.1.r
    have hold : gN u 12 (b + i) = (L[i] : Int) := by rw [hH.2.2.2.2.1 _ (by omega)]; exact hv
    rw [bX3_typed_L174, if_pos (by omega), ld_nat (by omega), hold]
    refine wp_call (tX3_give hd hH ⟨by omega, by omega⟩ (by omega)) (fun _ u2 hH2 => ?_)
    rw [wp_ar]
    refine ⟨⟨by omega, by omega⟩, ?_⟩
    rw [show ((b + i : Nat) : Int) + 1 = ((b + (i + 1) : Nat) : Int) by omega]
    refine ih (i + 1) f u2 (by omega) (by omega) ?_ xx k
    rw [List.take_add_one, hget, List.map_append, ← List.append_assoc]
    exact hH2
theorem tree_type (ν : Nat → Nat) (u : Sg) (m x : Nat) (L : List Nat) : treeT ν u (7, (m : Int) :: (x : Int) :: L.map (fun (v : Nat) => (v : Int))) = mk 8 m (trT ν u x :: L) := by
  unfold treeT
  have e : labT ν (7, (m : Int) :: (x : Int) :: L.map (fun (v : Nat) => (v : Int))) = (8, m, x :: L) := by
    unfold labT
    simp [fsT, nk, hd0]
    rw [show (Int.toNat ∘ fun (y : Nat) => (y : Int)) = id from funext fun y => by simp, List.map_id]
  rw [e]
  unfold pmp
  simp
theorem tX3_typed {d : Nat} (hd : 7 ≤ d) {ν : Nat → Nat} {c : Nat} {u : Sg} {m x b : Nat} {L : List Nat} {X : Nat → Prop} (hw : WF FT u) (hs : ST ν c u) (hrc : hT u = b + L.length) (hrow : ∀ (q v : Nat), L[q]? = some v → gN u 12 (b + q) = (v : Int)) (hasc : ∀ (q a b : Nat), L[q]? = some a → L[q + 1]? = some b → a < b) (hsm : ∀ v ∈ L, v < 1000000) (hLn : L.length ≤ 900) (hb : hT u ≤ 27000) (hx : x ≤ nT u) (hm : m < 2147483648) (hX : X (mk 8 m (trT ν u x :: L))) (hl : LimT ν u X) :
    wp (runT d 2 [(m : Int), (x : Int), (b : Int)] u) (RvA ν c DX3_typed u b (mk 8 m (trT ν u x :: L)) X) := by
  obtain ⟨d, rfl⟩ : ∃ d', d = d' + 1 := ⟨d - 1, by omega⟩
  rw [runT_eq (by omega)]
  show wp (bX3_typed (runT d) m x b u) _
  unfold bX3_typed
  have hr := hs.r
  have hbd := hl.n hs
  have hKF := KF_big
  have hasc' : ∀ q, q + 1 < L.length → gN u 12 (b + q) < gN u 12 (b + q + 1) := fun q hq => by
    have h1 := List.getElem?_eq_getElem (l := L) (i := q) (by omega)
    have h2 := List.getElem?_eq_getElem (l := L) (i := q + 1) hq
    have := hasc q _ _ h1 h2
    rw [hrow q _ h1, Nat.add_assoc, hrow (q + 1) _ h2]; omega
  rw [wp_un, hr.1, wp_ar]
  refine ⟨⟨by omega, by omega⟩, ?_⟩
  rw [show (hT u : Int) = ((b + L.length : Nat) : Int) by omega, show (b : Int) + 1 = ((b + 1 : Nat) : Int) by omega]
  refine typedT_L11 (by omega) (by omega) hasc' (L.length - 1) 1 KF (by omega) (by omega) (Nat.le_refl _) _ ?_
  refine typedT_L94 (by omega) (by omega) hasc' L.length 0 KF (by omega) (by omega) _ ?_
  rw [wp_un, wp_un]
  have eh : sI u 13 ((b + L.length : Nat) : Int) = u := by
    have := sI_id u 13
    rw [hr.1, hrc] at this
    exact this
  rw [eh, hr.1]
  refine wp_call (tX3_give (by omega) (Hand.rf hs hw) ⟨by omega, by omega⟩ (by omega)) (fun _ u1 h1 => ?_)
  have hh1 := h1.2.2.1
  refine wp_call (tX3_give (by omega) h1 ⟨by omega, by omega⟩ (by simp at hh1; omega)) (fun _ u2 h2 => ?_)
  refine typedT_L174 (by omega) (vs := [(m : Int), (x : Int)]) hrc hrow hsm (by simp; omega) L.length 0 KF u2 (by omega) (by omega) (by simpa using h2) _ (fun u3 h3 => ?_)
  have et := tree_type ν u m x L
  have hnode := tX3_node (d := d) (X := X) (D := DX3_typed) (k := 7) (vs := (m : Int) :: (x : Int) :: L.map (fun (v : Nat) => (v : Int))) (by omega) h3 (by simp [okR]; omega) (fun v hv => by
      simp at hv
      rcases hv with q | q | ⟨w, _, q⟩ <;> omega) (fun p hp => by
      unfold fptT at hp
      rw [if_pos rfl] at hp
      simp at hp
      omega) (fun q => by cases q) (fun q => by cases q) (by simp; omega) (by rw [et]; exact hX) hl hs (by decide) (Gr.sub (by decide) h3.2.2.2.2.2.2)
  rw [et] at hnode
  refine wp_call hnode (fun r u' ⟨y, q1, q2, q3, q4, q5, q6, q7⟩ => ?_)
  rw [wp_un, wp_some, q1]
  have hr' := q5.1.r
  exact RvA.set q2 q3 q4 q5.1 q5.2.1 q5.2.2.1 (by have := q5.2.2.2.1; omega) (fun i hi => q5.2.2.2.2 i (by omega)) q6 q7 (by decide) (by decide)
theorem tX3_plain {d : Nat} (hd : 8 ≤ d) {ν : Nat → Nat} {c : Nat} {u : Sg} {m x : Nat} {X : Nat → Prop} (hw : WF FT u) (hs : ST ν c u) (hb : hT u ≤ 27000) (hx : x ≤ nT u) (hm : m < 2147483648) (hX : X (mk 8 m [trT ν u x])) (hl : LimT ν u X) :
    wp (runT d 1 [(m : Int), (x : Int)] u) (RvT ν c DX3_plain u (mk 8 m [trT ν u x]) X) := by
  obtain ⟨d, rfl⟩ : ∃ d', d = d' + 1 := ⟨d - 1, by omega⟩
  rw [runT_eq (by omega)]
  show wp (bX3_plain (runT d) m x u) _
  unfold bX3_plain
  rw [wp_un, hs.r.1]
  refine wp_call (tX3_typed (L := []) (X := X) (by omega) hw hs (by simp) (fun q v h => by simp at h) (fun q a b h => by simp at h) (fun v h => by cases h) (by simp) hb hx hm hX hl) (fun res u' ⟨y, b1, b2, b3, b4, b5, b6, b7, b8, b9⟩ => ?_)
  rw [wp_some]
  exact ⟨y, b1, b2, b3, b4, ⟨b5.1, b5.2.1, b5.2.2, b6, b7⟩, b8, b9.sub (by decide)⟩
