/-! face: apply -/
theorem tree_fs (ν : Nat → Nat) (u : Sg) {k : Int} (h1 : k ≠ 1) (h2 : k ≠ 2) (hf : fsT k = 1) (h8 : nk k ≠ 8) (w : Nat) (l : List Nat) : treeT ν u (k, (w : Int) :: l.map (fun (x : Nat) => (x : Int))) = mk (nk k) w (l.map (trT ν u)) := by
  have e : labT ν (k, (w : Int) :: l.map (fun (x : Nat) => (x : Int))) = (nk k, w, l) := by
    unfold labT
    dsimp only
    rw [if_neg h1, if_neg h2, if_pos hf]
    have : (l.map (fun (x : Nat) => (x : Int))).map Int.toNat = l := by
      rw [List.map_map]
      have : (Int.toNat ∘ fun (x : Nat) => (x : Int)) = id := funext fun x => rfl
      rw [this, List.map_id]
    simp only [List.drop_succ_cons, List.drop_zero, this]
    rfl
  unfold treeT
  rw [e]
  unfold pmp
  dsimp only
  rw [if_neg h8]
theorem fpt_fs {k : Int} (h7 : k ≠ 7) (h1 : k ≠ 1) (h2 : k ≠ 2) (h3 : k ≠ 3) (h8 : k ≠ 8) (hf : fsT k = 1) {w : Int} {l : List Int} : fptT (k, w :: l) = l := by
  unfold fptT
  dsimp only
  rw [if_neg h7, if_neg (by omega), hf]
  rfl
theorem DnodT : ∀ k, k = 0 ∨ (17 ≤ k ∧ k ≤ 82) → (DX3_node ||| DX3_give).testBit k = false := fun k hk => by
  rcases hk with q | q
  · rw [q]; decide +kernel
  · exact (by decide +kernel : ∀ k, k ≤ 82 → 17 ≤ k → (DX3_node ||| DX3_give).testBit k = false) k q.2 q.1
/-- a node with a number and terms, in the model -/
theorem nodF {d : Nat} (hd : 6 ≤ d) {c : Nat} {u u1 : Sg} {k : Int} {w : Nat} {l : List Nat} {X : Nat → Prop} (h : Hand nt2 c u u1 ((w : Int) :: l.map (fun (x : Nat) => (x : Int)))) (hk : k = 4 ∨ k = 11 ∨ k = 12) (hl2 : l.length ≤ 2) (hfm : ∀ x ∈ l, x ≤ nT u) (hX : X (mk (nk k) w (l.map (trT nt2 u)))) (hl : LimT nt2 u X) (hs : ST nt2 c u) : wp (runT d 5 [k, (hT u : Int)] u1) (RvT nt2 c (DX3_node ||| DX3_give) u (mk (nk k) w (l.map (trT nt2 u))) X) := by
  have hf : fsT k = 1 := by unfold fsT; rw [if_pos (by omega)]
  have h8 : nk k ≠ 8 := by rcases hk with q | q | q <;> rw [q] <;> decide
  have et := tree_fs nt2 u (k := k) (by omega) (by omega) hf h8 w l
  have := tX3_node (d := d) (X := X) (k := k) hd h (okR_g (by omega) (by simp) (by simp; omega)) (fun v hv => by
    rcases List.mem_cons.mp hv with q | q
    · omega
    · obtain ⟨x, _, e⟩ := List.mem_map.mp q
      omega) (fun p hp => by
    rw [fpt_fs (by omega) (by omega) (by omega) (by omega) (by omega) hf] at hp
    obtain ⟨x, hx, e⟩ := List.mem_map.mp hp
    have := hfm x hx
    omega) (fun q => by omega) (fun q => by omega) (by simp; omega) (by rw [et]; exact hX) hl hs (D := DX3_node ||| DX3_give) (by decide +kernel) (h.2.2.2.2.2.2.sub (by decide +kernel))
  rw [et] at this
  exact this
def okAp (W : Wd) (Fo : List Nat) (f s t : Int) : Prop := (0 ≤ f ∧ f < (wnF W : Int)) ∧ okA Fo ((4 : Nat) ≠ 4) (wfM W f.toNat) s t
theorem cApp {d : Nat} (hd : 310 ≤ d) {W : Wd} {c : Nat} {Fo Pr : List Nat} {lc : Nat} {K : Int} {u : Sg} {X : Nat → Prop} (h : ReC W c Fo Pr lc K u) (hW : WOK W (Nm nu2 c)) (hF : FoP Fo) (h9 : 0 ≤ gI u 99 ∧ gI u 99 < 1000000) (hFl : Fo.length < 400) (hK : K < 1000000) (f s t : Int) (hl : Lim nu2 u X) (h5 : P5u u X) (hX : X (mk 4 f.toNat (argA Fo (wfM W f.toNat) s t))) : wp (runC d 21 [f, s, t] u) (FkC (okAp W Fo f s t) (mk 4 f.toNat (argA Fo (wfM W f.toNat) s t)) W c Fo Pr lc K u X) := by
  obtain ⟨d, rfl⟩ : ∃ e, d = e + 1 := ⟨d - 1, by omega⟩
  rw [runC_eq (by omega)]
  show wp (bX1_apply (runC d) f s t u) _
  unfold bX1_apply jn
  dsimp only
  obtain ⟨h74, h30, h71, h72, hen⟩ := h.1.2.2.2.2.1
  by_cases f0 : f < 0
  · rw [if_pos f0]; exact FkC.nb (by omega) h h9 (fun q => by have := q.1; omega) _
  rw [if_neg f0, wp_un, h74]
  by_cases f1 : f < (wnF W : Int)
  · rw [if_pos f1, cl_eq (need_ok (by omega)), pr_0, wp_ld]
    refine ⟨⟨by omega, by rw [h71]; omega⟩, ?_⟩
    have hfn : f.toNat < wnF W := by omega
    have hm2 := (hW.2.2.1 _ hfn).2.2
    rw [show gA u 71 f = ((wfM W f.toNat : Nat) : Int) from (hen f.toNat hfn).1]
    have := cMade (d := d) (k := 4) (w := f.toNat) (m := wfM W f.toNat) (X := X) (by omega) h hF h9 hFl hK (Or.inl rfl) (by omega) hm2 s t hl h5 hX
    rw [show ((f.toNat : Nat) : Int) = f by omega] at this
    refine wp_call this (fun r u' q => ?_)
    have e : exB = 1099511627776 := rfl
    rcases q with ⟨a1, a2, a3, a4⟩ | ⟨a1, a2, a3, a4⟩ | ⟨a1, a2, a3⟩
    · rw [pr_n (by omega), wp_some]
      exact Or.inl ⟨⟨⟨by omega, f1⟩, a1⟩, a2, a3, a4⟩
    · rw [a3, pr_x (by decide), wp_some]
      exact Or.inr (Or.inl ⟨⟨⟨by omega, f1⟩, a1⟩, a2, rfl, a4⟩)
    · rw [a2, pr_x (by decide), wp_some]
      exact Or.inr (Or.inr ⟨fun q => a1 q.2, rfl, a3⟩)
  · rw [if_neg f1]; exact FkC.nb (by omega) h h9 (fun q => f1 q.1.2) _
theorem argA_sz {Fo : List Nat} (hF : FoP Fo) {cl : Prop} {m : Nat} (hm : m ≤ 2) {s t : Int} (h : okA Fo cl m s t) {k w : Nat} (h8 : k ≠ 8) : szT (mk k w (argA Fo m s t)) ≤ 401 := by
  rw [szT_eq]
  unfold szS
  rw [kd_mk, ps_mk]
  split
  · omega
  · unfold argA
    have hm3 : m = 0 ∨ m = 1 ∨ m = 2 := by omega
    rcases hm3 with rfl | rfl | rfl
    · simp
    · have := (hF _ (h.1.1 (by omega)).1.mem).2.1
      simp; omega
    · have := (hF _ (h.1.1 (by omega)).1.mem).2.1
      have := (hF _ (h.2.1 (by omega)).1.mem).2.1
      simp; omega
theorem argA_mem {Fo : List Nat} {cl : Prop} {m : Nat} (hm : m ≤ 2) {s t : Int} (h : okA Fo cl m s t) {a : Nat} (ha : a ∈ argA Fo m s t) : ∃ i, isS Fo 0 i ∧ a = frm Fo i ∧ (cl → lvL a 0) := by
  have hm3 : m = 0 ∨ m = 1 ∨ m = 2 := by omega
  unfold argA at ha
  rcases hm3 with rfl | rfl | rfl
  · simp at ha
  · simp at ha
    rw [ha]
    obtain ⟨q1, q2⟩ := h.1.1 (by omega)
    exact ⟨s, q1, rfl, q2⟩
  · simp at ha
    rcases ha with e | e
    · rw [e]
      obtain ⟨q1, q2⟩ := h.1.1 (by omega)
      exact ⟨s, q1, rfl, q2⟩
    · rw [e]
      obtain ⟨q1, q2⟩ := h.2.1 (by omega)
      exact ⟨t, q1, rfl, q2⟩
theorem argA_len {Fo : List Nat} {m : Nat} (hm : m ≤ 2) {s t : Int} : (argA Fo m s t).length = m := by
  have hm3 : m = 0 ∨ m = 1 ∨ m = 2 := by omega
  unfold argA
  rcases hm3 with rfl | rfl | rfl <;> rfl
theorem fms_arg {Fo : List Nat} {k w m : Nat} {s t : Int} {c : Nat} (hc : c ∈ fms (mk k w (argA Fo m s t))) : c ∈ argA Fo m s t := by
  have := (fms_ps hc).1
  rw [ps_mk] at this
  exact this
theorem fW_fun {W : Wd} {N : Nat → Prop} {Fo : List Nat} (hF : FoW W N Fo) {cl : Prop} {f : Nat} {s t : Int} (hm : wfM W f ≤ 2) (hf : f < wnF W) (h : okA Fo cl (wfM W f) s t) : fW W N (mk 4 f (argA Fo (wfM W f) s t)) := by
  have hl := argA_len (Fo := Fo) hm (s := s) (t := t)
  refine ⟨fr_mk ⟨by rw [kd_mk, wh_mk, ps_mk], ?_⟩ ?_ (fun c hc => ?_), lo_mk0 (by rw [kd_mk]; decide) (fun c hc => ?_), fun q => by unfold isFo at q; rw [kd_mk] at q; omega⟩
  · rw [kd_mk, wh_mk, ps_mk]
    exact Or.inr (Or.inr (Or.inr (Or.inl ⟨rfl, by rw [hl]; exact hm, fun c hc => by
      obtain ⟨i, q1, q2, _⟩ := argA_mem hm h hc
      rw [q2]; exact q1.tm⟩)))
  · unfold lcW
    rw [kd_mk, wh_mk, ps_mk]
    exact ⟨fun q => by omega, fun _ => ⟨hf, hl⟩, fun q => by omega, fun q => by omega, fun q => by omega, fun q => by omega⟩
  · obtain ⟨i, q1, q2, _⟩ := argA_mem hm h (fms_arg hc)
    rw [q2]; exact (hF _ q1.mem).1.1
  · obtain ⟨i, q1, q2, _⟩ := argA_mem hm h (fms_arg hc)
    rw [q2]; exact (hF _ q1.mem).1.2.1
