/-! face: forms of terms, in the class -/
theorem pm_0 {d : Nat} (hd : 7 ≤ d) {c : Nat} {u : Sg} {k w : Nat} {X : Nat → Prop} (hw : WF FC u) (hs : SC nu2 c u) (hk : k ≤ 30) (hk1 : k ≠ 1) (hk8 : k ≠ 8) (hw2 : w < 1000000) (hX : X (mk k w [])) (hl : Lim nu2 u X) : wp (runC d 94 [(k : Int), (w : Int), (rC u : Int)] u) (RsT nu2 c DX2_pair u (mk k w []) X) := by
  have er : rowC u (rC u) = [] := row_nil
  have et : rowT nu2 u k (rC u) = [] := by
    unfold rowT pmp
    rw [er, if_neg hk8]; rfl
  refine wp_mono (tX2_make (X := X) (by omega) hw hs hk (by omega) (fun _ => hw2) (fun h => absurd h hk1) (Nat.le_refl _) (fun v hv => ?_) (fun p hp => ?_) (by omega) ?_ hl) (fun r2 u2 ⟨y, e2, y0, hy, s2, t2, o2, n2, x2, nd2, rr2, row2, w2, g2⟩ => ?_)
  · rw [er] at hv; cases hv
  · have := fptR_sub hp
    rw [show ((k : Int), (w : Int), rowC u (rC u)).2.2 = rowC u (rC u) from rfl, er] at this
    cases this
  · rw [et, if_neg hk1]; exact hX
  · exact ⟨y, e2, y0, hy, by rw [t2, et, if_neg hk1], ⟨s2.1, s2.2.1, s2.2.2, x2, nd2, rr2, row2⟩, w2, g2.sub (by decide +kernel)⟩
theorem pm_1 {d : Nat} (hd : 7 ≤ d) {c : Nat} {u : Sg} {k w x : Nat} {X : Nat → Prop} {KK : Int → Int → Int → Sg → Option (Int × Sg)} {Q : Int → Sg → Prop} (hw : WF FC u) (hs : SC nu2 c u) (hk : k ≤ 30) (hk1 : k ≠ 1) (hk8 : k ≠ 8) (hw2 : w < 1000000) (hx : x < nC u) (h5 : rC u ≤ 30000) (hX : X (mk k w [trC nu2 u x])) (hl : Lim nu2 u X) (hK : ∀ r u', RsT nu2 c DX2_pair u (mk k w [trC nu2 u x]) X r u' → wp (KK r (nC u : Int) (pC u : Int) u') Q) : wp (cl (runC d 97 [(x : Int)] u) fun _ s => un (gI s 9) fun v1 => un (gI s 10) fun v2 => cl (runC d 94 [(k : Int), (w : Int), (rC u : Int)] s) fun r s2 => KK r v1 v2 s2) Q := by
  have hb := hl.n hs
  refine wp_call (tX2_push (by omega) hw hs ⟨by omega, by omega⟩ h5) (fun r1 u1 ⟨s1, e1, r1', p1, p2, w1, g1⟩ => ?_)
  rw [wp_un, wp_un, show gI u1 9 = (nC u : Int) by rw [s1.1.1.1.1, e1.n], show gI u1 10 = (pC u : Int) by rw [e1.2 10 (by decide)]; exact hs.1.1.2.1.1]
  have er : rowC u1 (rC u) = [(x : Int)] := by rw [row_push r1' p1 p2 (Nat.le_refl _), row_nil]; rfl
  have et : rowT nu2 u1 k (rC u) = [trC nu2 u x] := by
    unfold rowT pmp
    rw [er, if_neg hk8]
    show [trC nu2 u1 ((x : Int).toNat)] = _
    rw [e1.tr]; rfl
  refine wp_call (tX2_make (X := X) (by omega) w1 s1 hk (by omega) (fun _ => hw2) (fun h => absurd h hk1) (by omega) (fun v hv => ?_) (fun p hp => ?_) (by omega) ?_ (e1.lim hl)) (fun r2 u2 ⟨y, e2, y0, hy, s2, t2, o2, n2, x2, nd2, rr2, row2, w2, g2⟩ => ?_)
  · rw [er] at hv; simp at hv; omega
  · have := fptR_sub hp
    rw [show ((k : Int), (w : Int), rowC u1 (rC u)).2.2 = rowC u1 (rC u) from rfl, er] at this
    simp at this
    rw [e1.n]; omega
  · rw [et, if_neg hk1]; exact hX
  · refine hK _ _ ⟨y, e2, y0, hy, by rw [t2, et, if_neg hk1], ⟨s2.1, s2.2.1, s2.2.2, ?_, fun t ht => (nd2 t ht).imp (e1.nd t).mp id, rr2, fun i hi => by rw [row2 i hi, p1 i hi]⟩, w2, mkD g1 g2 (by decide +kernel) (by decide +kernel)⟩
    rw [← e1.st nu2]; exact x2
theorem pm_2 {d : Nat} (hd : 7 ≤ d) {c : Nat} {u : Sg} {k w x1 x2 : Nat} {X : Nat → Prop} {KK : Int → Int → Int → Sg → Option (Int × Sg)} {Q : Int → Sg → Prop} (hw : WF FC u) (hs : SC nu2 c u) (hk : k ≤ 30) (hk1 : k ≠ 1) (hk8 : k ≠ 8) (hw2 : w < 1000000) (hx1 : x1 < nC u) (hx2 : x2 < nC u) (h5 : rC u < 30000) (hX : X (mk k w [trC nu2 u x1, trC nu2 u x2])) (hl : Lim nu2 u X) (hK : ∀ r u', RsT nu2 c DX2_pair u (mk k w [trC nu2 u x1, trC nu2 u x2]) X r u' → wp (KK r (nC u : Int) (pC u : Int) u') Q) : wp (cl (runC d 97 [(x1 : Int)] u) fun _ s0 => cl (runC d 97 [(x2 : Int)] s0) fun _ s => un (gI s 9) fun v1 => un (gI s 10) fun v2 => cl (runC d 94 [(k : Int), (w : Int), (rC u : Int)] s) fun r s2 => KK r v1 v2 s2) Q := by
  have hb := hl.n hs
  refine wp_call (tX2_push (by omega) hw hs ⟨by omega, by omega⟩ (by omega)) (fun r1 u1 ⟨s1, e1, r1', p1, p2, w1, g1⟩ => ?_)
  refine wp_call (tX2_push (by omega) w1 s1 ⟨by omega, by omega⟩ (by omega)) (fun r2 u2 ⟨s2, e2, r2', p3, p4, w2, g2⟩ => ?_)
  have e12 := e1.trn e2
  rw [wp_un, wp_un, show gI u2 9 = (nC u : Int) by rw [s2.1.1.1.1, e12.n], show gI u2 10 = (pC u : Int) by rw [e12.2 10 (by decide)]; exact hs.1.1.2.1.1]
  have er : rowC u2 (rC u) = [(x1 : Int), (x2 : Int)] := by rw [row_push r2' p3 p4 (by omega), row_push r1' p1 p2 (Nat.le_refl _), row_nil]; rfl
  have et : rowT nu2 u2 k (rC u) = [trC nu2 u x1, trC nu2 u x2] := by
    unfold rowT pmp
    rw [er, if_neg hk8]
    show [trC nu2 u2 ((x1 : Int).toNat), trC nu2 u2 ((x2 : Int).toNat)] = _
    rw [e12.tr, e12.tr]; rfl
  refine wp_call (tX2_make (X := X) (by omega) w2 s2 hk (by omega) (fun _ => hw2) (fun h => absurd h hk1) (by omega) (fun v hv => ?_) (fun p hp => ?_) (by omega) ?_ (e12.lim hl)) (fun r3 u3 ⟨y, e3, y0, hy, s3, t3, o3, n3, x3, nd3, rr3, row3, w3, g3⟩ => ?_)
  · rw [er] at hv; simp at hv; omega
  · have := fptR_sub hp
    rw [show ((k : Int), (w : Int), rowC u2 (rC u)).2.2 = rowC u2 (rC u) from rfl, er] at this
    simp at this
    rw [e12.n]; omega
  · rw [et, if_neg hk1]; exact hX
  · refine hK _ _ ⟨y, e3, y0, hy, by rw [t3, et, if_neg hk1], ⟨s3.1, s3.2.1, s3.2.2, ?_, fun t ht => (nd3 t ht).imp (e12.nd t).mp id, rr3, fun i hi => by rw [row3 i hi, p3 i (by omega), p1 i hi]⟩, w3, mkD (mkD (D := DX2_pair) g1 g2 (by decide +kernel) (by decide +kernel)) g3 (by decide +kernel) (by decide +kernel)⟩
    rw [← e12.st nu2]; exact x3
/-- numbers that stand for arguments: of a term (closed, if asked for), or -1 -/
def okA1 (Fo : List Nat) (cl : Prop) (b : Prop) (s : Int) : Prop := (b → isS Fo 0 s ∧ (cl → lvL (frm Fo s) 0)) ∧ (¬ b → s = -1)
def okA (Fo : List Nat) (cl : Prop) (m : Nat) (s t : Int) : Prop := okA1 Fo cl (0 < m) s ∧ okA1 Fo cl (1 < m) t
def argA (Fo : List Nat) (m : Nat) (s t : Int) : List Nat := if m = 0 then [] else if m = 1 then [frm Fo s] else [frm Fo s, frm Fo t]
theorem isS.nn {Fo : List Nat} {k : Nat} {s : Int} (h : isS Fo k s) : s ≠ -1 := by have := h.1.1; omega
theorem okA1.y {Fo : List Nat} {cl b : Prop} {s : Int} (h : okA1 Fo cl b s) (hb : b) : isS Fo 0 s ∧ (cl → lvL (frm Fo s) 0) := h.1 hb
theorem Dpair : ∀ k, k = 13 ∨ k = 14 ∨ (21 ≤ k ∧ k ≤ 99) → DX2_pair.testBit k = false := fun k hk => by
  rcases hk with q | q | q
  · rw [q]; decide +kernel
  · rw [q]; decide +kernel
  · exact (by decide +kernel : ∀ k, k ≤ 99 → 21 ≤ k → DX2_pair.testBit k = false) k q.2 q.1
def P5u (u : Sg) (X : Nat → Prop) : Prop := ∀ z, ndC nu2 u z ∨ X z → P5 z
set_option maxHeartbeats 1000000 in
theorem cMade {d : Nat} (hd : 300 ≤ d) {W : Wd} {c : Nat} {Fo Pr : List Nat} {lc : Nat} {K : Int} {u : Sg} {X : Nat → Prop} {k w m : Nat} (h : ReC W c Fo Pr lc K u) (hF : FoP Fo) (h9 : 0 ≤ gI u 99 ∧ gI u 99 < 1000000) (hFl : Fo.length < 400) (hK : K < 1000000) (hk : k = 4 ∨ (10 ≤ k ∧ k ≤ 13)) (hw2 : w < 1000000) (hm : m ≤ 2) (s t : Int) (hl : Lim nu2 u X) (h5 : P5u u X) (hX : X (mk k w (argA Fo m s t))) : wp (runC d 22 [(k : Int), (w : Int), (m : Int), s, t] u) (FkC (okA Fo (k ≠ 4) m s t) (mk k w (argA Fo m s t)) W c Fo Pr lc K u X) := by
  obtain ⟨d, rfl⟩ : ∃ e, d = e + 1 := ⟨d - 1, by omega⟩
  rw [runC_eq (by omega)]
  show wp (bX1_made (runC d) k w m s t u) _
  have hs := h.1.1
  have hr0 := h.2.2.2.2.1
  have hn9 := nC_le hs
  have fin : okA Fo (k ≠ 4) m s t → ∀ r u', RsT nu2 c DX2_pair u (mk k w (argA Fo m s t)) X r u' → wp (cl (runC d 16 [r, (nC u : Int), (pC u : Int)] u') fun v s => pr v s (some (v, s))) (FkC (okA Fo (k ≠ 4) m s t) (mk k w (argA Fo m s t)) W c Fo Pr lc K u X) := fun hok r u' ⟨x, e, x0, hx, et, hU, hw1, hg⟩ => by
    rw [e]
    exact FkC.kp (by omega) h hU hw1 hg Dpair h9 x0 hx et hFl hK (fun z q => h5 z (hU.2.2.2.2.1 z q)) hok
  -- an argument that is to be closed
  have clo : ∀ (x : Nat) (a : Int), isS Fo 0 a → 0 < x → x < nC u → trC nu2 u x = frm Fo a → (lvL (frm Fo a) 0 → runC d 18 [(x : Int)] u = some ((x : Int), u)) ∧ (¬ lvL (frm Fo a) 0 → runC d 18 [(x : Int)] u = some (exB + 1, tS u)) := fun x a ha x0 hx et => by
    obtain ⟨fo, fz, -⟩ := hF _ ha.mem
    have fh := hF.ht ha.mem
    exact cClosed hs h9 (by omega) fo (by omega) x0 hx et
  have hm3 : m = 0 ∨ m = 1 ∨ m = 2 := by omega
  unfold bX1_made
  rcases hm3 with rfl | rfl | rfl
  · -- no argument
    rw [wp_jn]; dsimp only; rw [if_pos (by decide), wp_jn]; dsimp only
    by_cases hs1 : s = -1
    · rw [if_pos hs1, wp_jn]; dsimp only; rw [wp_jn]; dsimp only; rw [if_pos rfl, wp_jn]; dsimp only; rw [if_pos (by decide), wp_jn]; dsimp only
      by_cases ht1 : t = -1
      · have hok : okA Fo (k ≠ 4) 0 s t := ⟨⟨fun q => by omega, fun _ => hs1⟩, ⟨fun q => by omega, fun _ => ht1⟩⟩
        rw [if_pos ht1, if_pos rfl, wp_jn]; dsimp only; rw [cl_eq (need_ok (by omega)), pr_0, if_pos (by decide), wp_jn]; dsimp only; rw [if_pos (by decide), wp_jn]; dsimp only
        have go : wp (jn (fun (a1 a2 a3 a7 a8 : Int) (s14 : Sg) => jn (fun (a1 a2 a8 : Int) (s16 : Sg) => un (gI s16 9) fun v17 => un (gI s16 10) fun v18 => cl (runC d 94 [a1, a2, a8] s16) fun v19 s20 => cl (runC d 16 [v19, v17, v18] s20) fun v21 s22 => pr v21 s22 (some (v21, s22))) fun j15 => if a3 ≤ 1 then (j15 a1 a2 a8 s14) else (cl (runC d 97 [a7] s14) fun v23 s24 => j15 a1 a2 a8 s24)) fun j13 => un (gI u 12) fun v25 => if ((0 : Nat) : Int) ≤ 0 then (j13 (k : Int) (w : Int) ((0 : Nat) : Int) 0 v25 u) else (cl (runC d 97 [0] u) fun v26 s27 => j13 (k : Int) (w : Int) ((0 : Nat) : Int) 0 v25 s27)) (FkC (okA Fo (k ≠ 4) 0 s t) (mk k w (argA Fo 0 s t)) W c Fo Pr lc K u X) := by
          rw [wp_jn]; dsimp only; rw [wp_un, hs.r.1, if_pos (by decide), wp_jn]; dsimp only; rw [if_pos (by decide), wp_un, wp_un, hs.1.1.1.1, hs.1.1.2.1.1]
          exact wp_call (pm_0 (X := X) (by omega) h.2.1 hs (by omega) (by omega) (by omega) hw2 hX hl) (fin hok)
        by_cases h4 : k = 4
        · rw [if_pos (by omega)]; exact go
        · rw [if_neg (by omega), cl_eq (cClosed0 (by omega)), pr_0, cl_eq (cClosed0 (by omega)), pr_0]; exact go
      · rw [if_neg ht1, if_neg (by decide)]
        rw [wp_jn]; dsimp only
        exact FkC.nb (by omega) h h9 (fun q => ht1 (q.2.2 (by omega))) _
    · rw [if_neg hs1, wp_jn]; dsimp only; rw [wp_jn]; dsimp only; rw [if_neg (by decide)]
      rw [wp_jn]; dsimp only
      exact FkC.nb (by omega) h h9 (fun q => hs1 (q.1.2 (by omega))) _
  · -- one argument
    rw [wp_jn]; dsimp only; rw [if_neg (by decide), wp_jn]; dsimp only
    by_cases hs1 : s = -1
    · rw [if_pos hs1, wp_jn]; dsimp only; rw [wp_jn]; dsimp only; rw [if_neg (by decide)]
      rw [wp_jn]; dsimp only
      exact FkC.nb (by omega) h h9 (fun q => (q.1.1 (by omega)).1.nn hs1) _
    · rw [if_neg hs1, wp_jn]; dsimp only; rw [wp_jn]; dsimp only; rw [if_pos rfl, wp_jn]; dsimp only; rw [if_pos (by decide), wp_jn]; dsimp only
      by_cases ht1 : t = -1
      · rw [if_pos ht1, if_pos rfl, wp_jn]; dsimp only; rw [cl_eq (need_ok (by omega)), pr_0, if_neg (by decide)]
        rcases cS (d := d) (by omega) h hF h9 (s := 0) (by decide) s with ⟨hS, x, x0, hx, et, e⟩ | ⟨hS, e⟩
        · have e : runC d 11 [s] u = some ((x : Int), u) := e
          rw [cl_eq e, pr_n (by omega), wp_jn]; dsimp only; rw [if_pos (by decide), wp_jn]; dsimp only
          have go : okA Fo (k ≠ 4) 1 s t → wp (jn (fun (a1 a2 a3 a7 a8 : Int) (s14 : Sg) => jn (fun (a1 a2 a8 : Int) (s16 : Sg) => un (gI s16 9) fun v17 => un (gI s16 10) fun v18 => cl (runC d 94 [a1, a2, a8] s16) fun v19 s20 => cl (runC d 16 [v19, v17, v18] s20) fun v21 s22 => pr v21 s22 (some (v21, s22))) fun j15 => if a3 ≤ 1 then (j15 a1 a2 a8 s14) else (cl (runC d 97 [a7] s14) fun v23 s24 => j15 a1 a2 a8 s24)) fun j13 => un (gI u 12) fun v25 => if ((1 : Nat) : Int) ≤ 0 then (j13 (k : Int) (w : Int) ((1 : Nat) : Int) 0 v25 u) else (cl (runC d 97 [(x : Int)] u) fun v26 s27 => j13 (k : Int) (w : Int) ((1 : Nat) : Int) 0 v25 s27)) (FkC (okA Fo (k ≠ 4) 1 s t) (mk k w (argA Fo 1 s t)) W c Fo Pr lc K u X) := fun hok => by
            rw [wp_jn]; dsimp only; rw [wp_un, hs.r.1, if_neg (by decide)]
            have ea : argA Fo 1 s t = [trC nu2 u x] := by rw [et]; rfl
            refine wp_mono (Q := FkC (okA Fo (k ≠ 4) 1 s t) (mk k w (argA Fo 1 s t)) W c Fo Pr lc K u X) ?_ (fun _ _ q => q)
            have := pm_1 (d := d) (k := k) (w := w) (X := X) (KK := fun r v1 v2 s2 => cl (runC d 16 [r, v1, v2] s2) fun v21 s22 => pr v21 s22 (some (v21, s22))) (Q := FkC (okA Fo (k ≠ 4) 1 s t) (mk k w (argA Fo 1 s t)) W c Fo Pr lc K u X) (by omega) h.2.1 hs (by omega) (by omega) (by omega) hw2 hx (by omega) (by rw [← ea]; exact hX) hl (fun r u' q => fin hok r u' (by rw [ea]; exact q))
            exact this
          by_cases h4 : k = 4
          · rw [if_pos (by omega)]
            exact go ⟨⟨fun _ => ⟨hS, fun q => absurd h4 q⟩, fun q => by omega⟩, ⟨fun q => by omega, fun _ => ht1⟩⟩
          · rw [if_neg (by omega)]
            by_cases hcl : lvL (frm Fo s) 0
            · rw [cl_eq ((clo x s hS x0 hx et).1 hcl), pr_n (by omega), cl_eq (cClosed0 (by omega)), pr_0]
              exact go ⟨⟨fun _ => ⟨hS, fun _ => hcl⟩, fun q => by omega⟩, ⟨fun q => by omega, fun _ => ht1⟩⟩
            · exact FkC.th ((clo x s hS x0 hx et).2 hcl) h h9 (fun q => hcl ((q.1.1 (by omega)).2 h4)) _
        · have e : runC d 11 [s] u = some (exB + 1, tS u) := e
          exact FkC.th e h h9 (fun q => hS (q.1.1 (by omega)).1) _
      · rw [if_neg ht1, if_neg (by decide)]
        rw [wp_jn]; dsimp only
        exact FkC.nb (by omega) h h9 (fun q => ht1 (q.2.2 (by omega))) _
  · -- two arguments
    rw [wp_jn]; dsimp only; rw [if_neg (by decide), wp_jn]; dsimp only
    by_cases hs1 : s = -1
    · rw [if_pos hs1, wp_jn]; dsimp only; rw [wp_jn]; dsimp only; rw [if_neg (by decide)]
      rw [wp_jn]; dsimp only
      exact FkC.nb (by omega) h h9 (fun q => (q.1.1 (by omega)).1.nn hs1) _
    · rw [if_neg hs1, wp_jn]; dsimp only; rw [wp_jn]; dsimp only; rw [if_pos rfl, wp_jn]; dsimp only; rw [if_neg (by decide), wp_jn]; dsimp only
      by_cases ht1 : t = -1
      · rw [if_pos ht1, if_neg (by decide)]
        rw [wp_jn]; dsimp only
        exact FkC.nb (by omega) h h9 (fun q => (q.2.1 (by omega)).1.nn ht1) _
      · rw [if_neg ht1, if_pos rfl, wp_jn]; dsimp only; rw [cl_eq (need_ok (by omega)), pr_0, if_neg (by decide)]
        rcases cS (d := d) (by omega) h hF h9 (s := 0) (by decide) s with ⟨hS, x, x0, hx, et, e⟩ | ⟨hS, e⟩
        · have e : runC d 11 [s] u = some ((x : Int), u) := e
          rw [cl_eq e, pr_n (by omega), wp_jn]; dsimp only; rw [if_neg (by decide)]
          rcases cS (d := d) (by omega) h hF h9 (s := 0) (by decide) t with ⟨hS2, y, y0, hy, ey, e2⟩ | ⟨hS2, e2⟩
          · have e2 : runC d 11 [t] u = some ((y : Int), u) := e2
            rw [cl_eq e2, pr_n (by omega), wp_jn]; dsimp only
            have go : okA Fo (k ≠ 4) 2 s t → wp (jn (fun (a1 a2 a3 a7 a8 : Int) (s14 : Sg) => jn (fun (a1 a2 a8 : Int) (s16 : Sg) => un (gI s16 9) fun v17 => un (gI s16 10) fun v18 => cl (runC d 94 [a1, a2, a8] s16) fun v19 s20 => cl (runC d 16 [v19, v17, v18] s20) fun v21 s22 => pr v21 s22 (some (v21, s22))) fun j15 => if a3 ≤ 1 then (j15 a1 a2 a8 s14) else (cl (runC d 97 [a7] s14) fun v23 s24 => j15 a1 a2 a8 s24)) fun j13 => un (gI u 12) fun v25 => if ((2 : Nat) : Int) ≤ 0 then (j13 (k : Int) (w : Int) ((2 : Nat) : Int) (y : Int) v25 u) else (cl (runC d 97 [(x : Int)] u) fun v26 s27 => j13 (k : Int) (w : Int) ((2 : Nat) : Int) (y : Int) v25 s27)) (FkC (okA Fo (k ≠ 4) 2 s t) (mk k w (argA Fo 2 s t)) W c Fo Pr lc K u X) := fun hok => by
              rw [wp_jn]; dsimp only; rw [wp_un, hs.r.1, if_neg (by decide)]
              have ea : argA Fo 2 s t = [trC nu2 u x, trC nu2 u y] := by rw [et, ey]; rfl
              have := pm_2 (d := d) (k := k) (w := w) (X := X) (KK := fun r v1 v2 s2 => cl (runC d 16 [r, v1, v2] s2) fun v21 s22 => pr v21 s22 (some (v21, s22))) (Q := FkC (okA Fo (k ≠ 4) 2 s t) (mk k w (argA Fo 2 s t)) W c Fo Pr lc K u X) (by omega) h.2.1 hs (by omega) (by omega) (by omega) hw2 hx hy (by omega) (by rw [← ea]; exact hX) hl (fun r u' q => fin hok r u' (by rw [ea]; exact q))
              exact this
            by_cases h4 : k = 4
            · rw [if_pos (by omega)]
              exact go ⟨⟨fun _ => ⟨hS, fun q => absurd h4 q⟩, fun q => by omega⟩, ⟨fun _ => ⟨hS2, fun q => absurd h4 q⟩, fun q => by omega⟩⟩
            · rw [if_neg (by omega)]
              by_cases hcl : lvL (frm Fo s) 0
              · rw [cl_eq ((clo x s hS x0 hx et).1 hcl), pr_n (by omega)]
                by_cases hcl2 : lvL (frm Fo t) 0
                · rw [cl_eq ((clo y t hS2 y0 hy ey).1 hcl2), pr_n (by omega)]
                  exact go ⟨⟨fun _ => ⟨hS, fun _ => hcl⟩, fun q => by omega⟩, ⟨fun _ => ⟨hS2, fun _ => hcl2⟩, fun q => by omega⟩⟩
                · exact FkC.th ((clo y t hS2 y0 hy ey).2 hcl2) h h9 (fun q => hcl2 ((q.2.1 (by omega)).2 h4)) _
              · exact FkC.th ((clo x s hS x0 hx et).2 hcl) h h9 (fun q => hcl ((q.1.1 (by omega)).2 h4)) _
          · have e2 : runC d 11 [t] u = some (exB + 1, tS u) := e2
            exact FkC.th e2 h h9 (fun q => hS2 (q.2.1 (by omega)).1) _
        · have e : runC d 11 [s] u = some (exB + 1, tS u) := e
          exact FkC.th e h h9 (fun q => hS (q.1.1 (by omega)).1) _
