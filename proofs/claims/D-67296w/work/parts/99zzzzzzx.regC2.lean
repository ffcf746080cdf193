/-! face: cluster, gives, reduce in the class -/
def okPl (Fo : List Nat) (m i : Nat) (t : Int) : Prop := (i < m → isS Fo 1 t ∧ lvL (frm Fo t) m) ∧ (¬ i < m → t = -1)
def plT (Fo : List Nat) (m i : Nat) (t : Int) : Nat := if i < m then frm Fo t else 0
theorem inC_0 {c : Nat} {u : Sg} (hs : SC nu2 c u) : inC nu2 u 0 0 := ⟨0, rfl, by have := hs.1.1.1.2.1; omega, rfl⟩
theorem cPlace {d : Nat} (hd : 290 ≤ d) {W : Wd} {c : Nat} {Fo Pr : List Nat} {lc : Nat} {K : Int} {u : Sg} (h : ReC W c Fo Pr lc K u) (hW : WOK W (Nm nu2 c)) (hF : FoP Fo) (h9 : 0 ≤ gI u 99 ∧ gI u 99 < 1000000) {f : Nat} (hf : f < wnF W) {i : Nat} (hi : i < 2) (t : Int) : (okPl Fo (wfM W f) i t ∧ ∃ x : Int, runC d 33 [(f : Int), (i : Int), t] u = some (x, u) ∧ x ≤ 1000000 ∧ 0 ≤ x ∧ inC nu2 u x (plT Fo (wfM W f) i t)) ∨ (¬ okPl Fo (wfM W f) i t ∧ runC d 33 [(f : Int), (i : Int), t] u = some (exB + 1, tS u)) := by
  obtain ⟨d, rfl⟩ : ∃ e, d = e + 1 := ⟨d - 1, by omega⟩
  rw [runC_eq (by omega)]
  show (okPl Fo (wfM W f) i t ∧ ∃ x : Int, bX1_place (runC d) f i t u = some (x, u) ∧ x ≤ 1000000 ∧ 0 ≤ x ∧ inC nu2 u x (plT Fo (wfM W f) i t)) ∨ (¬ okPl Fo (wfM W f) i t ∧ bX1_place (runC d) f i t u = some (exB + 1, tS u))
  have hs := h.1.1
  have hn9 := nC_le hs
  obtain ⟨h74, h30, h71, h72, hen⟩ := h.1.2.2.2.2.1
  have hm2 := (hW.2.2.1 _ hf).2.2
  have ef : gN u 71 f = ((wfM W f : Nat) : Int) := (hen f hf).1
  have hl : f < gL u 71 := by omega
  unfold bX1_place jn
  dsimp only
  rw [ld_nat hl, ef]
  by_cases him : i < wfM W f
  · rw [if_neg (by omega)]
    by_cases t1 : t = -1
    · refine Or.inr ⟨fun q => (q.1 him).1.nn t1, ?_⟩
      rw [if_pos t1, if_neg (by decide), cl_eq (need_no (by omega) h9), pr_x (by decide)]
    · rw [if_neg t1, if_pos rfl, cl_eq (need_ok (by omega)), pr_0, if_neg t1]
      rcases cS (d := d) (by omega) h hF h9 (s := 1) (by decide) t with ⟨hS, x, x0, hx, et, e⟩ | ⟨hS, e⟩
      · have e : runC d 2 [t] u = some ((x : Int), u) := e
        obtain ⟨fo, fz, -⟩ := hF _ hS.mem
        have fh := hF.ht hS.mem
        obtain ⟨r, e1, e2, e3, e4⟩ := rX1_loci hs (frm Fo t) fo (by omega) d x (by omega) x0 hx et
        have hr := e4 (wfM W f)
        rw [cl_eq e, pr_n (by omega), cl_eq e1, ld_nat hl, ef]
        by_cases hlt : r < (wfM W f : Int)
        · refine Or.inl ⟨⟨fun _ => ⟨hS, hr.mp hlt⟩, fun q => absurd him q⟩, (x : Int), ?_, by omega, by omega, ⟨x, rfl, hx, by unfold plT; rw [if_pos him]; exact et⟩⟩
          rw [if_pos hlt, cl_eq (need_ok (by omega)), pr_0]
        · refine Or.inr ⟨fun q => hlt (hr.mpr (q.1 him).2), ?_⟩
          rw [if_neg hlt, cl_eq (need_no (by omega) h9), pr_x (by decide)]
      · have e : runC d 2 [t] u = some (exB + 1, tS u) := e
        refine Or.inr ⟨fun q => hS (q.1 him).1, ?_⟩
        rw [cl_eq e, pr_x (by decide)]
  · rw [if_pos (by omega)]
    by_cases t1 : t = -1
    · refine Or.inl ⟨⟨fun q => absurd q him, fun _ => t1⟩, 0, ?_, by decide, by decide, by unfold plT; rw [if_neg him]; exact inC_0 hs⟩
      rw [if_pos t1, if_pos rfl, cl_eq (need_ok (by omega)), pr_0, if_pos t1]
    · refine Or.inr ⟨fun q => t1 (q.2 him), ?_⟩
      rw [if_neg t1, if_neg (by decide), cl_eq (need_no (by omega) h9), pr_x (by decide)]
theorem inC.r {u : Sg} {v : Int} {t : Nat} (h : inC nu2 u v t) (hn : nC u ≤ 90000) : inR v := by
  obtain ⟨y, e, hy, _⟩ := h
  omega
/-- what a registration comes to in the class -/
def RgQ (ok : Prop) (W W' : Wd) (c : Nat) (Fo Pr : List Nat) (lc : Nat) (K : Int) (u : Sg) (X : Nat → Prop) : Int → Sg → Prop := FcC ok (wnG W = 30) (wnG W : Int) (fun u' => ReC W' c Fo Pr lc (K + 1) u' ∧ NdC u u' X) (fun u' => ReC W c Fo Pr lc (K + 1) u' ∧ NdC u u' X)
theorem RgQ.nb {d : Nat} (hd : 3 ≤ d) {ok : Prop} {W W' : Wd} {c : Nat} {Fo Pr : List Nat} {lc : Nat} {K : Int} {u : Sg} {X : Nat → Prop} (h : ReC W c Fo Pr lc K u) (h9 : 0 ≤ gI u 99 ∧ gI u 99 < 1000000) (hb : ¬ ok) (Kc : Int → Sg → Option (Int × Sg)) : wp (cl (runC d 4 [0] u) fun v s => pr v s (Kc v s)) (RgQ ok W W' c Fo Pr lc K u X) := by
  rw [need_no hd h9]
  show wp (pr (exB + 1) (tS u) _) _
  rw [pr_x (by decide), wp_some]
  exact Or.inr (Or.inr ⟨hb, rfl, (h.tS h9).mono (by omega), fun z ⟨y, a, b, e⟩ => Or.inl ⟨y, a, b, e⟩⟩)
theorem RgQ.th {e : Option (Int × Sg)} {ok : Prop} {W W' : Wd} {c : Nat} {Fo Pr : List Nat} {lc : Nat} {K : Int} {u : Sg} {X : Nat → Prop} (he : e = some (exB + 1, tS u)) (h : ReC W c Fo Pr lc K u) (h9 : 0 ≤ gI u 99 ∧ gI u 99 < 1000000) (hb : ¬ ok) (Kc : Int → Sg → Option (Int × Sg)) : wp (cl e fun v s => pr v s (Kc v s)) (RgQ ok W W' c Fo Pr lc K u X) := by
  rw [he]
  show wp (pr (exB + 1) (tS u) _) _
  rw [pr_x (by decide), wp_some]
  exact Or.inr (Or.inr ⟨hb, rfl, (h.tS h9).mono (by omega), fun z ⟨y, a, b, e⟩ => Or.inl ⟨y, a, b, e⟩⟩)
theorem RgQ.fu {d : Nat} (hd : 3 ≤ d) {ok : Prop} {W W' : Wd} {c : Nat} {Fo Pr : List Nat} {lc : Nat} {K : Int} {u : Sg} {X : Nat → Prop} (h : ReC W c Fo Pr lc K u) (h9 : 0 ≤ gI u 99 ∧ gI u 99 < 1000000) (hok : ok) (hf : wnG W = 30) (Kc : Int → Sg → Option (Int × Sg)) : wp (cl (runC d 6 [0] u) fun v s => pr v s (Kc v s)) (RgQ ok W W' c Fo Pr lc K u X) := by
  rw [room_no hd h9]
  show wp (pr (exB + 2) (tS u) _) _
  rw [pr_x (by decide), wp_some]
  exact Or.inr (Or.inl ⟨hok, hf, rfl, (h.tS h9).mono (by omega), fun z ⟨y, a, b, e⟩ => Or.inl ⟨y, a, b, e⟩⟩)
/-- registered, behind what has been made -/
theorem RgQ.rg {d : Nat} (hd : 10 ≤ d) {ok : Prop} {W : Wd} {c : Nat} {Fo Pr : List Nat} {lc : Nat} {K : Int} {u u1 : Sg} {X : Nat → Prop} {s : Nat} {o xa xb xv : Int} {oo ta tb tv : Nat} (h1 : ReC W c Fo Pr lc K u1) (hnd : NdC u u1 X) (h9 : 0 ≤ gI u1 99 ∧ gI u1 99 < 1000000) (hK : K < 1000000) (hs2 : s ≤ 2) (hoR : inR o) (h0 : s = 0 → inC nu2 u1 o oo) (h1' : s ≠ 0 → o = (oo : Int)) (ha : inC nu2 u1 xa ta) (hb : inC nu2 u1 xb tb) (hv : inC nu2 u1 xv tv) (hok : ok) : wp (cl (runC d 31 [(s : Int), o, xa, xb, xv] u1) fun v s => pr v s (some (v, s))) (RgQ ok W (wRg W s oo ta tb tv) c Fo Pr lc K u X) := by
  refine wp_call (cReg hd h1 h9 hK hs2 hoR h0 h1' ha hb hv) (fun r u' q => ?_)
  have e : exB = 1099511627776 := rfl
  rcases q with ⟨a1, a2, a3, a4⟩ | ⟨a1, a2, a3, a4⟩
  · rw [pr_n (by omega), wp_some]
    exact Or.inl ⟨hok, by omega, a2, a3, fun z hz => hnd z (a4 z hz)⟩
  · rw [a2, pr_x (by decide), wp_some]
    exact Or.inr (Or.inl ⟨hok, a1, rfl, a3.mono (by omega), fun z hz => hnd z (a4 z hz)⟩)
/-- a set is made and registered -/
theorem RgQ.ws {d : Nat} (hd : 12 ≤ d) {ok : Prop} {W : Wd} {c : Nat} {Fo Pr : List Nat} {lc : Nat} {K : Int} {u : Sg} {X : Nat → Prop} {s : Nat} {o xa xb st : Int} {oo ta tb : Nat} (h : ReC W c Fo Pr lc K u) (h9 : 0 ≤ gI u 99 ∧ gI u 99 < 1000000) (hK : K < 1000000) (hs2 : s ≤ 2) (hoR : inR o) (h0 : s = 0 → inC nu2 u o oo) (h1' : s ≠ 0 → o = (oo : Int)) (ha : inC nu2 u xa ta) (hb : inC nu2 u xb tb) (hst : okSet W st) (hok : ok) (hl : Lim nu2 u X) (hX : X (mk 8 0 (0 :: setL st))) : wp (cl (runC d 14 [0, 0, st] u) fun v s2 => cl (runC d 31 [(s : Int), o, xa, xb, v] s2) fun v s => pr v s (some (v, s))) (RgQ ok W (wRg W s oo ta tb (mk 8 0 (0 :: setL st))) c Fo Pr lc K u X) := by
  have hs := h.1.1
  have hr0 := h.2.2.2.2.1
  have h70 := h.1.2.2.2.2.2.1.2.1
  have h15 := h.1.2.2.2.2.2.1.2.2
  have hp := cWith (d := d) (m := 0) (x := 0) (X := X) (by omega) h.2.1 hs h70 h15 (by omega) hst (by have := hs.1.1.1.2.1; omega) (by omega) hX hl
  refine wp_call hp (fun r u' ⟨y, e2, y0, hy, ey, hU, hw1, hg⟩ => ?_)
  have h1 := h.up hU hw1 hg (fun k hk => DwsC k (by omega))
  have I : ∀ {w : Int} {t : Nat}, inC nu2 u w t → inC nu2 u' w t := fun ⟨z, z1, z2, z3⟩ => ⟨z, z1, Nat.lt_of_lt_of_le z2 (hU.n hs), by rw [hU.tr hs z2]; exact z3⟩
  rw [e2]
  exact RgQ.rg (by omega) h1 hU.2.2.2.2.1 (by rw [hg.I 99 (DwsC 99 (by omega))]; exact h9) hK hs2 hoR (fun q => I (h0 q)) h1' (I ha) (I hb) ⟨y, rfl, hy, ey⟩ hok
def okGv (W : Wd) (Fo : List Nat) (f a b s : Int) : Prop := (0 ≤ f ∧ f < (wnF W : Int)) ∧ (okPl Fo (wfM W f.toNat) 0 a ∧ okPl Fo (wfM W f.toNat) 1 b) ∧ okSet W s
def wGv (W : Wd) (Fo : List Nat) (f a b s : Int) : Wd := wRg W 1 f.toNat (plT Fo (wfM W f.toNat) 0 a) (plT Fo (wfM W f.toNat) 1 b) (mk 8 0 (0 :: setL s))
theorem cGive {d : Nat} (hd : 310 ≤ d) {W : Wd} {c : Nat} {Fo Pr : List Nat} {lc : Nat} {K : Int} {u : Sg} {X : Nat → Prop} (h : ReC W c Fo Pr lc K u) (hW : WOK W (Nm nu2 c)) (hF : FoP Fo) (h9 : 0 ≤ gI u 99 ∧ gI u 99 < 1000000) (hK : K < 1000000) (f a b s : Int) (hsR : inR s) (hl : Lim nu2 u X) (hX : X (mk 8 0 (0 :: setL s))) : wp (runC d 32 [f, a, b, s] u) (RgQ (okGv W Fo f a b s) W (wGv W Fo f a b s) c Fo Pr lc K u X) := by
  obtain ⟨d, rfl⟩ : ∃ e, d = e + 1 := ⟨d - 1, by omega⟩
  rw [runC_eq (by omega)]
  show wp (bX1_gives (runC d) f a b s u) _
  have hs := h.1.1
  have hn9 := nC_le hs
  obtain ⟨h74, h30, h71, h72, hen⟩ := h.1.2.2.2.2.1
  have h70 := h.1.2.2.2.2.2.1.2.1
  have h15 := h.1.2.2.2.2.2.1.2.2
  obtain ⟨st1, st2⟩ := cSet (d := d) (by omega) h70 h15 h9 hsR
  have h81 := h.1.2.2.2.2.2.2.1
  unfold bX1_gives
  rw [wp_jn]; dsimp only
  rw [wp_jn]; dsimp only
  by_cases f0 : f < 0
  · rw [if_pos f0, wp_jn]; dsimp only
    exact RgQ.nb (by omega) h h9 (fun q => by have := q.1; omega) _
  rw [if_neg f0, wp_un, h74]
  by_cases f1 : f < (wnF W : Int)
  · have hfn : f.toNat < wnF W := by omega
    have ff : ((f.toNat : Nat) : Int) = f := by omega
    rw [if_pos f1, wp_jn]; dsimp only
    rw [cl_eq (need_ok (by omega)), pr_0]
    have pa0 := cPlace (d := d) (by omega) h hW hF h9 hfn (i := 0) (by decide) a
    have pa1 := cPlace (d := d) (by omega) h hW hF h9 hfn (i := 1) (by decide) b
    rw [ff] at pa0 pa1
    rcases pa0 with ⟨pk, xa, ea, xa9, xa0, ia⟩ | ⟨pk, ea⟩
    · have ea : runC d 33 [f, 0, a] u = some (xa, u) := ea
      rw [cl_eq ea, pr_n (by omega)]
      rcases pa1 with ⟨pk2, xb, eb, xb9, xb0, ib⟩ | ⟨pk2, eb⟩
      · have eb : runC d 33 [f, 1, b] u = some (xb, u) := eb
        rw [cl_eq eb, pr_n (by omega)]
        by_cases hok : okSet W s
        · have hokG : okGv W Fo f a b s := ⟨⟨by omega, f1⟩, ⟨pk, pk2⟩, hok⟩
          rw [cl_eq (st1 hok), pr_0, wp_un, h81]
          by_cases hlt : wnG W < 30
          · rw [if_pos (by omega), cl_eq (room_ok (by omega)), pr_0]
            exact RgQ.ws (s := 1) (oo := f.toNat) (by omega) h h9 hK (by decide) ⟨by omega, by omega⟩ (fun q => absurd q (by decide)) (fun _ => by omega) ia ib hok hokG hl hX
          · rw [if_neg (by omega)]
            exact RgQ.fu (by omega) h h9 hokG (by have := h.1.2.2.2.2.2.2.2.1; omega) _
        · exact RgQ.th (st2 hok) h h9 (fun q => hok q.2.2) _
      · have eb : runC d 33 [f, 1, b] u = some (exB + 1, tS u) := eb
        exact RgQ.th eb h h9 (fun q => pk2 q.2.1.2) _
    · have ea : runC d 33 [f, 0, a] u = some (exB + 1, tS u) := ea
      exact RgQ.th ea h h9 (fun q => pk q.2.1.1) _
  · rw [if_neg f1, wp_jn]; dsimp only
    exact RgQ.nb (by omega) h h9 (fun q => f1 q.1.2) _
def okRd (W : Wd) (Fo : List Nat) (f a b t : Int) : Prop := (0 ≤ f ∧ f < (wnF W : Int)) ∧ (okPl Fo (wfM W f.toNat) 0 a ∧ okPl Fo (wfM W f.toNat) 1 b) ∧ isS Fo 0 t ∧ lvL (frm Fo t) (wfM W f.toNat)
def wRd (W : Wd) (Fo : List Nat) (f a b t : Int) : Wd := wRg W 2 f.toNat (plT Fo (wfM W f.toNat) 0 a) (plT Fo (wfM W f.toNat) 1 b) (frm Fo t)
theorem cRedu {d : Nat} (hd : 310 ≤ d) {W : Wd} {c : Nat} {Fo Pr : List Nat} {lc : Nat} {K : Int} {u : Sg} {X : Nat → Prop} (h : ReC W c Fo Pr lc K u) (hW : WOK W (Nm nu2 c)) (hF : FoP Fo) (h9 : 0 ≤ gI u 99 ∧ gI u 99 < 1000000) (hK : K < 1000000) (f a b t : Int) : wp (runC d 34 [f, a, b, t] u) (RgQ (okRd W Fo f a b t) W (wRd W Fo f a b t) c Fo Pr lc K u X) := by
  obtain ⟨d, rfl⟩ : ∃ e, d = e + 1 := ⟨d - 1, by omega⟩
  rw [runC_eq (by omega)]
  show wp (bX1_reduce (runC d) f a b t u) _
  have hs := h.1.1
  have hn9 := nC_le hs
  obtain ⟨h74, h30, h71, h72, hen⟩ := h.1.2.2.2.2.1
  unfold bX1_reduce
  rw [wp_jn]; dsimp only
  rw [wp_jn]; dsimp only
  by_cases f0 : f < 0
  · rw [if_pos f0, wp_jn]; dsimp only
    exact RgQ.nb (by omega) h h9 (fun q => by have := q.1; omega) _
  rw [if_neg f0, wp_un, h74]
  by_cases f1 : f < (wnF W : Int)
  · have hfn : f.toNat < wnF W := by omega
    have ff : ((f.toNat : Nat) : Int) = f := by omega
    rw [if_pos f1, wp_jn]; dsimp only
    rw [cl_eq (need_ok (by omega)), pr_0]
    have pa0 := cPlace (d := d) (by omega) h hW hF h9 hfn (i := 0) (by decide) a
    have pa1 := cPlace (d := d) (by omega) h hW hF h9 hfn (i := 1) (by decide) b
    rw [ff] at pa0 pa1
    rcases pa0 with ⟨pk, xa, ea, xa9, xa0, ia⟩ | ⟨pk, ea⟩
    · have ea : runC d 33 [f, 0, a] u = some (xa, u) := ea
      rw [cl_eq ea, pr_n (by omega)]
      rcases pa1 with ⟨pk2, xb, eb, xb9, xb0, ib⟩ | ⟨pk2, eb⟩
      · have eb : runC d 33 [f, 1, b] u = some (xb, u) := eb
        rw [cl_eq eb, pr_n (by omega)]
        rcases cS (d := d) (by omega) h hF h9 (s := 0) (by decide) t with ⟨hS, x, x0, hx, et, e⟩ | ⟨hS, e⟩
        · have e : runC d 11 [t] u = some ((x : Int), u) := e
          obtain ⟨fo, fz, -⟩ := hF _ hS.mem
          have fh := hF.ht hS.mem
          obtain ⟨r, e1, e2, e3, e4⟩ := rX1_loci hs (frm Fo t) fo (by omega) d x (by omega) x0 hx et
          have hr := e4 (wfM W f.toNat)
          rw [cl_eq e, pr_n (by omega), cl_eq e1, wp_ld]
          refine ⟨⟨by omega, by rw [h71]; omega⟩, ?_⟩
          rw [show gA u 71 f = ((wfM W f.toNat : Nat) : Int) from (hen f.toNat hfn).1]
          by_cases hlt : r < ((wfM W f.toNat : Nat) : Int)
          · rw [if_pos hlt, cl_eq (need_ok (by omega)), pr_0]
            exact RgQ.rg (s := 2) (oo := f.toNat) (by omega) h NdC.rf h9 hK (by decide) ⟨by omega, by omega⟩ (fun q => absurd q (by decide)) (fun _ => by omega) ia ib ⟨x, rfl, hx, et⟩ ⟨⟨by omega, f1⟩, ⟨pk, pk2⟩, hS, hr.mp hlt⟩
          · rw [if_neg hlt]
            exact RgQ.nb (by omega) h h9 (fun q => hlt (hr.mpr q.2.2.2)) _
        · have e : runC d 11 [t] u = some (exB + 1, tS u) := e
          exact RgQ.th e h h9 (fun q => hS q.2.2.1) _
      · have eb : runC d 33 [f, 1, b] u = some (exB + 1, tS u) := eb
        exact RgQ.th eb h h9 (fun q => pk2 q.2.1.2) _
    · have ea : runC d 33 [f, 0, a] u = some (exB + 1, tS u) := ea
      exact RgQ.th ea h h9 (fun q => pk q.2.1.1) _
  · rw [if_neg f1, wp_jn]; dsimp only
    exact RgQ.nb (by omega) h h9 (fun q => f1 q.1.2) _
