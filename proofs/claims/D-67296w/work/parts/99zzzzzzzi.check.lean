/-! face: check -/
noncomputable def ckV (W : Wd) (c n : Nat) (Ps : List Nat) : Int := if (tqP n Ps c).length ≤ 40 then Classical.epsilon (fun r => Ans (RfC W) 1 (famL (tqP n Ps c)) r) else 2
def ckL (c n : Nat) (Ps : List Nat) : Nat := min 1000 (tqP n Ps c).length
theorem ckV_eq {W : Wd} {c n : Nat} {Ps : List Nat} {r : Int} (h : ((tqP n Ps c).length ≤ 40 ∧ Ans (RfC W) 1 (famL (tqP n Ps c)) r) ∨ (40 < (tqP n Ps c).length ∧ r = 2)) : r = ckV W c n Ps := by
  unfold ckV
  rcases h with ⟨h1, h2⟩ | ⟨h1, h2⟩
  · rw [if_pos h1]
    exact h2.u (Classical.epsilon_spec (p := fun r => Ans (RfC W) 1 (famL (tqP n Ps c)) r) ⟨r, h2⟩)
  · rw [if_neg (by omega), h2]
/-- premises are formulas among the forms -/
def PrF (Fo Pr : List Nat) : Prop := ∀ f ∈ Pr, f ∈ Fo ∧ isFo f
def chG (Pr : List Nat) (g : Nat) : Nat := andT (Pr ++ [notT g])
/-- what the class's check asks for -/
def CkC (W' : Wd) (X : Nat → Prop) (c n m d B : Nat) (u : Sg) (Pr : List Nat) (g : Nat) : Prop := (B ≤ 300 ∧ ∀ f, wcT W' (2 * f + 1) = pa (pa f 0) 0) ∧ (X (notT g) ∧ X (chG Pr g)) ∧ (((Pr ++ [notT g]).flatMap flt).length ≤ 5000 ∧ hzO (chG Pr g) ∧ szT (chG Pr g) ≤ 5000) ∧ Lim nu2 u X ∧ P5u u X ∧ (∀ t, ndC nu2 u t ∨ X t → (kd t = 17 ∨ kd t = 30) → ∀ q ∈ ps t, q ≠ 0) ∧ (cnF (htT (chG Pr g) + 1) (chG Pr g) 0 ≤ 40 → ChR W' X c (n + 1) m d B u (chG Pr g))
theorem cCheck {d : Nat} {W : Wd} {c n m B : Nat} {Fo Pr : List Nat} {lc : Nat} {K : Int} {u : Sg} {X : Nat → Prop} {T : Nat → Nat} (hd : 2 * n ≤ d) (hn : 210 ≤ n) (h : ReC W c Fo Pr lc K u) (hF : FoP Fo) (hP : PrF Fo Pr) (h9 : 0 ≤ gI u 99 ∧ gI u 99 < 1000000) (hK : K ≤ 900000) (hTy : ∀ i, i < c → T (2 * i) = wcT W (2 * i)) (a : Int) (hR : isS Fo 2 a → CkC (wTy W T) X c n m d B u Pr (frm Fo a)) : wp (runC (d + 1) 36 [a] u) (FcC (isS Fo 2 a) False (ckV (wTy W T) c n (Pr ++ [notT (frm Fo a)])) (fun u' => ReC W c Fo Pr (ckL c n (Pr ++ [notT (frm Fo a)])) (K + 1001) u' ∧ NdC u u' (fun _ => False)) (fun u' => ReC W c Fo Pr lc K u' ∧ NdC u u' (fun _ => False))) := by
  rw [runC_eq (by omega)]
  show wp (bX1_check (runC d) a u) _
  have hs := h.1.1
  have hn9 := nC_le hs
  have nd : NdC u (tS u) (fun _ => False) := fun z ⟨y, a, b, e⟩ => Or.inl ⟨y, a, b, e⟩
  unfold bX1_check
  rcases cS (d := d) (by omega) h hF h9 (s := 2) (by decide) a with ⟨hS, x, x0, hx, ex, e⟩ | ⟨hS, e⟩
  · have e : runC d 26 [a] u = some ((x : Int), u) := e
    obtain ⟨fo, fz, -⟩ := hF _ hS.mem
    have fh := hF.ht hS.mem
    obtain ⟨⟨r1, r2⟩, ⟨r3, r4⟩, ⟨r5, r6, r7⟩, r8, r9, r10, r11⟩ := hR hS
    have hno := okT_not fo hS.fo
    have hPs : ∀ p ∈ Pr ++ [notT (frm Fo a)], okT p ∧ isFo p ∧ htT p < n := fun p hp => by
      rcases List.mem_append.mp hp with q | q
      · have := hF.ht (hP p q).1
        exact ⟨(hF p (hP p q).1).1, (hP p q).2, by omega⟩
      · rw [List.mem_singleton.mp q]
        have := ht_not fo
        exact ⟨hno.1, hno.2, by omega⟩
    have hGo : okT (chG Pr (frm Fo a)) ∧ isFo (chG Pr (frm Fo a)) := okT_and (fun p hp => ⟨(hPs p hp).1, (hPs p hp).2.1⟩)
    have hhG := ht_and (B := n - 1) (t := chG Pr (frm Fo a)) (fun p hp => ⟨(hPs p hp).1, (hPs p hp).2.1, by have := (hPs p hp).2.2; omega⟩) (by omega) rfl
    obtain ⟨ce1, ce2, -⟩ := cases_eq (c := c) hPs (by omega) rfl hGo
    rw [cl_eq e, pr_n (by omega)]
    refine wp_mono (chk_core (W := wTy W T) (X := X) (c := c) (n := n + 1) (m := m) (B := B) (Pr := Pr) (gt := frm Fo a) (by omega) r1 r2 ((cw_ty hTy).mpr h.1) h.2.1 h.2.2.1 ⟨h.2.2.2.2.2.1.1, by have := h.2.2.2.2.2.1.2; omega⟩ ⟨by have := h.2.2.2.2.2.2.1.1; omega, by have := h.2.2.2.2.2.2.1.2; omega⟩ h.2.2.2.2.2.2.2.1 h.2.2.2.2.2.2.2.2.1 (by have := h.2.2.2.2.1; omega) h.2.2.2.2.2.2.2.2.2.2.1 x0 hx ex fo hS.fo (fun f hf => ⟨(hF f (hP f hf).1).1, (hP f hf).2⟩) r3 r4 r5 r6 r7 (by unfold chG at hhG; omega) r8 r9 r10 r11) (fun r v q => ?_)
    have hv := h.chk hTy q
    obtain ⟨⟨-, -, -, ⟨en, -, et, -⟩, -⟩, -, -, qa⟩ := q
    refine Or.inl ⟨hS, id, ?_, ?_, fun z ⟨y, y0, y1, y2⟩ => Or.inl ⟨y, y0, by rw [← en]; exact y1, by rw [← et y (by rw [← en]; exact y1)]; exact y2⟩⟩
    · refine ckV_eq ?_
      rw [← ce1, ← ce2]
      exact qa
    · unfold ckL
      rw [← ce1]
      exact hv
  · have e : runC d 26 [a] u = some (exB + 1, tS u) := e
    exact wp_thr1 e hS ⟨h.tS h9, nd⟩ _
/-- what the model's check asks for -/
def CkT (W' : Wd) (X : Nat → Prop) (c n B : Nat) (u : Sg) (Pr : List Nat) (g : Nat) : Prop := (B ≤ 300 ∧ ∀ f, wcT W' (2 * f + 1) = pa (pa f 0) 0) ∧ X (notT g) ∧ LimT nt2 u X ∧ (tqRL (tqR W' X n) (tqF n) (Pr ++ [notT g]) c ∧ (tqL (tqF n) (Pr ++ [notT g]) c).2 ≤ 2990) ∧ (∀ y ∈ tqP n (Pr ++ [notT g]) c, y.length ≤ 5000) ∧ ((tqP n (Pr ++ [notT g]) c).length ≤ 40 → (WOK W' (NT nt2 ((tqL (tqF n) (Pr ++ [notT g]) c).2 + 2)) ∧ WGK W' (NT nt2 ((tqL (tqF n) (Pr ++ [notT g]) c).2 + 2)) ∧ ∀ m, NT nt2 ((tqL (tqF n) (Pr ++ [notT g]) c).2 + 2) m → htT (wcT W' m) ≤ 700) ∧ ∀ y ∈ tqP n (Pr ++ [notT g]) c, ReqT W' (tqL (tqF n) (Pr ++ [notT g]) c).2 u B X (fun f => f ∈ y))
theorem tCheck {d : Nat} {W : Wd} {c n B : Nat} {Fo Pr : List Nat} {lc : Nat} {K : Int} {u : Sg} {X : Nat → Prop} {T : Nat → Nat} (hd : 1740 + n ≤ d) (hn : 210 ≤ n) (h : ReT W c Fo Pr lc K u) (hF : FoP Fo) (hP : PrF Fo Pr) (hK : K ≤ 20000) (hTy : ∀ i, i < c → T (2 * i) = wcT W (2 * i)) (a : Int) (hR : isS Fo 2 a → CkT (wTy W T) X c n B u Pr (frm Fo a)) : wp (runT (d + 1) 52 [a] u) (FcT (isS Fo 2 a) False (ckV (wTy W T) c n (Pr ++ [notT (frm Fo a)])) (fun u' => ReT W c Fo Pr (ckL c n (Pr ++ [notT (frm Fo a)])) (K + 1) u' ∧ NdT u u' (fun _ => False)) (fun u' => ReT W c Fo Pr lc K u' ∧ NdT u u' (fun _ => False))) := by
  rw [runT_eq (by omega)]
  show wp (bX3_check (runT d) a u) _
  have hs := h.s0 (v := 0) (by decide)
  unfold bX3_check
  rw [wp_un]
  rcases tS' (d := d) (by omega) hs hF (s := 2) (by decide) a with ⟨hS, x, x0, hx, ex, e⟩ | ⟨hS, e⟩
  · have e : runT d 12 [a, 2] (sI u 0 0) = some ((x : Int), sI u 0 0) := e
    obtain ⟨fo, fz, flo⟩ := hF _ hS.mem
    obtain ⟨⟨r1, r2⟩, r3, r4, ⟨r5, r6⟩, r7, r8⟩ := hR hS
    have hl0 : LimT nt2 (sI u 0 0) X := fun l hn hm => r4 l hn (fun t ht => (hm t ht).imp (fun ⟨y, a, b, e⟩ => ⟨y, a, b, e⟩) id)
    have zq : ∀ f, f ∈ Fo → szQ f ≤ 600 := fun f hf => Nat.le_trans (szQ_le f) (by have := (hF f hf).2.1; omega)
    have h54 := hs.2.2.2.2.2.1
    have h76 := hs.2.2.2.2.2.2.1
    have h43 := hs.2.2.2.2.2.2.2.1
    rw [cl_eq e, if_neg (by omega)]
    refine wp_call (tX3_checked (Mq := rmM (sI u 0 0)) (W := wTy W T) (X := X) (c := c) (n := n) (B := B) (Pr := Pr) (gt := frm Fo a) hd r1 r2 ((tw_ty hTy).mpr hs.1) hs.2.1 hs.2.2.1.rem ⟨h54.1, by omega⟩ (by omega) (fun k k1 k2 => Nat.le_trans (by omega) (h43 k k1 k2)) (by have := hs.2.2.2.2.1; omega) hs.2.2.2.2.2.2.2.2.2.1 x0 hx ex fo hS.fo flo (zq _ hS.mem) (fun f hf => ⟨(hF f (hP f hf).1).1, (hP f hf).2, (hF f (hP f hf).1).2.2, zq f (hP f hf).1⟩) r3 hl0 r5 r6 r7 (fun q => ⟨(r8 q).1, fun y hy => ?_⟩)) (fun r v q => ?_)
    · obtain ⟨z1, z2, z3, X2, z4, z5⟩ := (r8 q).2 y hy
      exact ⟨z1, z2, z3, X2, z4, RfTX.op (fun t ⟨y, a, b, e⟩ => Or.inl ⟨y, a, b, e⟩) 16 _ _ z5⟩
    · have hv := hs.chk hTy q
      obtain ⟨⟨-, -, -, ⟨en, -, et, -⟩, -, hg⟩, -, -, qa⟩ := q
      rw [wp_some]
      refine Or.inl ⟨hS, id, ckV_eq qa, ?_, hv, fun z ⟨y, y0, y1, y2⟩ => Or.inl ⟨y, y0, ?_, ?_⟩⟩
      · rw [hg.I 0 (by decide +kernel), gI_sI, if_pos rfl]
      · rw [en] at y1; exact y1
      · rw [en] at y1; rw [et y y1] at y2; exact y2
  · have e : runT d 12 [a, 2] (sI u 0 0) = some (0, sI u 0 0) := e
    rw [cl_eq e, if_pos rfl, cl_eq (fails_eq (by omega)), wp_some]
    exact Or.inr (Or.inr ⟨hS, rfl, by rw [gI_sI, if_pos rfl], hs.s0 (by decide), fun z ⟨y, a, b, e⟩ => Or.inl ⟨y, a, b, e⟩⟩)
