/-! face: forms by number once more -/
def frm (Fo : List Nat) (a : Int) : Nat := (Fo[a.toNat]?).getD 0
theorem getF.frm {Fo : List Nat} {a : Int} {f : Nat} (h : getF Fo a f) : frm Fo a = f := by
  unfold Jvm.Pilot.CRoundCheckLaw_law_r3799_a790a3.frm
  rw [h.2]; rfl
/-- the number is that of a form of a sort -/
def isS (Fo : List Nat) (s : Nat) (a : Int) : Prop := getF Fo a (frm Fo a) ∧ sP s (frm Fo a)
theorem isS.mem {Fo : List Nat} {s : Nat} {a : Int} (h : isS Fo s a) : frm Fo a ∈ Fo := h.1.mem
theorem isS_no {Fo : List Nat} {s : Nat} {a : Int} (h : ¬ ∃ f, getF Fo a f ∧ sP s f) : ¬ isS Fo s a := fun q => h ⟨_, q.1, q.2⟩
theorem cS {d : Nat} (hd : 12 ≤ d) {W : Wd} {c : Nat} {Fo Pr : List Nat} {lc : Nat} {K : Int} {u : Sg} (h : ReC W c Fo Pr lc K u) (hF : FoP Fo) (h9 : 0 ≤ gI u 99 ∧ gI u 99 < 1000000) {s : Nat} (hs3 : s < 3) (a : Int) : (isS Fo s a ∧ ∃ x : Nat, 0 < x ∧ x < nC u ∧ trC nu2 u x = frm Fo a ∧ runC d (mC s) [a] u = some ((x : Int), u)) ∨ (¬ isS Fo s a ∧ runC d (mC s) [a] u = some (exB + 1, tS u)) := by
  rcases cSort hd h hF h9 hs3 a with ⟨f, x, hg, hp, x0, hx, et, e⟩ | ⟨hn, e⟩
  · have ef := hg.frm
    exact Or.inl ⟨⟨by rw [ef]; exact hg, by rw [ef]; exact hp⟩, x, x0, hx, by rw [ef]; exact et, e⟩
  · exact Or.inr ⟨isS_no hn, e⟩
theorem tS' {d : Nat} (hd : 10 ≤ d) {W : Wd} {c : Nat} {Fo Pr : List Nat} {lc : Nat} {K : Int} {u : Sg} (h : ReT W c Fo Pr lc K u) (hF : FoP Fo) {s : Nat} (hs3 : s < 3) (a : Int) : (isS Fo s a ∧ ∃ x : Nat, 0 < x ∧ x ≤ nT u ∧ trT nt2 u x = frm Fo a ∧ runT d 12 [a, (s : Int)] u = some ((x : Int), u)) ∨ (¬ isS Fo s a ∧ runT d 12 [a, (s : Int)] u = some (0, u)) := by
  rcases tSort hd h hF hs3 a with ⟨f, x, hg, hp, x0, hx, et, e⟩ | ⟨hn, e⟩
  · have ef := hg.frm
    exact Or.inl ⟨⟨by rw [ef]; exact hg, by rw [ef]; exact hp⟩, x, x0, hx, by rw [ef]; exact et, e⟩
  · exact Or.inr ⟨isS_no hn, e⟩
theorem tCl {d : Nat} (hd : 300 ≤ d) {W : Wd} {c : Nat} {Fo Pr : List Nat} {lc : Nat} {K : Int} {u : Sg} (h : ReT W c Fo Pr lc K u) (hF : FoP Fo) {s : Nat} (hs3 : s < 3) (a : Int) : ((isS Fo s a ∧ lvL (frm Fo a) 0) ∧ ∃ x : Nat, 0 < x ∧ x ≤ nT u ∧ trT nt2 u x = frm Fo a ∧ runT d 25 [a, (s : Int)] u = some ((x : Int), u)) ∨ (¬ (isS Fo s a ∧ lvL (frm Fo a) 0) ∧ runT d 25 [a, (s : Int)] u = some (0, u)) := by
  rcases tClosed hd h hF hs3 a with ⟨f, x, hg, ⟨hp, hl⟩, x0, hx, et, e⟩ | ⟨hn, e⟩
  · have ef := hg.frm
    exact Or.inl ⟨⟨⟨by rw [ef]; exact hg, by rw [ef]; exact hp⟩, by rw [ef]; exact hl⟩, x, x0, hx, by rw [ef]; exact et, e⟩
  · exact Or.inr ⟨fun q => hn ⟨_, q.1.1, q.1.2, q.2⟩, e⟩
theorem FoP.ht {Fo : List Nat} (hF : FoP Fo) {f : Nat} (hf : f ∈ Fo) : htT f ≤ 200 := by
  obtain ⟨ho, hz, -⟩ := hF f hf
  exact Nat.le_trans (ht_sz f (fun q => by have := okT_kin ho; rw [q, kd0] at this; omega)) hz
/-! face: mode -/
def wMd (W : Wd) (y h : Nat) : Wd := setN (setF (setF W 1 (wnM W) y) 2 (wnM W) h) 0 (wnM W + 1)
theorem wmP_md {W : Wd} {y h i : Nat} : wmP (wMd W y h) i = if i = wnM W then y else wmP W i := rfl
theorem wmH_md {W : Wd} {y h i : Nat} : wmH (wMd W y h) i = if i = wnM W then h else wmH W i := rfl
theorem wex_md {N : Nat → Prop} {W : Wd} {y h : Nat} : WEx N W (wMd W y h) := ⟨fun _ _ => rfl, ⟨Nat.le_succ _, fun m hm => ⟨by rw [wmP_md, if_neg (by omega)], by rw [wmH_md, if_neg (by omega)]⟩⟩, ⟨Nat.le_refl _, fun _ _ => ⟨rfl, rfl⟩⟩, ⟨Nat.le_refl _, fun _ _ => rfl⟩, Nat.le_refl _, rfl, rfl, rfl, rfl, rfl, rfl⟩
def okMd (Fo : List Nat) (a o : Int) : Prop := isS Fo 1 a ∧ lvL (frm Fo a) o.toNat
theorem wp_bad {d : Nat} (hd : 3 ≤ d) {u : Sg} {ok full : Prop} {v : Int} {P P' : Sg → Prop} (h9 : 0 ≤ gI u 99 ∧ gI u 99 < 1000000) (hb : ¬ ok) (hp : P' (tS u)) (Kc : Int → Sg → Option (Int × Sg)) : wp (cl (runC d 4 [0] u) fun v s => pr v s (Kc v s)) (FcC ok full v P P') := by
  rw [need_no hd h9]
  show wp (pr (exB + 1) (tS u) _) _
  rw [pr_x (by decide), wp_some]
  exact Or.inr (Or.inr ⟨hb, rfl, hp⟩)
theorem wp_full {d : Nat} (hd : 3 ≤ d) {u : Sg} {ok full : Prop} {v : Int} {P P' : Sg → Prop} (h9 : 0 ≤ gI u 99 ∧ gI u 99 < 1000000) (hb : ok) (hf : full) (hp : P' (tS u)) (Kc : Int → Sg → Option (Int × Sg)) : wp (cl (runC d 6 [0] u) fun v s => pr v s (Kc v s)) (FcC ok full v P P') := by
  rw [room_no hd h9]
  show wp (pr (exB + 2) (tS u) _) _
  rw [pr_x (by decide), wp_some]
  exact Or.inr (Or.inl ⟨hb, hf, rfl, hp⟩)
theorem wp_thr1 {e : Option (Int × Sg)} {u : Sg} {ok full : Prop} {v : Int} {P P' : Sg → Prop} (he : e = some (exB + 1, tS u)) (hb : ¬ ok) (hp : P' (tS u)) (Kc : Int → Sg → Option (Int × Sg)) : wp (cl e fun v s => pr v s (Kc v s)) (FcC ok full v P P') := by
  rw [he]
  show wp (pr (exB + 1) (tS u) _) _
  rw [pr_x (by decide), wp_some]
  exact Or.inr (Or.inr ⟨hb, rfl, hp⟩)
theorem cMode {d : Nat} (hd : 300 ≤ d) {W : Wd} {c : Nat} {Fo Pr : List Nat} {lc : Nat} {K : Int} {u : Sg} (h : ReC W c Fo Pr lc K u) (hF : FoP Fo) (h9 : 0 ≤ gI u 99 ∧ gI u 99 < 1000000) (a o : Int) (ho : o = 0 ∨ o = 1) : wp (runC d 1 [a, o] u) (FcC (okMd Fo a o) (wnM W = 20) (wnM W : Int) (ReC (wMd W (frm Fo a) o.toNat) c Fo Pr lc K) (ReC W c Fo Pr lc K)) := by
  obtain ⟨d, rfl⟩ : ∃ e, d = e + 1 := ⟨d - 1, by omega⟩
  rw [runC_eq (by omega)]
  show wp (bX1_mode (runC d) a o u) _
  unfold bX1_mode jn
  dsimp only
  rw [wp_gd]
  refine ⟨ho, ?_⟩
  rcases cS (d := d) (by omega) h hF h9 (s := 1) (by decide) a with ⟨hs, x, x0, hx, et, e⟩ | ⟨hs, e⟩
  · have hn9 := nC_le h.1.1
    obtain ⟨fo, fz, -⟩ := hF _ hs.mem
    have fh := hF.ht hs.mem
    have e : runC d 2 [a] u = some ((x : Int), u) := e
    obtain ⟨r, e1, e2, e3, e4⟩ := rX1_loci h.1.1 (frm Fo a) fo (by omega) d x (by omega) x0 hx et
    rw [cl_eq e, pr_n (by omega), cl_eq e1]
    obtain ⟨h69, ⟨h1, h20⟩, h67, h68, hz, hen⟩ := h.1.2.2.2.1
    have hr := e4 o.toNat
    have main : okMd Fo a o → wp (cl (runC d 4 [1] u) fun v18 s19 => pr v18 s19 (un (gI s19 69) fun v20 => if v20 < 20 then cl (runC d 6 [1] s19) fun v7 s8 => pr v7 s8 (un (gI s8 69) fun v9 => stA s8 67 v9 (x : Int) fun s10 => un (gI s10 69) fun v11 => stA s10 68 v11 o fun s12 => un (gI s12 69) fun v13 => ar (v13 + 1) fun v14 => un (sI s12 69 v14) fun s15 => un (gI s15 69) fun v16 => ar (v16 - 1) fun v17 => some (v17, s15)) else cl (runC d 6 [0] s19) fun v7 s8 => pr v7 s8 (un (gI s8 69) fun v9 => stA s8 67 v9 (x : Int) fun s10 => un (gI s10 69) fun v11 => stA s10 68 v11 o fun s12 => un (gI s12 69) fun v13 => ar (v13 + 1) fun v14 => un (sI s12 69 v14) fun s15 => un (gI s15 69) fun v16 => ar (v16 - 1) fun v17 => some (v17, s15)))) (FcC (okMd Fo a o) (wnM W = 20) (wnM W : Int) (ReC (wMd W (frm Fo a) o.toNat) c Fo Pr lc K) (ReC W c Fo Pr lc K)) := fun hok => by
      rw [cl_eq (need_ok (by omega)), pr_0, wp_un, h69]
      by_cases hlt : wnM W < 20
      · rw [if_pos (by omega), cl_eq (room_ok (by omega)), pr_0, wp_un, h69, wp_stA]
        refine ⟨⟨by omega, by rw [h67]; omega⟩, ?_⟩
        rw [wp_un, gI_sA, h69, wp_stA]
        refine ⟨⟨by omega, by rw [gL_sA, h68]; omega⟩, ?_⟩
        rw [wp_un, gI_sA, gI_sA, h69, wp_ar]
        refine ⟨⟨by omega, by omega⟩, ?_⟩
        rw [wp_un, wp_un, gI_sI, if_pos rfl, wp_ar]
        refine ⟨⟨by omega, by omega⟩, ?_⟩
        rw [wp_some]
        refine Or.inl ⟨hok, by omega, by omega, ?_⟩
        have hw : WF FC (sI (sA (sA u 67 (wnM W : Int) (x : Int)) 68 (wnM W : Int) o) 69 ((wnM W : Int) + 1)) := wfI (WF.sA (wfA h.2.1 rfl ⟨by omega, by omega⟩) (fun _ => by rcases ho with q | q <;> rw [q] <;> exact ⟨by decide, by decide⟩) (fun _ => by rcases ho with q | q <;> rw [q] <;> exact ⟨by decide, by decide⟩) (fun _ => ho)) rfl ⟨by omega, by omega⟩
        refine h.tb (fun k hk => (aA (by omega)).trans (aA (by omega))) (fun k hk => by rw [gI_sI, if_neg (by omega)]; rfl) hw h.1.2.2.1 ⟨?_, ?_, h67, h68, ?_, fun i i1 hi => ?_⟩ h.1.2.2.2.2.1 h.1.2.2.2.2.2.1 h.1.2.2.2.2.2.2 h.2.2.2.2.2.2.2.2.2.1 h.2.2.2.2.2.2.2.2.2.2.1 h.2.2.2.2.2.2.2.2.2.2.2
        · rw [gI_sI, if_pos rfl]; show _ = ((wnM W + 1 : Nat) : Int); omega
        · show 1 ≤ wnM W + 1 ∧ wnM W + 1 ≤ 20; omega
        · rw [gN_sI, gN_sAn, if_neg (by omega), gN_sAn, if_neg (by omega)]; exact hz
        · have hi : i < wnM W + 1 := hi
          rw [gN_sI, gN_sI, gN_sAn, if_neg (by omega), gN_sAn, gN_sAn, gN_sAn, wmP_md, wmH_md]
          by_cases q : i = wnM W
          · rw [if_pos ⟨rfl, q⟩, if_pos q, if_pos ⟨rfl, q⟩, if_pos q]
            exact ⟨⟨x, rfl, hx, et⟩, by omega⟩
          · rw [if_neg (fun z => q z.2), if_neg q, if_neg (fun z => q z.2), if_neg q, if_neg (by omega)]
            exact hen i i1 (by omega)
      · rw [if_neg (by omega)]
        exact wp_full (by omega) h9 hok (by omega) (h.tS h9) _
    rcases ho with rfl | rfl
    · rw [if_pos rfl]
      by_cases hl : r < 0
      · rw [if_pos hl]
        exact main ⟨hs, hr.mp hl⟩
      · rw [if_neg hl]
        exact wp_bad (by omega) h9 (fun q => hl (hr.mpr q.2)) (h.tS h9) _
    · rw [if_neg (by decide)]
      by_cases hl : r < 1
      · rw [if_pos hl]
        exact main ⟨hs, hr.mp hl⟩
      · rw [if_neg hl]
        exact wp_bad (by omega) h9 (fun q => hl (hr.mpr q.2)) (h.tS h9) _
  · have e : runC d 2 [a] u = some (exB + 1, tS u) := e
    exact wp_thr1 e (fun q => hs q.1) (h.tS h9) _
