/-! face: cluster in the class -/
def okCo (Fo : List Nat) (t o : Int) : Prop := (pa (frm Fo t) 0 = 0 ∧ o = -1) ∨ ((pa (frm Fo t) 0 ≠ 0 ∧ kd (pa (frm Fo t) 0) = 3 ∧ wh (pa (frm Fo t) 0) = 0) ∧ isS Fo 1 o ∧ lvL (frm Fo o) 0)
def okCl (W : Wd) (Fo : List Nat) (t o s : Int) : Prop := isS Fo 1 t ∧ okSet W s ∧ okCo Fo t o
def coT (Fo : List Nat) (t o : Int) : Nat := if pa (frm Fo t) 0 = 0 then 0 else frm Fo o
def wCl (W : Wd) (Fo : List Nat) (t o s : Int) : Wd := wRg W 0 (frm Fo t) (coT Fo t o) 0 (mk 8 0 (0 :: setL s))
theorem ty_len {y : Nat} (ho : okT y) (h8 : kd y = 8) : 1 ≤ (ps y).length := by
  rcases ho.n.2 with q | q | q | q | q | q | q | q | q | q | q | q | q | q <;> first | omega | (obtain ⟨-, p, l, hp, -⟩ := q; rw [hp]; simp)
theorem cClus {d : Nat} (hd : 310 ≤ d) {W : Wd} {c : Nat} {Fo Pr : List Nat} {lc : Nat} {K : Int} {u : Sg} {X : Nat → Prop} (h : ReC W c Fo Pr lc K u) (hF : FoP Fo) (h9 : 0 ≤ gI u 99 ∧ gI u 99 < 1000000) (hK : K < 1000000) (t o s : Int) (hsR : inR s) (hl : Lim nu2 u X) (hX : X (mk 8 0 (0 :: setL s))) : wp (runC d 29 [t, o, s] u) (RgQ (okCl W Fo t o s) W (wCl W Fo t o s) c Fo Pr lc K u X) := by
  obtain ⟨d, rfl⟩ : ∃ e, d = e + 1 := ⟨d - 1, by omega⟩
  rw [runC_eq (by omega)]
  show wp (bX1_cluster (runC d) t o s u) _
  have hs := h.1.1
  have hn9 := nC_le hs
  have h70 := h.1.2.2.2.2.2.1.2.1
  have h15 := h.1.2.2.2.2.2.1.2.2
  obtain ⟨st1, st2⟩ := cSet (d := d) (by omega) h70 h15 h9 hsR
  have h81 := h.1.2.2.2.2.2.2.1
  have h30 := h.1.2.2.2.2.2.2.2.1
  unfold bX1_cluster
  rw [wp_jn]; dsimp only
  rcases cS (d := d) (by omega) h hF h9 (s := 1) (by decide) t with ⟨hS, y, y0, hy, ey, e⟩ | ⟨hS, e⟩
  · have e : runC d 2 [t] u = some ((y : Int), u) := e
    obtain ⟨fo, fz, -⟩ := hF _ hS.mem
    obtain ⟨ar, ea, ar1, ar2⟩ := rX1_argOf (d := d) (by omega) hs y0 hy (by rw [ey]; exact ty_len fo hS.k8)
    rw [ey] at ar2
    have hary : ar < nC u := by omega
    rw [cl_eq e, pr_n (by omega), cl_eq ea]
    -- behind the need
    have tail : ∀ (z : Nat), z < nC u → trC nu2 u z = coT Fo t o → okCo Fo t o → wp (jn (fun (a3 a4 a6 t0 : Int) (s10 : Sg) => cl (runC d 6 [t0] s10) fun v11 s12 => pr v11 s12 (cl (runC d 14 [0, 0, a3] s12) fun v13 s14 => cl (runC d 31 [0, a4, a6, 0, v13] s14) fun v15 s16 => pr v15 s16 (some (v15, s16)))) fun j9 => cl (runC d 13 [s] u) fun v17 s18 => pr v17 s18 (un (gI s18 81) fun v19 => if v19 < 30 then (j9 s (y : Int) (z : Int) 1 s18) else (j9 s (y : Int) (z : Int) 0 s18))) (RgQ (okCl W Fo t o s) W (wCl W Fo t o s) c Fo Pr lc K u X) := fun z hz ez hco => by
      rw [wp_jn]; dsimp only
      by_cases hok : okSet W s
      · have hokC : okCl W Fo t o s := ⟨hS, hok, hco⟩
        rw [cl_eq (st1 hok), pr_0, wp_un, h81]
        by_cases hlt : wnG W < 30
        · rw [if_pos (by omega), cl_eq (room_ok (by omega)), pr_0]
          exact RgQ.ws (s := 0) (oo := frm Fo t) (by omega) h h9 hK (by decide) ⟨by omega, by omega⟩ (fun _ => ⟨y, rfl, hy, ey⟩) (fun q => absurd rfl q) ⟨z, rfl, hz, ez⟩ (inC_0 hs) hok hokC hl hX
        · rw [if_neg (by omega)]
          exact RgQ.fu (by omega) h h9 hokC (by omega) _
      · exact RgQ.th (st2 hok) h h9 (fun q => hok q.2.1) _
    by_cases a0 : pa (frm Fo t) 0 = 0
    · have har : ar = 0 := by
        rcases Nat.eq_zero_or_pos ar with q | q
        · exact q
        · have : 0 < trC nu2 u ar := tr_pos (okp_C (ν := nu2) hs.1) q (by show ar ≤ nC u - 1; omega)
          omega
      rw [if_pos (by omega), wp_jn]; dsimp only
      by_cases o1 : o = -1
      · rw [if_pos o1, wp_jn]; dsimp only
        rw [wp_jn]; dsimp only
        rw [if_pos rfl, wp_jn]; dsimp only
        rw [if_pos (by omega), wp_jn]; dsimp only
        rw [cl_eq (need_ok (by omega)), pr_0, if_pos o1]
        exact tail 0 (by have := hs.1.1.1.2.1; omega) (by unfold coT; rw [if_pos a0]; rfl) (Or.inl ⟨a0, o1⟩)
      · rw [if_neg o1, wp_jn]; dsimp only
        rw [wp_jn]; dsimp only
        rw [if_neg (by decide), wp_jn]; dsimp only
        exact RgQ.nb (by omega) h h9 (fun q => by
          rcases q.2.2 with z | z
          · exact o1 z.2
          · exact z.1.1 a0) _
    · have har : 0 < ar := by
        rcases Nat.eq_zero_or_pos ar with q | q
        · rw [q] at ar2; exact absurd ar2.symm a0
        · exact q
      rw [if_neg (by omega), wp_jn]; dsimp only
      by_cases o1 : o = -1
      · rw [if_pos o1, wp_jn]; dsimp only
        rw [wp_jn]; dsimp only
        rw [if_neg (by decide), wp_jn]; dsimp only
        exact RgQ.nb (by omega) h h9 (fun q => by
          rcases q.2.2 with z | z
          · exact a0 z.1
          · exact z.2.1.nn o1) _
      · rw [if_neg o1, wp_jn]; dsimp only
        rw [wp_jn]; dsimp only
        rw [if_pos rfl, wp_jn]; dsimp only
        have hn := nodeC hs har hary
        rw [ar2] at hn
        rw [if_neg (by omega), wp_ld]
        refine ⟨⟨by omega, by have := hn.2.2.2.2.1; omega⟩, ?_⟩
        rw [gA_nat, hn.1]
        have no3 : ¬ (kd (pa (frm Fo t) 0) = 3 ∧ wh (pa (frm Fo t) 0) = 0) → wp (jn (fun (a3 a4 t0 : Int) (s8 : Sg) => jn (fun (a3 a4 a6 t0 : Int) (s10 : Sg) => cl (runC d 6 [t0] s10) fun v11 s12 => pr v11 s12 (cl (runC d 14 [0, 0, a3] s12) fun v13 s14 => cl (runC d 31 [0, a4, a6, 0, v13] s14) fun v15 s16 => pr v15 s16 (some (v15, s16)))) fun j9 => cl (runC d 13 [a3] s8) fun v17 s18 => pr v17 s18 (un (gI s18 81) fun v19 => if v19 < 30 then (j9 a3 a4 t0 1 s18) else (j9 a3 a4 t0 0 s18))) fun j7 => cl (runC d 4 [0] u) fun v20 s21 => pr v20 s21 (if o = (-1) then (j7 s (y : Int) 0 s21) else (cl (runC d 2 [o] s21) fun v22 s23 => pr v22 s23 (cl (runC d 18 [v22] s23) fun v24 s25 => pr v24 s25 (j7 s (y : Int) v24 s25))))) (RgQ (okCl W Fo t o s) W (wCl W Fo t o s) c Fo Pr lc K u X) := fun hno => by
          rw [wp_jn]; dsimp only
          exact RgQ.nb (by omega) h h9 (fun q => by
            rcases q.2.2 with z | z
            · exact a0 z.1
            · exact hno z.1.2) _
        by_cases k3 : kd (pa (frm Fo t) 0) = 3
        · rw [if_pos (by omega), wp_ld]
          refine ⟨⟨by omega, by have h1 := hs.1.1.2.2.2.1.1; have h2 := hn.2.2.2.2.1; omega⟩, ?_⟩
          rw [gA_nat, hn.2.1 (by omega)]
          by_cases w0 : wh (pa (frm Fo t) 0) = 0
          · rw [if_pos (by omega), wp_jn]; dsimp only
            rw [cl_eq (need_ok (by omega)), pr_0, if_neg o1]
            rcases cS (d := d) (by omega) h hF h9 (s := 1) (by decide) o with ⟨hS2, z, z0, hz, ez, e2⟩ | ⟨hS2, e2⟩
            · have e2 : runC d 2 [o] u = some ((z : Int), u) := e2
              obtain ⟨fo2, fz2, -⟩ := hF _ hS2.mem
              have fh2 := hF.ht hS2.mem
              obtain ⟨c1, c2⟩ := cClosed hs h9 (d := d) (by omega) fo2 (by omega) z0 hz ez
              rw [cl_eq e2, pr_n (by omega)]
              by_cases hcl : lvL (frm Fo o) 0
              · rw [cl_eq (c1 hcl), pr_n (by omega)]
                exact tail z hz (by unfold coT; rw [if_neg a0]; exact ez) (Or.inr ⟨⟨a0, k3, w0⟩, hS2, hcl⟩)
              · exact RgQ.th (c2 hcl) h h9 (fun q => by
                  rcases q.2.2 with w | w
                  · exact a0 w.1
                  · exact hcl w.2.2) _
            · have e2 : runC d 2 [o] u = some (exB + 1, tS u) := e2
              exact RgQ.th e2 h h9 (fun q => by
                rcases q.2.2 with w | w
                · exact a0 w.1
                · exact hS2 w.2.1) _
          · rw [if_neg (by omega)]
            exact no3 (fun q => w0 q.2)
        · rw [if_neg (by omega)]
          exact no3 (fun q => k3 q.1)
  · have e : runC d 2 [t] u = some (exB + 1, tS u) := e
    exact RgQ.th e h h9 (fun q => hS q.1) _
