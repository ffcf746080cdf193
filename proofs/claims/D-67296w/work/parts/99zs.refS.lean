/-! the rounds of a case, with no program in sight -/
def newc (O : Nat → Prop) (t : Nat) : Prop := ∃ f, O f ∧ t = mk 1 (2 * f + 1) []
def manyS (F : Fs) : Prop := ∃ L : List Nat, L.Nodup ∧ L.length = 101 ∧ ∀ t ∈ L, fH F t
def overS (K : Nat → Prop) : Prop := ∃ L : List Nat, L.Nodup ∧ L.length = 401 ∧ ∀ t ∈ L, K t
def Tof (A O : Nat → Prop) (t : Nat) : Prop := A t ∨ newc O t
def facS (W : Wd) (K O : Nat → Prop) : Fs := DerF W K (newc O)
def comS (W : Wd) (A K O : Nat → Prop) (g : Nat) : Prop := cmeS (facS W K O) K (Tof A O) O g
def nxK (W : Wd) (A K O : Nat → Prop) (g : Nat) : Prop := K g ∨ comS W A K O g
def nxO (K O : Nat → Prop) (f : Nat) : Prop := O f ∨ (K f ∧ kd f = 16 ∧ kd (pa f 0) = 18)
def RefB (W : Wd) (A : Nat → Prop) (nx : (Nat → Prop) → (Nat → Prop) → Int → Prop) (K O : Nat → Prop) (r : Int) : Prop :=
  (manyS (facS W K O) ∧ r = 2) ∨ (¬ manyS (facS W K O) ∧ ((conS (facS W K O) K ∧ r = 1) ∨ (¬ conS (facS W K O) K ∧ (((∀ g, comS W A K O g → K g) ∧ r = 0) ∨ ((∃ g, comS W A K O g ∧ ¬ K g) ∧ ((overS (nxK W A K O) ∧ r = 2) ∨ (¬ overS (nxK W A K O) ∧ nx (nxK W A K O) (nxO K O) r)))))))
/-- what a case comes to: 1 contradictory, 0 not, 2 beyond; n + 1 rounds are left -/
def RefS (W : Wd) (A : Nat → Prop) : Nat → (Nat → Prop) → (Nat → Prop) → Int → Prop
  | 0 => RefB W A (fun _ _ r => r = 2)
  | n + 1 => RefB W A (RefS W A n)
theorem RefB.u {W : Wd} {A : Nat → Prop} {nx : (Nat → Prop) → (Nat → Prop) → Int → Prop} (hn : ∀ K O r r', nx K O r → nx K O r' → r = r') {K O : Nat → Prop} {r r' : Int} (h : RefB W A nx K O r) (h' : RefB W A nx K O r') : r = r' := by
  rcases h with ⟨a, b⟩ | ⟨a, h⟩
  · rcases h' with ⟨c, d⟩ | ⟨c, _⟩
    · omega
    · exact absurd a c
  · rcases h' with ⟨c, _⟩ | ⟨_, h'⟩
    · exact absurd c a
    · rcases h with ⟨a, b⟩ | ⟨a, h⟩
      · rcases h' with ⟨c, d⟩ | ⟨c, _⟩
        · omega
        · exact absurd a c
      · rcases h' with ⟨c, _⟩ | ⟨_, h'⟩
        · exact absurd c a
        · rcases h with ⟨a, b⟩ | ⟨⟨g, a1, a2⟩, h⟩
          · rcases h' with ⟨c, d⟩ | ⟨⟨g, c1, c2⟩, _⟩
            · omega
            · exact absurd (a g c1) c2
          · rcases h' with ⟨c, _⟩ | ⟨_, h'⟩
            · exact absurd (c g a1) a2
            · rcases h with ⟨a, b⟩ | ⟨a, h⟩
              · rcases h' with ⟨c, d⟩ | ⟨c, _⟩
                · omega
                · exact absurd a c
              · rcases h' with ⟨c, _⟩ | ⟨_, h'⟩
                · exact absurd c a
                · exact hn _ _ _ _ h h'
/-- a case comes to one thing alone -/
theorem RefS.u {W : Wd} {A : Nat → Prop} : ∀ (n : Nat) (K O : Nat → Prop) (r r' : Int), RefS W A n K O r → RefS W A n K O r' → r = r'
  | 0, _, _, _, _, h, h' => RefB.u (fun _ _ _ _ a b => by omega) h h'
  | n + 1, _, _, _, _, h, h' => RefB.u (fun K O r r' a b => RefS.u n K O r r' a b) h h'
theorem nd_lenL : ∀ (l l' : List Nat), l.Nodup → (∀ x ∈ l, x ∈ l') → l.length ≤ l'.length
  | [], _, _, _ => Nat.zero_le _
  | a :: l, l', h, hs => by
    have hm := hs a List.mem_cons_self
    have h1 := List.nodup_cons.mp h
    have := nd_lenL l (l'.erase a) h1.2 (fun x hx => (List.mem_erase_of_ne (fun e => h1.1 (by rw [← e]; exact hx))).mpr (hs x (List.mem_cons_of_mem _ hx)))
    rw [List.length_erase_of_mem hm] at this
    have : 0 < l'.length := List.length_pos_of_mem hm
    rw [List.length_cons]
    omega
/-- what the formulas of a case are like -/
def nmX (N : Nat → Prop) (O : Nat → Prop) (n : Nat) : Prop := N n ∨ ∃ f, O f ∧ n = 2 * f + 1
def KOK (W : Wd) (N : Nat → Prop) (B : Nat) (K O : Nat → Prop) : Prop := ∀ f, K f → frW W (nmX N O) f ∧ closT f ∧ isFo f ∧ szQ f ≤ B
theorem const_ok {W : Wd} {N : Nat → Prop} {n : Nat} (hn : N n) : cltm W N (mk 1 n []) := by
  obtain ⟨o, t⟩ := okT_const n
  have k := kd_mk 1 n []
  refine ⟨⟨o, fun s hs => ?_⟩, t, (lo_leaf o.n (Or.inl k)).2, fun l hl h3 => ?_⟩
  · rw [sub_const hs]
    refine ⟨fun _ => by rw [wh_mk]; exact hn, fun z => ?_, fun z => ?_, fun z => ?_, fun z => ?_, fun z => ?_⟩ <;> (rw [k] at z; omega)
  · rw [lv_leaf (by omega)] at hl
    rw [List.mem_singleton.mp hl, k] at h3
    omega
theorem KOK.step {W : Wd} {N : Nat → Prop} {B : Nat} {A K O : Nat → Prop} (h : KOK W N B K O) (hA : ∀ t, A t → cltm W (nmX N O) t) : KOK W N B (nxK W A K O) (nxO K O) := by
  have mo : ∀ n, nmX N O n → nmX N (nxO K O) n := fun n q => q.imp id (fun ⟨f, a, b⟩ => ⟨f, Or.inl a, b⟩)
  intro g hg
  rcases hg with hg | ⟨f, hf, hc⟩
  · obtain ⟨a, b, c, d⟩ := h g hg
    exact ⟨a.mono mo, b, c, d⟩
  · obtain ⟨a, b, c, d⟩ := h f hf
    have f0 : f ≠ 0 := isFo_pos c
    have h5 : ¬ (kd f ≤ 5 ∧ loT f = 0) := fun q => by unfold isFo at c; omega
    have exf := szQ_ex f0 h5
    rcases hc with ⟨k, hm⟩ | ⟨k, t, hT, _, _, e⟩ | ⟨k, k2, p, ⟨i, i1, i2, _⟩, e⟩ | ⟨k, k2, _, e⟩
    · have hgf : isFo g := by
        rcases a.1.n.2 with q | q | q | q | q | q | q | q | q | q | q | q | q | q <;> try omega
        exact (q.2.2.2 g hm).1
      have hfm : g ∈ fms f := fms_mem hm (by omega) (isFo_pos hgf)
      have := g_c exf hfm
      exact ⟨(a.part hfm).mono mo, b.part a.1.n (by omega) hfm, hgf, by omega⟩
    · obtain ⟨ty, bd, e1, py, pb, k8, hbf, my, mb, _⟩ := all_parts a.1 k
      obtain ⟨c1, c2, c3, c4⟩ := all_clo a b k
      rw [pb] at c2 c3 c4 e
      have ht : cltm W (nmX N O) t := by
        rcases hT with q | ⟨f', q1, q2⟩
        · exact hA t q
        · rw [q2]; exact const_ok (Or.inr ⟨f', q1, rfl⟩)
      have := g_c exf mb
      have z := szQ_put ht.2.2.1 ht.2.1 bd c3.1 0
      rw [e]
      exact ⟨(put_fr c3 ht).mono mo, ⟨Nat.le_zero.mp (lo_put ht.2.2.1 bd c3.1 0 c2), lv_put c3.1 c4 ht.2.2.2⟩, (sb_fo hbf).1, by omega⟩
    · obtain ⟨r1, r2, r3⟩ := (eq_len a).2.2 k
      have ag := a.part r2
      have bg := b.part a.1.n (by omega) r2
      have hpm : p ∈ ps (pa f 0) := by rw [i2]; exact List.mem_of_getElem? (pa_get i1)
      have hpf : isFo p := by
        rcases ag.1.n.2 with q | q | q | q | q | q | q | q | q | q | q | q | q | q <;> try omega
        exact (q.2.2.2 p hpm).1
      have hfm : p ∈ fms (pa f 0) := fms_mem hpm (by omega) (isFo_pos hpf)
      have z1 := g_c exf r2
      have z2 := g_c (szQ_ex (fms_ps r2).2 (by omega)) hfm
      have ap := ag.part hfm
      have z3 := szQ_not ap.1 hpf
      rw [e]
      exact ⟨(frW_not ap hpf).mono mo, closT_not ap.1 hpf (bg.part ag.1.n (by omega) hfm), (okT_not ap.1 hpf).2, by omega⟩
    · obtain ⟨r1, r2, r3⟩ := (eq_len a).2.2 k
      have ag := a.part r2
      have bg := b.part a.1.n (by omega) r2
      obtain ⟨ty, bd, e1, py, pb, k8, hbf, my, mb, _⟩ := all_parts ag.1 k2
      obtain ⟨c1, c2, c3, c4⟩ := all_clo ag bg k2
      rw [pb] at c2 c3 c4 e
      have hct : cltm W (nmX N (nxO K O)) (mk 1 (2 * f + 1) []) := const_ok (Or.inr ⟨f, Or.inr ⟨hf, k, k2⟩, rfl⟩)
      have c3' := c3.mono mo
      have z1 := g_c exf r2
      have z2 := g_c (szQ_ex (fms_ps r2).2 (by omega)) mb
      have z := szQ_put hct.2.2.1 hct.2.1 bd c3.1 0
      have fp := put_fr (e := 0) c3' hct
      have cp : closT (sbT (putg (mk 1 (2 * f + 1) [])) 0 bd) := ⟨Nat.le_zero.mp (lo_put hct.2.2.1 bd c3.1 0 c2), lv_put c3.1 c4 hct.2.2.2⟩
      have ff := (sb_fo (g := putg (mk 1 (2 * f + 1) [])) (d := 0) hbf).1
      have z3 := szQ_not fp.1 ff
      rw [e]
      exact ⟨frW_not fp ff, closT_not fp.1 ff cp, (okT_not fp.1 ff).2, by omega⟩
