/-! a case of a check: what is at hand is closed, at every stage -/
section CAS
variable {W : Wd} {N : Nat → Prop}
theorem sub_cltm {f s : Nat} (hf : frW W N f) (hc : closT f) (hs : subT s f) (ht : isTm s) (hl : loT s = 0) : cltm W N s :=
  ⟨hf.sub hs, ht, hl, fun l h h3 => hc.2 l (lv_in f hf.1 hs h) h3⟩
theorem hand_cl {K O : Nat → Prop} (hW : WOK W N) (hG : WGK W N) (hK : ∀ f, K f → frW W N f ∧ closT f) (hO : ∀ f, O f → N (2 * f + 1)) : ∀ t, fH (facS W K O) t → cltm W N t := by
  have hty : ∀ t y, clty W N y → tyF W (cltm W N, fun _ _ => True, fun _ _ _ => True, fun _ _ => True) t y := fun t y hy z hz => by
    have := (up_cl hW _ y (Nat.lt_succ_self _) hy z hz).1
    exact ⟨trivial, fun _ _ => trivial, fun h0 => ((type_part this).2 h0).1⟩
  have hc : Clo W K (newc O) (cltm W N, fun _ _ => True, fun _ _ _ => True, fun _ _ => True) := by
    refine ⟨⟨fun f hf s h1 h2 h3 => sub_cltm (hK f hf).1 (hK f hf).2 h1 h2 h3, fun b ⟨f, hf, e⟩ => ?_, fun t ht s hs hm => ?_, fun t ht => hty t _ (ty_ok hW ht), fun f hf k => hty _ _ (clty14 (hK f hf).1 (hK f hf).2 k).1⟩, ⟨fun _ _ => trivial, fun _ _ _ => trivial, fun _ _ _ _ _ => trivial, fun _ _ _ => trivial, fun _ _ _ => trivial, fun _ _ _ _ => trivial, fun _ _ _ _ _ _ _ _ => trivial, fun _ _ _ _ _ => trivial⟩, fun _ _ _ _ _ => trivial, fun _ _ _ _ _ _ _ _ _ _ => trivial, fun t g ht k4 hg hs ho _ => ⟨?_, trivial⟩, fun _ _ _ _ _ _ _ _ _ => trivial⟩
    · rw [e]; exact const_ok (hO f hf)
    · have ht : cltm W N t := ht
      exact sub_cltm ht.1 ht.2.2 hs hm (cl_sub _ t (Nat.lt_succ_self _) (Or.inl ht) s hs)
    · have ht : cltm W N t := ht
      show cltm W N (sbT (locg (pa t 0) (pa t 1)) 0 (wgV W g))
      obtain ⟨f1, f2⟩ := ht.1.lc.2.1 k4
      obtain ⟨g1, g2⟩ := (hG.2 g hg).2.2.2.2 hs
      rw [ho] at g1
      have h2 := (hW.2.2.1 _ f1).2.2
      have := loc_ok (d := 0) g1 h2 (fun z => (fun_part ht k4 (i := 0) (by omega)).1) (fun z => (fun_part ht k4 (i := 1) (by omega)).1)
      exact ⟨this.1, sb_tm this.2.2.1 g2, this.2.1⟩
  exact (Der_sub hc).1
variable {B : Nat} {K0 : Nat → Prop}
/-- the stages of a case: what is known is closed, and the world stands -/
theorem stg_ok (hK : KOK W N B K0 (fun _ => False)) (hW : WOK W N) (hG : WGK W N) (hc : ∀ f, wcT W (2 * f + 1) = pa (pa f 0) 0) : ∀ r, KOK W N B (stg W (aS K0) K0 r).1 (stg W (aS K0) K0 r).2 ∧ WOK W (nmX N (stg W (aS K0) K0 r).2) ∧ WGK W (nmX N (stg W (aS K0) K0 r).2)
  | 0 => ⟨hK, hW.mono (fun _ h => Or.inl h) (fun n h => h.elim (fun q => (hW.2.2.2 n q).mono (fun _ h => Or.inl h)) (fun ⟨_, q, _⟩ => q.elim)), hG.mono (fun _ h => Or.inl h)⟩
  | r + 1 => by
    obtain ⟨h1, h2, h3⟩ := stg_ok hK hW hG hc r
    have mo : ∀ n, nmX N (stg W (aS K0) K0 r).2 n → nmX N (stg W (aS K0) K0 (r + 1)).2 n := fun n q => q.imp id (fun ⟨f, a, b⟩ => ⟨f, Or.inl a, b⟩)
    refine ⟨h1.step (fun t ⟨f, hf, hs, ht, hl⟩ => ?_), h2.mono mo (fun n h => ?_), h3.mono mo⟩
    · obtain ⟨a, b, _⟩ := hK f hf
      exact (sub_cltm a b hs ht hl).mono (fun n q => q.imp id (fun ⟨_, q, _⟩ => q.elim))
    · rcases h with q | ⟨f, hf | ⟨hf, k16, k18⟩, e⟩
      · exact (h2.2.2.2 n (Or.inl q)).mono mo
      · exact (h2.2.2.2 n (Or.inr ⟨f, hf, e⟩)).mono mo
      · obtain ⟨a, b, _⟩ := h1 f hf
        obtain ⟨r1, r2, r3⟩ := (eq_len a).2.2 k16
        rw [e, hc]
        exact (all_clo (a.part r2) (b.part a.1.n (by omega) r2) k18).1.mono mo
theorem stg_hand (hK : KOK W N B K0 (fun _ => False)) (hW : WOK W N) (hG : WGK W N) (hc : ∀ f, wcT W (2 * f + 1) = pa (pa f 0) 0) (r : Nat) : ∀ t, fH (facS W (stg W (aS K0) K0 r).1 (stg W (aS K0) K0 r).2) t → cltm W (nmX N (stg W (aS K0) K0 r).2) t := by
  obtain ⟨h1, h2, h3⟩ := stg_ok hK hW hG hc r
  exact hand_cl h2 h3 (fun f hf => ⟨(h1 f hf).1, (h1 f hf).2.1⟩) (fun f hf => Or.inr ⟨f, hf, rfl⟩)
end CAS
