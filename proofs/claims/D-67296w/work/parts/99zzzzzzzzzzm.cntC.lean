/-! counting: a put below binders, long units with two leaves without doubles (the count) -/
section CNW
variable {t : Nat} {E : Nat → Nat} {χ : Prop} {M K : Nat} {Sh : List Nat}
theorem covu_fo (ht : clT1 t) (hE : clE1 E) (hM : 8 ≤ M) (hK : K + 10 = 2 * M) : ∀ (b : Nat), okT b → isFo b → Alls (AtE0 M Sh) b → ∀ e, nwT t E e b ≠ odT E e b → (kd b ≠ 16 → FqU M K χ Sh t E e b 10) ∧ FqU M K χ Sh t E e b 8 := by
  intro b
  induction b using Nat.strongRecOn with
  | ind b ih =>
    intro ho hf hA e hc
    have b0 := okT_0 ho
    by_cases k14 : kd b ≤ 14
    · have h := atu (χ := χ) (e := e) ht hE hM hK ho (by unfold isFo at hf; omega) k14 hA hc
      exact ⟨fun _ => h, h.le (by omega)⟩
    by_cases k16 : kd b = 16
    · obtain ⟨f, hp, ff, kf, mf⟩ := ps_not1 ho k16
      have of := ho.c mf
      have f0 := okT_0 of
      have F : FqU M K χ Sh t E e f 10 := by
        by_cases hcf : nwT t E e f = odT E e f
        · exact absurd (nw_not k16 hp f0 hcf) hc
        · exact (ih f (fms_lt mf) of ff (hA.sub (sub_c mf (sub_rf f))) e hcf).1 kf
      obtain ⟨L, Zx, Za, Zu, c1, c2, c3⟩ := F
      have fb : fms b = [f] := by
        unfold fms
        rw [if_neg (by omega), hp]
        simp [f0]
      have hs1 : szT b = 1 + szT f := by rw [sz_pl b0 (by omega), hp]; simp
      refine ⟨fun q => absurd k16 q, nwT t E e b :: L, Zx, Za, Zu, CovB.node ht hE (by omega) (by omega) (fun p hp' => by rw [fb, List.mem_singleton] at hp'; rw [hp']; exact c1) c1.2.1 c1.2.2, fun z hz => (cd_pl (Or.inl k16)).mpr ⟨f, by rw [hp]; simp, c2 z hz⟩, ?_⟩
      rw [List.length_cons, hs1]
      simp only [Nat.mul_add, Nat.mul_one]
      omega
    have main : FqU M K χ Sh t E e b 10 := by
      by_cases k17 : kd b = 17
      · have hl : 2 ≤ (ps b).length ∧ ∀ f ∈ ps b, isFo f := by
          rcases ho.n.2 with q | q | q | q | q | q | q | q | q | q | q | q | q | q <;> first | omega | exact ⟨q.2.2.1, fun p hp => (q.2.2.2 p hp).1⟩
        have mf : ∀ p ∈ ps b, p ∈ fms b := fun p hp => fms_mem hp (by omega) (isFo_pos (hl.2 p hp))
        obtain ⟨L, Zx, Za, Zu, a1, ⟨a2, a3⟩, a5, a4⟩ := covu_li (χ := χ) (Sh := Sh) (t := t) (E := E) (K := K) (cP := 8) (e := e) (M := M) (by omega) (l := ps b) (fun p hp hcp => (ih p (fms_lt (mf p hp)) (ho.c (mf p hp)) (hl.2 p hp) (hA.sub (sub_c (mf p hp) (sub_rf p))) e hcp).2) (fun p hp => isFo_pos (hl.2 p hp))
        refine ⟨nwT t E e b :: L, Zx, Za, Zu, CovB.node ht hE (by omega) (by omega) (fun p hp => a1 p (fms_ps hp).1) a2 a3, fun z hz => (cd_pl (Or.inr k17)).mpr (a5 z hz), ?_⟩
        rw [List.length_cons, sz_pl b0 (by omega)]
        simp only [Nat.mul_add, Nat.mul_one]
        have : 8 * 2 ≤ 8 * (ps b).length := Nat.mul_le_mul_left 8 hl.1
        omega
      · have k18 : kd b = 18 := by unfold isFo at hf; omega
        obtain ⟨y, f, hp, y8, ff, my, mf⟩ := ps_all1 ho k18
        have oy := ho.c my
        have of := ho.c mf
        obtain ⟨Ly, Xy, Uy, y1, y3, y2⟩ := tyu (χ := χ) (e := e) ht hE hM oy y8 (hA.sub (sub_c my (sub_rf y)))
        have B : FqU M K χ Sh t E (e + 1) f 8 := by
          by_cases hcf : nwT t E (e + 1) f = odT E (e + 1) f
          · exact FqU.old hcf (okT_0 of) (by omega)
          · exact (ih f (fms_lt mf) of ff (hA.sub (sub_c mf (sub_rf f))) (e + 1) hcf).2
        obtain ⟨Lf, Xf, Zf, Uf, f1, f3, f2⟩ := B
        have cb := CovB.all ht hE k18 hp (okT_0 oy) (okT_0 of) y1 f1
        refine ⟨nwT t E e b :: (Ly ++ Lf), Xy ++ Xf, Zf, Uy ++ Uf, cb.mono (fun s hs => ?_) (fun _ h => h) (fun _ h => h) cb.2.1 cb.2.2, fun z hz => (cd_all k18 hp).mpr ((List.mem_append.mp hz).imp (y3 z) (f3 z)), ?_⟩
        · rcases List.mem_cons.mp hs with q | q
          · rw [q]; exact List.mem_cons_self
          · exact List.mem_cons_of_mem _ (app_u (List.mem_append.mp q))
        · rw [sz_pl b0 (by omega), hp]
          simp only [List.map_cons, List.map_nil, List.sum_cons, List.sum_nil, List.length_append, List.length_cons, Nat.mul_add, Nat.mul_one, Nat.mul_zero, List.map_append, List.sum_append]
          omega
    exact ⟨fun _ => main, main.le (by omega)⟩
end CNW
