/-! openings of kept formulas where types have no leaves -/
section PRN
variable {W : Wd} {c Kb : Nat} {Fo Pr : List Nat} {f P Q k kl ko H Y s0 cu : Nat} {G s' : Nat → Nat}
theorem prm_AN (ho : okT f) (hz : Alls TyZ f) : Alls (AtA k P Q Y) f := fun s hs k18 => by
  have os := sub_ok f ho hs
  obtain ⟨y, g, hp, y8, fg, my, mg⟩ := ps_all1 os k18
  have e : pa s 0 = y := by unfold pa; rw [hp]; rfl
  rw [e]
  intro k8 i hi
  have l0 := hz y (sub_tr f (sub_c my (sub_rf y)) hs) y8
  obtain ⟨w1, w2⟩ := wk_lf0 (k := k) (d := 0) (i := i) (os.c my) (by omega) (by omega) l0
  rw [w1, w2]
  have := sz_fms (okT_0 (os.c my))
  have h1 : P * 1 ≤ P * szT y := Nat.mul_le_mul_left P (by omega)
  omega
theorem prm_oN {kl ko c l : Nat} (hko : min (min c l) kl ≤ ko) : ∀ b pol i, okT b → isFo b → Alls (fun s => NmL c s ∧ NmL l s ∧ TyZ s) b → lnN b pol i ≤ kl → vnT b 0 i ≤ ko := fun b pol i ho hf hA hl => by
  obtain ⟨h1, h2, _⟩ := hA b (sub_rf b)
  have a1 := h1.vn 0 i
  have a2 := h2.vn 0 i
  have a3 := ln_vn (kl := kl) b pol i ho hf (fun s hs => (hA s hs).2.2) hl
  omega
theorem op_qN (h : KvP W c Fo Pr Kb) (h0 : ∀ τ ∈ Fo, kd τ = 8 → lf τ = 0) (hf : f ∈ Fo) (ff : isFo f) (pol : Bool) (hG : GQ k ko P Q G (fun i => 2 * Q + s' i)) (hGA : GA k ko P Q Q G) (hQP : Q ≤ P) (hk : k ≤ H) (hY : Rv G k + G k * (H - k) ≤ Y) (hC : CnL2 Fo kl (MgF Fo).length P Q Y) (hcu : cu = 0 ∨ (2 * Q ≤ P ∧ cu + 2 * Y ≤ (P - 2 * Q) * s0 + P)) (hko : min (min c (LmF Fo).length) kl ≤ ko) (hs : scT f pol ≤ k) (hl : kpT f pol ≤ kl) (hH : hgT f ≤ H) : Q * (evT f pol + exoT f pol) + P + suG s' f pol 0 + cu * occ s0 f ≤ P * szT f + 2 * Q * (kaT f pol - 1) := by
  have ho := h.1.ok hf
  have hz := h.tz h0 hf ff
  have h1 := prm_L (k := k) h.1 hf ff hC
  have h2 := prm_AN (k := k) (P := P) (Q := Q) (Y := Y) ho hz
  have hO : Alls (fun s => NmL c s ∧ NmL (LmF Fo).length s ∧ TyZ s) f := fun s hs => ⟨(prm_O h.1 hf ff s hs).1, (prm_O h.1 hf ff s hs).2.1, hz s hs⟩
  have hx := exo_all (Q := Q) (s' := s') f ho ff pol 0
  rcases hcu with q | ⟨q1, q2⟩
  · have := evqx_le (w := fun A => 0 * lz 0 A) (prm_oN hko) hG hGA hQP hk hY ho ff (fun s hs => AtLw_0 (h1 s hs)) (fun s hs => AtAw_0 (h2 s hs)) hO pol hs hl hH
    rw [wu_occ, Nat.zero_mul] at this
    rw [q, Nat.zero_mul, Nat.mul_add]
    omega
  · have := evqx_le (w := fun A => cu * lz s0 A) (prm_oN hko) hG hGA hQP hk hY ho ff (fun s hs => AtLw_lz (sub_ok f ho hs) (h1 s hs) q1 q2) (fun s hs => AtAw_lz (sub_ok f ho hs) (h2 s hs) q1 q2) hO pol hs hl hH
    rw [wu_occ] at this
    rw [Nat.mul_add]
    omega
end PRN
