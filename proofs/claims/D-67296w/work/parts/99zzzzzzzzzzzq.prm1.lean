/-! openings of kept formulas: what they make, by numbers alone -/
theorem KvN.ok {W : Wd} {c Kb : Nat} {Fo Pr : List Nat} (h : KvN W c Fo Pr Kb) {f : Nat} (hf : f ∈ Fo) : okT f := (h.1.1.1.1.1.1.2.1 f hf).1.1.1
theorem AtLw_0 {k kl P Q Z A : Nat} (h : AtL k kl P Q Z A) : AtLw (fun A => 0 * lz 0 A) k kl P Q Z A := fun h8 h14 d i hi hv => by
  have := h h8 h14 d i hi hv
  simp only [Nat.zero_mul, Nat.add_zero]
  exact this
theorem AtAw_0 {k P Q Y s : Nat} (h : AtA k P Q Y s) : AtAw (fun A => 0 * lz 0 A) k P Q Y s := fun k18 k8 i hi => by
  have := h k18 k8 i hi
  simp only [Nat.zero_mul, Nat.add_zero]
  exact this
/-- types of binders: few names -/
theorem ty_vn {W : Wd} {c Kb : Nat} {Fo Pr : List Nat} (h : KvN W c Fo Pr Kb) {f s k kt : Nat} (hf : f ∈ Fo) (ff : isFo f) (hs : subT s f) (k18 : kd s = 18) (hkt : min (min (c - 1) (k - 1)) (TmF Fo).length ≤ kt) : ∀ i, i < k → vnT (pa s 0) 0 i ≤ kt := fun i hi => by
  have ho := h.ok hf
  have os := sub_ok f ho hs
  obtain ⟨y, g, hp, y8, fg, my, mg⟩ := ps_all1 os k18
  have e : pa s 0 = y := by unfold pa; rw [hp]; rfl
  rw [e]
  have h1 : vnT y 0 i ≤ c - 1 := by
    have := (h.1.1.2.2.1.1 f hf ff s hs) k18
    rw [e] at this
    exact this.vn 0 i
  have h2 : vnT y 0 i ≤ i := vn_i
  have h3 : vnT y 0 i ≤ (TmF Fo).length := by
    obtain ⟨L, l1, l2⟩ := (h.2 f hf ff).2.2 s hs
    obtain ⟨⟨_, l3⟩, _⟩ := (tc_all k18 hp).mp (l2 (by unfold isFo; omega))
    refine Nat.le_trans ?_ l1
    unfold vnT
    have e1 : ((List.range i).filter (fun r => @decide (hvT y (0 + r)) (Classical.propDecidable _))).length = (((List.range i).filter (fun r => @decide (hvT y (0 + r)) (Classical.propDecidable _))).map (fun r => 2 * r)).length := by rw [List.length_map]
    rw [e1]
    refine nd_lenL _ _ (List.pairwise_map.mpr (List.Pairwise.imp (fun hne e => hne (by omega)) vn_nd)) (fun z hz => ?_)
    obtain ⟨r, hr, er⟩ := List.mem_map.mp hz
    rw [← er]
    exact l3 r (vn_mem.mp hr).2
  omega
section PRM
variable {W : Wd} {c Kb : Nat} {Fo Pr : List Nat} {f P Q k kl ko kt H Y Z s0 cu : Nat} {G s' U V : Nat → Nat}
theorem prm_L (h : KvN W c Fo Pr Kb) (hf : f ∈ Fo) (ff : isFo f) (hC : CnL2 Fo kl (MgF Fo).length P Q Z) : Alls (AtL k kl P Q Z) f := fun s hs => AtL.of2 (sub_ok f (h.ok hf) hs) (h.1.1.1.2.1 f hf ff s hs) (h.1.1.2.1 f hf ff s hs) ((h.1.1.1.2.2.1 f hf ff).2.2 s hs) hC
theorem prm_A (h : KvN W c Fo Pr Kb) (hf : f ∈ Fo) (ff : isFo f) (hkt : min (min (c - 1) (k - 1)) (TmF Fo).length ≤ kt) (hC : CnT2 Fo kt (MgF Fo).length P Q Y) : Alls (AtA k P Q Y) f := fun s hs k18 => by
  have os := sub_ok f (h.ok hf) hs
  obtain ⟨y, g, hp, y8, fg, my, mg⟩ := ps_all1 os k18
  have e : pa s 0 = y := by unfold pa; rw [hp]; rfl
  have hv := ty_vn h hf ff hs k18 hkt
  rw [e] at hv ⊢
  have hy : subT y f := sub_tr f (sub_c my (sub_rf y)) hs
  exact AtT2.of (os.c my) (h.1.1.1.2.1 f hf ff y hy) (h.1.1.2.1 f hf ff y hy) ((h.1.1.1.2.2.1 f hf ff).2.2 y hy) hv hC
theorem prm_O (h : KvN W c Fo Pr Kb) (hf : f ∈ Fo) (ff : isFo f) : Alls (fun s => NmL c s ∧ NmL (LmF Fo).length s ∧ NtL (TmF Fo).length s) f := fun s hs => ⟨h.1.1.1.1.2.1 f hf ff s hs, (h.1.1.1.2.2.1 f hf ff).2.1 s hs, (h.2 f hf ff).2.2 s hs⟩
theorem prm_o {kl ko c l κ : Nat} (hko : min (min c l) (kl + κ) ≤ ko) : ∀ b pol i, okT b → isFo b → Alls (fun s => NmL c s ∧ NmL l s ∧ NtL κ s) b → lnN b pol i ≤ kl → vnT b 0 i ≤ ko := fun b pol i ho hf hA hl => by
  obtain ⟨h1, h2, h3⟩ := hA b (sub_rf b)
  have a1 := h1.vn 0 i
  have a2 := h2.vn 0 i
  have a3 := h3.vn ho hf hl
  omega
/-- the nodes that an opening makes, any number of cases -/
theorem op_q (h : KvN W c Fo Pr Kb) (hf : f ∈ Fo) (ff : isFo f) (pol : Bool) (hG : GQ k ko P Q G (fun i => 2 * Q + s' i)) (hGA : GA k ko P Q Q G) (hQP : Q ≤ P) (hk : k ≤ H) (hY : Rv G k + G k * (H - k) ≤ Y) (hC : CnL2 Fo kl (MgF Fo).length P Q Y) (hCt : CnT2 Fo kt (MgF Fo).length P Q Y) (hcu : cu = 0 ∨ (2 * Q ≤ P ∧ cu + 2 * Y ≤ (P - 2 * Q) * s0 + P)) (hko : min (min c (LmF Fo).length) (kl + (TmF Fo).length) ≤ ko) (hkt : min (min (c - 1) (k - 1)) (TmF Fo).length ≤ kt) (hs : scT f pol ≤ k) (hl : kpT f pol ≤ kl) (hH : hgT f ≤ H) : Q * (evT f pol + exoT f pol) + P + suG s' f pol 0 + cu * occ s0 f ≤ P * szT f + 2 * Q * (kaT f pol - 1) := by
  have ho := h.ok hf
  have h1 := prm_L (k := k) h hf ff hC
  have h2 := prm_A (k := k) h hf ff hkt hCt
  have hx := exo_all (Q := Q) (s' := s') f ho ff pol 0
  rcases hcu with q | ⟨q1, q2⟩
  · have := evqx_le (w := fun A => 0 * lz 0 A) (prm_o hko) hG hGA hQP hk hY ho ff (fun s hs => AtLw_0 (h1 s hs)) (fun s hs => AtAw_0 (h2 s hs)) (prm_O h hf ff) pol hs hl hH
    rw [wu_occ, Nat.zero_mul] at this
    rw [q, Nat.zero_mul, Nat.mul_add]
    omega
  · have := evqx_le (w := fun A => cu * lz s0 A) (prm_o hko) hG hGA hQP hk hY ho ff (fun s hs => AtLw_lz (sub_ok f ho hs) (h1 s hs) q1 q2) (fun s hs => AtAw_lz (sub_ok f ho hs) (h2 s hs) q1 q2) (prm_O h hf ff) pol hs hl hH
    rw [wu_occ] at this
    rw [Nat.mul_add]
    omega
/-- one case: levels by depth alone -/
theorem op_h (h : KvN W c Fo Pr Kb) (hf : f ∈ Fo) (ff : isFo f) (pol : Bool) (hG : GQ k ko P Q G (fun i => 2 * Q + s' i)) (hGA : GA k ko P Q Q G) (hQP : Q ≤ P) (hU : ∀ i, i ≤ k → V i + G i ≤ U i) (hW : ∀ i, i < k → U i + G i ≤ V (i + 1)) (hY : V k ≤ Y) (hZ : ∀ i, i ≤ k → U i + G i * H ≤ Z) (hC : CnL2 Fo kl (MgF Fo).length P Q Z) (hCt : CnT2 Fo kt (MgF Fo).length P Q Y) (hcu : cu = 0 ∨ (2 * Q ≤ P ∧ cu + 2 * Z ≤ (P - 2 * Q) * s0 + P ∧ cu + 2 * Y ≤ (P - 2 * Q) * s0 + P)) (hko : min (min c (LmF Fo).length) (kl + (TmF Fo).length) ≤ ko) (hkt : min (min (c - 1) (k - 1)) (TmF Fo).length ≤ kt) (hs : scT f pol ≤ k) (hl : kpT f pol ≤ kl) (hH : hgT f ≤ H) (hka : kaT f pol ≤ 1) : Q * (evT f pol + exoT f pol) + P + suG s' f pol 0 + cu * occ s0 f ≤ P * szT f := by
  have ho := h.ok hf
  have h1 := prm_L (k := k) (Z := Z) h hf ff hC
  have h2 := prm_A (k := k) h hf ff hkt hCt
  have hx := exo_all (Q := Q) (s' := s') f ho ff pol 0
  have e0 : kaT f pol - 1 = 0 := by omega
  rw [e0, Nat.mul_zero, Nat.add_zero] at hx
  rcases hcu with q | ⟨q1, q2, q3⟩
  · have := evhx_le (w := fun A => 0 * lz 0 A) (prm_o hko) hG hGA hQP hU hW hY hZ ho ff (fun s hs => AtLw_0 (h1 s hs)) (fun s hs => AtAw_0 (h2 s hs)) (prm_O h hf ff) pol hs hl hH hka
    rw [wu_occ, Nat.zero_mul] at this
    rw [q, Nat.zero_mul, Nat.mul_add]
    omega
  · have := evhx_le (w := fun A => cu * lz s0 A) (prm_o hko) hG hGA hQP hU hW hY hZ ho ff (fun s hs => AtLw_lz (sub_ok f ho hs) (h1 s hs) q1 q2) (fun s hs => AtAw_lz (sub_ok f ho hs) (h2 s hs) q1 q3) (prm_O h hf ff) pol hs hl hH hka
    rw [wu_occ] at this
    rw [Nat.mul_add]
    omega
end PRM
