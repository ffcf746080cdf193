/-! constructors: what they ask for, what they leave -/
def zS : Sg := (fun _ => 0, fun _ => (0, fun _ => 0), 0, 0)
/-- all arrays are empty of content -/
def Zr (F : Fm) (σ : Sg) : Prop := (∀ k, inR (gI σ k)) ∧ (∀ k, F.2.1 k = 4 → gI σ k = 0 ∨ gI σ k = 1) ∧ ∀ k, gL σ k < 2147483648 ∧ gF σ k = fun _ => 0
theorem Zr_z {F : Fm} : Zr F zS := ⟨fun _ => by show inR 0; decide, fun _ _ => Or.inl rfl, fun _ => ⟨by show (0 : Nat) < _; decide, rfl⟩⟩
theorem Zr.sN {F : Fm} {σ : Sg} (h : Zr F σ) {id n : Nat} (hn : n < 2147483648) : Zr F (sN σ id n (fun _ => 0)) := by
  refine ⟨h.1, h.2.1, fun k => ?_⟩
  rw [gL_sN, gF_sN]
  by_cases e : k = id
  · rw [if_pos e, if_pos e]; exact ⟨hn, rfl⟩
  · rw [if_neg e, if_neg e]; exact h.2.2 k
theorem Zr.sI {F : Fm} {σ : Sg} (h : Zr F σ) {id : Nat} {v : Int} (hv : inR v) (hk : F.2.1 id ≠ 4) : Zr F (sI σ id v) := by
  refine ⟨fun k => ?_, fun k h4 => ?_, h.2.2⟩
  · rw [gI_sI]
    split
    · exact hv
    · exact h.1 k
  · rw [gI_sI, if_neg (fun e : k = id => hk (by rw [← e]; exact h4))]
    exact h.2.1 k h4
theorem Zr.wf {F : Fm} {σ : Sg} (h : Zr F σ) : WF F σ :=
  ⟨h.1, fun k => (h.2.2 k).1, fun k j _ => by rw [(h.2.2 k).2]; show inL 0; decide, fun k j _ => by rw [(h.2.2 k).2]; show inR 0; decide, fun k j _ => by rw [(h.2.2 k).2]; exact Or.inl rfl, h.2.1⟩
theorem arz1 {G : Gm} {kd : Nat → Nat} {σ : Sg} {id n : Nat} (h : kd id = 1) : arE G kd (sN σ id n (fun _ => 0)) id = .inl (G.2.1, n, .inl fun _ => Int32.ofInt 0) := by
  rw [arE_i h, gL_sN, gF_sN, if_pos rfl, if_pos rfl]
theorem arz2 {G : Gm} {kd : Nat → Nat} {σ : Sg} {id n : Nat} (h : kd id = 2) : arE G kd (sN σ id n (fun _ => 0)) id = .inl (G.2.2.1, n, .inr (.inl fun _ => Int64.ofInt 0)) := by
  rw [arE_l h, gL_sN, gF_sN, if_pos rfl, if_pos rfl]
theorem arz3 {G : Gm} {kd : Nat → Nat} {σ : Sg} {id n : Nat} (h : kd id = 3) : arE G kd (sN σ id n (fun _ => 0)) id = .inl (G.2.2.2, n, .inl fun _ => Int32.ofInt 0) := by
  rw [arE_z h, gL_sN, gF_sN, if_pos rfl, if_pos rfl]
/-- a new object with the fields of its class, nothing set -/
def bw0 (kd : Nat → Nat) (ci b N : Nat) (q : Nat) : va_W := [(q, .inr (ci, bfs kd (fun _ => q) zS [] b N))]
def PcI (G : Gm) (kd : Nat → Nat) (ci b N q sz : Nat) : Array Value → State → Prop := va_Pc [.ref q] (fun U => U.heap.size = sz ∧ va_P G.1 clA (bw0 kd ci b N q) U.heap ∧ va_K G.1 clA (tysA G) U)
def QcI (F : Fm) (G : Gm) (ob q : Nat) (A : Nat → Prop) (σf : Sg) : Array Value → State → Outcome → State → Prop := fun _ st o t => o = .returned none ∧ ∃ ad : Nat → Nat, ad ob = q ∧ WF F σf ∧ va_P G.1 clA (wl F G ad σf) t.heap ∧ va_D A (wl F G ad σf) ∧ va_K G.1 clA (tysA G) t ∧ va_F A st t
def CtI (l : Launch) (d : Nat) (F : Fm) (kd : Nat → Nat) (ci b N ob : Nat) (y : MethodName) (cy : ByteArray) (σf : Sg) : Prop := ∀ (G : Gm) (q sz : Nat), Met l y (ws_ y cy 1 none) ({ frames := d, cells := gC σf, slots := gS σf, locals := 40 * d } : Room) (PcI G kd ci b N q sz) (QcI F G ob q (va_A (bw0 kd ci b N q) sz) σf) (gC σf) (gS σf) (va_A (bw0 kd ci b N q) sz)
theorem bfs_z {kd ad ad' : Nat → Nat} {b N : Nat} : bfs kd ad zS [] b N = bfs kd ad' zS [] b N :=
  List.map_congr_left fun k _ => by
    unfold bv
    by_cases h : kd (b + k) = 0 ∨ kd (b + k) = 4 ∨ b + k ∈ ([] : List Nat)
    · rw [if_pos h, if_pos h]
      unfold fv
      rcases h with h | h | h
      · rw [h]; rfl
      · rw [h]; rfl
      · cases h
    · rw [if_neg h, if_neg h]
/-- all is set: the object's world is the family's -/
theorem bw_end {F : Fm} {G : Gm} {ci b N : Nat} {ad : Nat → Nat} {σ : Sg} {set arrs : List Nat} (hF : F.1 = [(ci, b, N)]) (hs : ∀ j, j < N → F.2.1 (b + j) = 0 ∨ F.2.1 (b + j) = 4 ∨ b + j ∈ set) (hp : arrs.Perm F.2.2) : (wl F G ad σ).Perm (bw G F.2.1 (ci, b, N, 0, []) ad σ set arrs) := by
  unfold wl bw
  rw [hF, bfs_all hs]
  show ((ad 0, Sum.inr (ci, fvs F.2.1 ad σ b N)) :: arW G F.2.1 ad σ F.2.2).Perm _
  exact List.Perm.cons _ (hp.symm.map _)
theorem va_P_perm {D : va_G} {ws ws' : va_W} {H : Heap} (h : ws.Perm ws') (hP : va_P D clA ws' H) : va_P D clA ws H := by
  rw [va_P_iff] at hP ⊢
  exact fun q hq => hP q (h.mem_iff.mp hq)
theorem va_D_perm {A : Nat → Prop} {ws ws' : va_W} (h : ws.Perm ws') (hD : va_D A ws') : va_D A ws := by
  rw [va_D_iff] at hD ⊢
  exact ⟨(h.map Prod.fst).nodup_iff.mpr hD.1, fun q hq => hD.2 q (h.mem_iff.mp hq)⟩
/-- the way into a constructor: to its first row behind the call of Object's -/
theorem ctor_in {l : Launch} {d : Nat} {F : Fm} {kd : Nat → Nat} {ci b N ob : Nat} {y : MethodName} {cy : ByteArray} {σf : Sg} {idx : Nat} (hy : plainName y.cls = true) (hyn : y.name = "<init>") (hob : ob < 10) (hd : 1 ≤ d) (hq : Cond.methodLink y.cls idx Lib.objectInit ∈ lw_all) (d0 : decode cy 0 = .ok (.aload_n 0, 1)) (d1 : decode cy (0 + 1) = .ok (.invokespecial idx, 3))
    (body : ∀ (p : Program) (e : Env) (s : State) (m : MethodId) (below : List Frame) (meth : Method) (c : Code) (G : Gm) (q : Nat), OKx p s m #[.ref q] meth c (cy, y.cls, 1, none) G clA (va_A (bw0 kd ci b N q) s.heap.size) → meth.name = "<init>" → ∀ ad : Nat → Nat, ad ob = q → WB p l e ({ frames := d, cells := gC σf, slots := gS σf, locals := 40 * d } : Room) s m #[.ref q] below meth c G (va_A (bw0 kd ci b N q) s.heap.size) kd (ci, b, N, ob, []) (MQ below (QcI F G ob q (va_A (bw0 kd ci b N q) s.heap.size) σf) #[.ref q] s (gC σf) (gS σf) (va_A (bw0 kd ci b N q) s.heap.size)) ad zS [] [] 4 []) : CtI l d F kd ci b N ob y cy σf := by
  intro G q sz
  refine Met.ofW (cc := cy) (maxL := 1) (ret := none) hy rfl ?_
  intro p e s m args below meth c s₁ B hml hv
  obtain ⟨rfl, hsz, hP, hK⟩ := hv
  have hts := atoms_spec (ws := ws_ y cy 1 none) B.pre
  have hts : ∀ w ∈ lw_all, w.before _ s = true := fun w h => hts w (List.mem_cons_of_mem _ h)
  have hown : s.vm.findClass y.cls = some m.cls := findClass_of_methodNamed B.named
  have hnm : meth.name = "<init>" := by rw [← hyn]; exact (name_of_methodNamed B.named B.method).1
  subst hsz
  have hl := lv_entry ([.ref q]) (n := 1) (Nat.le_of_ble_eq_true rfl)
  rw [lg_entry_eq]
  have hl : lv_has _ 1 [(0, .ref q)] := hl
  have hb := body p e s m below meth c G q ⟨B.exec, B.bytes, hml, hown, hts, B.notSynchronized, B.returns, hK, fun z h => Or.inr h⟩ hnm (fun _ => q) rfl s.heap [] _ (by
    have : bw G kd (ci, b, N, ob, []) (fun _ => q) zS [] [] = bw0 kd ci b N q := rfl
    rw [this]; exact hP) (by
    have : bw G kd (ci, b, N, ob, []) (fun _ => q) zS [] [] = bw0 kd ci b N q := rfl
    rw [this]
    rw [va_D_iff]
    refine ⟨by simp [bw0], fun z hz => va_A_iff.mpr (Or.inl ⟨z.2, hz⟩)⟩) va_S.rf hl
  refine lv_aload_n B.exec B.bytes d0 rfl (lv_at hl 0 rfl) ?_
  exact W.objInit B.exec B.bytes hown (hts _ hq) (hts _ q180) (hts _ q181) (g := F0 m (0 + 1) _ [.ref q]) rfl (hl.1.trans hml.symm) rfl d1 hd (by show 2 * 0 + 0 + 12 ≤ 40 * d; omega) hb
