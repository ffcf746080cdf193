/-! few trees -/
theorem KvI.tb {W W' : Wd} {c : Nat} {Fo Pr Pr' : List Nat} (h : KvI W c Fo Pr) (hA : AbI W' c Fo Pr') (hx : ∀ n, Nm nu2 c n → wcT W' n = wcT W n) : KvI W' c Fo Pr' := ⟨hA, h.2.1.wd hx, h.2.2⟩
theorem mo_arg {W : Wd} {Fo : List Nat} {a s t : Int} (h : okMo W Fo a s t) (h0 : argTy W Fo a t ≠ 0) : argTy W Fo a t ∈ Fo := by
  unfold argTy at h0 ⊢
  by_cases q : wmH W a.toNat = 0
  · rw [if_pos q] at h0; exact absurd rfl h0
  · rw [if_neg q]; exact (h.2.2.2 q).1.mem
theorem mo_sub {W : Wd} {Fo : List Nat} {a s t : Int} (h : okMo W Fo a s t) : frm Fo s ∈ Fo := h.2.1.1.mem
theorem KvI.at {W : Wd} {c : Nat} {Fo Pr : List Nat} {k a s t : Int} (h : KvI W c Fo Pr) (hk : okAt W Fo k a s t) (hz : okKp (atT W Fo k a s t)) : KvI W c (Fo ++ [atT W Fo k a s t]) Pr := by
  obtain ⟨hf, ff⟩ := fW_at h.1.2.1 h.1.2.2.1 hk
  have mk_in : ∀ {kk w : Nat} {l : List Nat} {z : Nat}, z ∈ fms (mk kk w l) → z ∈ l := fun {kk w l z} hz => by
    have := (fms_ps hz).1
    rwa [ps_mk] at this
  refine h.atm hf ?_ (fun z hz => ?_) hz
  · unfold atT modT yesT
    repeat' split
    all_goals (rw [kd_mk]; decide)
  · unfold atT at hz
    rcases hk with ⟨e, q⟩ | ⟨e, q⟩ | ⟨e, _, q⟩ | ⟨e, _, q⟩ | ⟨e, q⟩
    · rw [if_pos e] at hz; exact arg_mem q (mk_in hz)
    · rw [if_neg (by omega), if_pos e] at hz; exact arg_mem q (mk_in hz)
    · rw [if_neg (by omega), if_neg (by omega), if_pos e] at hz; exact arg_mem q (mk_in hz)
    · rw [if_neg (by omega), if_neg (by omega), if_neg (by omega), if_pos e] at hz; exact arg_mem q (mk_in hz)
    · rw [if_neg (by omega), if_neg (by omega), if_neg (by omega), if_neg (by omega)] at hz
      unfold modT at hz
      by_cases m0 : a.toNat = 0
      · rw [if_pos m0] at hz
        unfold yesT at hz
        rw [fms_nil] at hz
        cases hz
      · rw [if_neg m0] at hz
        have z0 := (fms_ps hz).2
        rcases List.mem_cons.mp (mk_in hz) with w | w
        · rw [w] at z0 ⊢
          exact mo_arg q z0
        · rw [List.mem_singleton.mp w]
          exact mo_sub q
def Few (S : Nat → Prop) (N P : Nat) : Prop := ∀ l : List Nat, l.Nodup → (∀ t ∈ l, S t) → l.length ≤ N ∧ (l.map (fun t => (ps t).length + 1)).sum ≤ P
theorem Few.mono {S T : Nat → Prop} {N P N' P' : Nat} (h : Few S N P) (hs : ∀ t, T t → S t) (h1 : N ≤ N') (h2 : P ≤ P') : Few T N' P' := fun l hn hm => by
  obtain ⟨a, b⟩ := h l hn (fun t ht => hs t (hm t ht))
  exact ⟨by omega, by omega⟩
theorem Few.or {S T : Nat → Prop} {N P N' P' : Nat} (h : Few S N P) (h' : Few T N' P') : Few (fun t => S t ∨ T t) (N + N') (P + P') := fun l hn hm => by
  obtain ⟨s1, s2⟩ := sum_split (f := fun t => (ps t).length + 1) (p := fun t => @decide (S t) (Classical.propDecidable _)) l
  obtain ⟨a1, a2⟩ := h (l.filter (fun t => @decide (S t) (Classical.propDecidable _))) (List.Pairwise.filter _ hn) (fun t ht => by simpa using (List.mem_filter.mp ht).2)
  obtain ⟨b1, b2⟩ := h' (l.filter (fun t => !@decide (S t) (Classical.propDecidable _))) (List.Pairwise.filter _ hn) (fun t ht => by
    obtain ⟨q1, q2⟩ := List.mem_filter.mp ht
    exact (hm t q1).resolve_left (by simpa using q2))
  exact ⟨by omega, by omega⟩
theorem sum_er {f : Nat → Nat} : ∀ {L : List Nat} {a : Nat}, a ∈ L → (L.map f).sum = f a + ((L.erase a).map f).sum
  | b :: L, a, h => by
    by_cases e : b = a
    · rw [e, List.erase_cons_head, List.map_cons, List.sum_cons]
    · have h2 : a ∈ L := (List.mem_cons.mp h).resolve_left (fun q => e q.symm)
      rw [List.erase_cons_tail (by simpa using e), List.map_cons, List.sum_cons, List.map_cons, List.sum_cons, sum_er h2]
      omega
theorem sum_sub {f : Nat → Nat} : ∀ {l L : List Nat}, l.Nodup → (∀ t ∈ l, t ∈ L) → (l.map f).sum ≤ (L.map f).sum
  | [], _, _, _ => Nat.zero_le _
  | a :: l, L, hn, h => by
    have hn' := List.nodup_cons.mp hn
    rw [sum_er (h a List.mem_cons_self), List.map_cons, List.sum_cons]
    have := sum_sub (f := f) (l := l) (L := L.erase a) hn'.2 (fun t ht => by
      have ne : t ≠ a := fun q => hn'.1 (by rw [← q]; exact ht)
      exact (List.mem_erase_of_ne ne).mpr (h t (List.mem_cons_of_mem _ ht)))
    omega
theorem Few.list (L : List Nat) : Few (fun t => t ∈ L) L.length ((L.map (fun t => (ps t).length + 1)).sum) := fun l hn hm => ⟨nd_lenL l L hn hm, sum_sub hn hm⟩
theorem sum_1 (l : List Nat) : (l.map (fun t => (ps t).length)).sum ≤ (l.map (fun t => (ps t).length + 1)).sum := sum_map_le (fun c _ => by omega)
theorem Few.lim {u : Sg} {X : Nat → Prop} {N P : Nat} (h : Few (fun t => ndC nu2 u t ∨ X t) N P) (h1 : N < 89990) (h2 : P ≤ 264000) : Lim nu2 u X := fun l hn hm => by
  obtain ⟨a, b⟩ := h l hn hm
  have := sum_1 l
  exact ⟨by omega, by omega⟩
theorem Few.limT {u : Sg} {X : Nat → Prop} {N P : Nat} (h : Few (fun t => ndT nt2 u t ∨ X t) N P) (h1 : N < 119990) (h2 : P ≤ 520000) : LimT nt2 u X := fun l hn hm => by
  obtain ⟨a, b⟩ := h l hn hm
  exact ⟨by omega, by omega⟩
/-- all forms within a form, one behind another -/
def sLS (f : Nat → List Nat) (t : Nat) : List Nat := t :: (fms t).flatMap f
def sL1 (t : Nat) : List Nat := rcT sLS [] t
theorem sL1_eq (t : Nat) : sL1 t = t :: (fms t).flatMap sL1 := rc_eq (fun f f' t h => by
  unfold sLS
  rw [flatMap_c (fun c hc => h c (fms_ps hc).1)]) t
theorem sL1_mem : ∀ (t : Nat) {s : Nat}, subT s t ↔ s ∈ sL1 t := by
  intro t
  induction t using Nat.strongRecOn with
  | ind t ih =>
    intro s
    rw [subT_eq, sL1_eq, List.mem_cons, List.mem_flatMap]
    exact ⟨fun q => q.imp id (fun ⟨c, hc, w⟩ => ⟨c, hc, (ih c (fms_lt hc)).mp w⟩), fun q => q.imp id (fun ⟨c, hc, w⟩ => ⟨c, hc, (ih c (fms_lt hc)).mpr w⟩)⟩
theorem sum_flat {f : Nat → Nat} {g : Nat → List Nat} : ∀ (l : List Nat), ((l.flatMap g).map f).sum = (l.map (fun c => ((g c).map f).sum)).sum
  | [] => rfl
  | a :: l => by
    rw [List.flatMap_cons, List.map_append, List.sum_append, List.map_cons, List.sum_cons, sum_flat l]
theorem ps_fms {t : Nat} (ho : okT t) (h8 : kd t ≠ 8) : (ps t).length ≤ (fms t).length + 1 := by
  have all : (∀ c ∈ ps t, c ≠ 0) → (ps t).length ≤ (fms t).length + 1 := fun h => by
    have : fms t = ps t := by
      unfold fms
      rw [if_neg h8]
      exact List.filter_eq_self.mpr (fun c hc => by simpa using h c hc)
    rw [this]; omega
  rcases ho.n.2 with q | q | q | q | q | q | q | q | q | q | q | q | q | q
  · rw [q.2]; exact Nat.zero_le _
  · rw [q.2]; exact Nat.zero_le _
  · rw [q.2.1]; exact Nat.zero_le _
  · exact all (fun c hc => isTm_pos (q.2.2 c hc))
  · obtain ⟨_, _, y, e, _⟩ := q
    rw [e]; simp
  · exact absurd q.1 h8
  · rw [q.2.2]; exact Nat.zero_le _
  · obtain ⟨_, _, a, b, e, ha, hb⟩ := q
    refine all (fun c hc => ?_)
    rw [e] at hc
    rcases List.mem_cons.mp hc with w | w
    · rw [w]; exact isTm_pos ha
    · rw [List.mem_singleton.mp w]; exact isTm_pos hb
  · exact all (fun c hc => isTm_pos (q.2.2 c hc))
  · obtain ⟨_, a, e, _⟩ := q
    rw [e]; simp
  · obtain ⟨_, a, b, e, _, hb⟩ := q
    have : b ∈ fms t := fms_mem (by rw [e]; simp) h8 (isTm_pos hb)
    have := List.length_pos_of_mem this
    rw [e]; simp; omega
  · obtain ⟨_, _, f, e, _⟩ := q
    rw [e]; simp
  · exact all (fun c hc => isFo_pos (q.2.2.2 c hc).1)
  · obtain ⟨_, _, y, f, e, hy, hf, _⟩ := q
    refine all (fun c hc => ?_)
    rw [e] at hc
    rcases List.mem_cons.mp hc with w | w
    · rw [w]; exact fun z => by rw [z, kd0] at hy; omega
    · rw [List.mem_singleton.mp w]; exact isFo_pos hf
/-- as many as its size; with their parts at most three times that -/
theorem sL1_sz : ∀ (t : Nat), okT t → (sL1 t).length ≤ szT t ∧ ((sL1 t).map (fun s => (ps s).length + 1)).sum + 1 ≤ 3 * szT t := by
  intro t
  induction t using Nat.strongRecOn with
  | ind t ih =>
    intro ho
    have h0 := okT_0 ho
    have I := fun c (hc : c ∈ fms t) => ih c (fms_lt hc) (ho.c hc)
    have hz := sz_fms h0
    rw [sL1_eq]
    refine ⟨?_, ?_⟩
    · rw [List.length_cons, List.length_flatMap]
      have := sum_map_le (f := fun c => (sL1 c).length) (g := szT) (l := fms t) (fun c hc => (I c hc).1)
      omega
    · rw [List.map_cons, List.sum_cons, sum_flat]
      have h1 := sum_add3 (l := fms t) (f := fun c => ((sL1 c).map (fun s => (ps s).length + 1)).sum) (g := fun _ => 1) (h := fun c => 3 * szT c) (fun c hc => (I c hc).2)
      have h2 : ((fms t).map (fun c => 3 * szT c)).sum = 3 * ((fms t).map szT).sum ∧ ((fms t).map (fun _ => 1)).sum = (fms t).length := by
        generalize fms t = l
        induction l with
        | nil => exact ⟨rfl, rfl⟩
        | cons a l ihl => simp only [List.map_cons, List.sum_cons, List.length_cons]; omega
      by_cases h8 : kd t = 8
      · have e1 : szT t = 1 + (((ps t).take 1).map szT).sum + ((ps t).drop 1).length := by
          rw [szT_ex h0]; unfold exp1; rw [if_pos h8]
        have e2 : ((fms t).map szT).sum ≤ (((ps t).take 1).map szT).sum := by
          unfold fms
          rw [if_pos h8]
          exact sum_flt _
        have e3 : (ps t).length ≤ 1 + ((ps t).drop 1).length := by rw [List.length_drop]; omega
        omega
      · have := ps_fms ho h8
        omega
