/-! cases: of opened formulas (kind 30: one of these) -/
def csL (F : Nat → (Nat → Prop) → Prop) : List Nat → (Nat → Prop) → Prop
  | [], S => S = fun _ => False
  | p :: l, S => ∃ S1 S2, F p S1 ∧ csL F l S2 ∧ S = fun f => S1 f ∨ S2 f
def csS (F : Nat → (Nat → Prop) → Prop) (t : Nat) : (Nat → Prop) → Prop := fun S => if kd t = 17 then csL F (ps t) S else if kd t = 30 then ∃ p, p ∈ ps t ∧ F p S else if t = noT then False else if t = yesT then S = (fun _ => False) else S = fun f => f = t
def csT (t : Nat) : (Nat → Prop) → Prop := rcT csS (fun _ => False) t
theorem csL_c {F F' : Nat → (Nat → Prop) → Prop} : ∀ {l : List Nat} {S : Nat → Prop}, (∀ c ∈ l, F c = F' c) → (csL F l S ↔ csL F' l S)
  | [], _, _ => Iff.rfl
  | p :: l, S, h => by
    have e := h p List.mem_cons_self
    constructor
    · rintro ⟨S1, S2, a, b, c⟩
      exact ⟨S1, S2, by rw [← e]; exact a, (csL_c (fun c hc => h c (List.mem_cons_of_mem _ hc))).mp b, c⟩
    · rintro ⟨S1, S2, a, b, c⟩
      exact ⟨S1, S2, by rw [e]; exact a, (csL_c (fun c hc => h c (List.mem_cons_of_mem _ hc))).mpr b, c⟩
theorem csT_eq (t : Nat) : csT t = csS csT t := rc_eq (fun F F' t h => by
  funext S
  unfold csS
  have e1 : csL F (ps t) S = csL F' (ps t) S := propext (csL_c h)
  have e2 : (∃ p, p ∈ ps t ∧ F p S) = ∃ p, p ∈ ps t ∧ F' p S := propext ⟨fun ⟨p, a, b⟩ => ⟨p, a, by rw [← h p a]; exact b⟩, fun ⟨p, a, b⟩ => ⟨p, a, by rw [h p a]; exact b⟩⟩
  rw [e1, e2]) t
theorem un_emp (S : Nat → Prop) : (fun f => S f ∨ False) = S := by funext f; exact propext ⟨fun q => q.elim id False.elim, Or.inl⟩
theorem emp_un (S : Nat → Prop) : (fun f => False ∨ S f) = S := by funext f; exact propext ⟨fun q => q.elim False.elim id, Or.inr⟩
theorem csL_app {F : Nat → (Nat → Prop) → Prop} : ∀ {l l' : List Nat} {S : Nat → Prop}, csL F (l ++ l') S ↔ ∃ S1 S2, csL F l S1 ∧ csL F l' S2 ∧ S = fun f => S1 f ∨ S2 f
  | [], l', S => by
    constructor
    · exact fun h => ⟨_, S, rfl, h, (emp_un S).symm⟩
    · rintro ⟨S1, S2, a, b, c⟩
      rw [c, show S1 = fun _ => False from a]
      show csL F l' (fun f => False ∨ S2 f)
      rw [emp_un]; exact b
  | p :: l, l', S => by
    constructor
    · rintro ⟨S1, S2, a, b, c⟩
      obtain ⟨S3, S4, d, e, f⟩ := csL_app.mp b
      refine ⟨fun f => S1 f ∨ S3 f, S4, ⟨S1, S3, a, d, rfl⟩, e, ?_⟩
      rw [c, f]
      funext x
      exact propext or_assoc.symm
    · rintro ⟨S1, S2, ⟨S3, S4, a, b, c⟩, d, e⟩
      refine ⟨S3, fun f => S4 f ∨ S2 f, a, csL_app.mpr ⟨S4, S2, b, d, rfl⟩, ?_⟩
      rw [e, c]
      funext x
      exact propext or_assoc
theorem csL_rev {F : Nat → (Nat → Prop) → Prop} : ∀ {l : List Nat} {S : Nat → Prop}, csL F l.reverse S ↔ csL F l S
  | [], S => Iff.rfl
  | p :: l, S => by
    rw [List.reverse_cons, csL_app]
    constructor
    · rintro ⟨S1, S2, a, ⟨S3, S4, b, c, d⟩, e⟩
      refine ⟨S3, S1, b, csL_rev.mp a, ?_⟩
      rw [e, d, show S4 = fun _ => False from c]
      funext x
      exact propext ⟨fun q => q.elim Or.inr (fun z => z.elim Or.inl False.elim), fun q => q.elim (fun z => Or.inr (Or.inl z)) Or.inl⟩
    · rintro ⟨S1, S2, a, b, c⟩
      refine ⟨S2, S1, csL_rev.mpr b, ⟨S1, fun _ => False, a, rfl, (un_emp S1).symm⟩, ?_⟩
      rw [c]
      funext x
      exact propext or_comm
/-- what the pending come to, with what has come already -/
def csR (R P : List Nat) (S : Nat → Prop) : Prop := ∃ S2, csL csT P S2 ∧ S = fun f => f ∈ R ∨ S2 f
theorem csR_and {R P : List Nat} {t : Nat} (h : kd t = 17) : csR R ((ps t).reverse ++ P) = csR R (t :: P) := by
  have e : csT t = csL csT (ps t) := by
    funext S
    rw [csT_eq]
    unfold csS
    rw [if_pos h]
  funext S
  refine propext ⟨fun ⟨S2, a, b⟩ => ⟨S2, ?_, b⟩, fun ⟨S2, a, b⟩ => ⟨S2, ?_, b⟩⟩
  · obtain ⟨S3, S4, c, d, f⟩ := csL_app.mp a
    exact ⟨S3, S4, by rw [e]; exact csL_rev.mp c, d, f⟩
  · obtain ⟨S3, S4, c, d, f⟩ := a
    rw [e] at c
    exact csL_app.mpr ⟨S3, S4, csL_rev.mpr c, d, f⟩
theorem csR_one {R P : List Nat} {t : Nat} (h : kd t = 30) (S : Nat → Prop) : csR R (t :: P) S ↔ ∃ b, b ∈ ps t ∧ csR R (b :: P) S := by
  have e : ∀ S, csT t S ↔ ∃ p, p ∈ ps t ∧ csT p S := fun S => by
    rw [csT_eq t]
    unfold csS
    rw [if_neg (by omega), if_pos h]
  constructor
  · rintro ⟨S2, ⟨S3, S4, a, b, c⟩, d⟩
    obtain ⟨p, p1, p2⟩ := (e S3).mp a
    exact ⟨p, p1, S2, ⟨S3, S4, p2, b, c⟩, d⟩
  · rintro ⟨p, p1, S2, ⟨S3, S4, a, b, c⟩, d⟩
    exact ⟨S2, ⟨S3, S4, (e S3).mpr ⟨p, p1, a⟩, b, c⟩, d⟩
theorem csR_no {R P : List Nat} {S : Nat → Prop} {t : Nat} (h17 : kd t ≠ 17) (h30 : kd t ≠ 30) (hn : t = noT) : ¬ csR R (t :: P) S := fun ⟨S2, ⟨S3, S4, a, b, c⟩, d⟩ => by
  rw [csT_eq] at a
  unfold csS at a
  rw [if_neg h17, if_neg h30, if_pos hn] at a
  exact a
theorem csR_yes {R P : List Nat} {t : Nat} (h17 : kd t ≠ 17) (h30 : kd t ≠ 30) (hn : t ≠ noT) (hy : t = yesT) : csR R (t :: P) = csR R P := by
  funext S
  refine propext ⟨fun ⟨S2, ⟨S3, S4, a, b, c⟩, d⟩ => ?_, fun ⟨S2, a, b⟩ => ⟨S2, ⟨fun _ => False, S2, ?_, a, (emp_un S2).symm⟩, b⟩⟩
  · rw [csT_eq] at a
    unfold csS at a
    rw [if_neg h17, if_neg h30, if_neg hn, if_pos hy] at a
    rw [a, emp_un] at c
    exact ⟨S4, b, by rw [d, c]⟩
  · rw [csT_eq]
    unfold csS
    rw [if_neg h17, if_neg h30, if_neg hn, if_pos hy]
theorem csR_leaf {R P : List Nat} {t : Nat} (h17 : kd t ≠ 17) (h30 : kd t ≠ 30) (hn : t ≠ noT) (hy : t ≠ yesT) : csR R (t :: P) = csR (R ++ [t]) P := by
  have e : csT t = fun S => S = fun f => f = t := by
    funext S
    rw [csT_eq]
    unfold csS
    rw [if_neg h17, if_neg h30, if_neg hn, if_neg hy]
  have e2 : ∀ S4 : Nat → Prop, (fun f => f ∈ R ∨ (f = t ∨ S4 f)) = fun f => f ∈ R ++ [t] ∨ S4 f := fun S4 => by
    funext f
    refine propext ?_
    rw [List.mem_append, List.mem_singleton, or_assoc]
  funext S
  refine propext ⟨fun ⟨S2, ⟨S3, S4, a, b, c⟩, d⟩ => ⟨S4, b, ?_⟩, fun ⟨S4, a, b⟩ => ⟨fun f => f = t ∨ S4 f, ⟨fun f => f = t, S4, by rw [e], a, rfl⟩, ?_⟩⟩
  · rw [e] at a
    rw [d, c, show S3 = fun f => f = t from a]
    exact e2 S4
  · rw [b]; exact (e2 S4).symm
/-- the answers of cases put together -/
def Ans (Rf : (Nat → Prop) → Int → Prop) (a : Int) (CS : (Nat → Prop) → Prop) (a' : Int) : Prop := (a' = 0 ∧ (a = 0 ∨ ∃ S, CS S ∧ Rf S 0)) ∨ (a' = 2 ∧ a ≠ 0 ∧ (∀ S, CS S → ¬ Rf S 0) ∧ (a = 2 ∨ ∃ S, CS S ∧ Rf S 2)) ∨ (a' = 1 ∧ a = 1 ∧ ∀ S, CS S → Rf S 1)
theorem Ans.z {Rf : (Nat → Prop) → Int → Prop} {CS : (Nat → Prop) → Prop} {a : Int} (h : a = 0) : Ans Rf a CS a := Or.inl ⟨h, Or.inl h⟩
theorem Ans.non {Rf : (Nat → Prop) → Int → Prop} {CS : (Nat → Prop) → Prop} {a : Int} (h : a = 0 ∨ a = 1 ∨ a = 2) (hn : ∀ S, ¬ CS S) : Ans Rf a CS a := by
  rcases h with q | q | q
  · exact Ans.z q
  · exact Or.inr (Or.inr ⟨q, q, fun S hS => absurd hS (hn S)⟩)
  · exact Or.inr (Or.inl ⟨q, by omega, fun S hS => absurd hS (hn S), Or.inl q⟩)
theorem Ans.seq {Rf : (Nat → Prop) → Int → Prop} (hu : ∀ S r r', Rf S r → Rf S r' → r = r') {C1 C2 C : (Nat → Prop) → Prop} (hC : ∀ S, C S ↔ C1 S ∨ C2 S) {a a1 a2 : Int} (h : Ans Rf a C1 a1) (h' : Ans Rf a1 C2 a2) : Ans Rf a C a2 := by
  rcases h with ⟨e1, h⟩ | ⟨e1, n1, h1, h⟩ | ⟨e1, e2, h⟩
  · have e : a2 = 0 := by
      rcases h' with ⟨q, _⟩ | ⟨_, q, _⟩ | ⟨_, q, _⟩
      · exact q
      · exact absurd e1 q
      · omega
    exact Or.inl ⟨e, h.imp id (fun ⟨S, a, b⟩ => ⟨S, (hC S).mpr (Or.inl a), b⟩)⟩
  · rcases h' with ⟨q1, q2⟩ | ⟨q1, q2, q3, q4⟩ | ⟨_, q2, _⟩
    · refine Or.inl ⟨q1, Or.inr ?_⟩
      obtain ⟨S, a, b⟩ := q2.resolve_left (by omega)
      exact ⟨S, (hC S).mpr (Or.inr a), b⟩
    · refine Or.inr (Or.inl ⟨q1, n1, fun S hS => ((hC S).mp hS).elim (h1 S) (q3 S), h.imp id (fun ⟨S, a, b⟩ => ⟨S, (hC S).mpr (Or.inl a), b⟩)⟩)
    · omega
  · rcases h' with ⟨q1, q2⟩ | ⟨q1, q2, q3, q4⟩ | ⟨q1, q2, q3⟩
    · refine Or.inl ⟨q1, Or.inr ?_⟩
      obtain ⟨S, a, b⟩ := q2.resolve_left (by omega)
      exact ⟨S, (hC S).mpr (Or.inr a), b⟩
    · refine Or.inr (Or.inl ⟨q1, by omega, fun S hS => ((hC S).mp hS).elim (fun z y => ?_) (q3 S), Or.inr ?_⟩)
      · have := hu S 1 0 (h S z) y
        omega
      · obtain ⟨S, a, b⟩ := q4.resolve_left (by omega)
        exact ⟨S, (hC S).mpr (Or.inr a), b⟩
    · exact Or.inr (Or.inr ⟨q1, e2, fun S hS => ((hC S).mp hS).elim (h S) (q3 S)⟩)
theorem Ans.iff {Rf : (Nat → Prop) → Int → Prop} {C1 C : (Nat → Prop) → Prop} (hC : C1 = C) {a a1 : Int} (h : Ans Rf a C1 a1) : Ans Rf a C a1 := by rw [← hC]; exact h
/-- how much is gone through -/
def wtS (F : Nat → Nat) (t : Nat) : Nat := if kd t = 17 ∨ kd t = 30 then 1 + ((ps t).map F).sum else 1
def wtO (t : Nat) : Nat := rcT wtS 1 t
theorem wtO_eq (t : Nat) : wtO t = wtS wtO t := rc_eq (fun F F' t h => by
  unfold wtS
  rw [List.map_congr_left h]) t
theorem wtO_pos (t : Nat) : 1 ≤ wtO t := by rw [wtO_eq]; unfold wtS; split <;> omega
def wtP (P : List Nat) : Nat := (P.map wtO).sum
theorem wtP_app (P Q : List Nat) : wtP (P ++ Q) = wtP P + wtP Q := by unfold wtP; rw [List.map_append, List.sum_append]
theorem wtP_rev (P : List Nat) : wtP P.reverse = wtP P := by unfold wtP; rw [List.map_reverse, List.sum_reverse]
theorem wtP_and {t : Nat} {P : List Nat} (h : kd t = 17) : wtP ((ps t).reverse ++ P) < wtP (t :: P) := by
  rw [wtP_app, wtP_rev]
  have : wtP (t :: P) = wtO t + wtP P := by unfold wtP; rw [List.map_cons, List.sum_cons]
  rw [this, wtO_eq]
  unfold wtS
  rw [if_pos (Or.inl h)]
  show wtP (ps t) + wtP P < 1 + wtP (ps t) + wtP P
  omega
theorem wtP_one {t b : Nat} {P : List Nat} (h : kd t = 30) (hb : b ∈ ps t) : wtP (b :: P) < wtP (t :: P) := by
  have e : ∀ t, wtP (t :: P) = wtO t + wtP P := fun t => by unfold wtP; rw [List.map_cons, List.sum_cons]
  rw [e, e, wtO_eq t]
  unfold wtS
  rw [if_pos (Or.inr h)]
  have := sum_mem (f := wtO) hb
  omega
/-- pends, deep, cases and leaves -/
def pcF : Nat → List Nat → Nat
  | 0, _ => 0
  | _ + 1, [] => 0
  | n + 1, t :: P => if kd t = 17 then (ps t).length + pcF n ((ps t).reverse ++ P) else if kd t = 30 then ((ps t).map (fun b => 1 + pcF n (b :: P))).sum else pcF n P
def dpF : Nat → List Nat → Nat
  | 0, _ => 0
  | _ + 1, [] => 0
  | n + 1, t :: P => if kd t = 17 then dpF n ((ps t).reverse ++ P) else if kd t = 30 then 1 + ((ps t).map (fun b => dpF n (b :: P))).foldl max 0 else dpF n P
def ncF : Nat → List Nat → Nat
  | 0, _ => 1
  | _ + 1, [] => 1
  | n + 1, t :: P => if kd t = 17 then ncF n ((ps t).reverse ++ P) else if kd t = 30 then ((ps t).map (fun b => ncF n (b :: P))).sum else ncF n P
def lfF : Nat → List Nat → Nat
  | 0, _ => 0
  | _ + 1, [] => 0
  | n + 1, t :: P => if kd t = 17 then lfF n ((ps t).reverse ++ P) else if kd t = 30 then ((ps t).map (fun b => lfF n (b :: P))).foldl max 0 else 1 + lfF n P
