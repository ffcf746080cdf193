def p00 : Program := .bare "" "" ""
def e00 : Env := { classPath := fun _ => none }
def c00 : Code := { maxStack := 0, maxLocals := 0, code := .empty, exceptionTable := #[], attributes := #[] }
theorem allC0 (d : Nat) : AAC launch0 d := allC launch0 p00 e00 default default default c00 ((fun _ => 0, fun _ _ => 0), 0, 0, 0) d
theorem gX1_clear {d : Nat} {u : Sg} {Q : Int → Sg → Prop} (hw : WF FC u) (h : wp (runC d 0 [] u) Q) : wp (runC d 0 [] u) (fun r u' => Q r u' ∧ Gr FC DX1_clear u u' ∧ WF FC u' ∧ inR r) := by
  obtain ⟨r, u', e, q⟩ := h
  have h := ((allC0 d).1  u).1 (avc trivial avn) hw r u' e
  exact ⟨r, u', e, q, h.1, h.2.1, h.2.2 _ rfl⟩
theorem gX1_loci {d : Nat} {a1 : Int} {u : Sg} {Q : Int → Sg → Prop} (hw : WF FC u) (ra1 : inR a1) (h : wp (runC d 5 [a1] u) Q) : wp (runC d 5 [a1] u) (fun r u' => Q r u' ∧ Gr FC DX1_loci u u' ∧ WF FC u' ∧ inR r) := by
  obtain ⟨r, u', e, q⟩ := h
  have h := ((allC0 d).2.1 a1 u).1 (avc trivial (avc ra1 avn)) hw r u' e
  exact ⟨r, u', e, q, h.1, h.2.1, h.2.2 _ rfl⟩
theorem gX1_isTerm {d : Nat} {a1 : Int} {u : Sg} {Q : Int → Sg → Prop} (hw : WF FC u) (ra1 : inR a1) (h : wp (runC d 12 [a1] u) Q) : wp (runC d 12 [a1] u) (fun r u' => Q r u' ∧ Gr FC DX1_isTerm u u' ∧ WF FC u' ∧ (r = 0 ∨ r = 1)) := by
  obtain ⟨r, u', e, q⟩ := h
  have h := ((allC0 d).2.2.1 a1 u).1 (avc ra1 avn) hw r u' e
  exact ⟨r, u', e, q, h.1, h.2.1, zOf rfl (fun x hx => h.2.2 x (congrArg Sum.inl hx))⟩
theorem gX1_withSet {d : Nat} {a1 a2 a3 : Int} {u : Sg} {Q : Int → Sg → Prop} (hw : WF FC u) (ra1 : inR a1) (ra2 : inR a2) (ra3 : inR a3) (h : wp (runC d 14 [a1, a2, a3] u) Q) : wp (runC d 14 [a1, a2, a3] u) (fun r u' => Q r u' ∧ Gr FC DX1_withSet u u' ∧ WF FC u' ∧ inR r) := by
  obtain ⟨r, u', e, q⟩ := h
  have h := ((allC0 d).2.2.2.1 a1 a2 a3 u).1 (avc trivial (avc ra1 (avc ra2 (avc ra3 avn)))) hw r u' e
  exact ⟨r, u', e, q, h.1, h.2.1, h.2.2 _ rfl⟩
theorem gX1_typed {d : Nat} {a1 a2 a3 : Int} {u : Sg} {Q : Int → Sg → Prop} (hw : WF FC u) (ra1 : inR a1) (ra2 : inR a2) (ra3 : inR a3) (h : wp (runC d 15 [a1, a2, a3] u) Q) : wp (runC d 15 [a1, a2, a3] u) (fun r u' => Q r u' ∧ Gr FC DX1_typed u u' ∧ WF FC u' ∧ inR r) := by
  obtain ⟨r, u', e, q⟩ := h
  have h := ((allC0 d).2.2.2.2.1 a1 a2 a3 u).1 (avc trivial (avc ra1 (avc ra2 (avc ra3 avn)))) hw r u' e
  exact ⟨r, u', e, q, h.1, h.2.1, h.2.2 _ rfl⟩
theorem gX1_newOne {d : Nat} {a1 : Int} {u : Sg} {Q : Int → Sg → Prop} (hw : WF FC u) (ra1 : inR a1) (h : wp (runC d 19 [a1] u) Q) : wp (runC d 19 [a1] u) (fun r u' => Q r u' ∧ Gr FC DX1_newOne u u' ∧ WF FC u' ∧ inR r) := by
  obtain ⟨r, u', e, q⟩ := h
  have h := ((allC0 d).2.2.2.2.2.1 a1 u).1 (avc trivial (avc ra1 avn)) hw r u' e
  exact ⟨r, u', e, q, h.1, h.2.1, h.2.2 _ rfl⟩
theorem gX1_either {d : Nat} {a1 a2 : Int} {u : Sg} {Q : Int → Sg → Prop} (hw : WF FC u) (ra1 : inR a1) (ra2 : inR a2) (h : wp (runC d 27 [a1, a2] u) Q) : wp (runC d 27 [a1, a2] u) (fun r u' => Q r u' ∧ Gr FC DX1_either u u' ∧ WF FC u' ∧ inR r) := by
  obtain ⟨r, u', e, q⟩ := h
  have h := ((allC0 d).2.2.2.2.2.2.1 a1 a2 u).1 (avc trivial (avc ra1 (avc ra2 avn))) hw r u' e
  exact ⟨r, u', e, q, h.1, h.2.1, h.2.2 _ rfl⟩
theorem gX1_argOf {d : Nat} {a1 : Int} {u : Sg} {Q : Int → Sg → Prop} (hw : WF FC u) (ra1 : inR a1) (h : wp (runC d 30 [a1] u) Q) : wp (runC d 30 [a1] u) (fun r u' => Q r u' ∧ Gr FC DX1_argOf u u' ∧ WF FC u' ∧ inR r) := by
  obtain ⟨r, u', e, q⟩ := h
  have h := ((allC0 d).2.2.2.2.2.2.2.1 a1 u).1 (avc trivial (avc ra1 avn)) hw r u' e
  exact ⟨r, u', e, q, h.1, h.2.1, h.2.2 _ rfl⟩
theorem gX1_casesOf {d : Nat} {a1 a2 : Int} {u : Sg} {Q : Int → Sg → Prop} (hw : WF FC u) (ra1 : inR a1) (ra2 : inR a2) (h : wp (runC d 37 [a1, a2] u) Q) : wp (runC d 37 [a1, a2] u) (fun r u' => Q r u' ∧ Gr FC DX1_casesOf u u' ∧ WF FC u' ∧ inR r) := by
  obtain ⟨r, u', e, q⟩ := h
  have h := ((allC0 d).2.2.2.2.2.2.2.2.1 a1 a2 u).1 (avc trivial (avc ra1 (avc ra2 avn))) hw r u' e
  exact ⟨r, u', e, q, h.1, h.2.1, h.2.2 _ rfl⟩
theorem gX1_open {d : Nat} {a1 : Int} {u : Sg} {Q : Int → Sg → Prop} (hw : WF FC u) (ra1 : inR a1) (h : wp (runC d 38 [a1] u) Q) : wp (runC d 38 [a1] u) (fun r u' => Q r u' ∧ Gr FC DX1_open u u' ∧ WF FC u' ∧ inR r) := by
  obtain ⟨r, u', e, q⟩ := h
  have h := ((allC0 d).2.2.2.2.2.2.2.2.2.1 a1 u).1 (avc trivial (avc ra1 avn)) hw r u' e
  exact ⟨r, u', e, q, h.1, h.2.1, h.2.2 _ rfl⟩
theorem gX1_pend {d : Nat} {a1 a2 : Int} {u : Sg} {Q : Int → Sg → Prop} (hw : WF FC u) (ra1 : inR a1) (ra2 : inR a2) (h : wp (runC d 39 [a1, a2] u) Q) : wp (runC d 39 [a1, a2] u) (fun r u' => Q r u' ∧ Gr FC DX1_pend u u' ∧ WF FC u' ∧ inR r) := by
  obtain ⟨r, u', e, q⟩ := h
  have h := ((allC0 d).2.2.2.2.2.2.2.2.2.2.1 a1 a2 u).1 (avc trivial (avc ra1 (avc ra2 avn))) hw r u' e
  exact ⟨r, u', e, q, h.1, h.2.1, h.2.2 _ rfl⟩
theorem gX1_split {d : Nat} {a1 a2 : Int} {u : Sg} {Q : Int → Sg → Prop} (hw : WF FC u) (ra1 : inR a1) (ra2 : inR a2) (h : wp (runC d 40 [a1, a2] u) Q) : wp (runC d 40 [a1, a2] u) (fun r u' => Q r u' ∧ Gr FC DX1_split u u' ∧ WF FC u' ∧ True) := by
  obtain ⟨r, u', e, q⟩ := h
  have h := ((allC0 d).2.2.2.2.2.2.2.2.2.2.2.1 a1 a2 u).1 (avc trivial (avc ra1 (avc ra2 avn))) hw r u' e
  exact ⟨r, u', e, q, h.1, h.2.1, trivial⟩
theorem gX1_refuted {d : Nat} {a1 a2 : Int} {u : Sg} {Q : Int → Sg → Prop} (hw : WF FC u) (ra1 : inR a1) (ra2 : inR a2) (h : wp (runC d 41 [a1, a2] u) Q) : wp (runC d 41 [a1, a2] u) (fun r u' => Q r u' ∧ Gr FC DX1_refuted u u' ∧ WF FC u' ∧ inR r) := by
  obtain ⟨r, u', e, q⟩ := h
  have h := ((allC0 d).2.2.2.2.2.2.2.2.2.2.2.2.1 a1 a2 u).1 (avc trivial (avc ra1 (avc ra2 avn))) hw r u' e
  exact ⟨r, u', e, q, h.1, h.2.1, h.2.2 _ rfl⟩
theorem gX1_know {d : Nat} {a1 : Int} {u : Sg} {Q : Int → Sg → Prop} (hw : WF FC u) (ra1 : inR a1) (h : wp (runC d 42 [a1] u) Q) : wp (runC d 42 [a1] u) (fun r u' => Q r u' ∧ Gr FC DX1_know u u' ∧ WF FC u' ∧ True) := by
  obtain ⟨r, u', e, q⟩ := h
  have h := ((allC0 d).2.2.2.2.2.2.2.2.2.2.2.2.2.1 a1 u).1 (avc trivial (avc ra1 avn)) hw r u' e
  exact ⟨r, u', e, q, h.1, h.2.1, trivial⟩
theorem gX1_room_2 {d : Nat} {a1 : Int} {u : Sg} {Q : Int → Sg → Prop} (hw : WF FC u) (ra1 : inR a1) (h : wp (runC d 43 [a1] u) Q) : wp (runC d 43 [a1] u) (fun r u' => Q r u' ∧ Gr FC DX1_room_2 u u' ∧ WF FC u' ∧ True) := by
  obtain ⟨r, u', e, q⟩ := h
  have h := ((allC0 d).2.2.2.2.2.2.2.2.2.2.2.2.2.2.1 a1 u).1 (avc trivial (avc ra1 avn)) hw r u' e
  exact ⟨r, u', e, q, h.1, h.2.1, trivial⟩
theorem gX1_termsOf {d : Nat} {a1 : Int} {u : Sg} {Q : Int → Sg → Prop} (hw : WF FC u) (ra1 : inR a1) (h : wp (runC d 44 [a1] u) Q) : wp (runC d 44 [a1] u) (fun r u' => Q r u' ∧ Gr FC DX1_termsOf u u' ∧ WF FC u' ∧ True) := by
  obtain ⟨r, u', e, q⟩ := h
  have h := ((allC0 d).2.2.2.2.2.2.2.2.2.2.2.2.2.2.2.1 a1 u).1 (avc trivial (avc ra1 avn)) hw r u' e
  exact ⟨r, u', e, q, h.1, h.2.1, trivial⟩
theorem gX1_atHand {d : Nat} {a1 : Int} {u : Sg} {Q : Int → Sg → Prop} (hw : WF FC u) (ra1 : inR a1) (h : wp (runC d 45 [a1] u) Q) : wp (runC d 45 [a1] u) (fun r u' => Q r u' ∧ Gr FC DX1_atHand u u' ∧ WF FC u' ∧ True) := by
  obtain ⟨r, u', e, q⟩ := h
  have h := ((allC0 d).2.2.2.2.2.2.2.2.2.2.2.2.2.2.2.2.1 a1 u).1 (avc trivial (avc ra1 avn)) hw r u' e
  exact ⟨r, u', e, q, h.1, h.2.1, trivial⟩
theorem gX1_isAtHand {d : Nat} {a1 : Int} {u : Sg} {Q : Int → Sg → Prop} (hw : WF FC u) (ra1 : inR a1) (h : wp (runC d 46 [a1] u) Q) : wp (runC d 46 [a1] u) (fun r u' => Q r u' ∧ Gr FC DX1_isAtHand u u' ∧ WF FC u' ∧ (r = 0 ∨ r = 1)) := by
  obtain ⟨r, u', e, q⟩ := h
  have h := ((allC0 d).2.2.2.2.2.2.2.2.2.2.2.2.2.2.2.2.2.1 a1 u).1 (avc trivial (avc ra1 avn)) hw r u' e
  exact ⟨r, u', e, q, h.1, h.2.1, zOf rfl (fun x hx => h.2.2 x (congrArg Sum.inl hx))⟩
theorem gX1_typeOf {d : Nat} {a1 : Int} {u : Sg} {Q : Int → Sg → Prop} (hw : WF FC u) (ra1 : inR a1) (h : wp (runC d 47 [a1] u) Q) : wp (runC d 47 [a1] u) (fun r u' => Q r u' ∧ Gr FC DX1_typeOf u u' ∧ WF FC u' ∧ inR r) := by
  obtain ⟨r, u', e, q⟩ := h
  have h := ((allC0 d).2.2.2.2.2.2.2.2.2.2.2.2.2.2.2.2.2.2.1 a1 u).1 (avc trivial (avc ra1 avn)) hw r u' e
  exact ⟨r, u', e, q, h.1, h.2.1, h.2.2 _ rfl⟩
theorem gX1_hasType {d : Nat} {a1 a2 : Int} {u : Sg} {Q : Int → Sg → Prop} (hw : WF FC u) (ra1 : inR a1) (ra2 : inR a2) (h : wp (runC d 48 [a1, a2] u) Q) : wp (runC d 48 [a1, a2] u) (fun r u' => Q r u' ∧ Gr FC DX1_hasType u u' ∧ WF FC u' ∧ (r = 0 ∨ r = 1)) := by
  obtain ⟨r, u', e, q⟩ := h
  have h := ((allC0 d).2.2.2.2.2.2.2.2.2.2.2.2.2.2.2.2.2.2.2.1 a1 a2 u).1 (avc trivial (avc ra1 (avc ra2 avn))) hw r u' e
  exact ⟨r, u', e, q, h.1, h.2.1, zOf rfl (fun x hx => h.2.2 x (congrArg Sum.inl hx))⟩
theorem gX1_hasModeFact {d : Nat} {a1 a2 a3 : Int} {u : Sg} {Q : Int → Sg → Prop} (hw : WF FC u) (ra1 : inR a1) (ra2 : inR a2) (ra3 : inR a3) (h : wp (runC d 49 [a1, a2, a3] u) Q) : wp (runC d 49 [a1, a2, a3] u) (fun r u' => Q r u' ∧ Gr FC DX1_hasModeFact u u' ∧ WF FC u' ∧ (r = 0 ∨ r = 1)) := by
  obtain ⟨r, u', e, q⟩ := h
  have h := ((allC0 d).2.2.2.2.2.2.2.2.2.2.2.2.2.2.2.2.2.2.2.2.1 a1 a2 a3 u).1 (avc trivial (avc ra1 (avc ra2 (avc ra3 avn)))) hw r u' e
  exact ⟨r, u', e, q, h.1, h.2.1, zOf rfl (fun x hx => h.2.2 x (congrArg Sum.inl hx))⟩
theorem gX1_adjectiveFact {d : Nat} {a1 a2 : Int} {u : Sg} {Q : Int → Sg → Prop} (hw : WF FC u) (ra1 : inR a1) (ra2 : inR a2) (h : wp (runC d 50 [a1, a2] u) Q) : wp (runC d 50 [a1, a2] u) (fun r u' => Q r u' ∧ Gr FC DX1_adjectiveFact u u' ∧ WF FC u' ∧ (r = 0 ∨ r = 1)) := by
  obtain ⟨r, u', e, q⟩ := h
  have h := ((allC0 d).2.2.2.2.2.2.2.2.2.2.2.2.2.2.2.2.2.2.2.2.2.1 a1 a2 u).1 (avc trivial (avc ra1 (avc ra2 avn))) hw r u' e
  exact ⟨r, u', e, q, h.1, h.2.1, zOf rfl (fun x hx => h.2.2 x (congrArg Sum.inl hx))⟩
theorem gX1_parent {d : Nat} {a1 : Int} {u : Sg} {Q : Int → Sg → Prop} (hw : WF FC u) (ra1 : inR a1) (h : wp (runC d 51 [a1] u) Q) : wp (runC d 51 [a1] u) (fun r u' => Q r u' ∧ Gr FC DX1_parent u u' ∧ WF FC u' ∧ inR r) := by
  obtain ⟨r, u', e, q⟩ := h
  have h := ((allC0 d).2.2.2.2.2.2.2.2.2.2.2.2.2.2.2.2.2.2.2.2.2.2.1 a1 u).1 (avc trivial (avc ra1 avn)) hw r u' e
  exact ⟨r, u', e, q, h.1, h.2.1, h.2.2 _ rfl⟩
theorem gX1_firstsOf {d : Nat} {u : Sg} {Q : Int → Sg → Prop} (hw : WF FC u) (h : wp (runC d 52 [] u) Q) : wp (runC d 52 [] u) (fun r u' => Q r u' ∧ Gr FC DX1_firstsOf u u' ∧ WF FC u' ∧ inR r) := by
  obtain ⟨r, u', e, q⟩ := h
  have h := ((allC0 d).2.2.2.2.2.2.2.2.2.2.2.2.2.2.2.2.2.2.2.2.2.2.2.1  u).1 (avc trivial avn) hw r u' e
  exact ⟨r, u', e, q, h.1, h.2.1, h.2.2 _ rfl⟩
theorem gX1_stands {d : Nat} {a1 : Int} {u : Sg} {Q : Int → Sg → Prop} (hw : WF FC u) (ra1 : inR a1) (h : wp (runC d 53 [a1] u) Q) : wp (runC d 53 [a1] u) (fun r u' => Q r u' ∧ Gr FC DX1_stands u u' ∧ WF FC u' ∧ (r = 0 ∨ r = 1)) := by
  obtain ⟨r, u', e, q⟩ := h
  have h := ((allC0 d).2.2.2.2.2.2.2.2.2.2.2.2.2.2.2.2.2.2.2.2.2.2.2.2.1 a1 u).1 (avc trivial (avc ra1 avn)) hw r u' e
  exact ⟨r, u', e, q, h.1, h.2.1, zOf rfl (fun x hx => h.2.2 x (congrArg Sum.inl hx))⟩
theorem gX1_close {d : Nat} {u : Sg} {Q : Int → Sg → Prop} (hw : WF FC u) (h : wp (runC d 54 [] u) Q) : wp (runC d 54 [] u) (fun r u' => Q r u' ∧ Gr FC DX1_close u u' ∧ WF FC u' ∧ True) := by
  obtain ⟨r, u', e, q⟩ := h
  have h := ((allC0 d).2.2.2.2.2.2.2.2.2.2.2.2.2.2.2.2.2.2.2.2.2.2.2.2.2.1  u).1 (avc trivial avn) hw r u' e
  exact ⟨r, u', e, q, h.1, h.2.1, trivial⟩
theorem gX1_join_2 {d : Nat} {a1 a2 : Int} {u : Sg} {Q : Int → Sg → Prop} (hw : WF FC u) (ra1 : inR a1) (ra2 : inR a2) (h : wp (runC d 55 [a1, a2] u) Q) : wp (runC d 55 [a1, a2] u) (fun r u' => Q r u' ∧ Gr FC DX1_join_2 u u' ∧ WF FC u' ∧ (r = 0 ∨ r = 1)) := by
  obtain ⟨r, u', e, q⟩ := h
  have h := ((allC0 d).2.2.2.2.2.2.2.2.2.2.2.2.2.2.2.2.2.2.2.2.2.2.2.2.2.2.1 a1 a2 u).1 (avc trivial (avc ra1 (avc ra2 avn))) hw r u' e
  exact ⟨r, u', e, q, h.1, h.2.1, zOf rfl (fun x hx => h.2.2 x (congrArg Sum.inl hx))⟩
theorem gX1_root {d : Nat} {a1 : Int} {u : Sg} {Q : Int → Sg → Prop} (hw : WF FC u) (ra1 : inR a1) (h : wp (runC d 56 [a1] u) Q) : wp (runC d 56 [a1] u) (fun r u' => Q r u' ∧ Gr FC DX1_root u u' ∧ WF FC u' ∧ inR r) := by
  obtain ⟨r, u', e, q⟩ := h
  have h := ((allC0 d).2.2.2.2.2.2.2.2.2.2.2.2.2.2.2.2.2.2.2.2.2.2.2.2.2.2.2.1 a1 u).1 (avc trivial (avc ra1 avn)) hw r u' e
  exact ⟨r, u', e, q, h.1, h.2.1, h.2.2 _ rfl⟩
theorem gX1_plain {d : Nat} {a1 a2 : Int} {u : Sg} {Q : Int → Sg → Prop} (hw : WF FC u) (ra1 : inR a1) (ra2 : inR a2) (h : wp (runC d 57 [a1, a2] u) Q) : wp (runC d 57 [a1, a2] u) (fun r u' => Q r u' ∧ Gr FC DX1_plain u u' ∧ WF FC u' ∧ inR r) := by
  obtain ⟨r, u', e, q⟩ := h
  have h := ((allC0 d).2.2.2.2.2.2.2.2.2.2.2.2.2.2.2.2.2.2.2.2.2.2.2.2.2.2.2.2.1 a1 a2 u).1 (avc trivial (avc ra1 (avc ra2 avn))) hw r u' e
  exact ⟨r, u', e, q, h.1, h.2.1, h.2.2 _ rfl⟩
theorem gX1_alikeTerms {d : Nat} {a1 a2 : Int} {u : Sg} {Q : Int → Sg → Prop} (hw : WF FC u) (ra1 : inR a1) (ra2 : inR a2) (h : wp (runC d 58 [a1, a2] u) Q) : wp (runC d 58 [a1, a2] u) (fun r u' => Q r u' ∧ Gr FC DX1_alikeTerms u u' ∧ WF FC u' ∧ (r = 0 ∨ r = 1)) := by
  obtain ⟨r, u', e, q⟩ := h
  have h := ((allC0 d).2.2.2.2.2.2.2.2.2.2.2.2.2.2.2.2.2.2.2.2.2.2.2.2.2.2.2.2.2.1 a1 a2 u).1 (avc trivial (avc ra1 (avc ra2 avn))) hw r u' e
  exact ⟨r, u', e, q, h.1, h.2.1, zOf rfl (fun x hx => h.2.2 x (congrArg Sum.inl hx))⟩
theorem gX1_equal {d : Nat} {a1 a2 : Int} {u : Sg} {Q : Int → Sg → Prop} (hw : WF FC u) (ra1 : inR a1) (ra2 : inR a2) (h : wp (runC d 59 [a1, a2] u) Q) : wp (runC d 59 [a1, a2] u) (fun r u' => Q r u' ∧ Gr FC DX1_equal u u' ∧ WF FC u' ∧ (r = 0 ∨ r = 1)) := by
  obtain ⟨r, u', e, q⟩ := h
  have h := ((allC0 d).2.2.2.2.2.2.2.2.2.2.2.2.2.2.2.2.2.2.2.2.2.2.2.2.2.2.2.2.2.2.1 a1 a2 u).1 (avc trivial (avc ra1 (avc ra2 avn))) hw r u' e
  exact ⟨r, u', e, q, h.1, h.2.1, zOf rfl (fun x hx => h.2.2 x (congrArg Sum.inl hx))⟩
theorem gX1_closeTerm {d : Nat} {a1 : Int} {u : Sg} {Q : Int → Sg → Prop} (hw : WF FC u) (ra1 : inR a1) (h : wp (runC d 60 [a1] u) Q) : wp (runC d 60 [a1] u) (fun r u' => Q r u' ∧ Gr FC DX1_closeTerm u u' ∧ WF FC u' ∧ (r = 0 ∨ r = 1)) := by
  obtain ⟨r, u', e, q⟩ := h
  have h := ((allC0 d).2.2.2.2.2.2.2.2.2.2.2.2.2.2.2.2.2.2.2.2.2.2.2.2.2.2.2.2.2.2.2.1 a1 u).1 (avc trivial (avc ra1 avn)) hw r u' e
  exact ⟨r, u', e, q, h.1, h.2.1, zOf rfl (fun x hx => h.2.2 x (congrArg Sum.inl hx))⟩
theorem gX1_classFits {d : Nat} {a1 a2 : Int} {u : Sg} {Q : Int → Sg → Prop} (hw : WF FC u) (ra1 : inR a1) (ra2 : inR a2) (h : wp (runC d 61 [a1, a2] u) Q) : wp (runC d 61 [a1, a2] u) (fun r u' => Q r u' ∧ Gr FC DX1_classFits u u' ∧ WF FC u' ∧ (r = 0 ∨ r = 1)) := by
  obtain ⟨r, u', e, q⟩ := h
  have h := ((allC0 d).2.2.2.2.2.2.2.2.2.2.2.2.2.2.2.2.2.2.2.2.2.2.2.2.2.2.2.2.2.2.2.2.1 a1 a2 u).1 (avc trivial (avc ra1 (avc ra2 avn))) hw r u' e
  exact ⟨r, u', e, q, h.1, h.2.1, zOf rfl (fun x hx => h.2.2 x (congrArg Sum.inl hx))⟩
theorem gX1_classHasMode {d : Nat} {a1 a2 a3 : Int} {u : Sg} {Q : Int → Sg → Prop} (hw : WF FC u) (ra1 : inR a1) (ra2 : inR a2) (ra3 : inR a3) (h : wp (runC d 62 [a1, a2, a3] u) Q) : wp (runC d 62 [a1, a2, a3] u) (fun r u' => Q r u' ∧ Gr FC DX1_classHasMode u u' ∧ WF FC u' ∧ (r = 0 ∨ r = 1)) := by
  obtain ⟨r, u', e, q⟩ := h
  have h := ((allC0 d).2.2.2.2.2.2.2.2.2.2.2.2.2.2.2.2.2.2.2.2.2.2.2.2.2.2.2.2.2.2.2.2.2.1 a1 a2 a3 u).1 (avc trivial (avc ra1 (avc ra2 (avc ra3 avn)))) hw r u' e
  exact ⟨r, u', e, q, h.1, h.2.1, zOf rfl (fun x hx => h.2.2 x (congrArg Sum.inl hx))⟩
theorem gX1_classHas {d : Nat} {a1 a2 : Int} {u : Sg} {Q : Int → Sg → Prop} (hw : WF FC u) (ra1 : inR a1) (ra2 : inR a2) (h : wp (runC d 63 [a1, a2] u) Q) : wp (runC d 63 [a1, a2] u) (fun r u' => Q r u' ∧ Gr FC DX1_classHas u u' ∧ WF FC u' ∧ (r = 0 ∨ r = 1)) := by
  obtain ⟨r, u', e, q⟩ := h
  have h := ((allC0 d).2.2.2.2.2.2.2.2.2.2.2.2.2.2.2.2.2.2.2.2.2.2.2.2.2.2.2.2.2.2.2.2.2.2.1 a1 a2 u).1 (avc trivial (avc ra1 (avc ra2 avn))) hw r u' e
  exact ⟨r, u', e, q, h.1, h.2.1, zOf rfl (fun x hx => h.2.2 x (congrArg Sum.inl hx))⟩
theorem gX1_closeClasses {d : Nat} {a1 : Int} {u : Sg} {Q : Int → Sg → Prop} (hw : WF FC u) (ra1 : inR a1) (h : wp (runC d 64 [a1] u) Q) : wp (runC d 64 [a1] u) (fun r u' => Q r u' ∧ Gr FC DX1_closeClasses u u' ∧ WF FC u' ∧ (r = 0 ∨ r = 1)) := by
  obtain ⟨r, u', e, q⟩ := h
  have h := ((allC0 d).2.2.2.2.2.2.2.2.2.2.2.2.2.2.2.2.2.2.2.2.2.2.2.2.2.2.2.2.2.2.2.2.2.2.2.1 a1 u).1 (avc trivial (avc ra1 avn)) hw r u' e
  exact ⟨r, u', e, q, h.1, h.2.1, zOf rfl (fun x hx => h.2.2 x (congrArg Sum.inl hx))⟩
theorem gX1_contradictory {d : Nat} {u : Sg} {Q : Int → Sg → Prop} (hw : WF FC u) (h : wp (runC d 65 [] u) Q) : wp (runC d 65 [] u) (fun r u' => Q r u' ∧ Gr FC DX1_contradictory u u' ∧ WF FC u' ∧ (r = 0 ∨ r = 1)) := by
  obtain ⟨r, u', e, q⟩ := h
  have h := ((allC0 d).2.2.2.2.2.2.2.2.2.2.2.2.2.2.2.2.2.2.2.2.2.2.2.2.2.2.2.2.2.2.2.2.2.2.2.2.1  u).1 (avc trivial avn) hw r u' e
  exact ⟨r, u', e, q, h.1, h.2.1, zOf rfl (fun x hx => h.2.2 x (congrArg Sum.inl hx))⟩
theorem gX1_isKnownHere {d : Nat} {a1 : Int} {u : Sg} {Q : Int → Sg → Prop} (hw : WF FC u) (ra1 : inR a1) (h : wp (runC d 66 [a1] u) Q) : wp (runC d 66 [a1] u) (fun r u' => Q r u' ∧ Gr FC DX1_isKnownHere u u' ∧ WF FC u' ∧ (r = 0 ∨ r = 1)) := by
  obtain ⟨r, u', e, q⟩ := h
  have h := ((allC0 d).2.2.2.2.2.2.2.2.2.2.2.2.2.2.2.2.2.2.2.2.2.2.2.2.2.2.2.2.2.2.2.2.2.2.2.2.2.1 a1 u).1 (avc trivial (avc ra1 avn)) hw r u' e
  exact ⟨r, u', e, q, h.1, h.2.1, zOf rfl (fun x hx => h.2.2 x (congrArg Sum.inl hx))⟩
theorem gX1_holds {d : Nat} {a1 : Int} {u : Sg} {Q : Int → Sg → Prop} (hw : WF FC u) (ra1 : inR a1) (h : wp (runC d 67 [a1] u) Q) : wp (runC d 67 [a1] u) (fun r u' => Q r u' ∧ Gr FC DX1_holds u u' ∧ WF FC u' ∧ (r = 0 ∨ r = 1)) := by
  obtain ⟨r, u', e, q⟩ := h
  have h := ((allC0 d).2.2.2.2.2.2.2.2.2.2.2.2.2.2.2.2.2.2.2.2.2.2.2.2.2.2.2.2.2.2.2.2.2.2.2.2.2.2.1 a1 u).1 (avc trivial (avc ra1 avn)) hw r u' e
  exact ⟨r, u', e, q, h.1, h.2.1, zOf rfl (fun x hx => h.2.2 x (congrArg Sum.inl hx))⟩
theorem gX1_fails {d : Nat} {a1 a2 : Int} {u : Sg} {Q : Int → Sg → Prop} (hw : WF FC u) (ra1 : inR a1) (ra2 : inR a2) (h : wp (runC d 68 [a1, a2] u) Q) : wp (runC d 68 [a1, a2] u) (fun r u' => Q r u' ∧ Gr FC DX1_fails u u' ∧ WF FC u' ∧ (r = 0 ∨ r = 1)) := by
  obtain ⟨r, u', e, q⟩ := h
  have h := ((allC0 d).2.2.2.2.2.2.2.2.2.2.2.2.2.2.2.2.2.2.2.2.2.2.2.2.2.2.2.2.2.2.2.2.2.2.2.2.2.2.2.1 a1 a2 u).1 (avc trivial (avc ra1 (avc ra2 avn))) hw r u' e
  exact ⟨r, u', e, q, h.1, h.2.1, zOf rfl (fun x hx => h.2.2 x (congrArg Sum.inl hx))⟩
theorem gX1_isSaid {d : Nat} {a1 a2 : Int} {u : Sg} {Q : Int → Sg → Prop} (hw : WF FC u) (ra1 : inR a1) (ra2 : inR a2) (h : wp (runC d 69 [a1, a2] u) Q) : wp (runC d 69 [a1, a2] u) (fun r u' => Q r u' ∧ Gr FC DX1_isSaid u u' ∧ WF FC u' ∧ (r = 0 ∨ r = 1)) := by
  obtain ⟨r, u', e, q⟩ := h
  have h := ((allC0 d).2.2.2.2.2.2.2.2.2.2.2.2.2.2.2.2.2.2.2.2.2.2.2.2.2.2.2.2.2.2.2.2.2.2.2.2.2.2.2.2.1 a1 a2 u).1 (avc trivial (avc ra1 (avc ra2 avn))) hw r u' e
  exact ⟨r, u', e, q, h.1, h.2.1, zOf rfl (fun x hx => h.2.2 x (congrArg Sum.inl hx))⟩
theorem gX1_sameAtom {d : Nat} {a1 a2 : Int} {u : Sg} {Q : Int → Sg → Prop} (hw : WF FC u) (ra1 : inR a1) (ra2 : inR a2) (h : wp (runC d 70 [a1, a2] u) Q) : wp (runC d 70 [a1, a2] u) (fun r u' => Q r u' ∧ Gr FC DX1_sameAtom u u' ∧ WF FC u' ∧ (r = 0 ∨ r = 1)) := by
  obtain ⟨r, u', e, q⟩ := h
  have h := ((allC0 d).2.2.2.2.2.2.2.2.2.2.2.2.2.2.2.2.2.2.2.2.2.2.2.2.2.2.2.2.2.2.2.2.2.2.2.2.2.2.2.2.2.1 a1 a2 u).1 (avc trivial (avc ra1 (avc ra2 avn))) hw r u' e
  exact ⟨r, u', e, q, h.1, h.2.1, zOf rfl (fun x hx => h.2.2 x (congrArg Sum.inl hx))⟩
theorem gX1_round {d : Nat} {u : Sg} {Q : Int → Sg → Prop} (hw : WF FC u) (h : wp (runC d 71 [] u) Q) : wp (runC d 71 [] u) (fun r u' => Q r u' ∧ Gr FC DX1_round u u' ∧ WF FC u' ∧ (r = 0 ∨ r = 1)) := by
  obtain ⟨r, u', e, q⟩ := h
  have h := ((allC0 d).2.2.2.2.2.2.2.2.2.2.2.2.2.2.2.2.2.2.2.2.2.2.2.2.2.2.2.2.2.2.2.2.2.2.2.2.2.2.2.2.2.2.1  u).1 (avc trivial avn) hw r u' e
  exact ⟨r, u', e, q, h.1, h.2.1, zOf rfl (fun x hx => h.2.2 x (congrArg Sum.inl hx))⟩
theorem gX1_come {d : Nat} {a1 : Int} {u : Sg} {Q : Int → Sg → Prop} (hw : WF FC u) (ra1 : inR a1) (h : wp (runC d 72 [a1] u) Q) : wp (runC d 72 [a1] u) (fun r u' => Q r u' ∧ Gr FC DX1_come u u' ∧ WF FC u' ∧ True) := by
  obtain ⟨r, u', e, q⟩ := h
  have h := ((allC0 d).2.2.2.2.2.2.2.2.2.2.2.2.2.2.2.2.2.2.2.2.2.2.2.2.2.2.2.2.2.2.2.2.2.2.2.2.2.2.2.2.2.2.2.1 a1 u).1 (avc trivial (avc ra1 avn)) hw r u' e
  exact ⟨r, u', e, q, h.1, h.2.1, trivial⟩
theorem gX1_isNew {d : Nat} {a1 : Int} {u : Sg} {Q : Int → Sg → Prop} (hw : WF FC u) (ra1 : inR a1) (h : wp (runC d 73 [a1] u) Q) : wp (runC d 73 [a1] u) (fun r u' => Q r u' ∧ Gr FC DX1_isNew u u' ∧ WF FC u' ∧ (r = 0 ∨ r = 1)) := by
  obtain ⟨r, u', e, q⟩ := h
  have h := ((allC0 d).2.2.2.2.2.2.2.2.2.2.2.2.2.2.2.2.2.2.2.2.2.2.2.2.2.2.2.2.2.2.2.2.2.2.2.2.2.2.2.2.2.2.2.2.1 a1 u).1 (avc trivial (avc ra1 avn)) hw r u' e
  exact ⟨r, u', e, q, h.1, h.2.1, zOf rfl (fun x hx => h.2.2 x (congrArg Sum.inl hx))⟩
theorem gX1_placed {d : Nat} {a1 a2 a3 : Int} {u : Sg} {Q : Int → Sg → Prop} (hw : WF FC u) (ra1 : inR a1) (ra2 : inR a2) (ra3 : inR a3) (h : wp (runC d 74 [a1, a2, a3] u) Q) : wp (runC d 74 [a1, a2, a3] u) (fun r u' => Q r u' ∧ Gr FC DX1_placed u u' ∧ WF FC u' ∧ inR r) := by
  obtain ⟨r, u', e, q⟩ := h
  have h := ((allC0 d).2.2.2.2.2.2.2.2.2.2.2.2.2.2.2.2.2.2.2.2.2.2.2.2.2.2.2.2.2.2.2.2.2.2.2.2.2.2.2.2.2.2.2.2.2.1 a1 a2 a3 u).1 (avc trivial (avc ra1 (avc ra2 (avc ra3 avn)))) hw r u' e
  exact ⟨r, u', e, q, h.1, h.2.1, h.2.2 _ rfl⟩
theorem gX1_isWithin {d : Nat} {a1 a2 : Int} {u : Sg} {Q : Int → Sg → Prop} (hw : WF FC u) (ra1 : inR a1) (ra2 : inR a2) (h : wp (runC d 75 [a1, a2] u) Q) : wp (runC d 75 [a1, a2] u) (fun r u' => Q r u' ∧ Gr FC DX1_isWithin u u' ∧ WF FC u' ∧ (r = 0 ∨ r = 1)) := by
  obtain ⟨r, u', e, q⟩ := h
  have h := ((allC0 d).2.2.2.2.2.2.2.2.2.2.2.2.2.2.2.2.2.2.2.2.2.2.2.2.2.2.2.2.2.2.2.2.2.2.2.2.2.2.2.2.2.2.2.2.2.2.1 a1 a2 u).1 (avc trivial (avc ra1 (avc ra2 avn))) hw r u' e
  exact ⟨r, u', e, q, h.1, h.2.1, zOf rfl (fun x hx => h.2.2 x (congrArg Sum.inl hx))⟩
theorem gX1_counted {d : Nat} {a1 : Int} {u : Sg} {Q : Int → Sg → Prop} (hw : WF FC u) (ra1 : inR a1) (h : wp (runC d 76 [a1] u) Q) : wp (runC d 76 [a1] u) (fun r u' => Q r u' ∧ Gr FC DX1_counted u u' ∧ WF FC u' ∧ inR r) := by
  obtain ⟨r, u', e, q⟩ := h
  have h := ((allC0 d).2.2.2.2.2.2.2.2.2.2.2.2.2.2.2.2.2.2.2.2.2.2.2.2.2.2.2.2.2.2.2.2.2.2.2.2.2.2.2.2.2.2.2.2.2.2.2.1 a1 u).1 (avc trivial (avc ra1 avn)) hw r u' e
  exact ⟨r, u', e, q, h.1, h.2.1, h.2.2 _ rfl⟩
theorem gX1_oneLeft {d : Nat} {a1 : Int} {u : Sg} {Q : Int → Sg → Prop} (hw : WF FC u) (ra1 : inR a1) (h : wp (runC d 77 [a1] u) Q) : wp (runC d 77 [a1] u) (fun r u' => Q r u' ∧ Gr FC DX1_oneLeft u u' ∧ WF FC u' ∧ True) := by
  obtain ⟨r, u', e, q⟩ := h
  have h := ((allC0 d).2.2.2.2.2.2.2.2.2.2.2.2.2.2.2.2.2.2.2.2.2.2.2.2.2.2.2.2.2.2.2.2.2.2.2.2.2.2.2.2.2.2.2.2.2.2.2.2.1 a1 u).1 (avc trivial (avc ra1 avn)) hw r u' e
  exact ⟨r, u', e, q, h.1, h.2.1, trivial⟩
theorem gX1_newConstant {d : Nat} {a1 : Int} {u : Sg} {Q : Int → Sg → Prop} (hw : WF FC u) (ra1 : inR a1) (h : wp (runC d 78 [a1] u) Q) : wp (runC d 78 [a1] u) (fun r u' => Q r u' ∧ Gr FC DX1_newConstant u u' ∧ WF FC u' ∧ True) := by
  obtain ⟨r, u', e, q⟩ := h
  have h := ((allC0 d).2.2.2.2.2.2.2.2.2.2.2.2.2.2.2.2.2.2.2.2.2.2.2.2.2.2.2.2.2.2.2.2.2.2.2.2.2.2.2.2.2.2.2.2.2.2.2.2.2.1 a1 u).1 (avc trivial (avc ra1 avn)) hw r u' e
  exact ⟨r, u', e, q, h.1, h.2.1, trivial⟩
theorem gX1_forget {d : Nat} {a1 a2 a3 : Int} {u : Sg} {Q : Int → Sg → Prop} (hw : WF FC u) (ra1 : inR a1) (ra2 : inR a2) (ra3 : inR a3) (h : wp (runC d 79 [a1, a2, a3] u) Q) : wp (runC d 79 [a1, a2, a3] u) (fun r u' => Q r u' ∧ Gr FC DX1_forget u u' ∧ WF FC u' ∧ True) := by
  obtain ⟨r, u', e, q⟩ := h
  have h := ((allC0 d).2.2.2.2.2.2.2.2.2.2.2.2.2.2.2.2.2.2.2.2.2.2.2.2.2.2.2.2.2.2.2.2.2.2.2.2.2.2.2.2.2.2.2.2.2.2.2.2.2.2.1 a1 a2 a3 u).1 (avc trivial (avc ra1 (avc ra2 (avc ra3 avn)))) hw r u' e
  exact ⟨r, u', e, q, h.1, h.2.1, trivial⟩
theorem gX1_fits0 {d : Nat} {a1 a2 : Int} {u : Sg} {Q : Int → Sg → Prop} (hw : WF FC u) (ra1 : inR a1) (ra2 : inR a2) (h : wp (runC d 81 [a1, a2] u) Q) : wp (runC d 81 [a1, a2] u) (fun r u' => Q r u' ∧ Gr FC DX1_fits0 u u' ∧ WF FC u' ∧ (r = 0 ∨ r = 1)) := by
  obtain ⟨r, u', e, q⟩ := h
  have h := ((allC0 d).2.2.2.2.2.2.2.2.2.2.2.2.2.2.2.2.2.2.2.2.2.2.2.2.2.2.2.2.2.2.2.2.2.2.2.2.2.2.2.2.2.2.2.2.2.2.2.2.2.2.2.1 a1 a2 u).1 (avc trivial (avc ra1 (avc ra2 avn))) hw r u' e
  exact ⟨r, u', e, q, h.1, h.2.1, zOf rfl (fun x hx => h.2.2 x (congrArg Sum.inl hx))⟩
theorem gX1_hasMode {d : Nat} {a1 a2 a3 : Int} {u : Sg} {Q : Int → Sg → Prop} (hw : WF FC u) (ra1 : inR a1) (ra2 : inR a2) (ra3 : inR a3) (h : wp (runC d 82 [a1, a2, a3] u) Q) : wp (runC d 82 [a1, a2, a3] u) (fun r u' => Q r u' ∧ Gr FC DX1_hasMode u u' ∧ WF FC u' ∧ (r = 0 ∨ r = 1)) := by
  obtain ⟨r, u', e, q⟩ := h
  have h := ((allC0 d).2.2.2.2.2.2.2.2.2.2.2.2.2.2.2.2.2.2.2.2.2.2.2.2.2.2.2.2.2.2.2.2.2.2.2.2.2.2.2.2.2.2.2.2.2.2.2.2.2.2.2.2.1 a1 a2 a3 u).1 (avc trivial (avc ra1 (avc ra2 (avc ra3 avn)))) hw r u' e
  exact ⟨r, u', e, q, h.1, h.2.1, zOf rfl (fun x hx => h.2.2 x (congrArg Sum.inl hx))⟩
theorem gX1_adjectivesOf {d : Nat} {a1 : Int} {u : Sg} {Q : Int → Sg → Prop} (hw : WF FC u) (ra1 : inR a1) (h : wp (runC d 83 [a1] u) Q) : wp (runC d 83 [a1] u) (fun r u' => Q r u' ∧ Gr FC DX1_adjectivesOf u u' ∧ WF FC u' ∧ inR r) := by
  obtain ⟨r, u', e, q⟩ := h
  have h := ((allC0 d).2.2.2.2.2.2.2.2.2.2.2.2.2.2.2.2.2.2.2.2.2.2.2.2.2.2.2.2.2.2.2.2.2.2.2.2.2.2.2.2.2.2.2.2.2.2.2.2.2.2.2.2.2.1 a1 u).1 (avc trivial (avc ra1 avn)) hw r u' e
  exact ⟨r, u', e, q, h.1, h.2.1, h.2.2 _ rfl⟩
theorem gX1_adjectivesOf0 {d : Nat} {a1 : Int} {u : Sg} {Q : Int → Sg → Prop} (hw : WF FC u) (ra1 : inR a1) (h : wp (runC d 84 [a1] u) Q) : wp (runC d 84 [a1] u) (fun r u' => Q r u' ∧ Gr FC DX1_adjectivesOf0 u u' ∧ WF FC u' ∧ inR r) := by
  obtain ⟨r, u', e, q⟩ := h
  have h := ((allC0 d).2.2.2.2.2.2.2.2.2.2.2.2.2.2.2.2.2.2.2.2.2.2.2.2.2.2.2.2.2.2.2.2.2.2.2.2.2.2.2.2.2.2.2.2.2.2.2.2.2.2.2.2.2.2.1 a1 u).1 (avc trivial (avc ra1 avn)) hw r u' e
  exact ⟨r, u', e, q, h.1, h.2.1, h.2.2 _ rfl⟩
theorem gX1_addAdjective {d : Nat} {a1 a2 : Int} {u : Sg} {Q : Int → Sg → Prop} (hw : WF FC u) (ra1 : inR a1) (ra2 : inR a2) (h : wp (runC d 85 [a1, a2] u) Q) : wp (runC d 85 [a1, a2] u) (fun r u' => Q r u' ∧ Gr FC DX1_addAdjective u u' ∧ WF FC u' ∧ (r = 0 ∨ r = 1)) := by
  obtain ⟨r, u', e, q⟩ := h
  have h := ((allC0 d).2.2.2.2.2.2.2.2.2.2.2.2.2.2.2.2.2.2.2.2.2.2.2.2.2.2.2.2.2.2.2.2.2.2.2.2.2.2.2.2.2.2.2.2.2.2.2.2.2.2.2.2.2.2.2.1 a1 a2 u).1 (avc trivial (avc ra1 (avc ra2 avn))) hw r u' e
  exact ⟨r, u', e, q, h.1, h.2.1, zOf rfl (fun x hx => h.2.2 x (congrArg Sum.inl hx))⟩
theorem gX1_inRow {d : Nat} {a1 a2 : Int} {u : Sg} {Q : Int → Sg → Prop} (hw : WF FC u) (ra1 : inR a1) (ra2 : inR a2) (h : wp (runC d 86 [a1, a2] u) Q) : wp (runC d 86 [a1, a2] u) (fun r u' => Q r u' ∧ Gr FC DX1_inRow u u' ∧ WF FC u' ∧ (r = 0 ∨ r = 1)) := by
  obtain ⟨r, u', e, q⟩ := h
  have h := ((allC0 d).2.2.2.2.2.2.2.2.2.2.2.2.2.2.2.2.2.2.2.2.2.2.2.2.2.2.2.2.2.2.2.2.2.2.2.2.2.2.2.2.2.2.2.2.2.2.2.2.2.2.2.2.2.2.2.2.1 a1 a2 u).1 (avc trivial (avc ra1 (avc ra2 avn))) hw r u' e
  exact ⟨r, u', e, q, h.1, h.2.1, zOf rfl (fun x hx => h.2.2 x (congrArg Sum.inl hx))⟩
theorem gX1_ofMode {d : Nat} {a1 a2 : Int} {u : Sg} {Q : Int → Sg → Prop} (hw : WF FC u) (ra1 : inR a1) (ra2 : inR a2) (h : wp (runC d 87 [a1, a2] u) Q) : wp (runC d 87 [a1, a2] u) (fun r u' => Q r u' ∧ Gr FC DX1_ofMode u u' ∧ WF FC u' ∧ (r = 0 ∨ r = 1)) := by
  obtain ⟨r, u', e, q⟩ := h
  have h := ((allC0 d).2.2.2.2.2.2.2.2.2.2.2.2.2.2.2.2.2.2.2.2.2.2.2.2.2.2.2.2.2.2.2.2.2.2.2.2.2.2.2.2.2.2.2.2.2.2.2.2.2.2.2.2.2.2.2.2.2.1 a1 a2 u).1 (avc trivial (avc ra1 (avc ra2 avn))) hw r u' e
  exact ⟨r, u', e, q, h.1, h.2.1, zOf rfl (fun x hx => h.2.2 x (congrArg Sum.inl hx))⟩
theorem gX1_within {d : Nat} {a1 a2 : Int} {u : Sg} {Q : Int → Sg → Prop} (hw : WF FC u) (ra1 : inR a1) (ra2 : inR a2) (h : wp (runC d 88 [a1, a2] u) Q) : wp (runC d 88 [a1, a2] u) (fun r u' => Q r u' ∧ Gr FC DX1_within u u' ∧ WF FC u' ∧ (r = 0 ∨ r = 1)) := by
  obtain ⟨r, u', e, q⟩ := h
  have h := ((allC0 d).2.2.2.2.2.2.2.2.2.2.2.2.2.2.2.2.2.2.2.2.2.2.2.2.2.2.2.2.2.2.2.2.2.2.2.2.2.2.2.2.2.2.2.2.2.2.2.2.2.2.2.2.2.2.2.2.2.2.1 a1 a2 u).1 (avc trivial (avc ra1 (avc ra2 avn))) hw r u' e
  exact ⟨r, u', e, q, h.1, h.2.1, zOf rfl (fun x hx => h.2.2 x (congrArg Sum.inl hx))⟩
theorem gX1_hasAdjective {d : Nat} {a1 a2 : Int} {u : Sg} {Q : Int → Sg → Prop} (hw : WF FC u) (ra1 : inR a1) (ra2 : inR a2) (h : wp (runC d 89 [a1, a2] u) Q) : wp (runC d 89 [a1, a2] u) (fun r u' => Q r u' ∧ Gr FC DX1_hasAdjective u u' ∧ WF FC u' ∧ (r = 0 ∨ r = 1)) := by
  obtain ⟨r, u', e, q⟩ := h
  have h := ((allC0 d).2.2.2.2.2.2.2.2.2.2.2.2.2.2.2.2.2.2.2.2.2.2.2.2.2.2.2.2.2.2.2.2.2.2.2.2.2.2.2.2.2.2.2.2.2.2.2.2.2.2.2.2.2.2.2.2.2.2.2.1 a1 a2 u).1 (avc trivial (avc ra1 (avc ra2 avn))) hw r u' e
  exact ⟨r, u', e, q, h.1, h.2.1, zOf rfl (fun x hx => h.2.2 x (congrArg Sum.inl hx))⟩
theorem gX2_make {d : Nat} {a1 a2 a3 : Int} {u : Sg} {Q : Int → Sg → Prop} (hw : WF FC u) (ra1 : inR a1) (ra2 : inR a2) (ra3 : inR a3) (h : wp (runC d 94 [a1, a2, a3] u) Q) : wp (runC d 94 [a1, a2, a3] u) (fun r u' => Q r u' ∧ Gr FC DX2_make u u' ∧ WF FC u' ∧ inR r) := by
  obtain ⟨r, u', e, q⟩ := h
  have h := ((allC0 d).2.2.2.2.2.2.2.2.2.2.2.2.2.2.2.2.2.2.2.2.2.2.2.2.2.2.2.2.2.2.2.2.2.2.2.2.2.2.2.2.2.2.2.2.2.2.2.2.2.2.2.2.2.2.2.2.2.2.2.2.1 a1 a2 a3 u).1 (avc trivial (avc ra1 (avc ra2 (avc ra3 avn)))) hw r u' e
  exact ⟨r, u', e, q, h.1, h.2.1, h.2.2 _ rfl⟩
theorem gX2_hash {d : Nat} {a1 a2 a3 : Int} {u : Sg} {Q : Int → Sg → Prop} (hw : WF FC u) (ra1 : inR a1) (ra2 : inR a2) (ra3 : inR a3) (h : wp (runC d 95 [a1, a2, a3] u) Q) : wp (runC d 95 [a1, a2, a3] u) (fun r u' => Q r u' ∧ Gr FC DX2_hash u u' ∧ WF FC u' ∧ inR r) := by
  obtain ⟨r, u', e, q⟩ := h
  have h := ((allC0 d).2.2.2.2.2.2.2.2.2.2.2.2.2.2.2.2.2.2.2.2.2.2.2.2.2.2.2.2.2.2.2.2.2.2.2.2.2.2.2.2.2.2.2.2.2.2.2.2.2.2.2.2.2.2.2.2.2.2.2.2.2.1 a1 a2 a3 u).1 (avc trivial (avc ra1 (avc ra2 (avc ra3 avn)))) hw r u' e
  exact ⟨r, u', e, q, h.1, h.2.1, h.2.2 _ rfl⟩
theorem gX2_make_2 {d : Nat} {a1 a2 a3 a4 : Int} {u : Sg} {Q : Int → Sg → Prop} (hw : WF FC u) (ra1 : inR a1) (ra2 : inR a2) (ra3 : inR a3) (ra4 : inR a4) (h : wp (runC d 96 [a1, a2, a3, a4] u) Q) : wp (runC d 96 [a1, a2, a3, a4] u) (fun r u' => Q r u' ∧ Gr FC DX2_make_2 u u' ∧ WF FC u' ∧ inR r) := by
  obtain ⟨r, u', e, q⟩ := h
  have h := ((allC0 d).2.2.2.2.2.2.2.2.2.2.2.2.2.2.2.2.2.2.2.2.2.2.2.2.2.2.2.2.2.2.2.2.2.2.2.2.2.2.2.2.2.2.2.2.2.2.2.2.2.2.2.2.2.2.2.2.2.2.2.2.2.2.1 a1 a2 a3 a4 u).1 (avc trivial (avc ra1 (avc ra2 (avc ra3 (avc ra4 avn))))) hw r u' e
  exact ⟨r, u', e, q, h.1, h.2.1, h.2.2 _ rfl⟩
theorem gX2_push {d : Nat} {a1 : Int} {u : Sg} {Q : Int → Sg → Prop} (hw : WF FC u) (ra1 : inR a1) (h : wp (runC d 97 [a1] u) Q) : wp (runC d 97 [a1] u) (fun r u' => Q r u' ∧ Gr FC DX2_push u u' ∧ WF FC u' ∧ True) := by
  obtain ⟨r, u', e, q⟩ := h
  have h := ((allC0 d).2.2.2.2.2.2.2.2.2.2.2.2.2.2.2.2.2.2.2.2.2.2.2.2.2.2.2.2.2.2.2.2.2.2.2.2.2.2.2.2.2.2.2.2.2.2.2.2.2.2.2.2.2.2.2.2.2.2.2.2.2.2.2.1 a1 u).1 (avc trivial (avc ra1 avn)) hw r u' e
  exact ⟨r, u', e, q, h.1, h.2.1, trivial⟩
theorem gX2_at {d : Nat} {a1 a2 : Int} {u : Sg} {Q : Int → Sg → Prop} (hw : WF FC u) (ra1 : inR a1) (ra2 : inR a2) (h : wp (runC d 98 [a1, a2] u) Q) : wp (runC d 98 [a1, a2] u) (fun r u' => Q r u' ∧ Gr FC DX2_at u u' ∧ WF FC u' ∧ inR r) := by
  obtain ⟨r, u', e, q⟩ := h
  have h := ((allC0 d).2.2.2.2.2.2.2.2.2.2.2.2.2.2.2.2.2.2.2.2.2.2.2.2.2.2.2.2.2.2.2.2.2.2.2.2.2.2.2.2.2.2.2.2.2.2.2.2.2.2.2.2.2.2.2.2.2.2.2.2.2.2.2.2.1 a1 a2 u).1 (avc trivial (avc ra1 (avc ra2 avn))) hw r u' e
  exact ⟨r, u', e, q, h.1, h.2.1, h.2.2 _ rfl⟩
theorem gX2_forget {d : Nat} {a1 a2 : Int} {u : Sg} {Q : Int → Sg → Prop} (hw : WF FC u) (ra1 : inR a1) (ra2 : inR a2) (h : wp (runC d 99 [a1, a2] u) Q) : wp (runC d 99 [a1, a2] u) (fun r u' => Q r u' ∧ Gr FC DX2_forget u u' ∧ WF FC u' ∧ True) := by
  obtain ⟨r, u', e, q⟩ := h
  have h := ((allC0 d).2.2.2.2.2.2.2.2.2.2.2.2.2.2.2.2.2.2.2.2.2.2.2.2.2.2.2.2.2.2.2.2.2.2.2.2.2.2.2.2.2.2.2.2.2.2.2.2.2.2.2.2.2.2.2.2.2.2.2.2.2.2.2.2.2.1 a1 a2 u).1 (avc trivial (avc ra1 (avc ra2 avn))) hw r u' e
  exact ⟨r, u', e, q, h.1, h.2.1, trivial⟩
theorem gX2_mode {d : Nat} {a1 a2 a3 : Int} {u : Sg} {Q : Int → Sg → Prop} (hw : WF FC u) (ra1 : inR a1) (ra2 : inR a2) (ra3 : inR a3) (h : wp (runC d 100 [a1, a2, a3] u) Q) : wp (runC d 100 [a1, a2, a3] u) (fun r u' => Q r u' ∧ Gr FC DX2_mode u u' ∧ WF FC u' ∧ inR r) := by
  obtain ⟨r, u', e, q⟩ := h
  have h := ((allC0 d).2.2.2.2.2.2.2.2.2.2.2.2.2.2.2.2.2.2.2.2.2.2.2.2.2.2.2.2.2.2.2.2.2.2.2.2.2.2.2.2.2.2.2.2.2.2.2.2.2.2.2.2.2.2.2.2.2.2.2.2.2.2.2.2.2.2.1 a1 a2 a3 u).1 (avc trivial (avc ra1 (avc ra2 (avc ra3 avn)))) hw r u' e
  exact ⟨r, u', e, q, h.1, h.2.1, h.2.2 _ rfl⟩
theorem gX2_pair {d : Nat} {a1 a2 a3 a4 : Int} {u : Sg} {Q : Int → Sg → Prop} (hw : WF FC u) (ra1 : inR a1) (ra2 : inR a2) (ra3 : inR a3) (ra4 : inR a4) (h : wp (runC d 101 [a1, a2, a3, a4] u) Q) : wp (runC d 101 [a1, a2, a3, a4] u) (fun r u' => Q r u' ∧ Gr FC DX2_pair u u' ∧ WF FC u' ∧ inR r) := by
  obtain ⟨r, u', e, q⟩ := h
  have h := ((allC0 d).2.2.2.2.2.2.2.2.2.2.2.2.2.2.2.2.2.2.2.2.2.2.2.2.2.2.2.2.2.2.2.2.2.2.2.2.2.2.2.2.2.2.2.2.2.2.2.2.2.2.2.2.2.2.2.2.2.2.2.2.2.2.2.2.2.2.2.1 a1 a2 a3 a4 u).1 (avc trivial (avc ra1 (avc ra2 (avc ra3 (avc ra4 avn))))) hw r u' e
  exact ⟨r, u', e, q, h.1, h.2.1, h.2.2 _ rfl⟩
theorem gX2_not {d : Nat} {a1 : Int} {u : Sg} {Q : Int → Sg → Prop} (hw : WF FC u) (ra1 : inR a1) (h : wp (runC d 102 [a1] u) Q) : wp (runC d 102 [a1] u) (fun r u' => Q r u' ∧ Gr FC DX2_not u u' ∧ WF FC u' ∧ inR r) := by
  obtain ⟨r, u', e, q⟩ := h
  have h := ((allC0 d).2.2.2.2.2.2.2.2.2.2.2.2.2.2.2.2.2.2.2.2.2.2.2.2.2.2.2.2.2.2.2.2.2.2.2.2.2.2.2.2.2.2.2.2.2.2.2.2.2.2.2.2.2.2.2.2.2.2.2.2.2.2.2.2.2.2.2.2.1 a1 u).1 (avc trivial (avc ra1 avn)) hw r u' e
  exact ⟨r, u', e, q, h.1, h.2.1, h.2.2 _ rfl⟩
theorem gX2_and {d : Nat} {a1 a2 : Int} {u : Sg} {Q : Int → Sg → Prop} (hw : WF FC u) (ra1 : inR a1) (ra2 : inR a2) (h : wp (runC d 103 [a1, a2] u) Q) : wp (runC d 103 [a1, a2] u) (fun r u' => Q r u' ∧ Gr FC DX2_and u u' ∧ WF FC u' ∧ inR r) := by
  obtain ⟨r, u', e, q⟩ := h
  have h := ((allC0 d).2.2.2.2.2.2.2.2.2.2.2.2.2.2.2.2.2.2.2.2.2.2.2.2.2.2.2.2.2.2.2.2.2.2.2.2.2.2.2.2.2.2.2.2.2.2.2.2.2.2.2.2.2.2.2.2.2.2.2.2.2.2.2.2.2.2.2.2.2.1 a1 a2 u).1 (avc trivial (avc ra1 (avc ra2 avn))) hw r u' e
  exact ⟨r, u', e, q, h.1, h.2.1, h.2.2 _ rfl⟩
theorem gX2_and_2 {d : Nat} {a1 : Int} {u : Sg} {Q : Int → Sg → Prop} (hw : WF FC u) (ra1 : inR a1) (h : wp (runC d 104 [a1] u) Q) : wp (runC d 104 [a1] u) (fun r u' => Q r u' ∧ Gr FC DX2_and_2 u u' ∧ WF FC u' ∧ inR r) := by
  obtain ⟨r, u', e, q⟩ := h
  have h := ((allC0 d).2.2.2.2.2.2.2.2.2.2.2.2.2.2.2.2.2.2.2.2.2.2.2.2.2.2.2.2.2.2.2.2.2.2.2.2.2.2.2.2.2.2.2.2.2.2.2.2.2.2.2.2.2.2.2.2.2.2.2.2.2.2.2.2.2.2.2.2.2.2.1 a1 u).1 (avc trivial (avc ra1 avn)) hw r u' e
  exact ⟨r, u', e, q, h.1, h.2.1, h.2.2 _ rfl⟩
theorem gX2_implies {d : Nat} {a1 a2 : Int} {u : Sg} {Q : Int → Sg → Prop} (hw : WF FC u) (ra1 : inR a1) (ra2 : inR a2) (h : wp (runC d 105 [a1, a2] u) Q) : wp (runC d 105 [a1, a2] u) (fun r u' => Q r u' ∧ Gr FC DX2_implies u u' ∧ WF FC u' ∧ inR r) := by
  obtain ⟨r, u', e, q⟩ := h
  have h := ((allC0 d).2.2.2.2.2.2.2.2.2.2.2.2.2.2.2.2.2.2.2.2.2.2.2.2.2.2.2.2.2.2.2.2.2.2.2.2.2.2.2.2.2.2.2.2.2.2.2.2.2.2.2.2.2.2.2.2.2.2.2.2.2.2.2.2.2.2.2.2.2.2.2.1 a1 a2 u).1 (avc trivial (avc ra1 (avc ra2 avn))) hw r u' e
  exact ⟨r, u', e, q, h.1, h.2.1, h.2.2 _ rfl⟩
theorem gX2_iff {d : Nat} {a1 a2 : Int} {u : Sg} {Q : Int → Sg → Prop} (hw : WF FC u) (ra1 : inR a1) (ra2 : inR a2) (h : wp (runC d 106 [a1, a2] u) Q) : wp (runC d 106 [a1, a2] u) (fun r u' => Q r u' ∧ Gr FC DX2_iff u u' ∧ WF FC u' ∧ inR r) := by
  obtain ⟨r, u', e, q⟩ := h
  have h := ((allC0 d).2.2.2.2.2.2.2.2.2.2.2.2.2.2.2.2.2.2.2.2.2.2.2.2.2.2.2.2.2.2.2.2.2.2.2.2.2.2.2.2.2.2.2.2.2.2.2.2.2.2.2.2.2.2.2.2.2.2.2.2.2.2.2.2.2.2.2.2.2.2.2.2.1 a1 a2 u).1 (avc trivial (avc ra1 (avc ra2 avn))) hw r u' e
  exact ⟨r, u', e, q, h.1, h.2.1, h.2.2 _ rfl⟩
theorem gX2_bind {d : Nat} {a1 a2 : Int} {u : Sg} {Q : Int → Sg → Prop} (hw : WF FC u) (ra1 : inR a1) (ra2 : inR a2) (h : wp (runC d 107 [a1, a2] u) Q) : wp (runC d 107 [a1, a2] u) (fun r u' => Q r u' ∧ Gr FC DX2_bind u u' ∧ WF FC u' ∧ inR r) := by
  obtain ⟨r, u', e, q⟩ := h
  have h := ((allC0 d).2.2.2.2.2.2.2.2.2.2.2.2.2.2.2.2.2.2.2.2.2.2.2.2.2.2.2.2.2.2.2.2.2.2.2.2.2.2.2.2.2.2.2.2.2.2.2.2.2.2.2.2.2.2.2.2.2.2.2.2.2.2.2.2.2.2.2.2.2.2.2.2.2.1 a1 a2 u).1 (avc trivial (avc ra1 (avc ra2 avn))) hw r u' e
  exact ⟨r, u', e, q, h.1, h.2.1, h.2.2 _ rfl⟩
theorem gX2_change {d : Nat} {a1 a2 : Int} {u : Sg} {Q : Int → Sg → Prop} (hw : WF FC u) (ra1 : inR a1) (ra2 : inR a2) (h : wp (runC d 108 [a1, a2] u) Q) : wp (runC d 108 [a1, a2] u) (fun r u' => Q r u' ∧ Gr FC DX2_change u u' ∧ WF FC u' ∧ inR r) := by
  obtain ⟨r, u', e, q⟩ := h
  have h := ((allC0 d).2.2.2.2.2.2.2.2.2.2.2.2.2.2.2.2.2.2.2.2.2.2.2.2.2.2.2.2.2.2.2.2.2.2.2.2.2.2.2.2.2.2.2.2.2.2.2.2.2.2.2.2.2.2.2.2.2.2.2.2.2.2.2.2.2.2.2.2.2.2.2.2.2.2.1 a1 a2 u).1 (avc trivial (avc ra1 (avc ra2 avn))) hw r u' e
  exact ⟨r, u', e, q, h.1, h.2.1, h.2.2 _ rfl⟩
theorem gX2_all {d : Nat} {a1 a2 : Int} {u : Sg} {Q : Int → Sg → Prop} (hw : WF FC u) (ra1 : inR a1) (ra2 : inR a2) (h : wp (runC d 109 [a1, a2] u) Q) : wp (runC d 109 [a1, a2] u) (fun r u' => Q r u' ∧ Gr FC DX2_all u u' ∧ WF FC u' ∧ inR r) := by
  obtain ⟨r, u', e, q⟩ := h
  have h := ((allC0 d).2.2.2.2.2.2.2.2.2.2.2.2.2.2.2.2.2.2.2.2.2.2.2.2.2.2.2.2.2.2.2.2.2.2.2.2.2.2.2.2.2.2.2.2.2.2.2.2.2.2.2.2.2.2.2.2.2.2.2.2.2.2.2.2.2.2.2.2.2.2.2.2.2.2.2.1 a1 a2 u).1 (avc trivial (avc ra1 (avc ra2 avn))) hw r u' e
  exact ⟨r, u', e, q, h.1, h.2.1, h.2.2 _ rfl⟩
theorem gX2_put {d : Nat} {a1 a2 : Int} {u : Sg} {Q : Int → Sg → Prop} (hw : WF FC u) (ra1 : inR a1) (ra2 : inR a2) (h : wp (runC d 110 [a1, a2] u) Q) : wp (runC d 110 [a1, a2] u) (fun r u' => Q r u' ∧ Gr FC DX2_put u u' ∧ WF FC u' ∧ inR r) := by
  obtain ⟨r, u', e, q⟩ := h
  have h := ((allC0 d).2.2.2.2.2.2.2.2.2.2.2.2.2.2.2.2.2.2.2.2.2.2.2.2.2.2.2.2.2.2.2.2.2.2.2.2.2.2.2.2.2.2.2.2.2.2.2.2.2.2.2.2.2.2.2.2.2.2.2.2.2.2.2.2.2.2.2.2.2.2.2.2.2.2.2.2.1 a1 a2 u).1 (avc trivial (avc ra1 (avc ra2 avn))) hw r u' e
  exact ⟨r, u', e, q, h.1, h.2.1, h.2.2 _ rfl⟩
theorem gX2_loci {d : Nat} {a1 a2 a3 a4 : Int} {u : Sg} {Q : Int → Sg → Prop} (hw : WF FC u) (ra1 : inR a1) (ra2 : inR a2) (ra3 : inR a3) (ra4 : inR a4) (h : wp (runC d 111 [a1, a2, a3, a4] u) Q) : wp (runC d 111 [a1, a2, a3, a4] u) (fun r u' => Q r u' ∧ Gr FC DX2_loci u u' ∧ WF FC u' ∧ inR r) := by
  obtain ⟨r, u', e, q⟩ := h
  have h := ((allC0 d).2.2.2.2.2.2.2.2.2.2.2.2.2.2.2.2.2.2.2.2.2.2.2.2.2.2.2.2.2.2.2.2.2.2.2.2.2.2.2.2.2.2.2.2.2.2.2.2.2.2.2.2.2.2.2.2.2.2.2.2.2.2.2.2.2.2.2.2.2.2.2.2.2.2.2.2.2.1 a1 a2 a3 a4 u).1 (avc trivial (avc ra1 (avc ra2 (avc ra3 (avc ra4 avn))))) hw r u' e
  exact ⟨r, u', e, q, h.1, h.2.1, h.2.2 _ rfl⟩
theorem gX2_has {d : Nat} {a1 a2 : Int} {u : Sg} {Q : Int → Sg → Prop} (hw : WF FC u) (ra1 : inR a1) (ra2 : inR a2) (h : wp (runC d 112 [a1, a2] u) Q) : wp (runC d 112 [a1, a2] u) (fun r u' => Q r u' ∧ Gr FC DX2_has u u' ∧ WF FC u' ∧ (r = 0 ∨ r = 1)) := by
  obtain ⟨r, u', e, q⟩ := h
  have h := ((allC0 d).2.2.2.2.2.2.2.2.2.2.2.2.2.2.2.2.2.2.2.2.2.2.2.2.2.2.2.2.2.2.2.2.2.2.2.2.2.2.2.2.2.2.2.2.2.2.2.2.2.2.2.2.2.2.2.2.2.2.2.2.2.2.2.2.2.2.2.2.2.2.2.2.2.2.2.2.2.2.1 a1 a2 u).1 (avc trivial (avc ra1 (avc ra2 avn))) hw r u' e
  exact ⟨r, u', e, q, h.1, h.2.1, zOf rfl (fun x hx => h.2.2 x (congrArg Sum.inl hx))⟩
theorem gX2_seek {d : Nat} {a1 a2 a3 : Int} {u : Sg} {Q : Int → Sg → Prop} (hw : WF FC u) (ra1 : inR a1) (ra2 : inR a2) (ra3 : inR a3) (h : wp (runC d 113 [a1, a2, a3] u) Q) : wp (runC d 113 [a1, a2, a3] u) (fun r u' => Q r u' ∧ Gr FC DX2_seek u u' ∧ WF FC u' ∧ inR r) := by
  obtain ⟨r, u', e, q⟩ := h
  have h := ((allC0 d).2.2.2.2.2.2.2.2.2.2.2.2.2.2.2.2.2.2.2.2.2.2.2.2.2.2.2.2.2.2.2.2.2.2.2.2.2.2.2.2.2.2.2.2.2.2.2.2.2.2.2.2.2.2.2.2.2.2.2.2.2.2.2.2.2.2.2.2.2.2.2.2.2.2.2.2.2.2.2.1 a1 a2 a3 u).1 (avc trivial (avc ra1 (avc ra2 (avc ra3 avn)))) hw r u' e
  exact ⟨r, u', e, q, h.1, h.2.1, h.2.2 _ rfl⟩
theorem gX2_partsOf {d : Nat} {a1 : Int} {u : Sg} {Q : Int → Sg → Prop} (hw : WF FC u) (ra1 : inR a1) (h : wp (runC d 114 [a1] u) Q) : wp (runC d 114 [a1] u) (fun r u' => Q r u' ∧ Gr FC DX2_partsOf u u' ∧ WF FC u' ∧ inR r) := by
  obtain ⟨r, u', e, q⟩ := h
  have h := ((allC0 d).2.2.2.2.2.2.2.2.2.2.2.2.2.2.2.2.2.2.2.2.2.2.2.2.2.2.2.2.2.2.2.2.2.2.2.2.2.2.2.2.2.2.2.2.2.2.2.2.2.2.2.2.2.2.2.2.2.2.2.2.2.2.2.2.2.2.2.2.2.2.2.2.2.2.2.2.2.2.2.2 a1 u).1 (avc trivial (avc ra1 avn)) hw r u' e
  exact ⟨r, u', e, q, h.1, h.2.1, h.2.2 _ rfl⟩
