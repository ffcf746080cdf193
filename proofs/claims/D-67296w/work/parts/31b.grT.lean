theorem allT0 (d : Nat) : AAT launch0 d := allT launch0 p00 e00 default default default c00 ((fun _ => 0, fun _ _ => 0), 0, 0, 0) d
theorem gX3_thrown {d : Nat} {u : Sg} {Q : Int → Sg → Prop} (hw : WF FT u) (h : wp (runT d 0 [] u) Q) : wp (runT d 0 [] u) (fun r u' => Q r u' ∧ Gr FT DX3_thrown u u' ∧ WF FT u' ∧ inR r) := by
  obtain ⟨r, u', e, q⟩ := h
  have h := ((allT0 d).1  u).1 (avc trivial avn) hw r u' e
  exact ⟨r, u', e, q, h.1, h.2.1, h.2.2 _ rfl⟩
theorem gX3_plain {d : Nat} {a1 a2 : Int} {u : Sg} {Q : Int → Sg → Prop} (hw : WF FT u) (ra1 : inR a1) (ra2 : inR a2) (h : wp (runT d 1 [a1, a2] u) Q) : wp (runT d 1 [a1, a2] u) (fun r u' => Q r u' ∧ Gr FT DX3_plain u u' ∧ WF FT u' ∧ inR r) := by
  obtain ⟨r, u', e, q⟩ := h
  have h := ((allT0 d).2.1 a1 a2 u).1 (avc trivial (avc ra1 (avc ra2 avn))) hw r u' e
  exact ⟨r, u', e, q, h.1, h.2.1, h.2.2 _ rfl⟩
theorem gX3_typed {d : Nat} {a1 a2 a3 : Int} {u : Sg} {Q : Int → Sg → Prop} (hw : WF FT u) (ra1 : inR a1) (ra2 : inR a2) (ra3 : inR a3) (h : wp (runT d 2 [a1, a2, a3] u) Q) : wp (runT d 2 [a1, a2, a3] u) (fun r u' => Q r u' ∧ Gr FT DX3_typed u u' ∧ WF FT u' ∧ inR r) := by
  obtain ⟨r, u', e, q⟩ := h
  have h := ((allT0 d).2.2.1 a1 a2 a3 u).1 (avc trivial (avc ra1 (avc ra2 (avc ra3 avn)))) hw r u' e
  exact ⟨r, u', e, q, h.1, h.2.1, h.2.2 _ rfl⟩
theorem gX3_give {d : Nat} {a1 : Int} {u : Sg} {Q : Int → Sg → Prop} (hw : WF FT u) (ra1 : inR a1) (h : wp (runT d 3 [a1] u) Q) : wp (runT d 3 [a1] u) (fun r u' => Q r u' ∧ Gr FT DX3_give u u' ∧ WF FT u' ∧ True) := by
  obtain ⟨r, u', e, q⟩ := h
  have h := ((allT0 d).2.2.2.1 a1 u).1 (avc trivial (avc ra1 avn)) hw r u' e
  exact ⟨r, u', e, q, h.1, h.2.1, trivial⟩
theorem gX3_node {d : Nat} {a1 a2 : Int} {u : Sg} {Q : Int → Sg → Prop} (hw : WF FT u) (ra1 : inR a1) (ra2 : inR a2) (h : wp (runT d 5 [a1, a2] u) Q) : wp (runT d 5 [a1, a2] u) (fun r u' => Q r u' ∧ Gr FT DX3_node u u' ∧ WF FT u' ∧ inR r) := by
  obtain ⟨r, u', e, q⟩ := h
  have h := ((allT0 d).2.2.2.2.1 a1 a2 u).1 (avc trivial (avc ra1 (avc ra2 avn))) hw r u' e
  exact ⟨r, u', e, q, h.1, h.2.1, h.2.2 _ rfl⟩
theorem gX3_measure {d : Nat} {a1 : Int} {u : Sg} {Q : Int → Sg → Prop} (hw : WF FT u) (ra1 : inR a1) (h : wp (runT d 6 [a1] u) Q) : wp (runT d 6 [a1] u) (fun r u' => Q r u' ∧ Gr FT DX3_measure u u' ∧ WF FT u' ∧ True) := by
  obtain ⟨r, u', e, q⟩ := h
  have h := ((allT0 d).2.2.2.2.2.1 a1 u).1 (avc trivial (avc ra1 avn)) hw r u' e
  exact ⟨r, u', e, q, h.1, h.2.1, trivial⟩
theorem gX3_get {d : Nat} {a1 a2 : Int} {u : Sg} {Q : Int → Sg → Prop} (hw : WF FT u) (ra1 : inR a1) (ra2 : inR a2) (h : wp (runT d 7 [a1, a2] u) Q) : wp (runT d 7 [a1, a2] u) (fun r u' => Q r u' ∧ Gr FT DX3_get u u' ∧ WF FT u' ∧ inR r) := by
  obtain ⟨r, u', e, q⟩ := h
  have h := ((allT0 d).2.2.2.2.2.2.1 a1 a2 u).1 (avc trivial (avc ra1 (avc ra2 avn))) hw r u' e
  exact ⟨r, u', e, q, h.1, h.2.1, h.2.2 _ rfl⟩
theorem gX3_first {d : Nat} {a1 : Int} {u : Sg} {Q : Int → Sg → Prop} (hw : WF FT u) (ra1 : inR a1) (h : wp (runT d 8 [a1] u) Q) : wp (runT d 8 [a1] u) (fun r u' => Q r u' ∧ Gr FT DX3_first u u' ∧ WF FT u' ∧ inR r) := by
  obtain ⟨r, u', e, q⟩ := h
  have h := ((allT0 d).2.2.2.2.2.2.2.1 a1 u).1 (avc ra1 avn) hw r u' e
  exact ⟨r, u', e, q, h.1, h.2.1, h.2.2 _ rfl⟩
theorem gX3_fresh {d : Nat} {a1 a2 : Int} {u : Sg} {Q : Int → Sg → Prop} (hw : WF FT u) (ra1 : inR a1) (ra2 : inR a2) (h : wp (runT d 9 [a1, a2] u) Q) : wp (runT d 9 [a1, a2] u) (fun r u' => Q r u' ∧ Gr FT DX3_fresh u u' ∧ WF FT u' ∧ inR r) := by
  obtain ⟨r, u', e, q⟩ := h
  have h := ((allT0 d).2.2.2.2.2.2.2.2.1 a1 a2 u).1 (avc trivial (avc ra1 (avc ra2 avn))) hw r u' e
  exact ⟨r, u', e, q, h.1, h.2.1, h.2.2 _ rfl⟩
theorem gX3_anew {d : Nat} {u : Sg} {Q : Int → Sg → Prop} (hw : WF FT u) (h : wp (runT d 10 [] u) Q) : wp (runT d 10 [] u) (fun r u' => Q r u' ∧ Gr FT DX3_anew u u' ∧ WF FT u' ∧ True) := by
  obtain ⟨r, u', e, q⟩ := h
  have h := ((allT0 d).2.2.2.2.2.2.2.2.2.1  u).1 (avc trivial avn) hw r u' e
  exact ⟨r, u', e, q, h.1, h.2.1, trivial⟩
theorem gX3_mode {d : Nat} {a1 a2 : Int} {u : Sg} {Q : Int → Sg → Prop} (hw : WF FT u) (ra1 : inR a1) (ra2 : inR a2) (h : wp (runT d 11 [a1, a2] u) Q) : wp (runT d 11 [a1, a2] u) (fun r u' => Q r u' ∧ Gr FT DX3_mode u u' ∧ WF FT u' ∧ inR r) := by
  obtain ⟨r, u', e, q⟩ := h
  have h := ((allT0 d).2.2.2.2.2.2.2.2.2.2.1 a1 a2 u).1 (avc trivial (avc ra1 (avc ra2 avn))) hw r u' e
  exact ⟨r, u', e, q, h.1, h.2.1, h.2.2 _ rfl⟩
theorem gX3_form {d : Nat} {a1 a2 : Int} {u : Sg} {Q : Int → Sg → Prop} (hw : WF FT u) (ra1 : inR a1) (ra2 : inR a2) (h : wp (runT d 12 [a1, a2] u) Q) : wp (runT d 12 [a1, a2] u) (fun r u' => Q r u' ∧ Gr FT DX3_form u u' ∧ WF FT u' ∧ inR r) := by
  obtain ⟨r, u', e, q⟩ := h
  have h := ((allT0 d).2.2.2.2.2.2.2.2.2.2.2.1 a1 a2 u).1 (avc trivial (avc ra1 (avc ra2 avn))) hw r u' e
  exact ⟨r, u', e, q, h.1, h.2.1, h.2.2 _ rfl⟩
theorem gX3_sortOf {d : Nat} {a1 : Int} {u : Sg} {Q : Int → Sg → Prop} (hw : WF FT u) (ra1 : inR a1) (h : wp (runT d 13 [a1] u) Q) : wp (runT d 13 [a1] u) (fun r u' => Q r u' ∧ Gr FT DX3_sortOf u u' ∧ WF FT u' ∧ inR r) := by
  obtain ⟨r, u', e, q⟩ := h
  have h := ((allT0 d).2.2.2.2.2.2.2.2.2.2.2.2.1 a1 u).1 (avc trivial (avc ra1 avn)) hw r u' e
  exact ⟨r, u', e, q, h.1, h.2.1, h.2.2 _ rfl⟩
theorem gX3_isBelow {d : Nat} {a1 a2 : Int} {u : Sg} {Q : Int → Sg → Prop} (hw : WF FT u) (ra1 : inR a1) (ra2 : inR a2) (h : wp (runT d 14 [a1, a2] u) Q) : wp (runT d 14 [a1, a2] u) (fun r u' => Q r u' ∧ Gr FT DX3_isBelow u u' ∧ WF FT u' ∧ (r = 0 ∨ r = 1)) := by
  obtain ⟨r, u', e, q⟩ := h
  have h := ((allT0 d).2.2.2.2.2.2.2.2.2.2.2.2.2.1 a1 a2 u).1 (avc trivial (avc ra1 (avc ra2 avn))) hw r u' e
  exact ⟨r, u', e, q, h.1, h.2.1, zOf rfl (fun x hx => h.2.2 x (congrArg Sum.inl hx))⟩
theorem gX3_mentions {d : Nat} {a1 a2 : Int} {u : Sg} {Q : Int → Sg → Prop} (hw : WF FT u) (ra1 : inR a1) (ra2 : inR a2) (h : wp (runT d 15 [a1, a2] u) Q) : wp (runT d 15 [a1, a2] u) (fun r u' => Q r u' ∧ Gr FT DX3_mentions u u' ∧ WF FT u' ∧ (r = 0 ∨ r = 1)) := by
  obtain ⟨r, u', e, q⟩ := h
  have h := ((allT0 d).2.2.2.2.2.2.2.2.2.2.2.2.2.2.1 a1 a2 u).1 (avc trivial (avc ra1 (avc ra2 avn))) hw r u' e
  exact ⟨r, u', e, q, h.1, h.2.1, zOf rfl (fun x hx => h.2.2 x (congrArg Sum.inl hx))⟩
theorem gX3_isPart {d : Nat} {a1 a2 : Int} {u : Sg} {Q : Int → Sg → Prop} (hw : WF FT u) (ra1 : inR a1) (ra2 : inR a2) (h : wp (runT d 16 [a1, a2] u) Q) : wp (runT d 16 [a1, a2] u) (fun r u' => Q r u' ∧ Gr FT DX3_isPart u u' ∧ WF FT u' ∧ (r = 0 ∨ r = 1)) := by
  obtain ⟨r, u', e, q⟩ := h
  have h := ((allT0 d).2.2.2.2.2.2.2.2.2.2.2.2.2.2.2.1 a1 a2 u).1 (avc trivial (avc ra1 (avc ra2 avn))) hw r u' e
  exact ⟨r, u', e, q, h.1, h.2.1, zOf rfl (fun x hx => h.2.2 x (congrArg Sum.inl hx))⟩
theorem gX3_fails {d : Nat} {a1 : Int} {u : Sg} {Q : Int → Sg → Prop} (hw : WF FT u) (ra1 : inR a1) (h : wp (runT d 17 [a1] u) Q) : wp (runT d 17 [a1] u) (fun r u' => Q r u' ∧ Gr FT DX3_fails u u' ∧ WF FT u' ∧ inR r) := by
  obtain ⟨r, u', e, q⟩ := h
  have h := ((allT0 d).2.2.2.2.2.2.2.2.2.2.2.2.2.2.2.2.1 a1 u).1 (avc trivial (avc ra1 avn)) hw r u' e
  exact ⟨r, u', e, q, h.1, h.2.1, h.2.2 _ rfl⟩
theorem gX3_attribute {d : Nat} {u : Sg} {Q : Int → Sg → Prop} (hw : WF FT u) (h : wp (runT d 18 [] u) Q) : wp (runT d 18 [] u) (fun r u' => Q r u' ∧ Gr FT DX3_attribute u u' ∧ WF FT u' ∧ inR r) := by
  obtain ⟨r, u', e, q⟩ := h
  have h := ((allT0 d).2.2.2.2.2.2.2.2.2.2.2.2.2.2.2.2.2.1  u).1 (avc trivial avn) hw r u' e
  exact ⟨r, u', e, q, h.1, h.2.1, h.2.2 _ rfl⟩
theorem gX3_functor {d : Nat} {a1 a2 : Int} {u : Sg} {Q : Int → Sg → Prop} (hw : WF FT u) (ra1 : inR a1) (ra2 : inR a2) (h : wp (runT d 19 [a1, a2] u) Q) : wp (runT d 19 [a1, a2] u) (fun r u' => Q r u' ∧ Gr FT DX3_functor u u' ∧ WF FT u' ∧ inR r) := by
  obtain ⟨r, u', e, q⟩ := h
  have h := ((allT0 d).2.2.2.2.2.2.2.2.2.2.2.2.2.2.2.2.2.2.1 a1 a2 u).1 (avc trivial (avc ra1 (avc ra2 avn))) hw r u' e
  exact ⟨r, u', e, q, h.1, h.2.1, h.2.2 _ rfl⟩
theorem gX3_predicate {d : Nat} {a1 : Int} {u : Sg} {Q : Int → Sg → Prop} (hw : WF FT u) (ra1 : inR a1) (h : wp (runT d 20 [a1] u) Q) : wp (runT d 20 [a1] u) (fun r u' => Q r u' ∧ Gr FT DX3_predicate u u' ∧ WF FT u' ∧ inR r) := by
  obtain ⟨r, u', e, q⟩ := h
  have h := ((allT0 d).2.2.2.2.2.2.2.2.2.2.2.2.2.2.2.2.2.2.2.1 a1 u).1 (avc trivial (avc ra1 avn)) hw r u' e
  exact ⟨r, u', e, q, h.1, h.2.1, h.2.2 _ rfl⟩
theorem gX3_type {d : Nat} {a1 a2 a3 : Int} {u : Sg} {Q : Int → Sg → Prop} (hw : WF FT u) (ra1 : inR a1) (ra2 : inR a2) (ra3 : inR a3) (h : wp (runT d 21 [a1, a2, a3] u) Q) : wp (runT d 21 [a1, a2, a3] u) (fun r u' => Q r u' ∧ Gr FT DX3_type u u' ∧ WF FT u' ∧ inR r) := by
  obtain ⟨r, u', e, q⟩ := h
  have h := ((allT0 d).2.2.2.2.2.2.2.2.2.2.2.2.2.2.2.2.2.2.2.2.1 a1 a2 a3 u).1 (avc trivial (avc ra1 (avc ra2 (avc ra3 avn)))) hw r u' e
  exact ⟨r, u', e, q, h.1, h.2.1, h.2.2 _ rfl⟩
theorem gX3_isSet {d : Nat} {a1 : Int} {u : Sg} {Q : Int → Sg → Prop} (hw : WF FT u) (ra1 : inR a1) (h : wp (runT d 22 [a1] u) Q) : wp (runT d 22 [a1] u) (fun r u' => Q r u' ∧ Gr FT DX3_isSet u u' ∧ WF FT u' ∧ (r = 0 ∨ r = 1)) := by
  obtain ⟨r, u', e, q⟩ := h
  have h := ((allT0 d).2.2.2.2.2.2.2.2.2.2.2.2.2.2.2.2.2.2.2.2.2.1 a1 u).1 (avc trivial (avc ra1 avn)) hw r u' e
  exact ⟨r, u', e, q, h.1, h.2.1, zOf rfl (fun x hx => h.2.2 x (congrArg Sum.inl hx))⟩
theorem gX3_gives {d : Nat} {a1 : Int} {u : Sg} {Q : Int → Sg → Prop} (hw : WF FT u) (ra1 : inR a1) (h : wp (runT d 23 [a1] u) Q) : wp (runT d 23 [a1] u) (fun r u' => Q r u' ∧ Gr FT DX3_gives u u' ∧ WF FT u' ∧ inR r) := by
  obtain ⟨r, u', e, q⟩ := h
  have h := ((allT0 d).2.2.2.2.2.2.2.2.2.2.2.2.2.2.2.2.2.2.2.2.2.2.1 a1 u).1 (avc trivial (avc ra1 avn)) hw r u' e
  exact ⟨r, u', e, q, h.1, h.2.1, h.2.2 _ rfl⟩
theorem gX3_constant {d : Nat} {a1 : Int} {u : Sg} {Q : Int → Sg → Prop} (hw : WF FT u) (ra1 : inR a1) (h : wp (runT d 24 [a1] u) Q) : wp (runT d 24 [a1] u) (fun r u' => Q r u' ∧ Gr FT DX3_constant u u' ∧ WF FT u' ∧ inR r) := by
  obtain ⟨r, u', e, q⟩ := h
  have h := ((allT0 d).2.2.2.2.2.2.2.2.2.2.2.2.2.2.2.2.2.2.2.2.2.2.2.1 a1 u).1 (avc trivial (avc ra1 avn)) hw r u' e
  exact ⟨r, u', e, q, h.1, h.2.1, h.2.2 _ rfl⟩
theorem gX3_closed {d : Nat} {a1 a2 : Int} {u : Sg} {Q : Int → Sg → Prop} (hw : WF FT u) (ra1 : inR a1) (ra2 : inR a2) (h : wp (runT d 25 [a1, a2] u) Q) : wp (runT d 25 [a1, a2] u) (fun r u' => Q r u' ∧ Gr FT DX3_closed u u' ∧ WF FT u' ∧ inR r) := by
  obtain ⟨r, u', e, q⟩ := h
  have h := ((allT0 d).2.2.2.2.2.2.2.2.2.2.2.2.2.2.2.2.2.2.2.2.2.2.2.2.1 a1 a2 u).1 (avc trivial (avc ra1 (avc ra2 avn))) hw r u' e
  exact ⟨r, u', e, q, h.1, h.2.1, h.2.2 _ rfl⟩
theorem gX3_isClosed {d : Nat} {a1 : Int} {u : Sg} {Q : Int → Sg → Prop} (hw : WF FT u) (ra1 : inR a1) (h : wp (runT d 26 [a1] u) Q) : wp (runT d 26 [a1] u) (fun r u' => Q r u' ∧ Gr FT DX3_isClosed u u' ∧ WF FT u' ∧ (r = 0 ∨ r = 1)) := by
  obtain ⟨r, u', e, q⟩ := h
  have h := ((allT0 d).2.2.2.2.2.2.2.2.2.2.2.2.2.2.2.2.2.2.2.2.2.2.2.2.2.1 a1 u).1 (avc trivial (avc ra1 avn)) hw r u' e
  exact ⟨r, u', e, q, h.1, h.2.1, zOf rfl (fun x hx => h.2.2 x (congrArg Sum.inl hx))⟩
theorem gX3_leaf {d : Nat} {a1 a2 : Int} {u : Sg} {Q : Int → Sg → Prop} (hw : WF FT u) (ra1 : inR a1) (ra2 : inR a2) (h : wp (runT d 27 [a1, a2] u) Q) : wp (runT d 27 [a1, a2] u) (fun r u' => Q r u' ∧ Gr FT DX3_leaf u u' ∧ WF FT u' ∧ inR r) := by
  obtain ⟨r, u', e, q⟩ := h
  have h := ((allT0 d).2.2.2.2.2.2.2.2.2.2.2.2.2.2.2.2.2.2.2.2.2.2.2.2.2.2.1 a1 a2 u).1 (avc trivial (avc ra1 (avc ra2 avn))) hw r u' e
  exact ⟨r, u', e, q, h.1, h.2.1, h.2.2 _ rfl⟩
theorem gX3_locus {d : Nat} {a1 : Int} {u : Sg} {Q : Int → Sg → Prop} (hw : WF FT u) (ra1 : inR a1) (h : wp (runT d 28 [a1] u) Q) : wp (runT d 28 [a1] u) (fun r u' => Q r u' ∧ Gr FT DX3_locus u u' ∧ WF FT u' ∧ inR r) := by
  obtain ⟨r, u', e, q⟩ := h
  have h := ((allT0 d).2.2.2.2.2.2.2.2.2.2.2.2.2.2.2.2.2.2.2.2.2.2.2.2.2.2.2.1 a1 u).1 (avc trivial (avc ra1 avn)) hw r u' e
  exact ⟨r, u', e, q, h.1, h.2.1, h.2.2 _ rfl⟩
theorem gX3_apply {d : Nat} {a1 a2 a3 : Int} {u : Sg} {Q : Int → Sg → Prop} (hw : WF FT u) (ra1 : inR a1) (ra2 : inR a2) (ra3 : inR a3) (h : wp (runT d 29 [a1, a2, a3] u) Q) : wp (runT d 29 [a1, a2, a3] u) (fun r u' => Q r u' ∧ Gr FT DX3_apply u u' ∧ WF FT u' ∧ inR r) := by
  obtain ⟨r, u', e, q⟩ := h
  have h := ((allT0 d).2.2.2.2.2.2.2.2.2.2.2.2.2.2.2.2.2.2.2.2.2.2.2.2.2.2.2.2.1 a1 a2 a3 u).1 (avc trivial (avc ra1 (avc ra2 (avc ra3 avn)))) hw r u' e
  exact ⟨r, u', e, q, h.1, h.2.1, h.2.2 _ rfl⟩
theorem gX3_the {d : Nat} {a1 : Int} {u : Sg} {Q : Int → Sg → Prop} (hw : WF FT u) (ra1 : inR a1) (h : wp (runT d 30 [a1] u) Q) : wp (runT d 30 [a1] u) (fun r u' => Q r u' ∧ Gr FT DX3_the u u' ∧ WF FT u' ∧ inR r) := by
  obtain ⟨r, u', e, q⟩ := h
  have h := ((allT0 d).2.2.2.2.2.2.2.2.2.2.2.2.2.2.2.2.2.2.2.2.2.2.2.2.2.2.2.2.2.1 a1 u).1 (avc trivial (avc ra1 avn)) hw r u' e
  exact ⟨r, u', e, q, h.1, h.2.1, h.2.2 _ rfl⟩
theorem gX3_atom {d : Nat} {a1 a2 a3 a4 : Int} {u : Sg} {Q : Int → Sg → Prop} (hw : WF FT u) (ra1 : inR a1) (ra2 : inR a2) (ra3 : inR a3) (ra4 : inR a4) (h : wp (runT d 31 [a1, a2, a3, a4] u) Q) : wp (runT d 31 [a1, a2, a3, a4] u) (fun r u' => Q r u' ∧ Gr FT DX3_atom u u' ∧ WF FT u' ∧ inR r) := by
  obtain ⟨r, u', e, q⟩ := h
  have h := ((allT0 d).2.2.2.2.2.2.2.2.2.2.2.2.2.2.2.2.2.2.2.2.2.2.2.2.2.2.2.2.2.2.1 a1 a2 a3 a4 u).1 (avc trivial (avc ra1 (avc ra2 (avc ra3 (avc ra4 avn))))) hw r u' e
  exact ⟨r, u', e, q, h.1, h.2.1, h.2.2 _ rfl⟩
theorem gX3_two {d : Nat} {a1 a2 a3 : Int} {u : Sg} {Q : Int → Sg → Prop} (hw : WF FT u) (ra1 : inR a1) (ra2 : inR a2) (ra3 : inR a3) (h : wp (runT d 32 [a1, a2, a3] u) Q) : wp (runT d 32 [a1, a2, a3] u) (fun r u' => Q r u' ∧ Gr FT DX3_two u u' ∧ WF FT u' ∧ inR r) := by
  obtain ⟨r, u', e, q⟩ := h
  have h := ((allT0 d).2.2.2.2.2.2.2.2.2.2.2.2.2.2.2.2.2.2.2.2.2.2.2.2.2.2.2.2.2.2.2.1 a1 a2 a3 u).1 (avc trivial (avc ra1 (avc ra2 (avc ra3 avn)))) hw r u' e
  exact ⟨r, u', e, q, h.1, h.2.1, h.2.2 _ rfl⟩
theorem gX3_modeOf {d : Nat} {a1 a2 a3 : Int} {u : Sg} {Q : Int → Sg → Prop} (hw : WF FT u) (ra1 : inR a1) (ra2 : inR a2) (ra3 : inR a3) (h : wp (runT d 33 [a1, a2, a3] u) Q) : wp (runT d 33 [a1, a2, a3] u) (fun r u' => Q r u' ∧ Gr FT DX3_modeOf u u' ∧ WF FT u' ∧ inR r) := by
  obtain ⟨r, u', e, q⟩ := h
  have h := ((allT0 d).2.2.2.2.2.2.2.2.2.2.2.2.2.2.2.2.2.2.2.2.2.2.2.2.2.2.2.2.2.2.2.2.1 a1 a2 a3 u).1 (avc trivial (avc ra1 (avc ra2 (avc ra3 avn)))) hw r u' e
  exact ⟨r, u', e, q, h.1, h.2.1, h.2.2 _ rfl⟩
theorem gX3_truth {d : Nat} {u : Sg} {Q : Int → Sg → Prop} (hw : WF FT u) (h : wp (runT d 34 [] u) Q) : wp (runT d 34 [] u) (fun r u' => Q r u' ∧ Gr FT DX3_truth u u' ∧ WF FT u' ∧ inR r) := by
  obtain ⟨r, u', e, q⟩ := h
  have h := ((allT0 d).2.2.2.2.2.2.2.2.2.2.2.2.2.2.2.2.2.2.2.2.2.2.2.2.2.2.2.2.2.2.2.2.2.1  u).1 (avc trivial avn) hw r u' e
  exact ⟨r, u', e, q, h.1, h.2.1, h.2.2 _ rfl⟩
theorem gX3_join {d : Nat} {a1 a2 a3 : Int} {u : Sg} {Q : Int → Sg → Prop} (hw : WF FT u) (ra1 : inR a1) (ra2 : inR a2) (ra3 : inR a3) (h : wp (runT d 35 [a1, a2, a3] u) Q) : wp (runT d 35 [a1, a2, a3] u) (fun r u' => Q r u' ∧ Gr FT DX3_join u u' ∧ WF FT u' ∧ inR r) := by
  obtain ⟨r, u', e, q⟩ := h
  have h := ((allT0 d).2.2.2.2.2.2.2.2.2.2.2.2.2.2.2.2.2.2.2.2.2.2.2.2.2.2.2.2.2.2.2.2.2.2.1 a1 a2 a3 u).1 (avc trivial (avc ra1 (avc ra2 (avc ra3 avn)))) hw r u' e
  exact ⟨r, u', e, q, h.1, h.2.1, h.2.2 _ rfl⟩
theorem gX3_not {d : Nat} {a1 : Int} {u : Sg} {Q : Int → Sg → Prop} (hw : WF FT u) (ra1 : inR a1) (h : wp (runT d 36 [a1] u) Q) : wp (runT d 36 [a1] u) (fun r u' => Q r u' ∧ Gr FT DX3_not u u' ∧ WF FT u' ∧ inR r) := by
  obtain ⟨r, u', e, q⟩ := h
  have h := ((allT0 d).2.2.2.2.2.2.2.2.2.2.2.2.2.2.2.2.2.2.2.2.2.2.2.2.2.2.2.2.2.2.2.2.2.2.2.1 a1 u).1 (avc trivial (avc ra1 avn)) hw r u' e
  exact ⟨r, u', e, q, h.1, h.2.1, h.2.2 _ rfl⟩
theorem gX3_and {d : Nat} {a1 a2 : Int} {u : Sg} {Q : Int → Sg → Prop} (hw : WF FT u) (ra1 : inR a1) (ra2 : inR a2) (h : wp (runT d 37 [a1, a2] u) Q) : wp (runT d 37 [a1, a2] u) (fun r u' => Q r u' ∧ Gr FT DX3_and u u' ∧ WF FT u' ∧ inR r) := by
  obtain ⟨r, u', e, q⟩ := h
  have h := ((allT0 d).2.2.2.2.2.2.2.2.2.2.2.2.2.2.2.2.2.2.2.2.2.2.2.2.2.2.2.2.2.2.2.2.2.2.2.2.1 a1 a2 u).1 (avc trivial (avc ra1 (avc ra2 avn))) hw r u' e
  exact ⟨r, u', e, q, h.1, h.2.1, h.2.2 _ rfl⟩
theorem gX3_and_2 {d : Nat} {a1 : Int} {u : Sg} {Q : Int → Sg → Prop} (hw : WF FT u) (ra1 : inR a1) (h : wp (runT d 38 [a1] u) Q) : wp (runT d 38 [a1] u) (fun r u' => Q r u' ∧ Gr FT DX3_and_2 u u' ∧ WF FT u' ∧ inR r) := by
  obtain ⟨r, u', e, q⟩ := h
  have h := ((allT0 d).2.2.2.2.2.2.2.2.2.2.2.2.2.2.2.2.2.2.2.2.2.2.2.2.2.2.2.2.2.2.2.2.2.2.2.2.2.1 a1 u).1 (avc trivial (avc ra1 avn)) hw r u' e
  exact ⟨r, u', e, q, h.1, h.2.1, h.2.2 _ rfl⟩
theorem gX3_implies {d : Nat} {a1 a2 : Int} {u : Sg} {Q : Int → Sg → Prop} (hw : WF FT u) (ra1 : inR a1) (ra2 : inR a2) (h : wp (runT d 39 [a1, a2] u) Q) : wp (runT d 39 [a1, a2] u) (fun r u' => Q r u' ∧ Gr FT DX3_implies u u' ∧ WF FT u' ∧ inR r) := by
  obtain ⟨r, u', e, q⟩ := h
  have h := ((allT0 d).2.2.2.2.2.2.2.2.2.2.2.2.2.2.2.2.2.2.2.2.2.2.2.2.2.2.2.2.2.2.2.2.2.2.2.2.2.2.1 a1 a2 u).1 (avc trivial (avc ra1 (avc ra2 avn))) hw r u' e
  exact ⟨r, u', e, q, h.1, h.2.1, h.2.2 _ rfl⟩
theorem gX3_bind {d : Nat} {a1 a2 a3 : Int} {u : Sg} {Q : Int → Sg → Prop} (hw : WF FT u) (ra1 : inR a1) (ra2 : inR a2) (ra3 : inR a3) (h : wp (runT d 40 [a1, a2, a3] u) Q) : wp (runT d 40 [a1, a2, a3] u) (fun r u' => Q r u' ∧ Gr FT DX3_bind u u' ∧ WF FT u' ∧ inR r) := by
  obtain ⟨r, u', e, q⟩ := h
  have h := ((allT0 d).2.2.2.2.2.2.2.2.2.2.2.2.2.2.2.2.2.2.2.2.2.2.2.2.2.2.2.2.2.2.2.2.2.2.2.2.2.2.2.1 a1 a2 a3 u).1 (avc trivial (avc ra1 (avc ra2 (avc ra3 avn)))) hw r u' e
  exact ⟨r, u', e, q, h.1, h.2.1, h.2.2 _ rfl⟩
theorem gX3_bind_2 {d : Nat} {a1 a2 a3 : Int} {u : Sg} {Q : Int → Sg → Prop} (hw : WF FT u) (ra1 : inR a1) (ra2 : inR a2) (ra3 : inR a3) (h : wp (runT d 41 [a1, a2, a3] u) Q) : wp (runT d 41 [a1, a2, a3] u) (fun r u' => Q r u' ∧ Gr FT DX3_bind_2 u u' ∧ WF FT u' ∧ inR r) := by
  obtain ⟨r, u', e, q⟩ := h
  have h := ((allT0 d).2.2.2.2.2.2.2.2.2.2.2.2.2.2.2.2.2.2.2.2.2.2.2.2.2.2.2.2.2.2.2.2.2.2.2.2.2.2.2.2.1 a1 a2 a3 u).1 (avc trivial (avc ra1 (avc ra2 (avc ra3 avn)))) hw r u' e
  exact ⟨r, u', e, q, h.1, h.2.1, h.2.2 _ rfl⟩
theorem gX3_bound {d : Nat} {a1 : Int} {u : Sg} {Q : Int → Sg → Prop} (hw : WF FT u) (ra1 : inR a1) (h : wp (runT d 42 [a1] u) Q) : wp (runT d 42 [a1] u) (fun r u' => Q r u' ∧ Gr FT DX3_bound u u' ∧ WF FT u' ∧ inR r) := by
  obtain ⟨r, u', e, q⟩ := h
  have h := ((allT0 d).2.2.2.2.2.2.2.2.2.2.2.2.2.2.2.2.2.2.2.2.2.2.2.2.2.2.2.2.2.2.2.2.2.2.2.2.2.2.2.2.2.1 a1 u).1 (avc trivial (avc ra1 avn)) hw r u' e
  exact ⟨r, u', e, q, h.1, h.2.1, h.2.2 _ rfl⟩
theorem gX3_again {d : Nat} {a1 a2 : Int} {u : Sg} {Q : Int → Sg → Prop} (hw : WF FT u) (ra1 : inR a1) (ra2 : inR a2) (h : wp (runT d 43 [a1, a2] u) Q) : wp (runT d 43 [a1, a2] u) (fun r u' => Q r u' ∧ Gr FT DX3_again u u' ∧ WF FT u' ∧ inR r) := by
  obtain ⟨r, u', e, q⟩ := h
  have h := ((allT0 d).2.2.2.2.2.2.2.2.2.2.2.2.2.2.2.2.2.2.2.2.2.2.2.2.2.2.2.2.2.2.2.2.2.2.2.2.2.2.2.2.2.2.1 a1 a2 u).1 (avc trivial (avc ra1 (avc ra2 avn))) hw r u' e
  exact ⟨r, u', e, q, h.1, h.2.1, h.2.2 _ rfl⟩
theorem gX3_all {d : Nat} {a1 a2 : Int} {u : Sg} {Q : Int → Sg → Prop} (hw : WF FT u) (ra1 : inR a1) (ra2 : inR a2) (h : wp (runT d 44 [a1, a2] u) Q) : wp (runT d 44 [a1, a2] u) (fun r u' => Q r u' ∧ Gr FT DX3_all u u' ∧ WF FT u' ∧ inR r) := by
  obtain ⟨r, u', e, q⟩ := h
  have h := ((allT0 d).2.2.2.2.2.2.2.2.2.2.2.2.2.2.2.2.2.2.2.2.2.2.2.2.2.2.2.2.2.2.2.2.2.2.2.2.2.2.2.2.2.2.2.1 a1 a2 u).1 (avc trivial (avc ra1 (avc ra2 avn))) hw r u' e
  exact ⟨r, u', e, q, h.1, h.2.1, h.2.2 _ rfl⟩
theorem gX3_cluster {d : Nat} {a1 a2 a3 : Int} {u : Sg} {Q : Int → Sg → Prop} (hw : WF FT u) (ra1 : inR a1) (ra2 : inR a2) (ra3 : inR a3) (h : wp (runT d 45 [a1, a2, a3] u) Q) : wp (runT d 45 [a1, a2, a3] u) (fun r u' => Q r u' ∧ Gr FT DX3_cluster u u' ∧ WF FT u' ∧ inR r) := by
  obtain ⟨r, u', e, q⟩ := h
  have h := ((allT0 d).2.2.2.2.2.2.2.2.2.2.2.2.2.2.2.2.2.2.2.2.2.2.2.2.2.2.2.2.2.2.2.2.2.2.2.2.2.2.2.2.2.2.2.2.1 a1 a2 a3 u).1 (avc trivial (avc ra1 (avc ra2 (avc ra3 avn)))) hw r u' e
  exact ⟨r, u', e, q, h.1, h.2.1, h.2.2 _ rfl⟩
theorem gX3_registered {d : Nat} {u : Sg} {Q : Int → Sg → Prop} (hw : WF FT u) (h : wp (runT d 46 [] u) Q) : wp (runT d 46 [] u) (fun r u' => Q r u' ∧ Gr FT DX3_registered u u' ∧ WF FT u' ∧ inR r) := by
  obtain ⟨r, u', e, q⟩ := h
  have h := ((allT0 d).2.2.2.2.2.2.2.2.2.2.2.2.2.2.2.2.2.2.2.2.2.2.2.2.2.2.2.2.2.2.2.2.2.2.2.2.2.2.2.2.2.2.2.2.2.1  u).1 (avc trivial avn) hw r u' e
  exact ⟨r, u', e, q, h.1, h.2.1, h.2.2 _ rfl⟩
theorem gX3_gives_2 {d : Nat} {a1 a2 a3 a4 : Int} {u : Sg} {Q : Int → Sg → Prop} (hw : WF FT u) (ra1 : inR a1) (ra2 : inR a2) (ra3 : inR a3) (ra4 : inR a4) (h : wp (runT d 47 [a1, a2, a3, a4] u) Q) : wp (runT d 47 [a1, a2, a3, a4] u) (fun r u' => Q r u' ∧ Gr FT DX3_gives_2 u u' ∧ WF FT u' ∧ inR r) := by
  obtain ⟨r, u', e, q⟩ := h
  have h := ((allT0 d).2.2.2.2.2.2.2.2.2.2.2.2.2.2.2.2.2.2.2.2.2.2.2.2.2.2.2.2.2.2.2.2.2.2.2.2.2.2.2.2.2.2.2.2.2.2.1 a1 a2 a3 a4 u).1 (avc trivial (avc ra1 (avc ra2 (avc ra3 (avc ra4 avn))))) hw r u' e
  exact ⟨r, u', e, q, h.1, h.2.1, h.2.2 _ rfl⟩
theorem gX3_types {d : Nat} {a1 a2 a3 : Int} {u : Sg} {Q : Int → Sg → Prop} (hw : WF FT u) (ra1 : inR a1) (ra2 : inR a2) (ra3 : inR a3) (h : wp (runT d 48 [a1, a2, a3] u) Q) : wp (runT d 48 [a1, a2, a3] u) (fun r u' => Q r u' ∧ Gr FT DX3_types u u' ∧ WF FT u' ∧ (r = 0 ∨ r = 1)) := by
  obtain ⟨r, u', e, q⟩ := h
  have h := ((allT0 d).2.2.2.2.2.2.2.2.2.2.2.2.2.2.2.2.2.2.2.2.2.2.2.2.2.2.2.2.2.2.2.2.2.2.2.2.2.2.2.2.2.2.2.2.2.2.2.1 a1 a2 a3 u).1 (avc trivial (avc ra1 (avc ra2 (avc ra3 avn)))) hw r u' e
  exact ⟨r, u', e, q, h.1, h.2.1, zOf rfl (fun x hx => h.2.2 x (congrArg Sum.inl hx))⟩
theorem gX3_reduce {d : Nat} {a1 a2 a3 a4 : Int} {u : Sg} {Q : Int → Sg → Prop} (hw : WF FT u) (ra1 : inR a1) (ra2 : inR a2) (ra3 : inR a3) (ra4 : inR a4) (h : wp (runT d 49 [a1, a2, a3, a4] u) Q) : wp (runT d 49 [a1, a2, a3, a4] u) (fun r u' => Q r u' ∧ Gr FT DX3_reduce u u' ∧ WF FT u' ∧ inR r) := by
  obtain ⟨r, u', e, q⟩ := h
  have h := ((allT0 d).2.2.2.2.2.2.2.2.2.2.2.2.2.2.2.2.2.2.2.2.2.2.2.2.2.2.2.2.2.2.2.2.2.2.2.2.2.2.2.2.2.2.2.2.2.2.2.2.1 a1 a2 a3 a4 u).1 (avc trivial (avc ra1 (avc ra2 (avc ra3 (avc ra4 avn))))) hw r u' e
  exact ⟨r, u', e, q, h.1, h.2.1, h.2.2 _ rfl⟩
theorem gX3_premise {d : Nat} {a1 : Int} {u : Sg} {Q : Int → Sg → Prop} (hw : WF FT u) (ra1 : inR a1) (h : wp (runT d 50 [a1] u) Q) : wp (runT d 50 [a1] u) (fun r u' => Q r u' ∧ Gr FT DX3_premise u u' ∧ WF FT u' ∧ inR r) := by
  obtain ⟨r, u', e, q⟩ := h
  have h := ((allT0 d).2.2.2.2.2.2.2.2.2.2.2.2.2.2.2.2.2.2.2.2.2.2.2.2.2.2.2.2.2.2.2.2.2.2.2.2.2.2.2.2.2.2.2.2.2.2.2.2.2.1 a1 u).1 (avc trivial (avc ra1 avn)) hw r u' e
  exact ⟨r, u', e, q, h.1, h.2.1, h.2.2 _ rfl⟩
theorem gX3_clear {d : Nat} {u : Sg} {Q : Int → Sg → Prop} (hw : WF FT u) (h : wp (runT d 51 [] u) Q) : wp (runT d 51 [] u) (fun r u' => Q r u' ∧ Gr FT DX3_clear u u' ∧ WF FT u' ∧ inR r) := by
  obtain ⟨r, u', e, q⟩ := h
  have h := ((allT0 d).2.2.2.2.2.2.2.2.2.2.2.2.2.2.2.2.2.2.2.2.2.2.2.2.2.2.2.2.2.2.2.2.2.2.2.2.2.2.2.2.2.2.2.2.2.2.2.2.2.2.1  u).1 (avc trivial avn) hw r u' e
  exact ⟨r, u', e, q, h.1, h.2.1, h.2.2 _ rfl⟩
theorem gX3_check {d : Nat} {a1 : Int} {u : Sg} {Q : Int → Sg → Prop} (hw : WF FT u) (ra1 : inR a1) (h : wp (runT d 52 [a1] u) Q) : wp (runT d 52 [a1] u) (fun r u' => Q r u' ∧ Gr FT DX3_check u u' ∧ WF FT u' ∧ inR r) := by
  obtain ⟨r, u', e, q⟩ := h
  have h := ((allT0 d).2.2.2.2.2.2.2.2.2.2.2.2.2.2.2.2.2.2.2.2.2.2.2.2.2.2.2.2.2.2.2.2.2.2.2.2.2.2.2.2.2.2.2.2.2.2.2.2.2.2.2.1 a1 u).1 (avc trivial (avc ra1 avn)) hw r u' e
  exact ⟨r, u', e, q, h.1, h.2.1, h.2.2 _ rfl⟩
theorem gX3_checked {d : Nat} {a1 : Int} {u : Sg} {Q : Int → Sg → Prop} (hw : WF FT u) (ra1 : inR a1) (h : wp (runT d 53 [a1] u) Q) : wp (runT d 53 [a1] u) (fun r u' => Q r u' ∧ Gr FT DX3_checked u u' ∧ WF FT u' ∧ inR r) := by
  obtain ⟨r, u', e, q⟩ := h
  have h := ((allT0 d).2.2.2.2.2.2.2.2.2.2.2.2.2.2.2.2.2.2.2.2.2.2.2.2.2.2.2.2.2.2.2.2.2.2.2.2.2.2.2.2.2.2.2.2.2.2.2.2.2.2.2.2.1 a1 u).1 (avc trivial (avc ra1 avn)) hw r u' e
  exact ⟨r, u', e, q, h.1, h.2.1, h.2.2 _ rfl⟩
theorem gX3_q {d : Nat} {a1 : Int} {u : Sg} {Q : Int → Sg → Prop} (hw : WF FT u) (ra1 : inR a1) (h : wp (runT d 54 [a1] u) Q) : wp (runT d 54 [a1] u) (fun r u' => Q r u' ∧ Gr FT DX3_q u u' ∧ WF FT u' ∧ inR r) := by
  obtain ⟨r, u', e, q⟩ := h
  have h := ((allT0 d).2.2.2.2.2.2.2.2.2.2.2.2.2.2.2.2.2.2.2.2.2.2.2.2.2.2.2.2.2.2.2.2.2.2.2.2.2.2.2.2.2.2.2.2.2.2.2.2.2.2.2.2.2.1 a1 u).1 (avc trivial (avc ra1 avn)) hw r u' e
  exact ⟨r, u', e, q, h.1, h.2.1, h.2.2 _ rfl⟩
theorem gX3_tree {d : Nat} {a1 : Int} {u : Sg} {Q : Int → Sg → Prop} (hw : WF FT u) (ra1 : inR a1) (h : wp (runT d 55 [a1] u) Q) : wp (runT d 55 [a1] u) (fun r u' => Q r u' ∧ Gr FT DX3_tree u u' ∧ WF FT u' ∧ inR r) := by
  obtain ⟨r, u', e, q⟩ := h
  have h := ((allT0 d).2.2.2.2.2.2.2.2.2.2.2.2.2.2.2.2.2.2.2.2.2.2.2.2.2.2.2.2.2.2.2.2.2.2.2.2.2.2.2.2.2.2.2.2.2.2.2.2.2.2.2.2.2.2.1 a1 u).1 (avc trivial (avc ra1 avn)) hw r u' e
  exact ⟨r, u', e, q, h.1, h.2.1, h.2.2 _ rfl⟩
theorem gX3_counted {d : Nat} {a1 : Int} {u : Sg} {Q : Int → Sg → Prop} (hw : WF FT u) (ra1 : inR a1) (h : wp (runT d 56 [a1] u) Q) : wp (runT d 56 [a1] u) (fun r u' => Q r u' ∧ Gr FT DX3_counted u u' ∧ WF FT u' ∧ inR r) := by
  obtain ⟨r, u', e, q⟩ := h
  have h := ((allT0 d).2.2.2.2.2.2.2.2.2.2.2.2.2.2.2.2.2.2.2.2.2.2.2.2.2.2.2.2.2.2.2.2.2.2.2.2.2.2.2.2.2.2.2.2.2.2.2.2.2.2.2.2.2.2.2.1 a1 u).1 (avc trivial (avc ra1 avn)) hw r u' e
  exact ⟨r, u', e, q, h.1, h.2.1, h.2.2 _ rfl⟩
theorem gX3_hang {d : Nat} {a1 a2 a3 : Int} {u : Sg} {Q : Int → Sg → Prop} (hw : WF FT u) (ra1 : inR a1) (ra2 : inR a2) (ra3 : inR a3) (h : wp (runT d 57 [a1, a2, a3] u) Q) : wp (runT d 57 [a1, a2, a3] u) (fun r u' => Q r u' ∧ Gr FT DX3_hang u u' ∧ WF FT u' ∧ inR r) := by
  obtain ⟨r, u', e, q⟩ := h
  have h := ((allT0 d).2.2.2.2.2.2.2.2.2.2.2.2.2.2.2.2.2.2.2.2.2.2.2.2.2.2.2.2.2.2.2.2.2.2.2.2.2.2.2.2.2.2.2.2.2.2.2.2.2.2.2.2.2.2.2.2.1 a1 a2 a3 u).1 (avc trivial (avc ra1 (avc ra2 (avc ra3 avn)))) hw r u' e
  exact ⟨r, u', e, q, h.1, h.2.1, h.2.2 _ rfl⟩
theorem gX3_put {d : Nat} {a1 a2 a3 : Int} {u : Sg} {Q : Int → Sg → Prop} (hw : WF FT u) (ra1 : inR a1) (ra2 : inR a2) (ra3 : inR a3) (h : wp (runT d 58 [a1, a2, a3] u) Q) : wp (runT d 58 [a1, a2, a3] u) (fun r u' => Q r u' ∧ Gr FT DX3_put u u' ∧ WF FT u' ∧ inR r) := by
  obtain ⟨r, u', e, q⟩ := h
  have h := ((allT0 d).2.2.2.2.2.2.2.2.2.2.2.2.2.2.2.2.2.2.2.2.2.2.2.2.2.2.2.2.2.2.2.2.2.2.2.2.2.2.2.2.2.2.2.2.2.2.2.2.2.2.2.2.2.2.2.2.2.1 a1 a2 a3 u).1 (avc trivial (avc ra1 (avc ra2 (avc ra3 avn)))) hw r u' e
  exact ⟨r, u', e, q, h.1, h.2.1, h.2.2 _ rfl⟩
theorem gX3_lift {d : Nat} {a1 a2 : Int} {u : Sg} {Q : Int → Sg → Prop} (hw : WF FT u) (ra1 : inR a1) (ra2 : inR a2) (h : wp (runT d 59 [a1, a2] u) Q) : wp (runT d 59 [a1, a2] u) (fun r u' => Q r u' ∧ Gr FT DX3_lift u u' ∧ WF FT u' ∧ inR r) := by
  obtain ⟨r, u', e, q⟩ := h
  have h := ((allT0 d).2.2.2.2.2.2.2.2.2.2.2.2.2.2.2.2.2.2.2.2.2.2.2.2.2.2.2.2.2.2.2.2.2.2.2.2.2.2.2.2.2.2.2.2.2.2.2.2.2.2.2.2.2.2.2.2.2.2.1 a1 a2 u).1 (avc trivial (avc ra1 (avc ra2 avn))) hw r u' e
  exact ⟨r, u', e, q, h.1, h.2.1, h.2.2 _ rfl⟩
theorem gX3_lift_2 {d : Nat} {a1 a2 a3 : Int} {u : Sg} {Q : Int → Sg → Prop} (hw : WF FT u) (ra1 : inR a1) (ra2 : inR a2) (ra3 : inR a3) (h : wp (runT d 60 [a1, a2, a3] u) Q) : wp (runT d 60 [a1, a2, a3] u) (fun r u' => Q r u' ∧ Gr FT DX3_lift_2 u u' ∧ WF FT u' ∧ inR r) := by
  obtain ⟨r, u', e, q⟩ := h
  have h := ((allT0 d).2.2.2.2.2.2.2.2.2.2.2.2.2.2.2.2.2.2.2.2.2.2.2.2.2.2.2.2.2.2.2.2.2.2.2.2.2.2.2.2.2.2.2.2.2.2.2.2.2.2.2.2.2.2.2.2.2.2.2.1 a1 a2 a3 u).1 (avc trivial (avc ra1 (avc ra2 (avc ra3 avn)))) hw r u' e
  exact ⟨r, u', e, q, h.1, h.2.1, h.2.2 _ rfl⟩
theorem gX3_caseOf {d : Nat} {a1 a2 : Int} {u : Sg} {Q : Int → Sg → Prop} (hw : WF FT u) (ra1 : inR a1) (ra2 : inL a2) (h : wp (runT d 61 [a1, a2] u) Q) : wp (runT d 61 [a1, a2] u) (fun r u' => Q r u' ∧ Gr FT DX3_caseOf u u' ∧ WF FT u' ∧ inR r) := by
  obtain ⟨r, u', e, q⟩ := h
  have h := ((allT0 d).2.2.2.2.2.2.2.2.2.2.2.2.2.2.2.2.2.2.2.2.2.2.2.2.2.2.2.2.2.2.2.2.2.2.2.2.2.2.2.2.2.2.2.2.2.2.2.2.2.2.2.2.2.2.2.2.2.2.2.2.1 a1 a2 u).1 (avc trivial (avc ra1 (avc ra2 avn))) hw r u' e
  exact ⟨r, u', e, q, h.1, h.2.1, h.2.2 _ rfl⟩
theorem gX3_leavesOf {d : Nat} {a1 a2 : Int} {u : Sg} {Q : Int → Sg → Prop} (hw : WF FT u) (ra1 : inR a1) (ra2 : inL a2) (h : wp (runT d 62 [a1, a2] u) Q) : wp (runT d 62 [a1, a2] u) (fun r u' => Q r u' ∧ Gr FT DX3_leavesOf u u' ∧ WF FT u' ∧ True) := by
  obtain ⟨r, u', e, q⟩ := h
  have h := ((allT0 d).2.2.2.2.2.2.2.2.2.2.2.2.2.2.2.2.2.2.2.2.2.2.2.2.2.2.2.2.2.2.2.2.2.2.2.2.2.2.2.2.2.2.2.2.2.2.2.2.2.2.2.2.2.2.2.2.2.2.2.2.2.1 a1 a2 u).1 (avc trivial (avc ra1 (avc ra2 avn))) hw r u' e
  exact ⟨r, u', e, q, h.1, h.2.1, trivial⟩
theorem gX3_knows {d : Nat} {a1 : Int} {u : Sg} {Q : Int → Sg → Prop} (hw : WF FT u) (ra1 : inR a1) (h : wp (runT d 63 [a1] u) Q) : wp (runT d 63 [a1] u) (fun r u' => Q r u' ∧ Gr FT DX3_knows u u' ∧ WF FT u' ∧ True) := by
  obtain ⟨r, u', e, q⟩ := h
  have h := ((allT0 d).2.2.2.2.2.2.2.2.2.2.2.2.2.2.2.2.2.2.2.2.2.2.2.2.2.2.2.2.2.2.2.2.2.2.2.2.2.2.2.2.2.2.2.2.2.2.2.2.2.2.2.2.2.2.2.2.2.2.2.2.2.2.1 a1 u).1 (avc trivial (avc ra1 avn)) hw r u' e
  exact ⟨r, u', e, q, h.1, h.2.1, trivial⟩
theorem gX3_terms {d : Nat} {a1 : Int} {u : Sg} {Q : Int → Sg → Prop} (hw : WF FT u) (ra1 : inR a1) (h : wp (runT d 64 [a1] u) Q) : wp (runT d 64 [a1] u) (fun r u' => Q r u' ∧ Gr FT DX3_terms u u' ∧ WF FT u' ∧ True) := by
  obtain ⟨r, u', e, q⟩ := h
  have h := ((allT0 d).2.2.2.2.2.2.2.2.2.2.2.2.2.2.2.2.2.2.2.2.2.2.2.2.2.2.2.2.2.2.2.2.2.2.2.2.2.2.2.2.2.2.2.2.2.2.2.2.2.2.2.2.2.2.2.2.2.2.2.2.2.2.2.1 a1 u).1 (avc trivial (avc ra1 avn)) hw r u' e
  exact ⟨r, u', e, q, h.1, h.2.1, trivial⟩
theorem gX3_isTerm {d : Nat} {a1 : Int} {u : Sg} {Q : Int → Sg → Prop} (hw : WF FT u) (ra1 : inR a1) (h : wp (runT d 65 [a1] u) Q) : wp (runT d 65 [a1] u) (fun r u' => Q r u' ∧ Gr FT DX3_isTerm u u' ∧ WF FT u' ∧ (r = 0 ∨ r = 1)) := by
  obtain ⟨r, u', e, q⟩ := h
  have h := ((allT0 d).2.2.2.2.2.2.2.2.2.2.2.2.2.2.2.2.2.2.2.2.2.2.2.2.2.2.2.2.2.2.2.2.2.2.2.2.2.2.2.2.2.2.2.2.2.2.2.2.2.2.2.2.2.2.2.2.2.2.2.2.2.2.2.2.1 a1 u).1 (avc ra1 avn) hw r u' e
  exact ⟨r, u', e, q, h.1, h.2.1, zOf rfl (fun x hx => h.2.2 x (congrArg Sum.inl hx))⟩
theorem gX3_indexOf {d : Nat} {a1 : Int} {u : Sg} {Q : Int → Sg → Prop} (hw : WF FT u) (ra1 : inR a1) (h : wp (runT d 66 [a1] u) Q) : wp (runT d 66 [a1] u) (fun r u' => Q r u' ∧ Gr FT DX3_indexOf u u' ∧ WF FT u' ∧ inR r) := by
  obtain ⟨r, u', e, q⟩ := h
  have h := ((allT0 d).2.2.2.2.2.2.2.2.2.2.2.2.2.2.2.2.2.2.2.2.2.2.2.2.2.2.2.2.2.2.2.2.2.2.2.2.2.2.2.2.2.2.2.2.2.2.2.2.2.2.2.2.2.2.2.2.2.2.2.2.2.2.2.2.2.1 a1 u).1 (avc trivial (avc ra1 avn)) hw r u' e
  exact ⟨r, u', e, q, h.1, h.2.1, h.2.2 _ rfl⟩
theorem gX3_closing {d : Nat} {u : Sg} {Q : Int → Sg → Prop} (hw : WF FT u) (h : wp (runT d 67 [] u) Q) : wp (runT d 67 [] u) (fun r u' => Q r u' ∧ Gr FT DX3_closing u u' ∧ WF FT u' ∧ True) := by
  obtain ⟨r, u', e, q⟩ := h
  have h := ((allT0 d).2.2.2.2.2.2.2.2.2.2.2.2.2.2.2.2.2.2.2.2.2.2.2.2.2.2.2.2.2.2.2.2.2.2.2.2.2.2.2.2.2.2.2.2.2.2.2.2.2.2.2.2.2.2.2.2.2.2.2.2.2.2.2.2.2.2.1  u).1 (avc trivial avn) hw r u' e
  exact ⟨r, u', e, q, h.1, h.2.1, trivial⟩
theorem gX3_takeIn {d : Nat} {u : Sg} {Q : Int → Sg → Prop} (hw : WF FT u) (h : wp (runT d 68 [] u) Q) : wp (runT d 68 [] u) (fun r u' => Q r u' ∧ Gr FT DX3_takeIn u u' ∧ WF FT u' ∧ True) := by
  obtain ⟨r, u', e, q⟩ := h
  have h := ((allT0 d).2.2.2.2.2.2.2.2.2.2.2.2.2.2.2.2.2.2.2.2.2.2.2.2.2.2.2.2.2.2.2.2.2.2.2.2.2.2.2.2.2.2.2.2.2.2.2.2.2.2.2.2.2.2.2.2.2.2.2.2.2.2.2.2.2.2.2.1  u).1 (avc trivial avn) hw r u' e
  exact ⟨r, u', e, q, h.1, h.2.1, trivial⟩
theorem gX3_join_2 {d : Nat} {a1 a2 : Int} {u : Sg} {Q : Int → Sg → Prop} (hw : WF FT u) (ra1 : inR a1) (ra2 : inR a2) (h : wp (runT d 69 [a1, a2] u) Q) : wp (runT d 69 [a1, a2] u) (fun r u' => Q r u' ∧ Gr FT DX3_join_2 u u' ∧ WF FT u' ∧ True) := by
  obtain ⟨r, u', e, q⟩ := h
  have h := ((allT0 d).2.2.2.2.2.2.2.2.2.2.2.2.2.2.2.2.2.2.2.2.2.2.2.2.2.2.2.2.2.2.2.2.2.2.2.2.2.2.2.2.2.2.2.2.2.2.2.2.2.2.2.2.2.2.2.2.2.2.2.2.2.2.2.2.2.2.2.2.1 a1 a2 u).1 (avc trivial (avc ra1 (avc ra2 avn))) hw r u' e
  exact ⟨r, u', e, q, h.1, h.2.1, trivial⟩
theorem gX3_top {d : Nat} {a1 : Int} {u : Sg} {Q : Int → Sg → Prop} (hw : WF FT u) (ra1 : inR a1) (h : wp (runT d 70 [a1] u) Q) : wp (runT d 70 [a1] u) (fun r u' => Q r u' ∧ Gr FT DX3_top u u' ∧ WF FT u' ∧ inR r) := by
  obtain ⟨r, u', e, q⟩ := h
  have h := ((allT0 d).2.2.2.2.2.2.2.2.2.2.2.2.2.2.2.2.2.2.2.2.2.2.2.2.2.2.2.2.2.2.2.2.2.2.2.2.2.2.2.2.2.2.2.2.2.2.2.2.2.2.2.2.2.2.2.2.2.2.2.2.2.2.2.2.2.2.2.2.2.1 a1 u).1 (avc trivial (avc ra1 avn)) hw r u' e
  exact ⟨r, u', e, q, h.1, h.2.1, h.2.2 _ rfl⟩
theorem gX3_adj {d : Nat} {a1 a2 : Int} {u : Sg} {Q : Int → Sg → Prop} (hw : WF FT u) (ra1 : inR a1) (ra2 : inR a2) (h : wp (runT d 71 [a1, a2] u) Q) : wp (runT d 71 [a1, a2] u) (fun r u' => Q r u' ∧ Gr FT DX3_adj u u' ∧ WF FT u' ∧ True) := by
  obtain ⟨r, u', e, q⟩ := h
  have h := ((allT0 d).2.2.2.2.2.2.2.2.2.2.2.2.2.2.2.2.2.2.2.2.2.2.2.2.2.2.2.2.2.2.2.2.2.2.2.2.2.2.2.2.2.2.2.2.2.2.2.2.2.2.2.2.2.2.2.2.2.2.2.2.2.2.2.2.2.2.2.2.2.2.1 a1 a2 u).1 (avc trivial (avc ra1 (avc ra2 avn))) hw r u' e
  exact ⟨r, u', e, q, h.1, h.2.1, trivial⟩
theorem gX3_hasAdj {d : Nat} {a1 a2 : Int} {u : Sg} {Q : Int → Sg → Prop} (hw : WF FT u) (ra1 : inR a1) (ra2 : inR a2) (h : wp (runT d 72 [a1, a2] u) Q) : wp (runT d 72 [a1, a2] u) (fun r u' => Q r u' ∧ Gr FT DX3_hasAdj u u' ∧ WF FT u' ∧ (r = 0 ∨ r = 1)) := by
  obtain ⟨r, u', e, q⟩ := h
  have h := ((allT0 d).2.2.2.2.2.2.2.2.2.2.2.2.2.2.2.2.2.2.2.2.2.2.2.2.2.2.2.2.2.2.2.2.2.2.2.2.2.2.2.2.2.2.2.2.2.2.2.2.2.2.2.2.2.2.2.2.2.2.2.2.2.2.2.2.2.2.2.2.2.2.2.1 a1 a2 u).1 (avc trivial (avc ra1 (avc ra2 avn))) hw r u' e
  exact ⟨r, u', e, q, h.1, h.2.1, zOf rfl (fun x hx => h.2.2 x (congrArg Sum.inl hx))⟩
theorem gX3_hasType {d : Nat} {a1 a2 : Int} {u : Sg} {Q : Int → Sg → Prop} (hw : WF FT u) (ra1 : inR a1) (ra2 : inR a2) (h : wp (runT d 73 [a1, a2] u) Q) : wp (runT d 73 [a1, a2] u) (fun r u' => Q r u' ∧ Gr FT DX3_hasType u u' ∧ WF FT u' ∧ True) := by
  obtain ⟨r, u', e, q⟩ := h
  have h := ((allT0 d).2.2.2.2.2.2.2.2.2.2.2.2.2.2.2.2.2.2.2.2.2.2.2.2.2.2.2.2.2.2.2.2.2.2.2.2.2.2.2.2.2.2.2.2.2.2.2.2.2.2.2.2.2.2.2.2.2.2.2.2.2.2.2.2.2.2.2.2.2.2.2.2.1 a1 a2 u).1 (avc trivial (avc ra1 (avc ra2 avn))) hw r u' e
  exact ⟨r, u', e, q, h.1, h.2.1, trivial⟩
theorem gX3_mode_2 {d : Nat} {a1 a2 a3 : Int} {u : Sg} {Q : Int → Sg → Prop} (hw : WF FT u) (ra1 : inR a1) (ra2 : inR a2) (ra3 : inR a3) (h : wp (runT d 74 [a1, a2, a3] u) Q) : wp (runT d 74 [a1, a2, a3] u) (fun r u' => Q r u' ∧ Gr FT DX3_mode_2 u u' ∧ WF FT u' ∧ True) := by
  obtain ⟨r, u', e, q⟩ := h
  have h := ((allT0 d).2.2.2.2.2.2.2.2.2.2.2.2.2.2.2.2.2.2.2.2.2.2.2.2.2.2.2.2.2.2.2.2.2.2.2.2.2.2.2.2.2.2.2.2.2.2.2.2.2.2.2.2.2.2.2.2.2.2.2.2.2.2.2.2.2.2.2.2.2.2.2.2.2.1 a1 a2 a3 u).1 (avc trivial (avc ra1 (avc ra2 (avc ra3 avn)))) hw r u' e
  exact ⟨r, u', e, q, h.1, h.2.1, trivial⟩
theorem gX3_hasHere {d : Nat} {a1 a2 a3 : Int} {u : Sg} {Q : Int → Sg → Prop} (hw : WF FT u) (ra1 : inR a1) (ra2 : inR a2) (ra3 : inR a3) (h : wp (runT d 75 [a1, a2, a3] u) Q) : wp (runT d 75 [a1, a2, a3] u) (fun r u' => Q r u' ∧ Gr FT DX3_hasHere u u' ∧ WF FT u' ∧ (r = 0 ∨ r = 1)) := by
  obtain ⟨r, u', e, q⟩ := h
  have h := ((allT0 d).2.2.2.2.2.2.2.2.2.2.2.2.2.2.2.2.2.2.2.2.2.2.2.2.2.2.2.2.2.2.2.2.2.2.2.2.2.2.2.2.2.2.2.2.2.2.2.2.2.2.2.2.2.2.2.2.2.2.2.2.2.2.2.2.2.2.2.2.2.2.2.2.2.2.1 a1 a2 a3 u).1 (avc trivial (avc ra1 (avc ra2 (avc ra3 avn)))) hw r u' e
  exact ⟨r, u', e, q, h.1, h.2.1, zOf rfl (fun x hx => h.2.2 x (congrArg Sum.inl hx))⟩
theorem gX3_equal {d : Nat} {a1 a2 : Int} {u : Sg} {Q : Int → Sg → Prop} (hw : WF FT u) (ra1 : inR a1) (ra2 : inR a2) (h : wp (runT d 76 [a1, a2] u) Q) : wp (runT d 76 [a1, a2] u) (fun r u' => Q r u' ∧ Gr FT DX3_equal u u' ∧ WF FT u' ∧ (r = 0 ∨ r = 1)) := by
  obtain ⟨r, u', e, q⟩ := h
  have h := ((allT0 d).2.2.2.2.2.2.2.2.2.2.2.2.2.2.2.2.2.2.2.2.2.2.2.2.2.2.2.2.2.2.2.2.2.2.2.2.2.2.2.2.2.2.2.2.2.2.2.2.2.2.2.2.2.2.2.2.2.2.2.2.2.2.2.2.2.2.2.2.2.2.2.2.2.2.2.1 a1 a2 u).1 (avc trivial (avc ra1 (avc ra2 avn))) hw r u' e
  exact ⟨r, u', e, q, h.1, h.2.1, zOf rfl (fun x hx => h.2.2 x (congrArg Sum.inl hx))⟩
theorem gX3_parent {d : Nat} {a1 : Int} {u : Sg} {Q : Int → Sg → Prop} (hw : WF FT u) (ra1 : inR a1) (h : wp (runT d 77 [a1] u) Q) : wp (runT d 77 [a1] u) (fun r u' => Q r u' ∧ Gr FT DX3_parent u u' ∧ WF FT u' ∧ inR r) := by
  obtain ⟨r, u', e, q⟩ := h
  have h := ((allT0 d).2.2.2.2.2.2.2.2.2.2.2.2.2.2.2.2.2.2.2.2.2.2.2.2.2.2.2.2.2.2.2.2.2.2.2.2.2.2.2.2.2.2.2.2.2.2.2.2.2.2.2.2.2.2.2.2.2.2.2.2.2.2.2.2.2.2.2.2.2.2.2.2.2.2.2.2.1 a1 u).1 (avc trivial (avc ra1 avn)) hw r u' e
  exact ⟨r, u', e, q, h.1, h.2.1, h.2.2 _ rfl⟩
theorem gX3_move {d : Nat} {a1 : Int} {u : Sg} {Q : Int → Sg → Prop} (hw : WF FT u) (ra1 : inR a1) (h : wp (runT d 78 [a1] u) Q) : wp (runT d 78 [a1] u) (fun r u' => Q r u' ∧ Gr FT DX3_move u u' ∧ WF FT u' ∧ inR r) := by
  obtain ⟨r, u', e, q⟩ := h
  have h := ((allT0 d).2.2.2.2.2.2.2.2.2.2.2.2.2.2.2.2.2.2.2.2.2.2.2.2.2.2.2.2.2.2.2.2.2.2.2.2.2.2.2.2.2.2.2.2.2.2.2.2.2.2.2.2.2.2.2.2.2.2.2.2.2.2.2.2.2.2.2.2.2.2.2.2.2.2.2.2.2.1 a1 u).1 (avc trivial (avc ra1 avn)) hw r u' e
  exact ⟨r, u', e, q, h.1, h.2.1, h.2.2 _ rfl⟩
theorem gX3_move_2 {d : Nat} {a1 a2 : Int} {u : Sg} {Q : Int → Sg → Prop} (hw : WF FT u) (ra1 : inR a1) (ra2 : inR a2) (h : wp (runT d 79 [a1, a2] u) Q) : wp (runT d 79 [a1, a2] u) (fun r u' => Q r u' ∧ Gr FT DX3_move_2 u u' ∧ WF FT u' ∧ inR r) := by
  obtain ⟨r, u', e, q⟩ := h
  have h := ((allT0 d).2.2.2.2.2.2.2.2.2.2.2.2.2.2.2.2.2.2.2.2.2.2.2.2.2.2.2.2.2.2.2.2.2.2.2.2.2.2.2.2.2.2.2.2.2.2.2.2.2.2.2.2.2.2.2.2.2.2.2.2.2.2.2.2.2.2.2.2.2.2.2.2.2.2.2.2.2.2.1 a1 a2 u).1 (avc trivial (avc ra1 (avc ra2 avn))) hw r u' e
  exact ⟨r, u', e, q, h.1, h.2.1, h.2.2 _ rfl⟩
theorem gX3_typeOf {d : Nat} {a1 : Int} {u : Sg} {Q : Int → Sg → Prop} (hw : WF FT u) (ra1 : inR a1) (h : wp (runT d 80 [a1] u) Q) : wp (runT d 80 [a1] u) (fun r u' => Q r u' ∧ Gr FT DX3_typeOf u u' ∧ WF FT u' ∧ inR r) := by
  obtain ⟨r, u', e, q⟩ := h
  have h := ((allT0 d).2.2.2.2.2.2.2.2.2.2.2.2.2.2.2.2.2.2.2.2.2.2.2.2.2.2.2.2.2.2.2.2.2.2.2.2.2.2.2.2.2.2.2.2.2.2.2.2.2.2.2.2.2.2.2.2.2.2.2.2.2.2.2.2.2.2.2.2.2.2.2.2.2.2.2.2.2.2.2.1 a1 u).1 (avc trivial (avc ra1 avn)) hw r u' e
  exact ⟨r, u', e, q, h.1, h.2.1, h.2.2 _ rfl⟩
theorem gX3_moveLoci {d : Nat} {a1 : Int} {u : Sg} {Q : Int → Sg → Prop} (hw : WF FT u) (ra1 : inR a1) (h : wp (runT d 81 [a1] u) Q) : wp (runT d 81 [a1] u) (fun r u' => Q r u' ∧ Gr FT DX3_moveLoci u u' ∧ WF FT u' ∧ True) := by
  obtain ⟨r, u', e, q⟩ := h
  have h := ((allT0 d).2.2.2.2.2.2.2.2.2.2.2.2.2.2.2.2.2.2.2.2.2.2.2.2.2.2.2.2.2.2.2.2.2.2.2.2.2.2.2.2.2.2.2.2.2.2.2.2.2.2.2.2.2.2.2.2.2.2.2.2.2.2.2.2.2.2.2.2.2.2.2.2.2.2.2.2.2.2.2.2.1 a1 u).1 (avc trivial (avc ra1 avn)) hw r u' e
  exact ⟨r, u', e, q, h.1, h.2.1, trivial⟩
theorem gX3_isCongruent {d : Nat} {a1 a2 : Int} {u : Sg} {Q : Int → Sg → Prop} (hw : WF FT u) (ra1 : inR a1) (ra2 : inR a2) (h : wp (runT d 82 [a1, a2] u) Q) : wp (runT d 82 [a1, a2] u) (fun r u' => Q r u' ∧ Gr FT DX3_isCongruent u u' ∧ WF FT u' ∧ (r = 0 ∨ r = 1)) := by
  obtain ⟨r, u', e, q⟩ := h
  have h := ((allT0 d).2.2.2.2.2.2.2.2.2.2.2.2.2.2.2.2.2.2.2.2.2.2.2.2.2.2.2.2.2.2.2.2.2.2.2.2.2.2.2.2.2.2.2.2.2.2.2.2.2.2.2.2.2.2.2.2.2.2.2.2.2.2.2.2.2.2.2.2.2.2.2.2.2.2.2.2.2.2.2.2.2.1 a1 a2 u).1 (avc trivial (avc ra1 (avc ra2 avn))) hw r u' e
  exact ⟨r, u', e, q, h.1, h.2.1, zOf rfl (fun x hx => h.2.2 x (congrArg Sum.inl hx))⟩
theorem gX3_byRegistrations {d : Nat} {u : Sg} {Q : Int → Sg → Prop} (hw : WF FT u) (h : wp (runT d 83 [] u) Q) : wp (runT d 83 [] u) (fun r u' => Q r u' ∧ Gr FT DX3_byRegistrations u u' ∧ WF FT u' ∧ True) := by
  obtain ⟨r, u', e, q⟩ := h
  have h := ((allT0 d).2.2.2.2.2.2.2.2.2.2.2.2.2.2.2.2.2.2.2.2.2.2.2.2.2.2.2.2.2.2.2.2.2.2.2.2.2.2.2.2.2.2.2.2.2.2.2.2.2.2.2.2.2.2.2.2.2.2.2.2.2.2.2.2.2.2.2.2.2.2.2.2.2.2.2.2.2.2.2.2.2.2.1  u).1 (avc trivial avn) hw r u' e
  exact ⟨r, u', e, q, h.1, h.2.1, trivial⟩
theorem gX3_conditional {d : Nat} {a1 a2 : Int} {u : Sg} {Q : Int → Sg → Prop} (hw : WF FT u) (ra1 : inR a1) (ra2 : inR a2) (h : wp (runT d 84 [a1, a2] u) Q) : wp (runT d 84 [a1, a2] u) (fun r u' => Q r u' ∧ Gr FT DX3_conditional u u' ∧ WF FT u' ∧ True) := by
  obtain ⟨r, u', e, q⟩ := h
  have h := ((allT0 d).2.2.2.2.2.2.2.2.2.2.2.2.2.2.2.2.2.2.2.2.2.2.2.2.2.2.2.2.2.2.2.2.2.2.2.2.2.2.2.2.2.2.2.2.2.2.2.2.2.2.2.2.2.2.2.2.2.2.2.2.2.2.2.2.2.2.2.2.2.2.2.2.2.2.2.2.2.2.2.2.2.2.2.1 a1 a2 u).1 (avc trivial (avc ra1 (avc ra2 avn))) hw r u' e
  exact ⟨r, u', e, q, h.1, h.2.1, trivial⟩
theorem gX3_adjs {d : Nat} {a1 a2 : Int} {u : Sg} {Q : Int → Sg → Prop} (hw : WF FT u) (ra1 : inR a1) (ra2 : inR a2) (h : wp (runT d 85 [a1, a2] u) Q) : wp (runT d 85 [a1, a2] u) (fun r u' => Q r u' ∧ Gr FT DX3_adjs u u' ∧ WF FT u' ∧ True) := by
  obtain ⟨r, u', e, q⟩ := h
  have h := ((allT0 d).2.2.2.2.2.2.2.2.2.2.2.2.2.2.2.2.2.2.2.2.2.2.2.2.2.2.2.2.2.2.2.2.2.2.2.2.2.2.2.2.2.2.2.2.2.2.2.2.2.2.2.2.2.2.2.2.2.2.2.2.2.2.2.2.2.2.2.2.2.2.2.2.2.2.2.2.2.2.2.2.2.2.2.2.1 a1 a2 u).1 (avc trivial (avc ra1 (avc ra2 avn))) hw r u' e
  exact ⟨r, u', e, q, h.1, h.2.1, trivial⟩
theorem gX3_termsFit {d : Nat} {a1 a2 : Int} {u : Sg} {Q : Int → Sg → Prop} (hw : WF FT u) (ra1 : inR a1) (ra2 : inR a2) (h : wp (runT d 86 [a1, a2] u) Q) : wp (runT d 86 [a1, a2] u) (fun r u' => Q r u' ∧ Gr FT DX3_termsFit u u' ∧ WF FT u' ∧ (r = 0 ∨ r = 1)) := by
  obtain ⟨r, u', e, q⟩ := h
  have h := ((allT0 d).2.2.2.2.2.2.2.2.2.2.2.2.2.2.2.2.2.2.2.2.2.2.2.2.2.2.2.2.2.2.2.2.2.2.2.2.2.2.2.2.2.2.2.2.2.2.2.2.2.2.2.2.2.2.2.2.2.2.2.2.2.2.2.2.2.2.2.2.2.2.2.2.2.2.2.2.2.2.2.2.2.2.2.2.2.1 a1 a2 u).1 (avc trivial (avc ra1 (avc ra2 avn))) hw r u' e
  exact ⟨r, u', e, q, h.1, h.2.1, zOf rfl (fun x hx => h.2.2 x (congrArg Sum.inl hx))⟩
theorem gX3_fitsHere {d : Nat} {a1 a2 : Int} {u : Sg} {Q : Int → Sg → Prop} (hw : WF FT u) (ra1 : inR a1) (ra2 : inR a2) (h : wp (runT d 87 [a1, a2] u) Q) : wp (runT d 87 [a1, a2] u) (fun r u' => Q r u' ∧ Gr FT DX3_fitsHere u u' ∧ WF FT u' ∧ (r = 0 ∨ r = 1)) := by
  obtain ⟨r, u', e, q⟩ := h
  have h := ((allT0 d).2.2.2.2.2.2.2.2.2.2.2.2.2.2.2.2.2.2.2.2.2.2.2.2.2.2.2.2.2.2.2.2.2.2.2.2.2.2.2.2.2.2.2.2.2.2.2.2.2.2.2.2.2.2.2.2.2.2.2.2.2.2.2.2.2.2.2.2.2.2.2.2.2.2.2.2.2.2.2.2.2.2.2.2.2.2.1 a1 a2 u).1 (avc trivial (avc ra1 (avc ra2 avn))) hw r u' e
  exact ⟨r, u', e, q, h.1, h.2.1, zOf rfl (fun x hx => h.2.2 x (congrArg Sum.inl hx))⟩
theorem gX3_suits {d : Nat} {a1 a2 : Int} {u : Sg} {Q : Int → Sg → Prop} (hw : WF FT u) (ra1 : inR a1) (ra2 : inR a2) (h : wp (runT d 88 [a1, a2] u) Q) : wp (runT d 88 [a1, a2] u) (fun r u' => Q r u' ∧ Gr FT DX3_suits u u' ∧ WF FT u' ∧ (r = 0 ∨ r = 1)) := by
  obtain ⟨r, u', e, q⟩ := h
  have h := ((allT0 d).2.2.2.2.2.2.2.2.2.2.2.2.2.2.2.2.2.2.2.2.2.2.2.2.2.2.2.2.2.2.2.2.2.2.2.2.2.2.2.2.2.2.2.2.2.2.2.2.2.2.2.2.2.2.2.2.2.2.2.2.2.2.2.2.2.2.2.2.2.2.2.2.2.2.2.2.2.2.2.2.2.2.2.2.2.2.2.1 a1 a2 u).1 (avc trivial (avc ra1 (avc ra2 avn))) hw r u' e
  exact ⟨r, u', e, q, h.1, h.2.1, zOf rfl (fun x hx => h.2.2 x (congrArg Sum.inl hx))⟩
theorem gX3_has {d : Nat} {a1 a2 a3 : Int} {u : Sg} {Q : Int → Sg → Prop} (hw : WF FT u) (ra1 : inR a1) (ra2 : inR a2) (ra3 : inR a3) (h : wp (runT d 89 [a1, a2, a3] u) Q) : wp (runT d 89 [a1, a2, a3] u) (fun r u' => Q r u' ∧ Gr FT DX3_has u u' ∧ WF FT u' ∧ (r = 0 ∨ r = 1)) := by
  obtain ⟨r, u', e, q⟩ := h
  have h := ((allT0 d).2.2.2.2.2.2.2.2.2.2.2.2.2.2.2.2.2.2.2.2.2.2.2.2.2.2.2.2.2.2.2.2.2.2.2.2.2.2.2.2.2.2.2.2.2.2.2.2.2.2.2.2.2.2.2.2.2.2.2.2.2.2.2.2.2.2.2.2.2.2.2.2.2.2.2.2.2.2.2.2.2.2.2.2.2.2.2.2.1 a1 a2 a3 u).1 (avc trivial (avc ra1 (avc ra2 (avc ra3 avn)))) hw r u' e
  exact ⟨r, u', e, q, h.1, h.2.1, zOf rfl (fun x hx => h.2.2 x (congrArg Sum.inl hx))⟩
theorem gX3_setOf {d : Nat} {a1 : Int} {u : Sg} {Q : Int → Sg → Prop} (hw : WF FT u) (ra1 : inR a1) (h : wp (runT d 90 [a1] u) Q) : wp (runT d 90 [a1] u) (fun r u' => Q r u' ∧ Gr FT DX3_setOf u u' ∧ WF FT u' ∧ inR r) := by
  obtain ⟨r, u', e, q⟩ := h
  have h := ((allT0 d).2.2.2.2.2.2.2.2.2.2.2.2.2.2.2.2.2.2.2.2.2.2.2.2.2.2.2.2.2.2.2.2.2.2.2.2.2.2.2.2.2.2.2.2.2.2.2.2.2.2.2.2.2.2.2.2.2.2.2.2.2.2.2.2.2.2.2.2.2.2.2.2.2.2.2.2.2.2.2.2.2.2.2.2.2.2.2.2.2.1 a1 u).1 (avc trivial (avc ra1 avn)) hw r u' e
  exact ⟨r, u', e, q, h.1, h.2.1, h.2.2 _ rfl⟩
theorem gX3_allOf {d : Nat} {a1 : Int} {u : Sg} {Q : Int → Sg → Prop} (hw : WF FT u) (ra1 : inR a1) (h : wp (runT d 91 [a1] u) Q) : wp (runT d 91 [a1] u) (fun r u' => Q r u' ∧ Gr FT DX3_allOf u u' ∧ WF FT u' ∧ inR r) := by
  obtain ⟨r, u', e, q⟩ := h
  have h := ((allT0 d).2.2.2.2.2.2.2.2.2.2.2.2.2.2.2.2.2.2.2.2.2.2.2.2.2.2.2.2.2.2.2.2.2.2.2.2.2.2.2.2.2.2.2.2.2.2.2.2.2.2.2.2.2.2.2.2.2.2.2.2.2.2.2.2.2.2.2.2.2.2.2.2.2.2.2.2.2.2.2.2.2.2.2.2.2.2.2.2.2.2.1 a1 u).1 (avc trivial (avc ra1 avn)) hw r u' e
  exact ⟨r, u', e, q, h.1, h.2.1, h.2.2 _ rfl⟩
theorem gX3_wants {d : Nat} {a1 : Int} {u : Sg} {Q : Int → Sg → Prop} (hw : WF FT u) (ra1 : inR a1) (h : wp (runT d 92 [a1] u) Q) : wp (runT d 92 [a1] u) (fun r u' => Q r u' ∧ Gr FT DX3_wants u u' ∧ WF FT u' ∧ True) := by
  obtain ⟨r, u', e, q⟩ := h
  have h := ((allT0 d).2.2.2.2.2.2.2.2.2.2.2.2.2.2.2.2.2.2.2.2.2.2.2.2.2.2.2.2.2.2.2.2.2.2.2.2.2.2.2.2.2.2.2.2.2.2.2.2.2.2.2.2.2.2.2.2.2.2.2.2.2.2.2.2.2.2.2.2.2.2.2.2.2.2.2.2.2.2.2.2.2.2.2.2.2.2.2.2.2.2.2.1 a1 u).1 (avc trivial (avc ra1 avn)) hw r u' e
  exact ⟨r, u', e, q, h.1, h.2.1, trivial⟩
theorem gX3_isRemembered {d : Nat} {a1 : Int} {u : Sg} {Q : Int → Sg → Prop} (hw : WF FT u) (ra1 : inR a1) (h : wp (runT d 93 [a1] u) Q) : wp (runT d 93 [a1] u) (fun r u' => Q r u' ∧ Gr FT DX3_isRemembered u u' ∧ WF FT u' ∧ (r = 0 ∨ r = 1)) := by
  obtain ⟨r, u', e, q⟩ := h
  have h := ((allT0 d).2.2.2.2.2.2.2.2.2.2.2.2.2.2.2.2.2.2.2.2.2.2.2.2.2.2.2.2.2.2.2.2.2.2.2.2.2.2.2.2.2.2.2.2.2.2.2.2.2.2.2.2.2.2.2.2.2.2.2.2.2.2.2.2.2.2.2.2.2.2.2.2.2.2.2.2.2.2.2.2.2.2.2.2.2.2.2.2.2.2.2.2.1 a1 u).1 (avc trivial (avc ra1 avn)) hw r u' e
  exact ⟨r, u', e, q, h.1, h.2.1, zOf rfl (fun x hx => h.2.2 x (congrArg Sum.inl hx))⟩
theorem gX3_found {d : Nat} {a1 : Int} {u : Sg} {Q : Int → Sg → Prop} (hw : WF FT u) (ra1 : inR a1) (h : wp (runT d 94 [a1] u) Q) : wp (runT d 94 [a1] u) (fun r u' => Q r u' ∧ Gr FT DX3_found u u' ∧ WF FT u' ∧ inR r) := by
  obtain ⟨r, u', e, q⟩ := h
  have h := ((allT0 d).2.2.2.2.2.2.2.2.2.2.2.2.2.2.2.2.2.2.2.2.2.2.2.2.2.2.2.2.2.2.2.2.2.2.2.2.2.2.2.2.2.2.2.2.2.2.2.2.2.2.2.2.2.2.2.2.2.2.2.2.2.2.2.2.2.2.2.2.2.2.2.2.2.2.2.2.2.2.2.2.2.2.2.2.2.2.2.2.2.2.2.2.2.1 a1 u).1 (avc trivial (avc ra1 avn)) hw r u' e
  exact ⟨r, u', e, q, h.1, h.2.1, h.2.2 _ rfl⟩
theorem gX3_ownAndParents {d : Nat} {a1 : Int} {u : Sg} {Q : Int → Sg → Prop} (hw : WF FT u) (ra1 : inR a1) (h : wp (runT d 95 [a1] u) Q) : wp (runT d 95 [a1] u) (fun r u' => Q r u' ∧ Gr FT DX3_ownAndParents u u' ∧ WF FT u' ∧ inR r) := by
  obtain ⟨r, u', e, q⟩ := h
  have h := ((allT0 d).2.2.2.2.2.2.2.2.2.2.2.2.2.2.2.2.2.2.2.2.2.2.2.2.2.2.2.2.2.2.2.2.2.2.2.2.2.2.2.2.2.2.2.2.2.2.2.2.2.2.2.2.2.2.2.2.2.2.2.2.2.2.2.2.2.2.2.2.2.2.2.2.2.2.2.2.2.2.2.2.2.2.2.2.2.2.2.2.2.2.2.2.2.2.1 a1 u).1 (avc trivial (avc ra1 avn)) hw r u' e
  exact ⟨r, u', e, q, h.1, h.2.1, h.2.2 _ rfl⟩
theorem gX3_termsSuit {d : Nat} {a1 a2 : Int} {u : Sg} {Q : Int → Sg → Prop} (hw : WF FT u) (ra1 : inR a1) (ra2 : inR a2) (h : wp (runT d 96 [a1, a2] u) Q) : wp (runT d 96 [a1, a2] u) (fun r u' => Q r u' ∧ Gr FT DX3_termsSuit u u' ∧ WF FT u' ∧ (r = 0 ∨ r = 1)) := by
  obtain ⟨r, u', e, q⟩ := h
  have h := ((allT0 d).2.2.2.2.2.2.2.2.2.2.2.2.2.2.2.2.2.2.2.2.2.2.2.2.2.2.2.2.2.2.2.2.2.2.2.2.2.2.2.2.2.2.2.2.2.2.2.2.2.2.2.2.2.2.2.2.2.2.2.2.2.2.2.2.2.2.2.2.2.2.2.2.2.2.2.2.2.2.2.2.2.2.2.2.2.2.2.2.2.2.2.2.2.2.2.1 a1 a2 u).1 (avc trivial (avc ra1 (avc ra2 avn))) hw r u' e
  exact ⟨r, u', e, q, h.1, h.2.1, zOf rfl (fun x hx => h.2.2 x (congrArg Sum.inl hx))⟩
theorem gX3_hasOf {d : Nat} {a1 a2 : Int} {u : Sg} {Q : Int → Sg → Prop} (hw : WF FT u) (ra1 : inR a1) (ra2 : inR a2) (h : wp (runT d 97 [a1, a2] u) Q) : wp (runT d 97 [a1, a2] u) (fun r u' => Q r u' ∧ Gr FT DX3_hasOf u u' ∧ WF FT u' ∧ (r = 0 ∨ r = 1)) := by
  obtain ⟨r, u', e, q⟩ := h
  have h := ((allT0 d).2.2.2.2.2.2.2.2.2.2.2.2.2.2.2.2.2.2.2.2.2.2.2.2.2.2.2.2.2.2.2.2.2.2.2.2.2.2.2.2.2.2.2.2.2.2.2.2.2.2.2.2.2.2.2.2.2.2.2.2.2.2.2.2.2.2.2.2.2.2.2.2.2.2.2.2.2.2.2.2.2.2.2.2.2.2.2.2.2.2.2.2.2.2.2.2.1 a1 a2 u).1 (avc trivial (avc ra1 (avc ra2 avn))) hw r u' e
  exact ⟨r, u', e, q, h.1, h.2.1, zOf rfl (fun x hx => h.2.2 x (congrArg Sum.inl hx))⟩
theorem gX3_same {d : Nat} {a1 a2 : Int} {u : Sg} {Q : Int → Sg → Prop} (hw : WF FT u) (ra1 : inR a1) (ra2 : inR a2) (h : wp (runT d 98 [a1, a2] u) Q) : wp (runT d 98 [a1, a2] u) (fun r u' => Q r u' ∧ Gr FT DX3_same u u' ∧ WF FT u' ∧ True) := by
  obtain ⟨r, u', e, q⟩ := h
  have h := ((allT0 d).2.2.2.2.2.2.2.2.2.2.2.2.2.2.2.2.2.2.2.2.2.2.2.2.2.2.2.2.2.2.2.2.2.2.2.2.2.2.2.2.2.2.2.2.2.2.2.2.2.2.2.2.2.2.2.2.2.2.2.2.2.2.2.2.2.2.2.2.2.2.2.2.2.2.2.2.2.2.2.2.2.2.2.2.2.2.2.2.2.2.2.2.2.2.2.2.2.1 a1 a2 u).1 (avc trivial (avc ra1 (avc ra2 avn))) hw r u' e
  exact ⟨r, u', e, q, h.1, h.2.1, trivial⟩
theorem gX3_isContradictory {d : Nat} {u : Sg} {Q : Int → Sg → Prop} (hw : WF FT u) (h : wp (runT d 99 [] u) Q) : wp (runT d 99 [] u) (fun r u' => Q r u' ∧ Gr FT DX3_isContradictory u u' ∧ WF FT u' ∧ (r = 0 ∨ r = 1)) := by
  obtain ⟨r, u', e, q⟩ := h
  have h := ((allT0 d).2.2.2.2.2.2.2.2.2.2.2.2.2.2.2.2.2.2.2.2.2.2.2.2.2.2.2.2.2.2.2.2.2.2.2.2.2.2.2.2.2.2.2.2.2.2.2.2.2.2.2.2.2.2.2.2.2.2.2.2.2.2.2.2.2.2.2.2.2.2.2.2.2.2.2.2.2.2.2.2.2.2.2.2.2.2.2.2.2.2.2.2.2.2.2.2.2.2.1  u).1 (avc trivial avn) hw r u' e
  exact ⟨r, u', e, q, h.1, h.2.1, zOf rfl (fun x hx => h.2.2 x (congrArg Sum.inl hx))⟩
theorem gX3_holds {d : Nat} {a1 : Int} {u : Sg} {Q : Int → Sg → Prop} (hw : WF FT u) (ra1 : inR a1) (h : wp (runT d 100 [a1] u) Q) : wp (runT d 100 [a1] u) (fun r u' => Q r u' ∧ Gr FT DX3_holds u u' ∧ WF FT u' ∧ (r = 0 ∨ r = 1)) := by
  obtain ⟨r, u', e, q⟩ := h
  have h := ((allT0 d).2.2.2.2.2.2.2.2.2.2.2.2.2.2.2.2.2.2.2.2.2.2.2.2.2.2.2.2.2.2.2.2.2.2.2.2.2.2.2.2.2.2.2.2.2.2.2.2.2.2.2.2.2.2.2.2.2.2.2.2.2.2.2.2.2.2.2.2.2.2.2.2.2.2.2.2.2.2.2.2.2.2.2.2.2.2.2.2.2.2.2.2.2.2.2.2.2.2.2.1 a1 u).1 (avc trivial (avc ra1 avn)) hw r u' e
  exact ⟨r, u', e, q, h.1, h.2.1, zOf rfl (fun x hx => h.2.2 x (congrArg Sum.inl hx))⟩
theorem gX3_isKnownAtom {d : Nat} {a1 a2 : Int} {u : Sg} {Q : Int → Sg → Prop} (hw : WF FT u) (ra1 : inR a1) (ra2 : inR a2) (h : wp (runT d 101 [a1, a2] u) Q) : wp (runT d 101 [a1, a2] u) (fun r u' => Q r u' ∧ Gr FT DX3_isKnownAtom u u' ∧ WF FT u' ∧ (r = 0 ∨ r = 1)) := by
  obtain ⟨r, u', e, q⟩ := h
  have h := ((allT0 d).2.2.2.2.2.2.2.2.2.2.2.2.2.2.2.2.2.2.2.2.2.2.2.2.2.2.2.2.2.2.2.2.2.2.2.2.2.2.2.2.2.2.2.2.2.2.2.2.2.2.2.2.2.2.2.2.2.2.2.2.2.2.2.2.2.2.2.2.2.2.2.2.2.2.2.2.2.2.2.2.2.2.2.2.2.2.2.2.2.2.2.2.2.2.2.2.2.2.2.2.1 a1 a2 u).1 (avc trivial (avc ra1 (avc ra2 avn))) hw r u' e
  exact ⟨r, u', e, q, h.1, h.2.1, zOf rfl (fun x hx => h.2.2 x (congrArg Sum.inl hx))⟩
theorem gX3_isAtom {d : Nat} {a1 : Int} {u : Sg} {Q : Int → Sg → Prop} (hw : WF FT u) (ra1 : inR a1) (h : wp (runT d 102 [a1] u) Q) : wp (runT d 102 [a1] u) (fun r u' => Q r u' ∧ Gr FT DX3_isAtom u u' ∧ WF FT u' ∧ (r = 0 ∨ r = 1)) := by
  obtain ⟨r, u', e, q⟩ := h
  have h := ((allT0 d).2.2.2.2.2.2.2.2.2.2.2.2.2.2.2.2.2.2.2.2.2.2.2.2.2.2.2.2.2.2.2.2.2.2.2.2.2.2.2.2.2.2.2.2.2.2.2.2.2.2.2.2.2.2.2.2.2.2.2.2.2.2.2.2.2.2.2.2.2.2.2.2.2.2.2.2.2.2.2.2.2.2.2.2.2.2.2.2.2.2.2.2.2.2.2.2.2.2.2.2.2.1 a1 u).1 (avc trivial (avc ra1 avn)) hw r u' e
  exact ⟨r, u', e, q, h.1, h.2.1, zOf rfl (fun x hx => h.2.2 x (congrArg Sum.inl hx))⟩
theorem gX3_isAlike {d : Nat} {a1 a2 : Int} {u : Sg} {Q : Int → Sg → Prop} (hw : WF FT u) (ra1 : inR a1) (ra2 : inR a2) (h : wp (runT d 103 [a1, a2] u) Q) : wp (runT d 103 [a1, a2] u) (fun r u' => Q r u' ∧ Gr FT DX3_isAlike u u' ∧ WF FT u' ∧ (r = 0 ∨ r = 1)) := by
  obtain ⟨r, u', e, q⟩ := h
  have h := ((allT0 d).2.2.2.2.2.2.2.2.2.2.2.2.2.2.2.2.2.2.2.2.2.2.2.2.2.2.2.2.2.2.2.2.2.2.2.2.2.2.2.2.2.2.2.2.2.2.2.2.2.2.2.2.2.2.2.2.2.2.2.2.2.2.2.2.2.2.2.2.2.2.2.2.2.2.2.2.2.2.2.2.2.2.2.2.2.2.2.2.2.2.2.2.2.2.2.2.2.2.2.2.2.2.1 a1 a2 u).1 (avc trivial (avc ra1 (avc ra2 avn))) hw r u' e
  exact ⟨r, u', e, q, h.1, h.2.1, zOf rfl (fun x hx => h.2.2 x (congrArg Sum.inl hx))⟩
theorem gX3_brings {d : Nat} {a1 a2 : Int} {u : Sg} {Q : Int → Sg → Prop} (hw : WF FT u) (ra1 : inR a1) (ra2 : inR a2) (h : wp (runT d 104 [a1, a2] u) Q) : wp (runT d 104 [a1, a2] u) (fun r u' => Q r u' ∧ Gr FT DX3_brings u u' ∧ WF FT u' ∧ True) := by
  obtain ⟨r, u', e, q⟩ := h
  have h := ((allT0 d).2.2.2.2.2.2.2.2.2.2.2.2.2.2.2.2.2.2.2.2.2.2.2.2.2.2.2.2.2.2.2.2.2.2.2.2.2.2.2.2.2.2.2.2.2.2.2.2.2.2.2.2.2.2.2.2.2.2.2.2.2.2.2.2.2.2.2.2.2.2.2.2.2.2.2.2.2.2.2.2.2.2.2.2.2.2.2.2.2.2.2.2.2.2.2.2.2.2.2.2.2.2.2.1 a1 a2 u).1 (avc trivial (avc ra1 (avc ra2 avn))) hw r u' e
  exact ⟨r, u', e, q, h.1, h.2.1, trivial⟩
theorem gX3_bringsOf {d : Nat} {a1 a2 : Int} {u : Sg} {Q : Int → Sg → Prop} (hw : WF FT u) (ra1 : inR a1) (ra2 : inR a2) (h : wp (runT d 105 [a1, a2] u) Q) : wp (runT d 105 [a1, a2] u) (fun r u' => Q r u' ∧ Gr FT DX3_bringsOf u u' ∧ WF FT u' ∧ True) := by
  obtain ⟨r, u', e, q⟩ := h
  have h := ((allT0 d).2.2.2.2.2.2.2.2.2.2.2.2.2.2.2.2.2.2.2.2.2.2.2.2.2.2.2.2.2.2.2.2.2.2.2.2.2.2.2.2.2.2.2.2.2.2.2.2.2.2.2.2.2.2.2.2.2.2.2.2.2.2.2.2.2.2.2.2.2.2.2.2.2.2.2.2.2.2.2.2.2.2.2.2.2.2.2.2.2.2.2.2.2.2.2.2.2.2.2.2.2.2.2.2.1 a1 a2 u).1 (avc trivial (avc ra1 (avc ra2 avn))) hw r u' e
  exact ⟨r, u', e, q, h.1, h.2.1, trivial⟩
theorem gX3_comes {d : Nat} {a1 : Int} {u : Sg} {Q : Int → Sg → Prop} (hw : WF FT u) (ra1 : inR a1) (h : wp (runT d 106 [a1] u) Q) : wp (runT d 106 [a1] u) (fun r u' => Q r u' ∧ Gr FT DX3_comes u u' ∧ WF FT u' ∧ True) := by
  obtain ⟨r, u', e, q⟩ := h
  have h := ((allT0 d).2.2.2.2.2.2.2.2.2.2.2.2.2.2.2.2.2.2.2.2.2.2.2.2.2.2.2.2.2.2.2.2.2.2.2.2.2.2.2.2.2.2.2.2.2.2.2.2.2.2.2.2.2.2.2.2.2.2.2.2.2.2.2.2.2.2.2.2.2.2.2.2.2.2.2.2.2.2.2.2.2.2.2.2.2.2.2.2.2.2.2.2.2.2.2.2.2.2.2.2.2.2.2.2.2.1 a1 u).1 (avc trivial (avc ra1 avn)) hw r u' e
  exact ⟨r, u', e, q, h.1, h.2.1, trivial⟩
theorem gX3_instance {d : Nat} {a1 a2 : Int} {u : Sg} {Q : Int → Sg → Prop} (hw : WF FT u) (ra1 : inR a1) (ra2 : inR a2) (h : wp (runT d 107 [a1, a2] u) Q) : wp (runT d 107 [a1, a2] u) (fun r u' => Q r u' ∧ Gr FT DX3_instance u u' ∧ WF FT u' ∧ True) := by
  obtain ⟨r, u', e, q⟩ := h
  have h := ((allT0 d).2.2.2.2.2.2.2.2.2.2.2.2.2.2.2.2.2.2.2.2.2.2.2.2.2.2.2.2.2.2.2.2.2.2.2.2.2.2.2.2.2.2.2.2.2.2.2.2.2.2.2.2.2.2.2.2.2.2.2.2.2.2.2.2.2.2.2.2.2.2.2.2.2.2.2.2.2.2.2.2.2.2.2.2.2.2.2.2.2.2.2.2.2.2.2.2.2.2.2.2.2.2.2.2.2.2.1 a1 a2 u).1 (avc trivial (avc ra1 (avc ra2 avn))) hw r u' e
  exact ⟨r, u', e, q, h.1, h.2.1, trivial⟩
theorem gX3_losing {d : Nat} {a1 a2 a3 : Int} {u : Sg} {Q : Int → Sg → Prop} (hw : WF FT u) (ra1 : inR a1) (ra2 : inR a2) (ra3 : inR a3) (h : wp (runT d 108 [a1, a2, a3] u) Q) : wp (runT d 108 [a1, a2, a3] u) (fun r u' => Q r u' ∧ Gr FT DX3_losing u u' ∧ WF FT u' ∧ True) := by
  obtain ⟨r, u', e, q⟩ := h
  have h := ((allT0 d).2.2.2.2.2.2.2.2.2.2.2.2.2.2.2.2.2.2.2.2.2.2.2.2.2.2.2.2.2.2.2.2.2.2.2.2.2.2.2.2.2.2.2.2.2.2.2.2.2.2.2.2.2.2.2.2.2.2.2.2.2.2.2.2.2.2.2.2.2.2.2.2.2.2.2.2.2.2.2.2.2.2.2.2.2.2.2.2.2.2.2.2.2.2.2.2.2.2.2.2.2.2.2.2.2.2.2.1 a1 a2 a3 u).1 (avc trivial (avc ra1 (avc ra2 (avc ra3 avn)))) hw r u' e
  exact ⟨r, u', e, q, h.1, h.2.1, trivial⟩
theorem gX3_isOnly {d : Nat} {a1 a2 : Int} {u : Sg} {Q : Int → Sg → Prop} (hw : WF FT u) (ra1 : inR a1) (ra2 : inR a2) (h : wp (runT d 109 [a1, a2] u) Q) : wp (runT d 109 [a1, a2] u) (fun r u' => Q r u' ∧ Gr FT DX3_isOnly u u' ∧ WF FT u' ∧ (r = 0 ∨ r = 1)) := by
  obtain ⟨r, u', e, q⟩ := h
  have h := ((allT0 d).2.2.2.2.2.2.2.2.2.2.2.2.2.2.2.2.2.2.2.2.2.2.2.2.2.2.2.2.2.2.2.2.2.2.2.2.2.2.2.2.2.2.2.2.2.2.2.2.2.2.2.2.2.2.2.2.2.2.2.2.2.2.2.2.2.2.2.2.2.2.2.2.2.2.2.2.2.2.2.2.2.2.2.2.2.2.2.2.2.2.2.2.2.2.2.2.2.2.2.2.2.2.2.2.2.2.2.2.1 a1 a2 u).1 (avc trivial (avc ra1 (avc ra2 avn))) hw r u' e
  exact ⟨r, u', e, q, h.1, h.2.1, zOf rfl (fun x hx => h.2.2 x (congrArg Sum.inl hx))⟩
theorem gX3_forget {d : Nat} {a1 a2 : Int} {u : Sg} {Q : Int → Sg → Prop} (hw : WF FT u) (ra1 : inR a1) (ra2 : inR a2) (h : wp (runT d 110 [a1, a2] u) Q) : wp (runT d 110 [a1, a2] u) (fun r u' => Q r u' ∧ Gr FT DX3_forget u u' ∧ WF FT u' ∧ True) := by
  obtain ⟨r, u', e, q⟩ := h
  have h := ((allT0 d).2.2.2.2.2.2.2.2.2.2.2.2.2.2.2.2.2.2.2.2.2.2.2.2.2.2.2.2.2.2.2.2.2.2.2.2.2.2.2.2.2.2.2.2.2.2.2.2.2.2.2.2.2.2.2.2.2.2.2.2.2.2.2.2.2.2.2.2.2.2.2.2.2.2.2.2.2.2.2.2.2.2.2.2.2.2.2.2.2.2.2.2.2.2.2.2.2.2.2.2.2.2.2.2.2.2.2.2.2.1 a1 a2 u).1 (avc trivial (avc ra1 (avc ra2 avn))) hw r u' e
  exact ⟨r, u', e, q, h.1, h.2.1, trivial⟩
theorem gX3_isDone {d : Nat} {a1 : Int} {u : Sg} {Q : Int → Sg → Prop} (hw : WF FT u) (ra1 : inR a1) (h : wp (runT d 111 [a1] u) Q) : wp (runT d 111 [a1] u) (fun r u' => Q r u' ∧ Gr FT DX3_isDone u u' ∧ WF FT u' ∧ (r = 0 ∨ r = 1)) := by
  obtain ⟨r, u', e, q⟩ := h
  have h := ((allT0 d).2.2.2.2.2.2.2.2.2.2.2.2.2.2.2.2.2.2.2.2.2.2.2.2.2.2.2.2.2.2.2.2.2.2.2.2.2.2.2.2.2.2.2.2.2.2.2.2.2.2.2.2.2.2.2.2.2.2.2.2.2.2.2.2.2.2.2.2.2.2.2.2.2.2.2.2.2.2.2.2.2.2.2.2.2.2.2.2.2.2.2.2.2.2.2.2.2.2.2.2.2.2.2.2.2.2.2.2.2.2.1 a1 u).1 (avc trivial (avc ra1 avn)) hw r u' e
  exact ⟨r, u', e, q, h.1, h.2.1, zOf rfl (fun x hx => h.2.2 x (congrArg Sum.inl hx))⟩
theorem gX3_done {d : Nat} {a1 : Int} {u : Sg} {Q : Int → Sg → Prop} (hw : WF FT u) (ra1 : inR a1) (h : wp (runT d 112 [a1] u) Q) : wp (runT d 112 [a1] u) (fun r u' => Q r u' ∧ Gr FT DX3_done u u' ∧ WF FT u' ∧ True) := by
  obtain ⟨r, u', e, q⟩ := h
  have h := ((allT0 d).2.2.2.2.2.2.2.2.2.2.2.2.2.2.2.2.2.2.2.2.2.2.2.2.2.2.2.2.2.2.2.2.2.2.2.2.2.2.2.2.2.2.2.2.2.2.2.2.2.2.2.2.2.2.2.2.2.2.2.2.2.2.2.2.2.2.2.2.2.2.2.2.2.2.2.2.2.2.2.2.2.2.2.2.2.2.2.2.2.2.2.2.2.2.2.2.2.2.2.2.2.2.2.2.2.2.2.2.2.2.2.1 a1 u).1 (avc trivial (avc ra1 avn)) hw r u' e
  exact ⟨r, u', e, q, h.1, h.2.1, trivial⟩
theorem gX3_fits {d : Nat} {a1 a2 : Int} {u : Sg} {Q : Int → Sg → Prop} (hw : WF FT u) (ra1 : inR a1) (ra2 : inR a2) (h : wp (runT d 113 [a1, a2] u) Q) : wp (runT d 113 [a1, a2] u) (fun r u' => Q r u' ∧ Gr FT DX3_fits u u' ∧ WF FT u' ∧ (r = 0 ∨ r = 1)) := by
  obtain ⟨r, u', e, q⟩ := h
  have h := ((allT0 d).2.2.2.2.2.2.2.2.2.2.2.2.2.2.2.2.2.2.2.2.2.2.2.2.2.2.2.2.2.2.2.2.2.2.2.2.2.2.2.2.2.2.2.2.2.2.2.2.2.2.2.2.2.2.2.2.2.2.2.2.2.2.2.2.2.2.2.2.2.2.2.2.2.2.2.2.2.2.2.2.2.2.2.2.2.2.2.2.2.2.2.2.2.2.2.2.2.2.2.2.2.2.2.2.2.2.2.2.2.2.2.2.1 a1 a2 u).1 (avc trivial (avc ra1 (avc ra2 avn))) hw r u' e
  exact ⟨r, u', e, q, h.1, h.2.1, zOf rfl (fun x hx => h.2.2 x (congrArg Sum.inl hx))⟩
theorem gX3_adjectives {d : Nat} {a1 : Int} {u : Sg} {Q : Int → Sg → Prop} (hw : WF FT u) (ra1 : inR a1) (h : wp (runT d 114 [a1] u) Q) : wp (runT d 114 [a1] u) (fun r u' => Q r u' ∧ Gr FT DX3_adjectives u u' ∧ WF FT u' ∧ inR r) := by
  obtain ⟨r, u', e, q⟩ := h
  have h := ((allT0 d).2.2.2.2.2.2.2.2.2.2.2.2.2.2.2.2.2.2.2.2.2.2.2.2.2.2.2.2.2.2.2.2.2.2.2.2.2.2.2.2.2.2.2.2.2.2.2.2.2.2.2.2.2.2.2.2.2.2.2.2.2.2.2.2.2.2.2.2.2.2.2.2.2.2.2.2.2.2.2.2.2.2.2.2.2.2.2.2.2.2.2.2.2.2.2.2.2.2.2.2.2.2.2.2.2.2.2.2.2.2.2.2.2.1 a1 u).1 (avc trivial (avc ra1 avn)) hw r u' e
  exact ⟨r, u', e, q, h.1, h.2.1, h.2.2 _ rfl⟩
theorem gX3_alike {d : Nat} {a1 a2 : Int} {u : Sg} {Q : Int → Sg → Prop} (hw : WF FT u) (ra1 : inR a1) (ra2 : inR a2) (h : wp (runT d 115 [a1, a2] u) Q) : wp (runT d 115 [a1, a2] u) (fun r u' => Q r u' ∧ Gr FT DX3_alike u u' ∧ WF FT u' ∧ (r = 0 ∨ r = 1)) := by
  obtain ⟨r, u', e, q⟩ := h
  have h := ((allT0 d).2.2.2.2.2.2.2.2.2.2.2.2.2.2.2.2.2.2.2.2.2.2.2.2.2.2.2.2.2.2.2.2.2.2.2.2.2.2.2.2.2.2.2.2.2.2.2.2.2.2.2.2.2.2.2.2.2.2.2.2.2.2.2.2.2.2.2.2.2.2.2.2.2.2.2.2.2.2.2.2.2.2.2.2.2.2.2.2.2.2.2.2.2.2.2.2.2.2.2.2.2.2.2.2.2.2.2.2.2.2.2.2.2.2.1 a1 a2 u).1 (avc trivial (avc ra1 (avc ra2 avn))) hw r u' e
  exact ⟨r, u', e, q, h.1, h.2.1, zOf rfl (fun x hx => h.2.2 x (congrArg Sum.inl hx))⟩
theorem gX3_about {d : Nat} {a1 a2 : Int} {u : Sg} {Q : Int → Sg → Prop} (hw : WF FT u) (ra1 : inR a1) (ra2 : inR a2) (h : wp (runT d 116 [a1, a2] u) Q) : wp (runT d 116 [a1, a2] u) (fun r u' => Q r u' ∧ Gr FT DX3_about u u' ∧ WF FT u' ∧ inR r) := by
  obtain ⟨r, u', e, q⟩ := h
  have h := ((allT0 d).2.2.2.2.2.2.2.2.2.2.2.2.2.2.2.2.2.2.2.2.2.2.2.2.2.2.2.2.2.2.2.2.2.2.2.2.2.2.2.2.2.2.2.2.2.2.2.2.2.2.2.2.2.2.2.2.2.2.2.2.2.2.2.2.2.2.2.2.2.2.2.2.2.2.2.2.2.2.2.2.2.2.2.2.2.2.2.2.2.2.2.2.2.2.2.2.2.2.2.2.2.2.2.2.2.2.2.2.2.2.2.2.2.2.2.1 a1 a2 u).1 (avc trivial (avc ra1 (avc ra2 avn))) hw r u' e
  exact ⟨r, u', e, q, h.1, h.2.1, h.2.2 _ rfl⟩
theorem gX3_count {d : Nat} {a1 : Int} {u : Sg} {Q : Int → Sg → Prop} (hw : WF FT u) (ra1 : inR a1) (h : wp (runT d 117 [a1] u) Q) : wp (runT d 117 [a1] u) (fun r u' => Q r u' ∧ Gr FT DX3_count u u' ∧ WF FT u' ∧ inR r) := by
  obtain ⟨r, u', e, q⟩ := h
  have h := ((allT0 d).2.2.2.2.2.2.2.2.2.2.2.2.2.2.2.2.2.2.2.2.2.2.2.2.2.2.2.2.2.2.2.2.2.2.2.2.2.2.2.2.2.2.2.2.2.2.2.2.2.2.2.2.2.2.2.2.2.2.2.2.2.2.2.2.2.2.2.2.2.2.2.2.2.2.2.2.2.2.2.2.2.2.2.2.2.2.2.2.2.2.2.2.2.2.2.2.2.2.2.2.2.2.2.2.2.2.2.2.2.2.2.2.2.2.2.2 a1 u).1 (avc trivial (avc ra1 avn)) hw r u' e
  exact ⟨r, u', e, q, h.1, h.2.1, h.2.2 _ rfl⟩
