theorem allCl (l : Launch) (d : Nat) : AAC l d := allC l p00 e00 default default default c00 ((fun _ => 0, fun _ _ => 0), 0, 0, 0) d
theorem xcX1_need {l : Launch} (hlt : LT l) {d : Nat} (hd : 8 ≤ d) : ∀ (a1 : Int) (u : Sg), CtX l d FC clA yX1_need cX1_need 1 none DX1_need (rvX false) [vI a1] u (runC d 4 [a1] u) := by
  obtain ⟨d, rfl⟩ : ∃ e, d = e + 1 := ⟨d - 1, by omega⟩
  intro a1 u
  rw [runC_eq (by omega)]
  exact ctX1_need (call := runC d) p00 e00 default default default c00 ((fun _ => 0, fun _ _ => 0), 0, 0, 0) (by omega) hlt  a1 u
theorem xcX1_room {l : Launch} (hlt : LT l) {d : Nat} (hd : 8 ≤ d) : ∀ (a1 : Int) (u : Sg), CtX l d FC clA yX1_room cX1_room 1 none DX1_room (rvX false) [vI a1] u (runC d 6 [a1] u) := by
  obtain ⟨d, rfl⟩ : ∃ e, d = e + 1 := ⟨d - 1, by omega⟩
  intro a1 u
  rw [runC_eq (by omega)]
  exact ctX1_room (call := runC d) p00 e00 default default default c00 ((fun _ => 0, fun _ _ => 0), 0, 0, 0) (by omega) hlt  a1 u
theorem xcX1_keep {l : Launch} (hlt : LT l) {d : Nat} (hd : 8 ≤ d) : ∀ (a1 a2 a3 : Int) (u : Sg), CtX l d FC clA yX1_keep cX1_keep 4 (some .int) DX1_keep (rvX true) [vR 1, vI a1, vI a2, vI a3] u (runC d 16 [a1, a2, a3] u) := by
  obtain ⟨d, rfl⟩ : ∃ e, d = e + 1 := ⟨d - 1, by omega⟩
  intro a1 a2 a3 u
  rw [runC_eq (by omega)]
  exact ctX1_keep (call := runC d) p00 e00 default default default c00 ((fun _ => 0, fun _ _ => 0), 0, 0, 0) (by omega) hlt ((allCl l d).2.2.2.2.2.2.2.2.2.2.2.2.2.2.2.2.2.2.2.2.2.2.2.2.2.2.2.2.2.2.2.2.2.2.2.2.2.2.2.2.2.2.2.2.2.2.2.2.2.2.2.2.2.2.2.2.2.2.2.2.2.2.2.2.2.1) a1 a2 a3 u
theorem xcX1_count {l : Launch} (hlt : LT l) {d : Nat} (hd : 8 ≤ d) : ∀ (a1 : Int) (u : Sg), CtX l d FC clA yX1_count cX1_count 2 (some .int) DX1_count (rvX true) [vR 1, vI a1] u (runC d 93 [a1] u) := by
  obtain ⟨d, rfl⟩ : ∃ e, d = e + 1 := ⟨d - 1, by omega⟩
  intro a1 u
  rw [runC_eq (by omega)]
  exact ctX1_count (call := runC d) p00 e00 default default default c00 ((fun _ => 0, fun _ _ => 0), 0, 0, 0) (by omega) hlt  a1 u
theorem xcX1_formOf {l : Launch} (hlt : LT l) {d : Nat} (hd : 9 ≤ d) : ∀ (a1 : Int) (u : Sg), CtX l d FC clA yX1_formOf cX1_formOf 2 (some .int) DX1_formOf (rvX true) [vR 1, vI a1] u (runC d 3 [a1] u) := by
  obtain ⟨d, rfl⟩ : ∃ e, d = e + 1 := ⟨d - 1, by omega⟩
  intro a1 u
  rw [runC_eq (by omega)]
  exact ctX1_formOf (call := runC d) p00 e00 default default default c00 ((fun _ => 0, fun _ _ => 0), 0, 0, 0) (by omega) hlt (xcX1_need hlt (d := d) (by omega)) a1 u
theorem xcX1_attribute {l : Launch} (hlt : LT l) {d : Nat} (hd : 9 ≤ d) : ∀ (u : Sg), CtX l d FC clA yX1_attribute cX1_attribute 1 (some .int) DX1_attribute (rvX true) [vR 1] u (runC d 7 [] u) := by
  obtain ⟨d, rfl⟩ : ∃ e, d = e + 1 := ⟨d - 1, by omega⟩
  intro u
  rw [runC_eq (by omega)]
  exact ctX1_attribute (call := runC d) p00 e00 default default default c00 ((fun _ => 0, fun _ _ => 0), 0, 0, 0) (by omega) hlt (xcX1_room hlt (d := d) (by omega))  u
theorem xcX1_predicate {l : Launch} (hlt : LT l) {d : Nat} (hd : 9 ≤ d) : ∀ (a1 : Int) (u : Sg), CtX l d FC clA yX1_predicate cX1_predicate 2 (some .int) DX1_predicate (rvX true) [vR 1, vI a1] u (runC d 9 [a1] u) := by
  obtain ⟨d, rfl⟩ : ∃ e, d = e + 1 := ⟨d - 1, by omega⟩
  intro a1 u
  rw [runC_eq (by omega)]
  exact ctX1_predicate (call := runC d) p00 e00 default default default c00 ((fun _ => 0, fun _ _ => 0), 0, 0, 0) (by omega) hlt (xcX1_room hlt (d := d) (by omega)) (xcX1_need hlt (d := d) (by omega)) a1 u
theorem xcX1_isSet {l : Launch} (hlt : LT l) {d : Nat} (hd : 9 ≤ d) : ∀ (a1 : Int) (u : Sg), CtX l d FC clA yX1_isSet cX1_isSet 2 none DX1_isSet (rvX false) [vR 1, vI a1] u (runC d 13 [a1] u) := by
  obtain ⟨d, rfl⟩ : ∃ e, d = e + 1 := ⟨d - 1, by omega⟩
  intro a1 u
  rw [runC_eq (by omega)]
  exact ctX1_isSet (call := runC d) p00 e00 default default default c00 ((fun _ => 0, fun _ _ => 0), 0, 0, 0) (by omega) hlt (xcX1_need hlt (d := d) (by omega)) a1 u
theorem xcX1_closed {l : Launch} (hlt : LT l) {d : Nat} (hd : 9 ≤ d) : ∀ (a1 : Int) (u : Sg), CtX l d FC clA yX1_closed cX1_closed 2 (some .int) DX1_closed (rvX true) [vR 1, vI a1] u (runC d 18 [a1] u) := by
  obtain ⟨d, rfl⟩ : ∃ e, d = e + 1 := ⟨d - 1, by omega⟩
  intro a1 u
  rw [runC_eq (by omega)]
  exact ctX1_closed (call := runC d) p00 e00 default default default c00 ((fun _ => 0, fun _ _ => 0), 0, 0, 0) (by omega) hlt (xcX1_need hlt (d := d) (by omega)) ((allCl l d).2.1) a1 u
theorem xcX1_locus {l : Launch} (hlt : LT l) {d : Nat} (hd : 9 ≤ d) : ∀ (a1 : Int) (u : Sg), CtX l d FC clA yX1_locus cX1_locus 4 (some .int) DX1_locus (rvX true) [vR 1, vI a1] u (runC d 20 [a1] u) := by
  obtain ⟨d, rfl⟩ : ∃ e, d = e + 1 := ⟨d - 1, by omega⟩
  intro a1 u
  rw [runC_eq (by omega)]
  exact ctX1_locus (call := runC d) p00 e00 default default default c00 ((fun _ => 0, fun _ _ => 0), 0, 0, 0) (by omega) hlt (xcX1_need hlt (d := d) (by omega)) ((allCl l d).2.2.2.2.2.2.2.2.2.2.2.2.2.2.2.2.2.2.2.2.2.2.2.2.2.2.2.2.2.2.2.2.2.2.2.2.2.2.2.2.2.2.2.2.2.2.2.2.2.2.2.2.2.2.2.2.2.2.2.2.1) (xcX1_keep hlt (d := d) (by omega)) a1 u
theorem xcX1_register {l : Launch} (hlt : LT l) {d : Nat} (hd : 9 ≤ d) : ∀ (a1 a2 a3 a4 a5 : Int) (u : Sg), CtX l d FC clA yX1_register cX1_register 6 (some .int) DX1_register (rvX true) [vR 1, vI a1, vI a2, vI a3, vI a4, vI a5] u (runC d 31 [a1, a2, a3, a4, a5] u) := by
  obtain ⟨d, rfl⟩ : ∃ e, d = e + 1 := ⟨d - 1, by omega⟩
  intro a1 a2 a3 a4 a5 u
  rw [runC_eq (by omega)]
  exact ctX1_register (call := runC d) p00 e00 default default default c00 ((fun _ => 0, fun _ _ => 0), 0, 0, 0) (by omega) hlt (xcX1_room hlt (d := d) (by omega)) a1 a2 a3 a4 a5 u
theorem xcX1_typeOfNumber {l : Launch} (hlt : LT l) {d : Nat} (hd : 10 ≤ d) : ∀ (a1 : Int) (u : Sg), CtX l d FC clA yX1_typeOfNumber cX1_typeOfNumber 3 (some .int) DX1_typeOfNumber (rvX true) [vR 1, vI a1] u (runC d 2 [a1] u) := by
  obtain ⟨d, rfl⟩ : ∃ e, d = e + 1 := ⟨d - 1, by omega⟩
  intro a1 u
  rw [runC_eq (by omega)]
  exact ctX1_typeOfNumber (call := runC d) p00 e00 default default default c00 ((fun _ => 0, fun _ _ => 0), 0, 0, 0) (by omega) hlt (xcX1_need hlt (d := d) (by omega)) (xcX1_formOf hlt (d := d) (by omega)) a1 u
theorem xcX1_termOf {l : Launch} (hlt : LT l) {d : Nat} (hd : 10 ≤ d) : ∀ (a1 : Int) (u : Sg), CtX l d FC clA yX1_termOf cX1_termOf 3 (some .int) DX1_termOf (rvX true) [vR 1, vI a1] u (runC d 11 [a1] u) := by
  obtain ⟨d, rfl⟩ : ∃ e, d = e + 1 := ⟨d - 1, by omega⟩
  intro a1 u
  rw [runC_eq (by omega)]
  exact ctX1_termOf (call := runC d) p00 e00 default default default c00 ((fun _ => 0, fun _ _ => 0), 0, 0, 0) (by omega) hlt (xcX1_formOf hlt (d := d) (by omega)) ((allCl l d).2.2.1) (xcX1_need hlt (d := d) (by omega)) a1 u
theorem xcX1_formulaOf {l : Launch} (hlt : LT l) {d : Nat} (hd : 10 ≤ d) : ∀ (a1 : Int) (u : Sg), CtX l d FC clA yX1_formulaOf cX1_formulaOf 3 (some .int) DX1_formulaOf (rvX true) [vR 1, vI a1] u (runC d 26 [a1] u) := by
  obtain ⟨d, rfl⟩ : ∃ e, d = e + 1 := ⟨d - 1, by omega⟩
  intro a1 u
  rw [runC_eq (by omega)]
  exact ctX1_formulaOf (call := runC d) p00 e00 default default default c00 ((fun _ => 0, fun _ _ => 0), 0, 0, 0) (by omega) hlt (xcX1_need hlt (d := d) (by omega)) (xcX1_formOf hlt (d := d) (by omega)) a1 u
theorem xcX1_alike {l : Launch} (hlt : LT l) {d : Nat} (hd : 10 ≤ d) : ∀ (a1 a2 : Int) (u : Sg), CtX l d FC clA yX1_alike cX1_alike 4 (some .boolean) DX1_alike (rvX true) [vR 1, vI a1, vI a2] u (runC d 91 [a1, a2] u) := by
  obtain ⟨d, rfl⟩ : ∃ e, d = e + 1 := ⟨d - 1, by omega⟩
  intro a1 a2 u
  rw [runC_eq (by omega)]
  exact ctX1_alike (call := runC d) p00 e00 default default default c00 ((fun _ => 0, fun _ _ => 0), 0, 0, 0) (by omega) hlt (xcX1_formOf hlt (d := d) (by omega)) a1 a2 u
theorem xcX1_about {l : Launch} (hlt : LT l) {d : Nat} (hd : 10 ≤ d) : ∀ (a1 a2 : Int) (u : Sg), CtX l d FC clA yX1_about cX1_about 5 (some .int) DX1_about (rvX true) [vR 1, vI a1, vI a2] u (runC d 92 [a1, a2] u) := by
  obtain ⟨d, rfl⟩ : ∃ e, d = e + 1 := ⟨d - 1, by omega⟩
  intro a1 a2 u
  rw [runC_eq (by omega)]
  exact ctX1_about (call := runC d) p00 e00 default default default c00 ((fun _ => 0, fun _ _ => 0), 0, 0, 0) (by omega) hlt ((allCl l d).2.2.2.2.2.2.2.2.2.2.2.2.2.2.2.2.2.2.2.2.2.2.2.2.2.2.2.2.2.2.2.2.2.2.2.2.2.2.2.2.2.2.2.2.2.2.2.2.2.2.2.2.2.2.2.2.2.2.2.2.2.2.2.2.2.2.2.2.2.2.2.2.2.2.2.2.2.2.2.2) ((allCl l d).2.2.2.2.2.2.2.2.1) (xcX1_need hlt (d := d) (by omega)) ((allCl l d).2.2.1) (xcX1_formOf hlt (d := d) (by omega)) a1 a2 u
theorem xcX1_mode {l : Launch} (hlt : LT l) {d : Nat} (hd : 11 ≤ d) : ∀ (a1 a2 : Int) (u : Sg), CtX l d FC clA yX1_mode cX1_mode 4 (some .int) DX1_mode (rvX true) [vR 1, vI a1, vI a2] u (runC d 1 [a1, a2] u) := by
  obtain ⟨d, rfl⟩ : ∃ e, d = e + 1 := ⟨d - 1, by omega⟩
  intro a1 a2 u
  rw [runC_eq (by omega)]
  exact ctX1_mode (call := runC d) p00 e00 default default default c00 ((fun _ => 0, fun _ _ => 0), 0, 0, 0) (by omega) hlt (xcX1_room hlt (d := d) (by omega)) (xcX1_need hlt (d := d) (by omega)) (xcX1_typeOfNumber hlt (d := d) (by omega)) ((allCl l d).2.1) a1 a2 u
theorem xcX1_functor {l : Launch} (hlt : LT l) {d : Nat} (hd : 11 ≤ d) : ∀ (a1 a2 : Int) (u : Sg), CtX l d FC clA yX1_functor cX1_functor 4 (some .int) DX1_functor (rvX true) [vR 1, vI a1, vI a2] u (runC d 8 [a1, a2] u) := by
  obtain ⟨d, rfl⟩ : ∃ e, d = e + 1 := ⟨d - 1, by omega⟩
  intro a1 a2 u
  rw [runC_eq (by omega)]
  exact ctX1_functor (call := runC d) p00 e00 default default default c00 ((fun _ => 0, fun _ _ => 0), 0, 0, 0) (by omega) hlt (xcX1_room hlt (d := d) (by omega)) (xcX1_need hlt (d := d) (by omega)) (xcX1_typeOfNumber hlt (d := d) (by omega)) ((allCl l d).2.1) a1 a2 u
theorem xcX1_type {l : Launch} (hlt : LT l) {d : Nat} (hd : 11 ≤ d) : ∀ (a1 a2 a3 : Int) (u : Sg), CtX l d FC clA yX1_type cX1_type 7 (some .int) DX1_type (rvX true) [vR 1, vI a1, vI a2, vI a3] u (runC d 10 [a1, a2, a3] u) := by
  obtain ⟨d, rfl⟩ : ∃ e, d = e + 1 := ⟨d - 1, by omega⟩
  intro a1 a2 a3 u
  rw [runC_eq (by omega)]
  exact ctX1_type (call := runC d) p00 e00 default default default c00 ((fun _ => 0, fun _ _ => 0), 0, 0, 0) (by omega) hlt (xcX1_isSet hlt (d := d) (by omega)) ((allCl l d).2.2.2.1) (xcX1_keep hlt (d := d) (by omega)) (xcX1_need hlt (d := d) (by omega)) (xcX1_termOf hlt (d := d) (by omega)) a1 a2 a3 u
theorem xcX1_constant {l : Launch} (hlt : LT l) {d : Nat} (hd : 11 ≤ d) : ∀ (a1 : Int) (u : Sg), CtX l d FC clA yX1_constant cX1_constant 5 (some .int) DX1_constant (rvX true) [vR 1, vI a1] u (runC d 17 [a1] u) := by
  obtain ⟨d, rfl⟩ : ∃ e, d = e + 1 := ⟨d - 1, by omega⟩
  intro a1 u
  rw [runC_eq (by omega)]
  exact ctX1_constant (call := runC d) p00 e00 default default default c00 ((fun _ => 0, fun _ _ => 0), 0, 0, 0) (by omega) hlt (xcX1_room hlt (d := d) (by omega)) ((allCl l d).2.2.2.2.2.1) (xcX1_keep hlt (d := d) (by omega)) (xcX1_typeOfNumber hlt (d := d) (by omega)) (xcX1_closed hlt (d := d) (by omega)) a1 u
theorem xcX1_made {l : Launch} (hlt : LT l) {d : Nat} (hd : 11 ≤ d) : ∀ (a1 a2 a3 a4 a5 : Int) (u : Sg), CtX l d FC clA yX1_made cX1_made 11 (some .int) DX1_made (rvX true) [vR 1, vI a1, vI a2, vI a3, vI a4, vI a5] u (runC d 22 [a1, a2, a3, a4, a5] u) := by
  obtain ⟨d, rfl⟩ : ∃ e, d = e + 1 := ⟨d - 1, by omega⟩
  intro a1 a2 a3 a4 a5 u
  rw [runC_eq (by omega)]
  exact ctX1_made (call := runC d) p00 e00 default default default c00 ((fun _ => 0, fun _ _ => 0), 0, 0, 0) (by omega) hlt ((allCl l d).2.2.2.2.2.2.2.2.2.2.2.2.2.2.2.2.2.2.2.2.2.2.2.2.2.2.2.2.2.2.2.2.2.2.2.2.2.2.2.2.2.2.2.2.2.2.2.2.2.2.2.2.2.2.2.2.2.2.2.2.1) (xcX1_keep hlt (d := d) (by omega)) ((allCl l d).2.2.2.2.2.2.2.2.2.2.2.2.2.2.2.2.2.2.2.2.2.2.2.2.2.2.2.2.2.2.2.2.2.2.2.2.2.2.2.2.2.2.2.2.2.2.2.2.2.2.2.2.2.2.2.2.2.2.2.2.2.2.2.1) (xcX1_closed hlt (d := d) (by omega)) (xcX1_termOf hlt (d := d) (by omega)) (xcX1_need hlt (d := d) (by omega)) a1 a2 a3 a4 a5 u
theorem xcX1_the {l : Launch} (hlt : LT l) {d : Nat} (hd : 11 ≤ d) : ∀ (a1 : Int) (u : Sg), CtX l d FC clA yX1_the cX1_the 5 (some .int) DX1_the (rvX true) [vR 1, vI a1] u (runC d 23 [a1] u) := by
  obtain ⟨d, rfl⟩ : ∃ e, d = e + 1 := ⟨d - 1, by omega⟩
  intro a1 u
  rw [runC_eq (by omega)]
  exact ctX1_the (call := runC d) p00 e00 default default default c00 ((fun _ => 0, fun _ _ => 0), 0, 0, 0) (by omega) hlt (xcX1_typeOfNumber hlt (d := d) (by omega)) ((allCl l d).2.2.2.2.2.2.2.2.2.2.2.2.2.2.2.2.2.2.2.2.2.2.2.2.2.2.2.2.2.2.2.2.2.2.2.2.2.2.2.2.2.2.2.2.2.2.2.2.2.2.2.2.2.2.2.2.2.2.2.2.2.2.1) (xcX1_keep hlt (d := d) (by omega)) a1 u
theorem xcX1_join {l : Launch} (hlt : LT l) {d : Nat} (hd : 11 ≤ d) : ∀ (a1 a2 a3 : Int) (u : Sg), CtX l d FC clA yX1_join cX1_join 9 (some .int) DX1_join (rvX true) [vR 1, vI a1, vI a2, vI a3] u (runC d 25 [a1, a2, a3] u) := by
  obtain ⟨d, rfl⟩ : ∃ e, d = e + 1 := ⟨d - 1, by omega⟩
  intro a1 a2 a3 u
  rw [runC_eq (by omega)]
  exact ctX1_join (call := runC d) p00 e00 default default default c00 ((fun _ => 0, fun _ _ => 0), 0, 0, 0) (by omega) hlt (xcX1_keep hlt (d := d) (by omega)) ((allCl l d).2.2.2.2.2.2.2.2.2.2.2.2.2.2.2.2.2.2.2.2.2.2.2.2.2.2.2.2.2.2.2.2.2.2.2.2.2.2.2.2.2.2.2.2.2.2.2.2.2.2.2.2.2.2.2.2.2.2.2.2.2.2.2.2.2.2.2.2.1) ((allCl l d).2.2.2.2.2.2.2.2.2.2.2.2.2.2.2.2.2.2.2.2.2.2.2.2.2.2.2.2.2.2.2.2.2.2.2.2.2.2.2.2.2.2.2.2.2.2.2.2.2.2.2.2.2.2.2.2.2.2.2.2.2.2.2.2.2.2.2.2.2.1) ((allCl l d).2.2.2.2.2.2.1) ((allCl l d).2.2.2.2.2.2.2.2.2.2.2.2.2.2.2.2.2.2.2.2.2.2.2.2.2.2.2.2.2.2.2.2.2.2.2.2.2.2.2.2.2.2.2.2.2.2.2.2.2.2.2.2.2.2.2.2.2.2.2.2.2.2.2.2.2.2.2.2.2.2.2.1) ((allCl l d).2.2.2.2.2.2.2.2.2.2.2.2.2.2.2.2.2.2.2.2.2.2.2.2.2.2.2.2.2.2.2.2.2.2.2.2.2.2.2.2.2.2.2.2.2.2.2.2.2.2.2.2.2.2.2.2.2.2.2.2.2.2.2.2.2.2.2.2.2.2.2.2.1) (xcX1_need hlt (d := d) (by omega)) (xcX1_formulaOf hlt (d := d) (by omega)) a1 a2 a3 u
theorem xcX1_bind {l : Launch} (hlt : LT l) {d : Nat} (hd : 11 ≤ d) : ∀ (a1 a2 a3 : Int) (u : Sg), CtX l d FC clA yX1_bind cX1_bind 10 (some .int) DX1_bind (rvX true) [vR 1, vI a1, vI a2, vI a3] u (runC d 28 [a1, a2, a3] u) := by
  obtain ⟨d, rfl⟩ : ∃ e, d = e + 1 := ⟨d - 1, by omega⟩
  intro a1 a2 a3 u
  rw [runC_eq (by omega)]
  exact ctX1_bind (call := runC d) p00 e00 default default default c00 ((fun _ => 0, fun _ _ => 0), 0, 0, 0) (by omega) hlt (xcX1_keep hlt (d := d) (by omega)) ((allCl l d).2.2.2.2.2.2.2.2.2.2.2.2.2.2.2.2.2.2.2.2.2.2.2.2.2.2.2.2.2.2.2.2.2.2.2.2.2.2.2.2.2.2.2.2.2.2.2.2.2.2.2.2.2.2.2.2.2.2.2.2.2.2.2.2.2.2.2.2.2.2.2.2.2.1) ((allCl l d).2.2.2.2.2.2.2.2.2.2.2.2.2.2.2.2.2.2.2.2.2.2.2.2.2.2.2.2.2.2.2.2.2.2.2.2.2.2.2.2.2.2.2.2.2.2.2.2.2.2.2.2.2.2.2.2.2.2.2.2.2.2.2.2.2.2.2.2.2.2.2.2.2.2.2.1) ((allCl l d).2.2.2.2.2.2.2.2.2.2.2.2.2.2.2.2.2.2.2.2.2.2.2.2.2.2.2.2.2.2.2.2.2.2.2.2.2.2.2.2.2.2.2.2.2.2.2.2.2.2.2.2.2.2.2.2.2.2.2.2.2.2.2.2.2.2.2.2.1) (xcX1_need hlt (d := d) (by omega)) (xcX1_formulaOf hlt (d := d) (by omega)) (xcX1_termOf hlt (d := d) (by omega)) a1 a2 a3 u
theorem xcX1_cluster {l : Launch} (hlt : LT l) {d : Nat} (hd : 11 ≤ d) : ∀ (a1 a2 a3 : Int) (u : Sg), CtX l d FC clA yX1_cluster cX1_cluster 7 (some .int) DX1_cluster (rvX true) [vR 1, vI a1, vI a2, vI a3] u (runC d 29 [a1, a2, a3] u) := by
  obtain ⟨d, rfl⟩ : ∃ e, d = e + 1 := ⟨d - 1, by omega⟩
  intro a1 a2 a3 u
  rw [runC_eq (by omega)]
  exact ctX1_cluster (call := runC d) p00 e00 default default default c00 ((fun _ => 0, fun _ _ => 0), 0, 0, 0) (by omega) hlt (xcX1_room hlt (d := d) (by omega)) ((allCl l d).2.2.2.1) (xcX1_register hlt (d := d) (by omega)) (xcX1_isSet hlt (d := d) (by omega)) (xcX1_need hlt (d := d) (by omega)) (xcX1_typeOfNumber hlt (d := d) (by omega)) (xcX1_closed hlt (d := d) (by omega)) ((allCl l d).2.2.2.2.2.2.2.1) a1 a2 a3 u
theorem xcX1_place {l : Launch} (hlt : LT l) {d : Nat} (hd : 11 ≤ d) : ∀ (a1 a2 a3 : Int) (u : Sg), CtX l d FC clA yX1_place cX1_place 5 (some .int) DX1_place (rvX true) [vR 1, vI a1, vI a2, vI a3] u (runC d 33 [a1, a2, a3] u) := by
  obtain ⟨d, rfl⟩ : ∃ e, d = e + 1 := ⟨d - 1, by omega⟩
  intro a1 a2 a3 u
  rw [runC_eq (by omega)]
  exact ctX1_place (call := runC d) p00 e00 default default default c00 ((fun _ => 0, fun _ _ => 0), 0, 0, 0) (by omega) hlt (xcX1_need hlt (d := d) (by omega)) (xcX1_typeOfNumber hlt (d := d) (by omega)) ((allCl l d).2.1) a1 a2 a3 u
theorem xcX1_premise {l : Launch} (hlt : LT l) {d : Nat} (hd : 11 ≤ d) : ∀ (a1 : Int) (u : Sg), CtX l d FC clA yX1_premise cX1_premise 3 (some .int) DX1_premise (rvX true) [vR 1, vI a1] u (runC d 35 [a1] u) := by
  obtain ⟨d, rfl⟩ : ∃ e, d = e + 1 := ⟨d - 1, by omega⟩
  intro a1 u
  rw [runC_eq (by omega)]
  exact ctX1_premise (call := runC d) p00 e00 default default default c00 ((fun _ => 0, fun _ _ => 0), 0, 0, 0) (by omega) hlt (xcX1_room hlt (d := d) (by omega)) (xcX1_formulaOf hlt (d := d) (by omega)) a1 u
theorem xcX1_check {l : Launch} (hlt : LT l) {d : Nat} (hd : 11 ≤ d) : ∀ (a1 : Int) (u : Sg), CtX l d FC clA yX1_check cX1_check 11 (some .int) DX1_check (rvX true) [vR 1, vI a1] u (runC d 36 [a1] u) := by
  obtain ⟨d, rfl⟩ : ∃ e, d = e + 1 := ⟨d - 1, by omega⟩
  intro a1 u
  rw [runC_eq (by omega)]
  exact ctX1_check (call := runC d) p00 e00 default default default c00 ((fun _ => 0, fun _ _ => 0), 0, 0, 0) (by omega) hlt (xcX1_formulaOf hlt (d := d) (by omega)) ((allCl l d).2.2.2.2.2.2.2.2.2.2.2.2.2.2.2.2.2.2.2.2.2.2.2.2.2.2.2.2.2.2.2.2.2.2.2.2.2.2.2.2.2.2.2.2.2.2.2.2.2.2.2.2.2.2.2.2.2.2.2.2.2.2.2.1) ((allCl l d).2.2.2.2.2.2.2.2.2.2.2.2.2.2.2.2.2.2.2.2.2.2.2.2.2.2.2.2.2.2.2.2.2.2.2.2.2.2.2.2.2.2.2.2.2.2.2.2.2.2.1) ((allCl l d).2.2.2.2.2.2.2.2.2.2.2.2.2.2.2.2.2.2.2.2.2.2.2.2.2.2.2.2.2.2.2.2.2.2.2.2.2.2.2.2.2.2.2.2.2.2.2.2.2.2.2.2.2.2.2.2.2.2.2.2.2.2.2.2.2.2.2.2.1) ((allCl l d).2.2.2.2.2.2.2.2.2.2.2.2.2.2.2.2.2.2.2.2.2.2.2.2.2.2.2.2.2.2.2.2.2.2.2.2.2.2.2.2.2.2.2.2.2.2.2.2.2.2.2.2.2.2.2.2.2.2.2.2.2.2.2.2.2.2.2.2.2.2.1) ((allCl l d).2.2.2.2.2.2.2.2.1) ((allCl l d).2.2.2.2.2.2.2.2.2.1) ((allCl l d).2.2.2.2.2.2.2.2.2.2.1) ((allCl l d).2.2.2.2.2.2.2.2.2.2.2.1) a1 u
theorem xcX1_fits {l : Launch} (hlt : LT l) {d : Nat} (hd : 11 ≤ d) : ∀ (a1 a2 : Int) (u : Sg), CtX l d FC clA yX1_fits cX1_fits 8 (some .boolean) DX1_fits (rvX true) [vR 1, vI a1, vI a2] u (runC d 80 [a1, a2] u) := by
  obtain ⟨d, rfl⟩ : ∃ e, d = e + 1 := ⟨d - 1, by omega⟩
  intro a1 a2 u
  rw [runC_eq (by omega)]
  exact ctX1_fits (call := runC d) p00 e00 default default default c00 ((fun _ => 0, fun _ _ => 0), 0, 0, 0) (by omega) hlt (xcX1_termOf hlt (d := d) (by omega)) (xcX1_closed hlt (d := d) (by omega)) (xcX1_typeOfNumber hlt (d := d) (by omega)) ((allCl l d).2.2.2.2.2.2.2.2.2.2.2.2.2.2.2.2.2.2.2.2.2.2.2.2.2.2.2.2.2.2.2.2.2.2.2.2.2.2.2.2.2.2.2.2.2.2.2.2.2.2.2.1) ((allCl l d).2.2.2.2.2.2.2.2.2.2.2.2.2.2.2.2.2.2.2.2.2.2.2.2.2.2.2.2.2.2.2.2.2.2.2.2.2.2.2.2.2.2.2.2.2.2.2.2.2.2.1) a1 a2 u
theorem xcX1_adjectives {l : Launch} (hlt : LT l) {d : Nat} (hd : 11 ≤ d) : ∀ (a1 : Int) (u : Sg), CtX l d FC clA yX1_adjectives cX1_adjectives 8 (some .int) DX1_adjectives (rvX true) [vR 1, vI a1] u (runC d 90 [a1] u) := by
  obtain ⟨d, rfl⟩ : ∃ e, d = e + 1 := ⟨d - 1, by omega⟩
  intro a1 u
  rw [runC_eq (by omega)]
  exact ctX1_adjectives (call := runC d) p00 e00 default default default c00 ((fun _ => 0, fun _ _ => 0), 0, 0, 0) (by omega) hlt (xcX1_termOf hlt (d := d) (by omega)) (xcX1_closed hlt (d := d) (by omega)) ((allCl l d).2.2.2.2.2.2.2.2.2.2.2.2.2.2.2.2.2.2.2.2.2.2.2.2.2.2.2.2.2.2.2.2.2.2.2.2.2.2.2.2.2.2.2.2.2.2.2.2.2.2.2.2.2.2.1) ((allCl l d).2.2.2.2.2.2.2.2.2.2.2.2.2.2.2.2.2.2.2.2.2.2.2.2.2.2.2.2.2.2.2.2.2.2.2.2.2.2.2.2.2.2.2.2.2.2.2.2.2.2.2.2.2.2.2.2.2.2.2.2.2.2.2.2.1) ((allCl l d).2.2.2.2.2.2.2.2.2.2.2.2.2.2.2.2.2.2.2.2.2.2.2.2.2.2.2.2.2.2.2.2.2.2.2.2.2.2.2.2.2.2.2.2.2.2.2.2.2.2.1) a1 u
theorem xcX1_apply {l : Launch} (hlt : LT l) {d : Nat} (hd : 12 ≤ d) : ∀ (a1 a2 a3 : Int) (u : Sg), CtX l d FC clA yX1_apply cX1_apply 4 (some .int) DX1_apply (rvX true) [vR 1, vI a1, vI a2, vI a3] u (runC d 21 [a1, a2, a3] u) := by
  obtain ⟨d, rfl⟩ : ∃ e, d = e + 1 := ⟨d - 1, by omega⟩
  intro a1 a2 a3 u
  rw [runC_eq (by omega)]
  exact ctX1_apply (call := runC d) p00 e00 default default default c00 ((fun _ => 0, fun _ _ => 0), 0, 0, 0) (by omega) hlt (xcX1_need hlt (d := d) (by omega)) (xcX1_made hlt (d := d) (by omega)) a1 a2 a3 u
theorem xcX1_atom {l : Launch} (hlt : LT l) {d : Nat} (hd : 12 ≤ d) : ∀ (a1 a2 a3 a4 : Int) (u : Sg), CtX l d FC clA yX1_atom cX1_atom 9 (some .int) DX1_atom (rvX true) [vR 1, vI a1, vI a2, vI a3, vI a4] u (runC d 24 [a1, a2, a3, a4] u) := by
  obtain ⟨d, rfl⟩ : ∃ e, d = e + 1 := ⟨d - 1, by omega⟩
  intro a1 a2 a3 a4 u
  rw [runC_eq (by omega)]
  exact ctX1_atom (call := runC d) p00 e00 default default default c00 ((fun _ => 0, fun _ _ => 0), 0, 0, 0) (by omega) hlt (xcX1_need hlt (d := d) (by omega)) (xcX1_made hlt (d := d) (by omega)) ((allCl l d).2.2.2.2.2.2.2.2.2.2.2.2.2.2.2.2.2.2.2.2.2.2.2.2.2.2.2.2.2.2.2.2.2.2.2.2.2.2.2.2.2.2.2.2.2.2.2.2.2.2.2.2.2.2.2.2.2.2.2.2.2.2.2.2.2.2.1) (xcX1_keep hlt (d := d) (by omega)) (xcX1_termOf hlt (d := d) (by omega)) (xcX1_closed hlt (d := d) (by omega)) a1 a2 a3 a4 u
theorem xcX1_gives {l : Launch} (hlt : LT l) {d : Nat} (hd : 12 ≤ d) : ∀ (a1 a2 a3 a4 : Int) (u : Sg), CtX l d FC clA yX1_gives cX1_gives 7 (some .int) DX1_gives (rvX true) [vR 1, vI a1, vI a2, vI a3, vI a4] u (runC d 32 [a1, a2, a3, a4] u) := by
  obtain ⟨d, rfl⟩ : ∃ e, d = e + 1 := ⟨d - 1, by omega⟩
  intro a1 a2 a3 a4 u
  rw [runC_eq (by omega)]
  exact ctX1_gives (call := runC d) p00 e00 default default default c00 ((fun _ => 0, fun _ _ => 0), 0, 0, 0) (by omega) hlt (xcX1_room hlt (d := d) (by omega)) ((allCl l d).2.2.2.1) (xcX1_register hlt (d := d) (by omega)) (xcX1_need hlt (d := d) (by omega)) (xcX1_place hlt (d := d) (by omega)) (xcX1_isSet hlt (d := d) (by omega)) a1 a2 a3 a4 u
theorem xcX1_reduce {l : Launch} (hlt : LT l) {d : Nat} (hd : 12 ≤ d) : ∀ (a1 a2 a3 a4 : Int) (u : Sg), CtX l d FC clA yX1_reduce cX1_reduce 8 (some .int) DX1_reduce (rvX true) [vR 1, vI a1, vI a2, vI a3, vI a4] u (runC d 34 [a1, a2, a3, a4] u) := by
  obtain ⟨d, rfl⟩ : ∃ e, d = e + 1 := ⟨d - 1, by omega⟩
  intro a1 a2 a3 a4 u
  rw [runC_eq (by omega)]
  exact ctX1_reduce (call := runC d) p00 e00 default default default c00 ((fun _ => 0, fun _ _ => 0), 0, 0, 0) (by omega) hlt (xcX1_need hlt (d := d) (by omega)) (xcX1_register hlt (d := d) (by omega)) (xcX1_place hlt (d := d) (by omega)) (xcX1_termOf hlt (d := d) (by omega)) ((allCl l d).2.1) a1 a2 a3 a4 u
