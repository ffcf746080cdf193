/-! how many cases -/
def cnL (F : Nat → Nat) (b : Nat) : List Nat → Nat → Nat
  | [], a => a
  | p :: l, a => cnL F b l (if b = 0 then a * F p else a + F p)
def cnF : Nat → Nat → Nat → Nat
  | 0, _, _ => 1
  | n + 1, f, b => if kd f = 9 then (if b = 0 then 1 else 0) else if kd f = 16 then cnF n (pa f 0) (1 - b) else if kd f = 17 then cnL (fun p => cnF n p b) b (ps f) (if b = 0 then 1 else 0) else if kd f = 18 then (if b = 0 then 1 else cnF n (pa f 1) 1) else 1
theorem cap_mul (a m : Nat) : min 1000 (min 1000 a * min 1000 m) = min 1000 (a * m) := by
  by_cases ha : a ≤ 1000
  · rw [Nat.min_eq_right ha]
    by_cases hm : m ≤ 1000
    · rw [Nat.min_eq_right hm]
    · rw [Nat.min_eq_left (by omega : 1000 ≤ m)]
      by_cases h0 : a = 0
      · rw [h0]; simp
      · have h1 : 1 * 1000 ≤ a * 1000 := Nat.mul_le_mul_right _ (by omega)
        have h2 : 1 * m ≤ a * m := Nat.mul_le_mul_right _ (by omega)
        omega
  · rw [Nat.min_eq_left (by omega : 1000 ≤ a)]
    by_cases h0 : m = 0
    · rw [h0]; simp
    · have h1 : 1000 * 1 ≤ 1000 * min 1000 m := Nat.mul_le_mul_left _ (by omega)
      have h2 : a * 1 ≤ a * m := Nat.mul_le_mul_left _ (by omega)
      omega
theorem casesOf_L110 {d : Nat} (hd : 3 ≤ d) {ν : Nat → Nat} {c : Nat} {u : Sg} (hs : SC ν c u) {x f b : Nat} {F : Nat → Nat} (x0 : 0 < x) (hx : x < nC u) (ex : trC ν u x = f) (h17 : kd f = 17) (hb : b ≤ 1) (hlen : (ps f).length ≤ 300000) (ih : ∀ p ∈ ps f, ∀ y, 0 < y → y < nC u → trC ν u y = p → runC d 37 [(y : Int), (b : Int)] u = some (((min 1000 (F p) : Nat) : Int), u)) (hpos : ∀ p ∈ ps f, p ≠ 0) {xx : Int → Sg → Option (Int × Sg)} : ∀ (m i fu a : Nat), i + m = (ps f).length → m < fu → bX1_casesOf_L110 (runC d) fu (x : Int) (b : Int) ((min 1000 a : Nat) : Int) (i : Int) u xx = xx ((min 1000 (cnL F b ((ps f).drop i) a) : Nat) : Int) u := by
  have hn := nodeC hs x0 hx
  rw [ex] at hn
  have l3 : gL u 3 = gL u 0 := hs.1.1.2.2.2.1.2.2.1
  intro m
  induction m with
  | zero =>
    intro i fu a hi hf
    obtain ⟨fu, rfl⟩ : ∃ f', fu = f' + 1 := ⟨fu - 1, by omega⟩
    rw [bX1_casesOf_L110, ld_nat (by omega), hn.2.2.1, if_neg (by omega), List.drop_of_length_le (by omega)]
    rfl
  | succ m ihm =>
    intro i fu a hi hf
    obtain ⟨fu, rfl⟩ : ∃ f', fu = f' + 1 := ⟨fu - 1, by omega⟩
    have hil : i < (ps f).length := by omega
    have hgi := pa_get hil
    have hm := List.mem_of_getElem? hgi
    obtain ⟨y, y1, y2, y3⟩ := partN (d := d) (i := i) hd hs x0 hx (by rw [ex]; exact hil) (Or.inl (by rw [ex]; omega))
    rw [ex] at y3
    have y0 : 0 < y := Nat.pos_of_ne_zero (fun q => hpos _ hm (by rw [← y3, q]; rfl))
    have hdr : (ps f).drop i = pa f i :: (ps f).drop (i + 1) := by
      rw [List.drop_eq_getElem_cons hil]
      congr 1
      rw [List.getElem?_eq_getElem hil] at hgi
      exact Option.some.inj hgi
    have nxt : ∀ (t : Nat), min 1000 t = min 1000 (if b = 0 then a * F (pa f i) else a + F (pa f i)) → (un (if (1000 : Int) < (t : Int) then 1000 else (t : Int)) fun v4 => ar ((i : Int) + 1) fun v5 => bX1_casesOf_L110 (runC d) fu (x : Int) (b : Int) v4 v5 u xx) = xx ((min 1000 (cnL F b ((ps f).drop i) a) : Nat) : Int) u := fun t ht => by
      have e : (if (1000 : Int) < (t : Int) then (1000 : Int) else (t : Int)) = ((min 1000 t : Nat) : Int) := by
        by_cases q : (1000 : Int) < (t : Int)
        · rw [if_pos q]; omega
        · rw [if_neg q]; omega
      rw [un_eq, e, ar_pos ⟨by omega, by omega⟩, show (i : Int) + 1 = ((i + 1 : Nat) : Int) by omega, ht, ihm (i + 1) fu _ (by omega) (by omega), hdr]
      rfl
    rw [bX1_casesOf_L110, ld_nat (by omega), hn.2.2.1, if_pos (by omega), jn_eq, cl_eq y1, cl_eq (ih _ hm y y0 (by omega) y3)]
    by_cases hb0 : b = 0
    · rw [if_pos (by omega)]
      have hle : min 1000 a * min 1000 (F (pa f i)) ≤ 1000 * 1000 := Nat.mul_le_mul (by omega) (by omega)
      rw [show ((min 1000 a : Nat) : Int) * ((min 1000 (F (pa f i)) : Nat) : Int) = ((min 1000 a * min 1000 (F (pa f i)) : Nat) : Int) by rw [Int.natCast_mul]]
      rw [arL_pos ⟨by omega, by omega⟩]
      exact nxt _ (by rw [if_pos hb0]; exact cap_mul _ _)
    · rw [if_neg (by omega)]
      rw [show ((min 1000 a : Nat) : Int) + ((min 1000 (F (pa f i)) : Nat) : Int) = ((min 1000 a + min 1000 (F (pa f i)) : Nat) : Int) by omega]
      rw [arL_pos ⟨by omega, by omega⟩]
      exact nxt _ (by rw [if_neg hb0]; omega)
theorem rX1_casesOf {ν : Nat → Nat} {c : Nat} {u : Sg} (hs : SC ν c u) (hn9 : nC u ≤ 90000) : ∀ (n f b d x : Nat), htT f < n → okT f → isFo f → b ≤ 1 → 5 + htT f ≤ d → 0 < x → x < nC u → trC ν u x = f → runC d 37 [(x : Int), (b : Int)] u = some (((min 1000 (cnF n f b) : Nat) : Int), u) := by
  intro n
  induction n with
  | zero => intro f b d x h; omega
  | succ n ih =>
    intro f b d x hh ho hf hb hd x0 hx ex
    obtain ⟨d, rfl⟩ : ∃ d', d = d' + 1 := ⟨d - 1, by omega⟩
    rw [runC_eq (by omega)]
    show bX1_casesOf (runC d) x b u = _
    unfold bX1_casesOf
    have hn := nodeC hs x0 hx
    rw [ex] at hn
    have l1 := hs.1.1.2.2.2.1.1
    have lenb : (ps f).length ≤ 300000 := by have := hn.2.2.2.1.2; have := hn.2.2.2.2.2; have := hs.1.1.2.2.2.2.2.2.2; omega
    rw [gd_pos (by omega), ld_nat (by omega), hn.1, cnF]
    unfold isFo at hf
    by_cases k9 : kd f = 9
    · rw [if_pos (by omega), if_pos k9]
      by_cases b0 : b = 0
      · rw [if_pos (by omega), if_pos b0]; rfl
      · rw [if_neg (by omega), if_neg b0]; rfl
    rw [if_neg (by omega), if_neg k9]
    by_cases k16 : kd f = 16
    · rw [if_neg (by omega), if_neg (by omega), if_neg (by omega), if_neg (by omega), if_neg (by omega), if_neg (by omega), if_pos (by omega), if_pos k16, jn_eq]
      obtain ⟨g, e, hg⟩ := not_wf ho k16
      have pg : pa f 0 = g := pa_at (by rw [e]; rfl)
      have hgf : isFo g := by
        rcases ho.n.2 with q | q | q | q | q | q | q | q | q | q | q | q | q | q <;> try omega
        obtain ⟨_, _, g', e', hg', _⟩ := q
        rw [e] at e'
        rw [show g = g' by simpa using e']; exact hg'
      have hm : g ∈ fms f := fms_at.mpr ⟨0, Or.inr rfl, by rw [e]; rfl, by omega⟩
      have hh2 := ht_c hm
      obtain ⟨y, y1, y2, y3⟩ := partN (d := d) (i := 0) (by omega) hs x0 hx (by rw [ex, e]; simp) (Or.inr rfl)
      rw [ex, pg] at y3
      have y0 : 0 < y := Nat.pos_of_ne_zero (fun q => by rw [q] at y3; have : trC ν u 0 = 0 := rfl; omega)
      have key := ih g (1 - b) d y (by omega) (ho.c hm) hgf (by omega) (by omega) y0 (by omega) y3
      rw [pg]
      refine (cl_eq y1).trans ?_
      by_cases b0 : b = 0
      · rw [if_pos (by omega)]
        rw [b0] at key ⊢
        exact cl_eq key
      · rw [if_neg (by omega)]
        have b1 : b = 1 := by omega
        rw [b1] at key ⊢
        exact cl_eq key
    rw [if_neg k16]
    by_cases k17 : kd f = 17
    · rw [if_neg (by omega), if_neg (by omega), if_neg (by omega), if_neg (by omega), if_neg (by omega), if_neg (by omega), if_neg (by omega), if_pos (by omega), if_pos k17, jn_eq]
      have hall : ∀ p ∈ ps f, isFo p := by
        rcases ho.n.2 with q | q | q | q | q | q | q | q | q | q | q | q | q | q <;> try omega
        exact fun p hp => (q.2.2.2 p hp).1
      have loop := fun a => casesOf_L110 (d := d) (F := fun p => cnF n p b) (by omega) hs x0 hx ex k17 hb lenb (fun p hp y y0 hy ey => by
        have hm : p ∈ fms f := fms_mem hp (by omega) (isFo_pos (hall p hp))
        have := ht_c hm
        exact ih p b d y (by omega) (ho.c hm) (hall p hp) hb (by omega) y0 hy ey) (fun p hp => isFo_pos (hall p hp)) (xx := fun v11 s10 => ar v11 fun v12 => some (v12, s10)) (ps f).length 0 KF a (by omega) (Nat.lt_of_le_of_lt (by omega : _ ≤ 300000) KF_300)
      have fin : ∀ v : Nat, v ≤ 1000 → (ar (v : Int) fun v12 => some (v12, u)) = some ((v : Int), u) := fun v hv => ar_pos ⟨by omega, by omega⟩
      by_cases b0 : b = 0
      · rw [if_pos (by omega), if_pos b0]
        refine (loop 1).trans ?_
        rw [List.drop_zero]
        exact fin _ (by omega)
      · rw [if_neg (by omega), if_neg b0]
        refine (loop 0).trans ?_
        rw [List.drop_zero]
        exact fin _ (by omega)
    rw [if_neg k17]
    by_cases k18 : kd f = 18
    · rw [if_neg (by omega), if_neg (by omega), if_neg (by omega), if_neg (by omega), if_neg (by omega), if_neg (by omega), if_neg (by omega), if_neg (by omega), if_pos (by omega), if_pos k18]
      by_cases b0 : b = 0
      · rw [if_pos (by omega), if_pos b0]; rfl
      · rw [if_neg (by omega), if_neg b0]
        obtain ⟨ty, bd, e, py, pb, k8, hbf, my, mb, _⟩ := all_parts ho k18
        have hh2 := ht_c mb
        obtain ⟨y, y1, y2, y3⟩ := partN (d := d) (i := 1) (by omega) hs x0 hx (by rw [ex, e]; simp) (Or.inl (by rw [ex]; omega))
        rw [ex, pb] at y3
        have y0 : 0 < y := Nat.pos_of_ne_zero (fun q => isFo_pos hbf (by rw [← y3, q]; rfl))
        rw [pb]
        exact (cl_eq y1).trans (cl_eq (ih bd 1 d y (by omega) (ho.c mb) hbf (by omega) (by omega) y0 (by omega) y3))
    rw [if_neg k18]
    have h5 : kd f = 10 ∨ kd f = 11 ∨ kd f = 12 ∨ kd f = 13 ∨ kd f = 14 := by omega
    rcases h5 with q | q | q | q | q
    · rw [if_pos (by omega)]; rfl
    · rw [if_neg (by omega), if_pos (by omega)]; rfl
    · rw [if_neg (by omega), if_neg (by omega), if_pos (by omega)]; rfl
    · rw [if_neg (by omega), if_neg (by omega), if_neg (by omega), if_pos (by omega)]; rfl
    · rw [if_neg (by omega), if_neg (by omega), if_neg (by omega), if_neg (by omega), if_pos (by omega)]; rfl
