/-! what follows in a case: the least closed set of facts -/
abbrev Fs := (Nat → Prop) × (Nat → Nat → Prop) × (Nat → Nat → Nat → Prop) × (Nat → Nat → Prop)
def fH (S : Fs) (t : Nat) : Prop := S.1 t
def fE (S : Fs) (s t : Nat) : Prop := S.2.1 s t
def fM (S : Fs) (t m a : Nat) : Prop := S.2.2.1 t m a
def fA (S : Fs) (t j : Nat) : Prop := S.2.2.2 t j
/-- the same, or equal in the case -/
def eqA (S : Fs) (s t : Nat) : Prop := s = t ∨ fE S s t
def fitS (S : Fs) (t y : Nat) : Prop := fM S t (wh y) (pa y 0) ∧ ∀ j ∈ adjT y, fA S t j
def argS (W : Wd) (S : Fs) (t g : Nat) : Prop := (wgA W g ≠ 0 → fitS S (pa t 0) (sbT (locg (pa t 0) (pa t 1)) 0 (wgA W g))) ∧ (wgB W g ≠ 0 → fitS S (pa t 1) (sbT (locg (pa t 0) (pa t 1)) 0 (wgB W g)))
def ofS (W : Wd) (S : Fs) (t g : Nat) : Prop := ∃ a, fM S t (wh (wgO W g)) a ∧ (pa (wgO W g) 0 = 0 ∨ (a ≠ 0 ∧ fM S a (wh (wgA W g)) (pa (wgA W g) 0)))
/-- two terms are alike but for equal terms in them -/
def alkS (S : Fs) (s t : Nat) : Prop := (kd s = 4 ∧ kd t = 4 ∧ wh s = wh t ∧ (ps s).length = (ps t).length ∧ ∀ i, i < (ps s).length → eqA S (pa s i) (pa t i)) ∨ (kd s = 5 ∧ kd t = 5 ∧ wh (pa s 0) = wh (pa t 0) ∧ adjT (pa s 0) = adjT (pa t 0) ∧ eqA S (pa (pa s 0) 0) (pa (pa t 0) 0))
/-- the facts of a type and its parents -/
def tyF (W : Wd) (S : Fs) (t y : Nat) : Prop := ∀ z ∈ upT W y, fM S t (wh z) (pa z 0) ∧ (∀ j ∈ adjT z, fA S t j) ∧ (pa z 0 ≠ 0 → fH S (pa z 0))
def clo1 (W : Wd) (K B : Nat → Prop) (S : Fs) : Prop := (∀ f, K f → ∀ s, subT s f → isTm s → loT s = 0 → fH S s) ∧ (∀ b, B b → fH S b) ∧ (∀ t, fH S t → ∀ s, subT s t → isTm s → fH S s) ∧ (∀ t, fH S t → tyF W S t (tyT W t)) ∧ (∀ f, K f → kd f = 14 → tyF W S (pa f 1) (mk 8 (wh f) [pa f 0]))
def clo2 (K : Nat → Prop) (S : Fs) : Prop := (∀ t, fH S t → fE S t t) ∧ (∀ s t, fE S s t → fE S t s) ∧ (∀ s t r, fE S s t → fE S t r → fE S s r) ∧ (∀ f, K f → kd f = 10 → fE S (pa f 0) (pa f 1)) ∧ (∀ f, K f → kd f = 13 → fA S (pa f 0) (2 * wh f)) ∧ (∀ f, K f → kd f = 16 → kd (pa f 0) = 13 → fA S (pa (pa f 0) 0) (2 * wh (pa f 0) + 1)) ∧ (∀ t t' m a a', fM S t m a → eqA S t t' → eqA S a a' → fM S t' m a') ∧ ∀ t t' j, fA S t j → eqA S t t' → fA S t' j
def clo3 (W : Wd) (S : Fs) : Prop := (∀ s t, fH S s → fH S t → alkS S s t → fE S s t) ∧ (∀ t g, fH S t → kd t = 4 → g < wnG W → wgS W g = 1 → wgO W g = wh t → argS W S t g → ∀ j ∈ adjT (wgV W g), fA S t j) ∧ (∀ t g, fH S t → kd t = 4 → g < wnG W → wgS W g = 2 → wgO W g = wh t → argS W S t g → fH S (sbT (locg (pa t 0) (pa t 1)) 0 (wgV W g)) ∧ fE S t (sbT (locg (pa t 0) (pa t 1)) 0 (wgV W g))) ∧ ∀ t g, fH S t → g < wnG W → wgS W g = 0 → (∀ j ∈ adjT (wgO W g), fA S t j) → ofS W S t g → ∀ j ∈ adjT (wgV W g), fA S t j
def Clo (W : Wd) (K B : Nat → Prop) (S : Fs) : Prop := clo1 W K B S ∧ clo2 K S ∧ clo3 W S
/-- one set of facts within another -/
def subF (S S' : Fs) : Prop := (∀ t, fH S t → fH S' t) ∧ (∀ s t, fE S s t → fE S' s t) ∧ (∀ t m a, fM S t m a → fM S' t m a) ∧ ∀ t j, fA S t j → fA S' t j
theorem subF.rf (S : Fs) : subF S S := ⟨fun _ h => h, fun _ _ h => h, fun _ _ _ h => h, fun _ _ h => h⟩
theorem subF.tr {S S' S'' : Fs} (h : subF S S') (h' : subF S' S'') : subF S S'' := ⟨fun t q => h'.1 t (h.1 t q), fun s t q => h'.2.1 s t (h.2.1 s t q), fun t m a q => h'.2.2.1 t m a (h.2.2.1 t m a q), fun t j q => h'.2.2.2 t j (h.2.2.2 t j q)⟩
theorem subF.eqA {S S' : Fs} (h : subF S S') {s t : Nat} (q : eqA S s t) : eqA S' s t := q.imp id (h.2.1 s t)
theorem subF.fit {S S' : Fs} (h : subF S S') {t y : Nat} (q : fitS S t y) : fitS S' t y := ⟨h.2.2.1 _ _ _ q.1, fun j hj => h.2.2.2 _ _ (q.2 j hj)⟩
theorem subF.arg {W : Wd} {S S' : Fs} (h : subF S S') {t g : Nat} (q : argS W S t g) : argS W S' t g := ⟨fun z => h.fit (q.1 z), fun z => h.fit (q.2 z)⟩
theorem subF.of {W : Wd} {S S' : Fs} (h : subF S S') {t g : Nat} (q : ofS W S t g) : ofS W S' t g := by
  obtain ⟨a, h1, h2⟩ := q
  exact ⟨a, h.2.2.1 _ _ _ h1, h2.imp id (fun z => ⟨z.1, h.2.2.1 _ _ _ z.2⟩)⟩
theorem subF.alk {S S' : Fs} (h : subF S S') {s t : Nat} (q : alkS S s t) : alkS S' s t :=
  q.imp (fun ⟨a, b, c, d, e⟩ => ⟨a, b, c, d, fun i hi => h.eqA (e i hi)⟩) (fun ⟨a, b, c, d, e⟩ => ⟨a, b, c, d, h.eqA e⟩)
/-- the least closed set of facts -/
def DerF (W : Wd) (K B : Nat → Prop) : Fs := (fun t => ∀ S, Clo W K B S → fH S t, fun s t => ∀ S, Clo W K B S → fE S s t, fun t m a => ∀ S, Clo W K B S → fM S t m a, fun t j => ∀ S, Clo W K B S → fA S t j)
theorem Der_sub {W : Wd} {K B : Nat → Prop} {S : Fs} (h : Clo W K B S) : subF (DerF W K B) S := ⟨fun _ q => q S h, fun _ _ q => q S h, fun _ _ _ q => q S h, fun _ _ q => q S h⟩
theorem Der_clo (W : Wd) (K B : Nat → Prop) : Clo W K B (DerF W K B) := by
  refine ⟨⟨fun f hf s h1 h2 h3 S hS => hS.1.1 f hf s h1 h2 h3, fun b hb S hS => hS.1.2.1 b hb, fun t ht s h1 h2 S hS => hS.1.2.2.1 t (ht S hS) s h1 h2, fun t ht z hz => ⟨fun S hS => (hS.1.2.2.2.1 t (ht S hS) z hz).1, fun j hj S hS => (hS.1.2.2.2.1 t (ht S hS) z hz).2.1 j hj, fun h0 S hS => (hS.1.2.2.2.1 t (ht S hS) z hz).2.2 h0⟩, fun f hf h14 z hz => ⟨fun S hS => (hS.1.2.2.2.2 f hf h14 z hz).1, fun j hj S hS => (hS.1.2.2.2.2 f hf h14 z hz).2.1 j hj, fun h0 S hS => (hS.1.2.2.2.2 f hf h14 z hz).2.2 h0⟩⟩, ⟨fun t ht S hS => hS.2.1.1 t (ht S hS), fun s t h S hS => hS.2.1.2.1 s t (h S hS), fun s t r h h' S hS => hS.2.1.2.2.1 s t r (h S hS) (h' S hS), fun f hf h S hS => hS.2.1.2.2.2.1 f hf h, fun f hf h S hS => hS.2.1.2.2.2.2.1 f hf h, fun f hf h h' S hS => hS.2.1.2.2.2.2.2.1 f hf h h', fun t t' m a a' h h1 h2 S hS => hS.2.1.2.2.2.2.2.2.1 t t' m a a' (h S hS) ((Der_sub hS).eqA h1) ((Der_sub hS).eqA h2), fun t t' j h h1 S hS => hS.2.1.2.2.2.2.2.2.2 t t' j (h S hS) ((Der_sub hS).eqA h1)⟩, ⟨fun s t h h' ha S hS => hS.2.2.1 s t (h S hS) (h' S hS) ((Der_sub hS).alk ha), fun t g h h4 hg h1 hO ha j hj S hS => hS.2.2.2.1 t g (h S hS) h4 hg h1 hO ((Der_sub hS).arg ha) j hj, fun t g h h4 hg h1 hO ha => ⟨fun S hS => (hS.2.2.2.2.1 t g (h S hS) h4 hg h1 hO ((Der_sub hS).arg ha)).1, fun S hS => (hS.2.2.2.2.1 t g (h S hS) h4 hg h1 hO ((Der_sub hS).arg ha)).2⟩, fun t g h hg h0 ha ho j hj S hS => hS.2.2.2.2.2 t g (h S hS) hg h0 (fun i hi => ha i hi S hS) ((Der_sub hS).of ho) j hj⟩⟩
/-- what is closed and within the least one is it -/
theorem Der_eq {W : Wd} {K B : Nat → Prop} {S : Fs} (h : Clo W K B S) (hs : subF S (DerF W K B)) : S = DerF W K B := by
  obtain ⟨a, b, c, d⟩ := Der_sub h
  obtain ⟨a', b', c', d'⟩ := hs
  refine Prod.ext (funext fun t => propext ⟨a' t, a t⟩) (Prod.ext (funext fun s => funext fun t => propext ⟨b' s t, b s t⟩) (Prod.ext (funext fun t => funext fun m => funext fun x => propext ⟨c' t m x, c t m x⟩) (funext fun t => funext fun j => propext ⟨d' t j, d t j⟩)))
theorem Clo.mono {W : Wd} {K K' B B' : Nat → Prop} {S : Fs} (h : Clo W K' B' S) (hK : ∀ f, K f → K' f) (hB : ∀ f, B f → B' f) : Clo W K B S :=
  ⟨⟨fun f hf => h.1.1 f (hK f hf), fun b hb => h.1.2.1 b (hB b hb), h.1.2.2.1, h.1.2.2.2.1, fun f hf => h.1.2.2.2.2 f (hK f hf)⟩, ⟨h.2.1.1, h.2.1.2.1, h.2.1.2.2.1, fun f hf => h.2.1.2.2.2.1 f (hK f hf), fun f hf => h.2.1.2.2.2.2.1 f (hK f hf), fun f hf => h.2.1.2.2.2.2.2.1 f (hK f hf), h.2.1.2.2.2.2.2.2⟩, h.2.2⟩
theorem Der_mono {W : Wd} {K K' B B' : Nat → Prop} (hK : ∀ f, K f → K' f) (hB : ∀ f, B f → B' f) : subF (DerF W K B) (DerF W K' B') := Der_sub ((Der_clo W K' B').mono hK hB)
