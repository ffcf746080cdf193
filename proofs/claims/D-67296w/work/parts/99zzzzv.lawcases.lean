/-! the law's steps: what one round of its loop asks for -/
theorem allTl (l : Launch) (d : Nat) : AAT l d := allT l p00 e00 default default default c00 ((fun _ => 0, fun _ _ => 0), 0, 0, 0) d
def callMd (d K : Nat) (as : List Int) (u : Sg) : Option (Int × Sg) := liT u (runT d K as (dnT u))
def Bnd (σ : Sg) : Prop := gL σ 90 = 1 ∧ gC σ ≤ 600128 ∧ gS σ ≤ 7301098
def StOK (wrap : Option (Int × Sg)) (mod : Sg → Option (Int × Sg)) (thr : Sg → Option (Int × Sg)) (z : Prop) (σ σ' : Sg) : Prop := ∃ k r σ1 σ2, wrap = some (k, σ1) ∧ mod σ1 = some (r, σ2) ∧ thr σ2 = some (k, σ') ∧ (k = 0 → gF σ' 90 0 = r) ∧ inR k ∧ inR r ∧ (z → r = 0 ∨ r = 1) ∧ Bnd σ ∧ Bnd σ1 ∧ Bnd σ2 ∧ Bnd σ'
def StC (one : Option (Int × Sg)) (two : Sg → Option (Int × Sg)) (σ σ' : Sg) : Prop := ∃ r σ1, one = some (r, σ1) ∧ two σ1 = some (r, σ') ∧ Bnd σ ∧ Bnd σ1 ∧ Bnd σ'
theorem b01_r (v : Int) : inR (b01 v) := by
  unfold b01
  split <;> decide
abbrev locL (i : Nat) : Lc := [(4, vI (i : Int)), (3, vR 100), (2, vR 2), (1, vR 1), (0, vR 9)]
theorem wl_pick {p : Program} {l : Launch} {e : Env} {s : State} {m : MethodId} {below : List Frame} {meth : Method} {c : Code} {G : Gm} {b : Nat} {Q : State → Prop} {σ : Sg} {pc : Nat} {loc loc' : Lc} {stk : List AV} (ks : List Nat) (h : ∀ ad, lv_pick (lcV ad loc) ks = lcV ad loc') (k : WL p l e s m below meth c G b Q σ pc loc' stk) : WL p l e s m below meth c G b Q σ pc loc stk :=
  fun ad H locs ls h9 hw hP hD hS hl => k ad H locs ls h9 hw hP hD hS (lv_sub hl ks (h ad))
theorem wl_tswIn {p : Program} {l : Launch} {e : Env} {s : State} {m : MethodId} {below : List Frame} {meth : Method} {c : Code} {G : Gm} {b L : Nat} {xs : Nat → Int32} {Q : State → Prop} {σ : Sg} {pc : Nat} {loc : Lc} {stk : List AV} (C0 : LwC p s m meth c G b L xs) {a dflt lo hi off : Int} {offs : Array Int} {len : Nat} (tgt : Nat) (v : Int) (d : decode cL_law pc = .ok (.tableswitch dflt lo hi offs, len)) (hv : inR v ∧ ¬ v < lo ∧ ¬ hi < v) (ho : offs[(v - lo).toNat]? = some off) (ht : (pc : Int) + off = (tgt : Int)) (e0 : a = v) (k : WL p l e s m below meth c G b Q σ tgt loc stk) : WL p l e s m below meth c G b Q σ pc loc (vI a :: stk) := by
  subst e0
  have e1 : (Int32.ofInt a).toInt = a := Int32.toInt_ofInt_of_le hv.1.1 hv.1.2
  exact wl_lift (fun ad H locs cells slots ls _ _ _ _ kk => lv_tableIn C0.1.1 C0.1.2.1 d (by rw [e1]; exact hv.2.1) (by rw [e1]; exact hv.2.2) (by rw [e1]; exact ho) ht kk) k
theorem wl_tswOut {p : Program} {l : Launch} {e : Env} {s : State} {m : MethodId} {below : List Frame} {meth : Method} {c : Code} {G : Gm} {b L : Nat} {xs : Nat → Int32} {Q : State → Prop} {σ : Sg} {pc : Nat} {loc : Lc} {stk : List AV} (C0 : LwC p s m meth c G b L xs) {a dflt lo hi : Int} {offs : Array Int} {len : Nat} (tgt : Nat) (d : decode cL_law pc = .ok (.tableswitch dflt lo hi offs, len)) (ha : inR a) (hv : a < lo ∨ hi < a) (ht : (pc : Int) + dflt = (tgt : Int)) (k : WL p l e s m below meth c G b Q σ tgt loc stk) : WL p l e s m below meth c G b Q σ pc loc (vI a :: stk) :=
  wl_lift (fun ad H locs cells slots ls _ _ _ _ kk => lv_tableOut C0.1.1 C0.1.2.1 d (by rw [Int32.toInt_ofInt_of_le ha.1 ha.2]; exact hv) ht kk) k

theorem lc_0 {p : Program} {l : Launch} {e : Env} {s : State} {m : MethodId} {below : List Frame} {meth : Method} {c : Code} {G : Gm} {b L : Nat} {xs : Nat → Int32} {Q : State → Prop} {σ σ' : Sg} {i d : Nat} (C0 : LwC p s m meth c G b L xs) (hlt : LT l) (hd : 12 ≤ d ∧ d + 2 ≤ 2048) (hL : L ≤ 320) (hi : i + 5 ≤ L) (h : StOK (bX0_mode (callL d) (xs (i + 1)).toInt (b01 (xs (i + 2)).toInt) σ) (callMd d 11 [(xs (i + 1)).toInt, (b01 (xs (i + 2)).toInt)]) (callMd d 0 []) False σ σ') (k : WL p l e s m below meth c G b Q σ' 1711 (locL i) []) : WL p l e s m below meth c G b Q σ 144 (locL i) [] := by
  obtain ⟨k0, r, σ1, σ2, e1, e2, e3, hq, hk, hr, hz, b0, b1, b2, b3⟩ := h
  refine wl_aload_n C0 3 dL_law_144 rfl ?_
  refine wl_scr C0 (kk := 1) (by omega) hL rfl (j0 := 4) (j := 0) rfl rfl dL_law_145 dL_law_146 dL_law_148 dL_law_149 dL_law_150 ?_
  refine wl_scr C0 (kk := 2) (by omega) hL rfl (j0 := 4) (j := 0) rfl rfl dL_law_151 dL_law_152 dL_law_154 dL_law_155 dL_law_156 ?_
  refine wl_bool C0 (t0 := 164) (te := 165) (inR_toInt _) dL_law_157 (by decide) dL_law_160 dL_law_161 (by decide) dL_law_164 (by decide) ?_
  refine wl_aload_n C0 1 dL_law_165 rfl ?_
  refine wl_callS (As := [vR 1, vI (xs (i + 1)).toInt, vI (b01 (xs (i + 2)).toInt), vR 100]) (n := 4) (stk := []) C0 (xwX0_mode hlt (d := d) (by omega) (xs (i + 1)).toInt (b01 (xs (i + 2)).toInt) σ) e1 (lw_SW q485 q486 q162 q487) (by decide +kernel) rfl (by decide) (by omega) (avc trivial (avc (inR_toInt _) (avc (b01_r _) (avc trivial avn)))) (by decide) rfl rfl (b1.1.trans b0.1.symm) b1.2.1 b1.2.2 dL_law_166 ?_
  refine wl_istore C0 (loc' := [(5, vI k0), (4, vI (i : Int)), (3, vR 100), (2, vR 2), (1, vR 1), (0, vR 9)]) dL_law_169 (by decide) rfl ?_
  refine wl_aload_n C0 3 dL_law_171 rfl ?_
  refine wl_scr C0 (kk := 1) (by omega) hL rfl (j0 := 5) (j := 1) rfl rfl dL_law_172 dL_law_173 dL_law_175 dL_law_176 dL_law_177 ?_
  refine wl_scr C0 (kk := 2) (by omega) hL rfl (j0 := 5) (j := 1) rfl rfl dL_law_178 dL_law_179 dL_law_181 dL_law_182 dL_law_183 ?_
  refine wl_bool C0 (t0 := 191) (te := 192) (inR_toInt _) dL_law_184 (by decide) dL_law_187 dL_law_188 (by decide) dL_law_191 (by decide) ?_
  refine wl_callV (As := [vI (xs (i + 1)).toInt, vI (b01 (xs (i + 2)).toInt)]) (n := 2) (stk := []) (ob := 2) (ci := 2) (b0 := 200) (N := 83) C0 (Ct.upT NoRef_I rfl ((allTl l d).2.2.2.2.2.2.2.2.2.2.1 (xs (i + 1)).toInt (b01 (xs (i + 2)).toInt) (dnT σ1))) e2 rfl rfl (lw_V q1383 q1384 q1385 q168 q1386) (by decide +kernel) rfl (by decide) (by omega) (avc (inR_toInt _) (avc (b01_r _) avn)) (by decide) rfl rfl (b2.1.trans b1.1.symm) b2.2.1 b2.2.2 dL_law_192 ?_
  refine wl_istore C0 (loc' := [(6, vI r), (5, vI k0), (4, vI (i : Int)), (3, vR 100), (2, vR 2), (1, vR 1), (0, vR 9)]) dL_law_195 (by decide) rfl ?_
  refine wl_aload_n C0 4 dL_law_197 rfl ?_
  refine wl_callV (As := []) (n := 0) (stk := []) (ob := 2) (ci := 2) (b0 := 200) (N := 83) C0 (Ct.upT NoRef_I rfl ((allTl l d).1 (dnT σ2))) e3 rfl rfl (lw_V q1081 q1082 q1083 q168 q1084) (by decide +kernel) rfl (by decide) (by omega) avn (by decide) rfl rfl (b3.1.trans b2.1.symm) b3.2.1 b3.2.2 dL_law_198 ?_
  refine wl_same C0 (j := 1) (t0 := 208) rfl dL_law_201 dL_law_203 (by decide) ?_
  refine wl_out C0 (t0 := 225) (j3 := 3) (j5 := 1) (j6 := 0) hk hr b3.1 hq rfl rfl rfl dL_law_208 dL_law_210 (by decide) dL_law_213 dL_law_214 dL_law_215 dL_law_216 dL_law_218 dL_law_219 dL_law_220 (by decide) ?_
  refine wl_goto C0 1711 dL_law_225 (by decide) ?_
  exact wl_pick [2, 3, 4, 5, 6] (fun _ => rfl) k
theorem lc_1 {p : Program} {l : Launch} {e : Env} {s : State} {m : MethodId} {below : List Frame} {meth : Method} {c : Code} {G : Gm} {b L : Nat} {xs : Nat → Int32} {Q : State → Prop} {σ σ' : Sg} {i d : Nat} (C0 : LwC p s m meth c G b L xs) (hlt : LT l) (hd : 12 ≤ d ∧ d + 2 ≤ 2048) (hL : L ≤ 320) (hi : i + 5 ≤ L) (h : StOK (bX0_attribute (callL d) σ) (callMd d 18 []) (callMd d 0 []) False σ σ') (k : WL p l e s m below meth c G b Q σ' 1711 (locL i) []) : WL p l e s m below meth c G b Q σ 228 (locL i) [] := by
  obtain ⟨k0, r, σ1, σ2, e1, e2, e3, hq, hk, hr, hz, b0, b1, b2, b3⟩ := h
  refine wl_aload_n C0 3 dL_law_228 rfl ?_
  refine wl_aload_n C0 1 dL_law_229 rfl ?_
  refine wl_callS (As := [vR 1, vR 100]) (n := 2) (stk := []) C0 (xwX0_attribute hlt (d := d) (by omega)  σ) e1 (lw_SW q594 q595 q162 q596) (by decide +kernel) rfl (by decide) (by omega) (avc trivial (avc trivial avn)) (by decide) rfl rfl (b1.1.trans b0.1.symm) b1.2.1 b1.2.2 dL_law_230 ?_
  refine wl_istore C0 (loc' := [(5, vI k0), (4, vI (i : Int)), (3, vR 100), (2, vR 2), (1, vR 1), (0, vR 9)]) dL_law_233 (by decide) rfl ?_
  refine wl_aload_n C0 3 dL_law_235 rfl ?_
  refine wl_callV (As := []) (n := 0) (stk := []) (ob := 2) (ci := 2) (b0 := 200) (N := 83) C0 (Ct.upT NoRef_I rfl ((allTl l d).2.2.2.2.2.2.2.2.2.2.2.2.2.2.2.2.2.1  (dnT σ1))) e2 rfl rfl (lw_V q1411 q1412 q1413 q168 q1414) (by decide +kernel) rfl (by decide) (by omega) avn (by decide) rfl rfl (b2.1.trans b1.1.symm) b2.2.1 b2.2.2 dL_law_236 ?_
  refine wl_istore C0 (loc' := [(6, vI r), (5, vI k0), (4, vI (i : Int)), (3, vR 100), (2, vR 2), (1, vR 1), (0, vR 9)]) dL_law_239 (by decide) rfl ?_
  refine wl_aload_n C0 4 dL_law_241 rfl ?_
  refine wl_callV (As := []) (n := 0) (stk := []) (ob := 2) (ci := 2) (b0 := 200) (N := 83) C0 (Ct.upT NoRef_I rfl ((allTl l d).1 (dnT σ2))) e3 rfl rfl (lw_V q1081 q1082 q1083 q168 q1084) (by decide +kernel) rfl (by decide) (by omega) avn (by decide) rfl rfl (b3.1.trans b2.1.symm) b3.2.1 b3.2.2 dL_law_242 ?_
  refine wl_same C0 (j := 1) (t0 := 252) rfl dL_law_245 dL_law_247 (by decide) ?_
  refine wl_out C0 (t0 := 269) (j3 := 3) (j5 := 1) (j6 := 0) hk hr b3.1 hq rfl rfl rfl dL_law_252 dL_law_254 (by decide) dL_law_257 dL_law_258 dL_law_259 dL_law_260 dL_law_262 dL_law_263 dL_law_264 (by decide) ?_
  refine wl_goto C0 1711 dL_law_269 (by decide) ?_
  exact wl_pick [2, 3, 4, 5, 6] (fun _ => rfl) k
theorem lc_2 {p : Program} {l : Launch} {e : Env} {s : State} {m : MethodId} {below : List Frame} {meth : Method} {c : Code} {G : Gm} {b L : Nat} {xs : Nat → Int32} {Q : State → Prop} {σ σ' : Sg} {i d : Nat} (C0 : LwC p s m meth c G b L xs) (hlt : LT l) (hd : 12 ≤ d ∧ d + 2 ≤ 2048) (hL : L ≤ 320) (hi : i + 5 ≤ L) (h : StOK (bX0_functor (callL d) (xs (i + 1)).toInt (xs (i + 2)).toInt σ) (callMd d 19 [(xs (i + 1)).toInt, (xs (i + 2)).toInt]) (callMd d 0 []) False σ σ') (k : WL p l e s m below meth c G b Q σ' 1711 (locL i) []) : WL p l e s m below meth c G b Q σ 272 (locL i) [] := by
  obtain ⟨k0, r, σ1, σ2, e1, e2, e3, hq, hk, hr, hz, b0, b1, b2, b3⟩ := h
  refine wl_aload_n C0 3 dL_law_272 rfl ?_
  refine wl_scr C0 (kk := 1) (by omega) hL rfl (j0 := 4) (j := 0) rfl rfl dL_law_273 dL_law_274 dL_law_276 dL_law_277 dL_law_278 ?_
  refine wl_scr C0 (kk := 2) (by omega) hL rfl (j0 := 4) (j := 0) rfl rfl dL_law_279 dL_law_280 dL_law_282 dL_law_283 dL_law_284 ?_
  refine wl_aload_n C0 1 dL_law_285 rfl ?_
  refine wl_callS (As := [vR 1, vI (xs (i + 1)).toInt, vI (xs (i + 2)).toInt, vR 100]) (n := 4) (stk := []) C0 (xwX0_functor hlt (d := d) (by omega) (xs (i + 1)).toInt (xs (i + 2)).toInt σ) e1 (lw_SW q601 q602 q162 q603) (by decide +kernel) rfl (by decide) (by omega) (avc trivial (avc (inR_toInt _) (avc (inR_toInt _) (avc trivial avn)))) (by decide) rfl rfl (b1.1.trans b0.1.symm) b1.2.1 b1.2.2 dL_law_286 ?_
  refine wl_istore C0 (loc' := [(5, vI k0), (4, vI (i : Int)), (3, vR 100), (2, vR 2), (1, vR 1), (0, vR 9)]) dL_law_289 (by decide) rfl ?_
  refine wl_aload_n C0 3 dL_law_291 rfl ?_
  refine wl_scr C0 (kk := 1) (by omega) hL rfl (j0 := 5) (j := 1) rfl rfl dL_law_292 dL_law_293 dL_law_295 dL_law_296 dL_law_297 ?_
  refine wl_scr C0 (kk := 2) (by omega) hL rfl (j0 := 5) (j := 1) rfl rfl dL_law_298 dL_law_299 dL_law_301 dL_law_302 dL_law_303 ?_
  refine wl_callV (As := [vI (xs (i + 1)).toInt, vI (xs (i + 2)).toInt]) (n := 2) (stk := []) (ob := 2) (ci := 2) (b0 := 200) (N := 83) C0 (Ct.upT NoRef_I rfl ((allTl l d).2.2.2.2.2.2.2.2.2.2.2.2.2.2.2.2.2.2.1 (xs (i + 1)).toInt (xs (i + 2)).toInt (dnT σ1))) e2 rfl rfl (lw_V q1415 q1416 q1417 q168 q1418) (by decide +kernel) rfl (by decide) (by omega) (avc (inR_toInt _) (avc (inR_toInt _) avn)) (by decide) rfl rfl (b2.1.trans b1.1.symm) b2.2.1 b2.2.2 dL_law_304 ?_
  refine wl_istore C0 (loc' := [(6, vI r), (5, vI k0), (4, vI (i : Int)), (3, vR 100), (2, vR 2), (1, vR 1), (0, vR 9)]) dL_law_307 (by decide) rfl ?_
  refine wl_aload_n C0 4 dL_law_309 rfl ?_
  refine wl_callV (As := []) (n := 0) (stk := []) (ob := 2) (ci := 2) (b0 := 200) (N := 83) C0 (Ct.upT NoRef_I rfl ((allTl l d).1 (dnT σ2))) e3 rfl rfl (lw_V q1081 q1082 q1083 q168 q1084) (by decide +kernel) rfl (by decide) (by omega) avn (by decide) rfl rfl (b3.1.trans b2.1.symm) b3.2.1 b3.2.2 dL_law_310 ?_
  refine wl_same C0 (j := 1) (t0 := 320) rfl dL_law_313 dL_law_315 (by decide) ?_
  refine wl_out C0 (t0 := 337) (j3 := 3) (j5 := 1) (j6 := 0) hk hr b3.1 hq rfl rfl rfl dL_law_320 dL_law_322 (by decide) dL_law_325 dL_law_326 dL_law_327 dL_law_328 dL_law_330 dL_law_331 dL_law_332 (by decide) ?_
  refine wl_goto C0 1711 dL_law_337 (by decide) ?_
  exact wl_pick [2, 3, 4, 5, 6] (fun _ => rfl) k
theorem lc_3 {p : Program} {l : Launch} {e : Env} {s : State} {m : MethodId} {below : List Frame} {meth : Method} {c : Code} {G : Gm} {b L : Nat} {xs : Nat → Int32} {Q : State → Prop} {σ σ' : Sg} {i d : Nat} (C0 : LwC p s m meth c G b L xs) (hlt : LT l) (hd : 12 ≤ d ∧ d + 2 ≤ 2048) (hL : L ≤ 320) (hi : i + 5 ≤ L) (h : StOK (bX0_predicate (callL d) (xs (i + 1)).toInt σ) (callMd d 20 [(xs (i + 1)).toInt]) (callMd d 0 []) False σ σ') (k : WL p l e s m below meth c G b Q σ' 1711 (locL i) []) : WL p l e s m below meth c G b Q σ 340 (locL i) [] := by
  obtain ⟨k0, r, σ1, σ2, e1, e2, e3, hq, hk, hr, hz, b0, b1, b2, b3⟩ := h
  refine wl_aload_n C0 3 dL_law_340 rfl ?_
  refine wl_scr C0 (kk := 1) (by omega) hL rfl (j0 := 4) (j := 0) rfl rfl dL_law_341 dL_law_342 dL_law_344 dL_law_345 dL_law_346 ?_
  refine wl_aload_n C0 1 dL_law_347 rfl ?_
  refine wl_callS (As := [vR 1, vI (xs (i + 1)).toInt, vR 100]) (n := 3) (stk := []) C0 (xwX0_predicate hlt (d := d) (by omega) (xs (i + 1)).toInt σ) e1 (lw_SW q608 q609 q162 q610) (by decide +kernel) rfl (by decide) (by omega) (avc trivial (avc (inR_toInt _) (avc trivial avn))) (by decide) rfl rfl (b1.1.trans b0.1.symm) b1.2.1 b1.2.2 dL_law_348 ?_
  refine wl_istore C0 (loc' := [(5, vI k0), (4, vI (i : Int)), (3, vR 100), (2, vR 2), (1, vR 1), (0, vR 9)]) dL_law_351 (by decide) rfl ?_
  refine wl_aload_n C0 3 dL_law_353 rfl ?_
  refine wl_scr C0 (kk := 1) (by omega) hL rfl (j0 := 5) (j := 1) rfl rfl dL_law_354 dL_law_355 dL_law_357 dL_law_358 dL_law_359 ?_
  refine wl_callV (As := [vI (xs (i + 1)).toInt]) (n := 1) (stk := []) (ob := 2) (ci := 2) (b0 := 200) (N := 83) C0 (Ct.upT NoRef_I rfl ((allTl l d).2.2.2.2.2.2.2.2.2.2.2.2.2.2.2.2.2.2.2.1 (xs (i + 1)).toInt (dnT σ1))) e2 rfl rfl (lw_V q1419 q1420 q1421 q168 q1422) (by decide +kernel) rfl (by decide) (by omega) (avc (inR_toInt _) avn) (by decide) rfl rfl (b2.1.trans b1.1.symm) b2.2.1 b2.2.2 dL_law_360 ?_
  refine wl_istore C0 (loc' := [(6, vI r), (5, vI k0), (4, vI (i : Int)), (3, vR 100), (2, vR 2), (1, vR 1), (0, vR 9)]) dL_law_363 (by decide) rfl ?_
  refine wl_aload_n C0 4 dL_law_365 rfl ?_
  refine wl_callV (As := []) (n := 0) (stk := []) (ob := 2) (ci := 2) (b0 := 200) (N := 83) C0 (Ct.upT NoRef_I rfl ((allTl l d).1 (dnT σ2))) e3 rfl rfl (lw_V q1081 q1082 q1083 q168 q1084) (by decide +kernel) rfl (by decide) (by omega) avn (by decide) rfl rfl (b3.1.trans b2.1.symm) b3.2.1 b3.2.2 dL_law_366 ?_
  refine wl_same C0 (j := 1) (t0 := 376) rfl dL_law_369 dL_law_371 (by decide) ?_
  refine wl_out C0 (t0 := 393) (j3 := 3) (j5 := 1) (j6 := 0) hk hr b3.1 hq rfl rfl rfl dL_law_376 dL_law_378 (by decide) dL_law_381 dL_law_382 dL_law_383 dL_law_384 dL_law_386 dL_law_387 dL_law_388 (by decide) ?_
  refine wl_goto C0 1711 dL_law_393 (by decide) ?_
  exact wl_pick [2, 3, 4, 5, 6] (fun _ => rfl) k
theorem lc_4 {p : Program} {l : Launch} {e : Env} {s : State} {m : MethodId} {below : List Frame} {meth : Method} {c : Code} {G : Gm} {b L : Nat} {xs : Nat → Int32} {Q : State → Prop} {σ σ' : Sg} {i d : Nat} (C0 : LwC p s m meth c G b L xs) (hlt : LT l) (hd : 12 ≤ d ∧ d + 2 ≤ 2048) (hL : L ≤ 320) (hi : i + 5 ≤ L) (h : StOK (bX0_type (callL d) (xs (i + 1)).toInt (xs (i + 2)).toInt (xs (i + 3)).toInt σ) (callMd d 21 [(xs (i + 1)).toInt, (xs (i + 2)).toInt, (xs (i + 3)).toInt]) (callMd d 0 []) False σ σ') (k : WL p l e s m below meth c G b Q σ' 1711 (locL i) []) : WL p l e s m below meth c G b Q σ 396 (locL i) [] := by
  obtain ⟨k0, r, σ1, σ2, e1, e2, e3, hq, hk, hr, hz, b0, b1, b2, b3⟩ := h
  refine wl_aload_n C0 3 dL_law_396 rfl ?_
  refine wl_scr C0 (kk := 1) (by omega) hL rfl (j0 := 4) (j := 0) rfl rfl dL_law_397 dL_law_398 dL_law_400 dL_law_401 dL_law_402 ?_
  refine wl_scr C0 (kk := 2) (by omega) hL rfl (j0 := 4) (j := 0) rfl rfl dL_law_403 dL_law_404 dL_law_406 dL_law_407 dL_law_408 ?_
  refine wl_scr C0 (kk := 3) (by omega) hL rfl (j0 := 4) (j := 0) rfl rfl dL_law_409 dL_law_410 dL_law_412 dL_law_413 dL_law_414 ?_
  refine wl_aload_n C0 1 dL_law_415 rfl ?_
  refine wl_callS (As := [vR 1, vI (xs (i + 1)).toInt, vI (xs (i + 2)).toInt, vI (xs (i + 3)).toInt, vR 100]) (n := 5) (stk := []) C0 (xwX0_type hlt (d := d) (by omega) (xs (i + 1)).toInt (xs (i + 2)).toInt (xs (i + 3)).toInt σ) e1 (lw_SW q615 q616 q162 q617) (by decide +kernel) rfl (by decide) (by omega) (avc trivial (avc (inR_toInt _) (avc (inR_toInt _) (avc (inR_toInt _) (avc trivial avn))))) (by decide) rfl rfl (b1.1.trans b0.1.symm) b1.2.1 b1.2.2 dL_law_416 ?_
  refine wl_istore C0 (loc' := [(5, vI k0), (4, vI (i : Int)), (3, vR 100), (2, vR 2), (1, vR 1), (0, vR 9)]) dL_law_419 (by decide) rfl ?_
  refine wl_aload_n C0 3 dL_law_421 rfl ?_
  refine wl_scr C0 (kk := 1) (by omega) hL rfl (j0 := 5) (j := 1) rfl rfl dL_law_422 dL_law_423 dL_law_425 dL_law_426 dL_law_427 ?_
  refine wl_scr C0 (kk := 2) (by omega) hL rfl (j0 := 5) (j := 1) rfl rfl dL_law_428 dL_law_429 dL_law_431 dL_law_432 dL_law_433 ?_
  refine wl_scr C0 (kk := 3) (by omega) hL rfl (j0 := 5) (j := 1) rfl rfl dL_law_434 dL_law_435 dL_law_437 dL_law_438 dL_law_439 ?_
  refine wl_callV (As := [vI (xs (i + 1)).toInt, vI (xs (i + 2)).toInt, vI (xs (i + 3)).toInt]) (n := 3) (stk := []) (ob := 2) (ci := 2) (b0 := 200) (N := 83) C0 (Ct.upT NoRef_I rfl ((allTl l d).2.2.2.2.2.2.2.2.2.2.2.2.2.2.2.2.2.2.2.2.1 (xs (i + 1)).toInt (xs (i + 2)).toInt (xs (i + 3)).toInt (dnT σ1))) e2 rfl rfl (lw_V q1423 q1424 q1425 q168 q1426) (by decide +kernel) rfl (by decide) (by omega) (avc (inR_toInt _) (avc (inR_toInt _) (avc (inR_toInt _) avn))) (by decide) rfl rfl (b2.1.trans b1.1.symm) b2.2.1 b2.2.2 dL_law_440 ?_
  refine wl_istore C0 (loc' := [(6, vI r), (5, vI k0), (4, vI (i : Int)), (3, vR 100), (2, vR 2), (1, vR 1), (0, vR 9)]) dL_law_443 (by decide) rfl ?_
  refine wl_aload_n C0 4 dL_law_445 rfl ?_
  refine wl_callV (As := []) (n := 0) (stk := []) (ob := 2) (ci := 2) (b0 := 200) (N := 83) C0 (Ct.upT NoRef_I rfl ((allTl l d).1 (dnT σ2))) e3 rfl rfl (lw_V q1081 q1082 q1083 q168 q1084) (by decide +kernel) rfl (by decide) (by omega) avn (by decide) rfl rfl (b3.1.trans b2.1.symm) b3.2.1 b3.2.2 dL_law_446 ?_
  refine wl_same C0 (j := 1) (t0 := 456) rfl dL_law_449 dL_law_451 (by decide) ?_
  refine wl_out C0 (t0 := 473) (j3 := 3) (j5 := 1) (j6 := 0) hk hr b3.1 hq rfl rfl rfl dL_law_456 dL_law_458 (by decide) dL_law_461 dL_law_462 dL_law_463 dL_law_464 dL_law_466 dL_law_467 dL_law_468 (by decide) ?_
  refine wl_goto C0 1711 dL_law_473 (by decide) ?_
  exact wl_pick [2, 3, 4, 5, 6] (fun _ => rfl) k
theorem lc_5 {p : Program} {l : Launch} {e : Env} {s : State} {m : MethodId} {below : List Frame} {meth : Method} {c : Code} {G : Gm} {b L : Nat} {xs : Nat → Int32} {Q : State → Prop} {σ σ' : Sg} {i d : Nat} (C0 : LwC p s m meth c G b L xs) (hlt : LT l) (hd : 12 ≤ d ∧ d + 2 ≤ 2048) (hL : L ≤ 320) (hi : i + 5 ≤ L) (h : StOK (bX0_constant (callL d) (xs (i + 1)).toInt σ) (callMd d 24 [(xs (i + 1)).toInt]) (callMd d 0 []) False σ σ') (k : WL p l e s m below meth c G b Q σ' 1711 (locL i) []) : WL p l e s m below meth c G b Q σ 476 (locL i) [] := by
  obtain ⟨k0, r, σ1, σ2, e1, e2, e3, hq, hk, hr, hz, b0, b1, b2, b3⟩ := h
  refine wl_aload_n C0 3 dL_law_476 rfl ?_
  refine wl_scr C0 (kk := 1) (by omega) hL rfl (j0 := 4) (j := 0) rfl rfl dL_law_477 dL_law_478 dL_law_480 dL_law_481 dL_law_482 ?_
  refine wl_aload_n C0 1 dL_law_483 rfl ?_
  refine wl_callS (As := [vR 1, vI (xs (i + 1)).toInt, vR 100]) (n := 3) (stk := []) C0 (xwX0_constant hlt (d := d) (by omega) (xs (i + 1)).toInt σ) e1 (lw_SW q651 q652 q162 q653) (by decide +kernel) rfl (by decide) (by omega) (avc trivial (avc (inR_toInt _) (avc trivial avn))) (by decide) rfl rfl (b1.1.trans b0.1.symm) b1.2.1 b1.2.2 dL_law_484 ?_
  refine wl_istore C0 (loc' := [(5, vI k0), (4, vI (i : Int)), (3, vR 100), (2, vR 2), (1, vR 1), (0, vR 9)]) dL_law_487 (by decide) rfl ?_
  refine wl_aload_n C0 3 dL_law_489 rfl ?_
  refine wl_scr C0 (kk := 1) (by omega) hL rfl (j0 := 5) (j := 1) rfl rfl dL_law_490 dL_law_491 dL_law_493 dL_law_494 dL_law_495 ?_
  refine wl_callV (As := [vI (xs (i + 1)).toInt]) (n := 1) (stk := []) (ob := 2) (ci := 2) (b0 := 200) (N := 83) C0 (Ct.upT NoRef_I rfl ((allTl l d).2.2.2.2.2.2.2.2.2.2.2.2.2.2.2.2.2.2.2.2.2.2.2.1 (xs (i + 1)).toInt (dnT σ1))) e2 rfl rfl (lw_V q1435 q1436 q1437 q168 q1438) (by decide +kernel) rfl (by decide) (by omega) (avc (inR_toInt _) avn) (by decide) rfl rfl (b2.1.trans b1.1.symm) b2.2.1 b2.2.2 dL_law_496 ?_
  refine wl_istore C0 (loc' := [(6, vI r), (5, vI k0), (4, vI (i : Int)), (3, vR 100), (2, vR 2), (1, vR 1), (0, vR 9)]) dL_law_499 (by decide) rfl ?_
  refine wl_aload_n C0 4 dL_law_501 rfl ?_
  refine wl_callV (As := []) (n := 0) (stk := []) (ob := 2) (ci := 2) (b0 := 200) (N := 83) C0 (Ct.upT NoRef_I rfl ((allTl l d).1 (dnT σ2))) e3 rfl rfl (lw_V q1081 q1082 q1083 q168 q1084) (by decide +kernel) rfl (by decide) (by omega) avn (by decide) rfl rfl (b3.1.trans b2.1.symm) b3.2.1 b3.2.2 dL_law_502 ?_
  refine wl_same C0 (j := 1) (t0 := 512) rfl dL_law_505 dL_law_507 (by decide) ?_
  refine wl_out C0 (t0 := 529) (j3 := 3) (j5 := 1) (j6 := 0) hk hr b3.1 hq rfl rfl rfl dL_law_512 dL_law_514 (by decide) dL_law_517 dL_law_518 dL_law_519 dL_law_520 dL_law_522 dL_law_523 dL_law_524 (by decide) ?_
  refine wl_goto C0 1711 dL_law_529 (by decide) ?_
  exact wl_pick [2, 3, 4, 5, 6] (fun _ => rfl) k
theorem lc_6 {p : Program} {l : Launch} {e : Env} {s : State} {m : MethodId} {below : List Frame} {meth : Method} {c : Code} {G : Gm} {b L : Nat} {xs : Nat → Int32} {Q : State → Prop} {σ σ' : Sg} {i d : Nat} (C0 : LwC p s m meth c G b L xs) (hlt : LT l) (hd : 12 ≤ d ∧ d + 2 ≤ 2048) (hL : L ≤ 320) (hi : i + 5 ≤ L) (h : StOK (bX0_locus (callL d) (xs (i + 1)).toInt σ) (callMd d 28 [(xs (i + 1)).toInt]) (callMd d 0 []) False σ σ') (k : WL p l e s m below meth c G b Q σ' 1711 (locL i) []) : WL p l e s m below meth c G b Q σ 532 (locL i) [] := by
  obtain ⟨k0, r, σ1, σ2, e1, e2, e3, hq, hk, hr, hz, b0, b1, b2, b3⟩ := h
  refine wl_aload_n C0 3 dL_law_532 rfl ?_
  refine wl_scr C0 (kk := 1) (by omega) hL rfl (j0 := 4) (j := 0) rfl rfl dL_law_533 dL_law_534 dL_law_536 dL_law_537 dL_law_538 ?_
  refine wl_aload_n C0 1 dL_law_539 rfl ?_
  refine wl_callS (As := [vR 1, vI (xs (i + 1)).toInt, vR 100]) (n := 3) (stk := []) C0 (xwX0_locus hlt (d := d) (by omega) (xs (i + 1)).toInt σ) e1 (lw_SW q667 q668 q162 q669) (by decide +kernel) rfl (by decide) (by omega) (avc trivial (avc (inR_toInt _) (avc trivial avn))) (by decide) rfl rfl (b1.1.trans b0.1.symm) b1.2.1 b1.2.2 dL_law_540 ?_
  refine wl_istore C0 (loc' := [(5, vI k0), (4, vI (i : Int)), (3, vR 100), (2, vR 2), (1, vR 1), (0, vR 9)]) dL_law_543 (by decide) rfl ?_
  refine wl_aload_n C0 3 dL_law_545 rfl ?_
  refine wl_scr C0 (kk := 1) (by omega) hL rfl (j0 := 5) (j := 1) rfl rfl dL_law_546 dL_law_547 dL_law_549 dL_law_550 dL_law_551 ?_
  refine wl_callV (As := [vI (xs (i + 1)).toInt]) (n := 1) (stk := []) (ob := 2) (ci := 2) (b0 := 200) (N := 83) C0 (Ct.upT NoRef_I rfl ((allTl l d).2.2.2.2.2.2.2.2.2.2.2.2.2.2.2.2.2.2.2.2.2.2.2.2.2.2.2.1 (xs (i + 1)).toInt (dnT σ1))) e2 rfl rfl (lw_V q1451 q1452 q1453 q168 q1454) (by decide +kernel) rfl (by decide) (by omega) (avc (inR_toInt _) avn) (by decide) rfl rfl (b2.1.trans b1.1.symm) b2.2.1 b2.2.2 dL_law_552 ?_
  refine wl_istore C0 (loc' := [(6, vI r), (5, vI k0), (4, vI (i : Int)), (3, vR 100), (2, vR 2), (1, vR 1), (0, vR 9)]) dL_law_555 (by decide) rfl ?_
  refine wl_aload_n C0 4 dL_law_557 rfl ?_
  refine wl_callV (As := []) (n := 0) (stk := []) (ob := 2) (ci := 2) (b0 := 200) (N := 83) C0 (Ct.upT NoRef_I rfl ((allTl l d).1 (dnT σ2))) e3 rfl rfl (lw_V q1081 q1082 q1083 q168 q1084) (by decide +kernel) rfl (by decide) (by omega) avn (by decide) rfl rfl (b3.1.trans b2.1.symm) b3.2.1 b3.2.2 dL_law_558 ?_
  refine wl_same C0 (j := 1) (t0 := 568) rfl dL_law_561 dL_law_563 (by decide) ?_
  refine wl_out C0 (t0 := 585) (j3 := 3) (j5 := 1) (j6 := 0) hk hr b3.1 hq rfl rfl rfl dL_law_568 dL_law_570 (by decide) dL_law_573 dL_law_574 dL_law_575 dL_law_576 dL_law_578 dL_law_579 dL_law_580 (by decide) ?_
  refine wl_goto C0 1711 dL_law_585 (by decide) ?_
  exact wl_pick [2, 3, 4, 5, 6] (fun _ => rfl) k
theorem lc_7 {p : Program} {l : Launch} {e : Env} {s : State} {m : MethodId} {below : List Frame} {meth : Method} {c : Code} {G : Gm} {b L : Nat} {xs : Nat → Int32} {Q : State → Prop} {σ σ' : Sg} {i d : Nat} (C0 : LwC p s m meth c G b L xs) (hlt : LT l) (hd : 12 ≤ d ∧ d + 2 ≤ 2048) (hL : L ≤ 320) (hi : i + 5 ≤ L) (h : StOK (bX0_apply (callL d) (xs (i + 1)).toInt (xs (i + 2)).toInt (xs (i + 3)).toInt σ) (callMd d 29 [(xs (i + 1)).toInt, (xs (i + 2)).toInt, (xs (i + 3)).toInt]) (callMd d 0 []) False σ σ') (k : WL p l e s m below meth c G b Q σ' 1711 (locL i) []) : WL p l e s m below meth c G b Q σ 588 (locL i) [] := by
  obtain ⟨k0, r, σ1, σ2, e1, e2, e3, hq, hk, hr, hz, b0, b1, b2, b3⟩ := h
  refine wl_aload_n C0 3 dL_law_588 rfl ?_
  refine wl_scr C0 (kk := 1) (by omega) hL rfl (j0 := 4) (j := 0) rfl rfl dL_law_589 dL_law_590 dL_law_592 dL_law_593 dL_law_594 ?_
  refine wl_scr C0 (kk := 2) (by omega) hL rfl (j0 := 4) (j := 0) rfl rfl dL_law_595 dL_law_596 dL_law_598 dL_law_599 dL_law_600 ?_
  refine wl_scr C0 (kk := 3) (by omega) hL rfl (j0 := 4) (j := 0) rfl rfl dL_law_601 dL_law_602 dL_law_604 dL_law_605 dL_law_606 ?_
  refine wl_aload_n C0 1 dL_law_607 rfl ?_
  refine wl_callS (As := [vR 1, vI (xs (i + 1)).toInt, vI (xs (i + 2)).toInt, vI (xs (i + 3)).toInt, vR 100]) (n := 5) (stk := []) C0 (xwX0_apply hlt (d := d) (by omega) (xs (i + 1)).toInt (xs (i + 2)).toInt (xs (i + 3)).toInt σ) e1 (lw_SW q674 q675 q162 q676) (by decide +kernel) rfl (by decide) (by omega) (avc trivial (avc (inR_toInt _) (avc (inR_toInt _) (avc (inR_toInt _) (avc trivial avn))))) (by decide) rfl rfl (b1.1.trans b0.1.symm) b1.2.1 b1.2.2 dL_law_608 ?_
  refine wl_istore C0 (loc' := [(5, vI k0), (4, vI (i : Int)), (3, vR 100), (2, vR 2), (1, vR 1), (0, vR 9)]) dL_law_611 (by decide) rfl ?_
  refine wl_aload_n C0 3 dL_law_613 rfl ?_
  refine wl_scr C0 (kk := 1) (by omega) hL rfl (j0 := 5) (j := 1) rfl rfl dL_law_614 dL_law_615 dL_law_617 dL_law_618 dL_law_619 ?_
  refine wl_scr C0 (kk := 2) (by omega) hL rfl (j0 := 5) (j := 1) rfl rfl dL_law_620 dL_law_621 dL_law_623 dL_law_624 dL_law_625 ?_
  refine wl_scr C0 (kk := 3) (by omega) hL rfl (j0 := 5) (j := 1) rfl rfl dL_law_626 dL_law_627 dL_law_629 dL_law_630 dL_law_631 ?_
  refine wl_callV (As := [vI (xs (i + 1)).toInt, vI (xs (i + 2)).toInt, vI (xs (i + 3)).toInt]) (n := 3) (stk := []) (ob := 2) (ci := 2) (b0 := 200) (N := 83) C0 (Ct.upT NoRef_I rfl ((allTl l d).2.2.2.2.2.2.2.2.2.2.2.2.2.2.2.2.2.2.2.2.2.2.2.2.2.2.2.2.1 (xs (i + 1)).toInt (xs (i + 2)).toInt (xs (i + 3)).toInt (dnT σ1))) e2 rfl rfl (lw_V q1455 q1456 q1457 q168 q1458) (by decide +kernel) rfl (by decide) (by omega) (avc (inR_toInt _) (avc (inR_toInt _) (avc (inR_toInt _) avn))) (by decide) rfl rfl (b2.1.trans b1.1.symm) b2.2.1 b2.2.2 dL_law_632 ?_
  refine wl_istore C0 (loc' := [(6, vI r), (5, vI k0), (4, vI (i : Int)), (3, vR 100), (2, vR 2), (1, vR 1), (0, vR 9)]) dL_law_635 (by decide) rfl ?_
  refine wl_aload_n C0 4 dL_law_637 rfl ?_
  refine wl_callV (As := []) (n := 0) (stk := []) (ob := 2) (ci := 2) (b0 := 200) (N := 83) C0 (Ct.upT NoRef_I rfl ((allTl l d).1 (dnT σ2))) e3 rfl rfl (lw_V q1081 q1082 q1083 q168 q1084) (by decide +kernel) rfl (by decide) (by omega) avn (by decide) rfl rfl (b3.1.trans b2.1.symm) b3.2.1 b3.2.2 dL_law_638 ?_
  refine wl_same C0 (j := 1) (t0 := 648) rfl dL_law_641 dL_law_643 (by decide) ?_
  refine wl_out C0 (t0 := 665) (j3 := 3) (j5 := 1) (j6 := 0) hk hr b3.1 hq rfl rfl rfl dL_law_648 dL_law_650 (by decide) dL_law_653 dL_law_654 dL_law_655 dL_law_656 dL_law_658 dL_law_659 dL_law_660 (by decide) ?_
  refine wl_goto C0 1711 dL_law_665 (by decide) ?_
  exact wl_pick [2, 3, 4, 5, 6] (fun _ => rfl) k
theorem lc_8 {p : Program} {l : Launch} {e : Env} {s : State} {m : MethodId} {below : List Frame} {meth : Method} {c : Code} {G : Gm} {b L : Nat} {xs : Nat → Int32} {Q : State → Prop} {σ σ' : Sg} {i d : Nat} (C0 : LwC p s m meth c G b L xs) (hlt : LT l) (hd : 12 ≤ d ∧ d + 2 ≤ 2048) (hL : L ≤ 320) (hi : i + 5 ≤ L) (h : StOK (bX0_the (callL d) (xs (i + 1)).toInt σ) (callMd d 30 [(xs (i + 1)).toInt]) (callMd d 0 []) False σ σ') (k : WL p l e s m below meth c G b Q σ' 1711 (locL i) []) : WL p l e s m below meth c G b Q σ 668 (locL i) [] := by
  obtain ⟨k0, r, σ1, σ2, e1, e2, e3, hq, hk, hr, hz, b0, b1, b2, b3⟩ := h
  refine wl_aload_n C0 3 dL_law_668 rfl ?_
  refine wl_scr C0 (kk := 1) (by omega) hL rfl (j0 := 4) (j := 0) rfl rfl dL_law_669 dL_law_670 dL_law_672 dL_law_673 dL_law_674 ?_
  refine wl_aload_n C0 1 dL_law_675 rfl ?_
  refine wl_callS (As := [vR 1, vI (xs (i + 1)).toInt, vR 100]) (n := 3) (stk := []) C0 (xwX0_the hlt (d := d) (by omega) (xs (i + 1)).toInt σ) e1 (lw_SW q685 q686 q162 q687) (by decide +kernel) rfl (by decide) (by omega) (avc trivial (avc (inR_toInt _) (avc trivial avn))) (by decide) rfl rfl (b1.1.trans b0.1.symm) b1.2.1 b1.2.2 dL_law_676 ?_
  refine wl_istore C0 (loc' := [(5, vI k0), (4, vI (i : Int)), (3, vR 100), (2, vR 2), (1, vR 1), (0, vR 9)]) dL_law_679 (by decide) rfl ?_
  refine wl_aload_n C0 3 dL_law_681 rfl ?_
  refine wl_scr C0 (kk := 1) (by omega) hL rfl (j0 := 5) (j := 1) rfl rfl dL_law_682 dL_law_683 dL_law_685 dL_law_686 dL_law_687 ?_
  refine wl_callV (As := [vI (xs (i + 1)).toInt]) (n := 1) (stk := []) (ob := 2) (ci := 2) (b0 := 200) (N := 83) C0 (Ct.upT NoRef_I rfl ((allTl l d).2.2.2.2.2.2.2.2.2.2.2.2.2.2.2.2.2.2.2.2.2.2.2.2.2.2.2.2.2.1 (xs (i + 1)).toInt (dnT σ1))) e2 rfl rfl (lw_V q1459 q1460 q1461 q168 q1462) (by decide +kernel) rfl (by decide) (by omega) (avc (inR_toInt _) avn) (by decide) rfl rfl (b2.1.trans b1.1.symm) b2.2.1 b2.2.2 dL_law_688 ?_
  refine wl_istore C0 (loc' := [(6, vI r), (5, vI k0), (4, vI (i : Int)), (3, vR 100), (2, vR 2), (1, vR 1), (0, vR 9)]) dL_law_691 (by decide) rfl ?_
  refine wl_aload_n C0 4 dL_law_693 rfl ?_
  refine wl_callV (As := []) (n := 0) (stk := []) (ob := 2) (ci := 2) (b0 := 200) (N := 83) C0 (Ct.upT NoRef_I rfl ((allTl l d).1 (dnT σ2))) e3 rfl rfl (lw_V q1081 q1082 q1083 q168 q1084) (by decide +kernel) rfl (by decide) (by omega) avn (by decide) rfl rfl (b3.1.trans b2.1.symm) b3.2.1 b3.2.2 dL_law_694 ?_
  refine wl_same C0 (j := 1) (t0 := 704) rfl dL_law_697 dL_law_699 (by decide) ?_
  refine wl_out C0 (t0 := 721) (j3 := 3) (j5 := 1) (j6 := 0) hk hr b3.1 hq rfl rfl rfl dL_law_704 dL_law_706 (by decide) dL_law_709 dL_law_710 dL_law_711 dL_law_712 dL_law_714 dL_law_715 dL_law_716 (by decide) ?_
  refine wl_goto C0 1711 dL_law_721 (by decide) ?_
  exact wl_pick [2, 3, 4, 5, 6] (fun _ => rfl) k
theorem lc_9 {p : Program} {l : Launch} {e : Env} {s : State} {m : MethodId} {below : List Frame} {meth : Method} {c : Code} {G : Gm} {b L : Nat} {xs : Nat → Int32} {Q : State → Prop} {σ σ' : Sg} {i d : Nat} (C0 : LwC p s m meth c G b L xs) (hlt : LT l) (hd : 12 ≤ d ∧ d + 2 ≤ 2048) (hL : L ≤ 320) (hi : i + 5 ≤ L) (h : StOK (bX0_atom (callL d) (xs (i + 1)).toInt (xs (i + 2)).toInt (xs (i + 3)).toInt (xs (i + 4)).toInt σ) (callMd d 31 [(xs (i + 1)).toInt, (xs (i + 2)).toInt, (xs (i + 3)).toInt, (xs (i + 4)).toInt]) (callMd d 0 []) False σ σ') (k : WL p l e s m below meth c G b Q σ' 1711 (locL i) []) : WL p l e s m below meth c G b Q σ 724 (locL i) [] := by
  obtain ⟨k0, r, σ1, σ2, e1, e2, e3, hq, hk, hr, hz, b0, b1, b2, b3⟩ := h
  refine wl_aload_n C0 3 dL_law_724 rfl ?_
  refine wl_scr C0 (kk := 1) (by omega) hL rfl (j0 := 4) (j := 0) rfl rfl dL_law_725 dL_law_726 dL_law_728 dL_law_729 dL_law_730 ?_
  refine wl_scr C0 (kk := 2) (by omega) hL rfl (j0 := 4) (j := 0) rfl rfl dL_law_731 dL_law_732 dL_law_734 dL_law_735 dL_law_736 ?_
  refine wl_scr C0 (kk := 3) (by omega) hL rfl (j0 := 4) (j := 0) rfl rfl dL_law_737 dL_law_738 dL_law_740 dL_law_741 dL_law_742 ?_
  refine wl_scr C0 (kk := 4) (by omega) hL rfl (j0 := 4) (j := 0) rfl rfl dL_law_743 dL_law_744 dL_law_746 dL_law_747 dL_law_748 ?_
  refine wl_aload_n C0 1 dL_law_749 rfl ?_
  refine wl_callS (As := [vR 1, vI (xs (i + 1)).toInt, vI (xs (i + 2)).toInt, vI (xs (i + 3)).toInt, vI (xs (i + 4)).toInt, vR 100]) (n := 6) (stk := []) C0 (xwX0_atom hlt (d := d) (by omega) (xs (i + 1)).toInt (xs (i + 2)).toInt (xs (i + 3)).toInt (xs (i + 4)).toInt σ) e1 (lw_SW q693 q694 q162 q695) (by decide +kernel) rfl (by decide) (by omega) (avc trivial (avc (inR_toInt _) (avc (inR_toInt _) (avc (inR_toInt _) (avc (inR_toInt _) (avc trivial avn)))))) (by decide) rfl rfl (b1.1.trans b0.1.symm) b1.2.1 b1.2.2 dL_law_750 ?_
  refine wl_istore C0 (loc' := [(5, vI k0), (4, vI (i : Int)), (3, vR 100), (2, vR 2), (1, vR 1), (0, vR 9)]) dL_law_753 (by decide) rfl ?_
  refine wl_aload_n C0 3 dL_law_755 rfl ?_
  refine wl_scr C0 (kk := 1) (by omega) hL rfl (j0 := 5) (j := 1) rfl rfl dL_law_756 dL_law_757 dL_law_759 dL_law_760 dL_law_761 ?_
  refine wl_scr C0 (kk := 2) (by omega) hL rfl (j0 := 5) (j := 1) rfl rfl dL_law_762 dL_law_763 dL_law_765 dL_law_766 dL_law_767 ?_
  refine wl_scr C0 (kk := 3) (by omega) hL rfl (j0 := 5) (j := 1) rfl rfl dL_law_768 dL_law_769 dL_law_771 dL_law_772 dL_law_773 ?_
  refine wl_scr C0 (kk := 4) (by omega) hL rfl (j0 := 5) (j := 1) rfl rfl dL_law_774 dL_law_775 dL_law_777 dL_law_778 dL_law_779 ?_
  refine wl_callV (As := [vI (xs (i + 1)).toInt, vI (xs (i + 2)).toInt, vI (xs (i + 3)).toInt, vI (xs (i + 4)).toInt]) (n := 4) (stk := []) (ob := 2) (ci := 2) (b0 := 200) (N := 83) C0 (Ct.upT NoRef_I rfl ((allTl l d).2.2.2.2.2.2.2.2.2.2.2.2.2.2.2.2.2.2.2.2.2.2.2.2.2.2.2.2.2.2.1 (xs (i + 1)).toInt (xs (i + 2)).toInt (xs (i + 3)).toInt (xs (i + 4)).toInt (dnT σ1))) e2 rfl rfl (lw_V q1463 q1464 q1465 q168 q1466) (by decide +kernel) rfl (by decide) (by omega) (avc (inR_toInt _) (avc (inR_toInt _) (avc (inR_toInt _) (avc (inR_toInt _) avn)))) (by decide) rfl rfl (b2.1.trans b1.1.symm) b2.2.1 b2.2.2 dL_law_780 ?_
  refine wl_istore C0 (loc' := [(6, vI r), (5, vI k0), (4, vI (i : Int)), (3, vR 100), (2, vR 2), (1, vR 1), (0, vR 9)]) dL_law_783 (by decide) rfl ?_
  refine wl_aload_n C0 4 dL_law_785 rfl ?_
  refine wl_callV (As := []) (n := 0) (stk := []) (ob := 2) (ci := 2) (b0 := 200) (N := 83) C0 (Ct.upT NoRef_I rfl ((allTl l d).1 (dnT σ2))) e3 rfl rfl (lw_V q1081 q1082 q1083 q168 q1084) (by decide +kernel) rfl (by decide) (by omega) avn (by decide) rfl rfl (b3.1.trans b2.1.symm) b3.2.1 b3.2.2 dL_law_786 ?_
  refine wl_same C0 (j := 1) (t0 := 796) rfl dL_law_789 dL_law_791 (by decide) ?_
  refine wl_out C0 (t0 := 813) (j3 := 3) (j5 := 1) (j6 := 0) hk hr b3.1 hq rfl rfl rfl dL_law_796 dL_law_798 (by decide) dL_law_801 dL_law_802 dL_law_803 dL_law_804 dL_law_806 dL_law_807 dL_law_808 (by decide) ?_
  refine wl_goto C0 1711 dL_law_813 (by decide) ?_
  exact wl_pick [2, 3, 4, 5, 6] (fun _ => rfl) k
theorem lc_10 {p : Program} {l : Launch} {e : Env} {s : State} {m : MethodId} {below : List Frame} {meth : Method} {c : Code} {G : Gm} {b L : Nat} {xs : Nat → Int32} {Q : State → Prop} {σ σ' : Sg} {i d : Nat} (C0 : LwC p s m meth c G b L xs) (hlt : LT l) (hd : 12 ≤ d ∧ d + 2 ≤ 2048) (hL : L ≤ 320) (hi : i + 5 ≤ L) (h : StOK (bX0_join (callL d) (xs (i + 1)).toInt (xs (i + 2)).toInt (xs (i + 3)).toInt σ) (callMd d 35 [(xs (i + 1)).toInt, (xs (i + 2)).toInt, (xs (i + 3)).toInt]) (callMd d 0 []) False σ σ') (k : WL p l e s m below meth c G b Q σ' 1711 (locL i) []) : WL p l e s m below meth c G b Q σ 816 (locL i) [] := by
  obtain ⟨k0, r, σ1, σ2, e1, e2, e3, hq, hk, hr, hz, b0, b1, b2, b3⟩ := h
  refine wl_aload_n C0 3 dL_law_816 rfl ?_
  refine wl_scr C0 (kk := 1) (by omega) hL rfl (j0 := 4) (j := 0) rfl rfl dL_law_817 dL_law_818 dL_law_820 dL_law_821 dL_law_822 ?_
  refine wl_scr C0 (kk := 2) (by omega) hL rfl (j0 := 4) (j := 0) rfl rfl dL_law_823 dL_law_824 dL_law_826 dL_law_827 dL_law_828 ?_
  refine wl_scr C0 (kk := 3) (by omega) hL rfl (j0 := 4) (j := 0) rfl rfl dL_law_829 dL_law_830 dL_law_832 dL_law_833 dL_law_834 ?_
  refine wl_aload_n C0 1 dL_law_835 rfl ?_
  refine wl_callS (As := [vR 1, vI (xs (i + 1)).toInt, vI (xs (i + 2)).toInt, vI (xs (i + 3)).toInt, vR 100]) (n := 5) (stk := []) C0 (xwX0_join hlt (d := d) (by omega) (xs (i + 1)).toInt (xs (i + 2)).toInt (xs (i + 3)).toInt σ) e1 (lw_SW q708 q709 q162 q710) (by decide +kernel) rfl (by decide) (by omega) (avc trivial (avc (inR_toInt _) (avc (inR_toInt _) (avc (inR_toInt _) (avc trivial avn))))) (by decide) rfl rfl (b1.1.trans b0.1.symm) b1.2.1 b1.2.2 dL_law_836 ?_
  refine wl_istore C0 (loc' := [(5, vI k0), (4, vI (i : Int)), (3, vR 100), (2, vR 2), (1, vR 1), (0, vR 9)]) dL_law_839 (by decide) rfl ?_
  refine wl_aload_n C0 3 dL_law_841 rfl ?_
  refine wl_scr C0 (kk := 1) (by omega) hL rfl (j0 := 5) (j := 1) rfl rfl dL_law_842 dL_law_843 dL_law_845 dL_law_846 dL_law_847 ?_
  refine wl_scr C0 (kk := 2) (by omega) hL rfl (j0 := 5) (j := 1) rfl rfl dL_law_848 dL_law_849 dL_law_851 dL_law_852 dL_law_853 ?_
  refine wl_scr C0 (kk := 3) (by omega) hL rfl (j0 := 5) (j := 1) rfl rfl dL_law_854 dL_law_855 dL_law_857 dL_law_858 dL_law_859 ?_
  refine wl_callV (As := [vI (xs (i + 1)).toInt, vI (xs (i + 2)).toInt, vI (xs (i + 3)).toInt]) (n := 3) (stk := []) (ob := 2) (ci := 2) (b0 := 200) (N := 83) C0 (Ct.upT NoRef_I rfl ((allTl l d).2.2.2.2.2.2.2.2.2.2.2.2.2.2.2.2.2.2.2.2.2.2.2.2.2.2.2.2.2.2.2.2.2.2.1 (xs (i + 1)).toInt (xs (i + 2)).toInt (xs (i + 3)).toInt (dnT σ1))) e2 rfl rfl (lw_V q1479 q1480 q1481 q168 q1482) (by decide +kernel) rfl (by decide) (by omega) (avc (inR_toInt _) (avc (inR_toInt _) (avc (inR_toInt _) avn))) (by decide) rfl rfl (b2.1.trans b1.1.symm) b2.2.1 b2.2.2 dL_law_860 ?_
  refine wl_istore C0 (loc' := [(6, vI r), (5, vI k0), (4, vI (i : Int)), (3, vR 100), (2, vR 2), (1, vR 1), (0, vR 9)]) dL_law_863 (by decide) rfl ?_
  refine wl_aload_n C0 4 dL_law_865 rfl ?_
  refine wl_callV (As := []) (n := 0) (stk := []) (ob := 2) (ci := 2) (b0 := 200) (N := 83) C0 (Ct.upT NoRef_I rfl ((allTl l d).1 (dnT σ2))) e3 rfl rfl (lw_V q1081 q1082 q1083 q168 q1084) (by decide +kernel) rfl (by decide) (by omega) avn (by decide) rfl rfl (b3.1.trans b2.1.symm) b3.2.1 b3.2.2 dL_law_866 ?_
  refine wl_same C0 (j := 1) (t0 := 876) rfl dL_law_869 dL_law_871 (by decide) ?_
  refine wl_out C0 (t0 := 893) (j3 := 3) (j5 := 1) (j6 := 0) hk hr b3.1 hq rfl rfl rfl dL_law_876 dL_law_878 (by decide) dL_law_881 dL_law_882 dL_law_883 dL_law_884 dL_law_886 dL_law_887 dL_law_888 (by decide) ?_
  refine wl_goto C0 1711 dL_law_893 (by decide) ?_
  exact wl_pick [2, 3, 4, 5, 6] (fun _ => rfl) k
theorem lc_11 {p : Program} {l : Launch} {e : Env} {s : State} {m : MethodId} {below : List Frame} {meth : Method} {c : Code} {G : Gm} {b L : Nat} {xs : Nat → Int32} {Q : State → Prop} {σ σ' : Sg} {i d : Nat} (C0 : LwC p s m meth c G b L xs) (hlt : LT l) (hd : 12 ≤ d ∧ d + 2 ≤ 2048) (hL : L ≤ 320) (hi : i + 5 ≤ L) (h : StOK (bX0_bind (callL d) (b01 (xs (i + 1)).toInt) (xs (i + 2)).toInt (xs (i + 3)).toInt σ) (callMd d 40 [(b01 (xs (i + 1)).toInt), (xs (i + 2)).toInt, (xs (i + 3)).toInt]) (callMd d 0 []) False σ σ') (k : WL p l e s m below meth c G b Q σ' 1711 (locL i) []) : WL p l e s m below meth c G b Q σ 896 (locL i) [] := by
  obtain ⟨k0, r, σ1, σ2, e1, e2, e3, hq, hk, hr, hz, b0, b1, b2, b3⟩ := h
  refine wl_aload_n C0 3 dL_law_896 rfl ?_
  refine wl_scr C0 (kk := 1) (by omega) hL rfl (j0 := 4) (j := 0) rfl rfl dL_law_897 dL_law_898 dL_law_900 dL_law_901 dL_law_902 ?_
  refine wl_bool C0 (t0 := 910) (te := 911) (inR_toInt _) dL_law_903 (by decide) dL_law_906 dL_law_907 (by decide) dL_law_910 (by decide) ?_
  refine wl_scr C0 (kk := 2) (by omega) hL rfl (j0 := 4) (j := 0) rfl rfl dL_law_911 dL_law_912 dL_law_914 dL_law_915 dL_law_916 ?_
  refine wl_scr C0 (kk := 3) (by omega) hL rfl (j0 := 4) (j := 0) rfl rfl dL_law_917 dL_law_918 dL_law_920 dL_law_921 dL_law_922 ?_
  refine wl_aload_n C0 1 dL_law_923 rfl ?_
  refine wl_callS (As := [vR 1, vI (b01 (xs (i + 1)).toInt), vI (xs (i + 2)).toInt, vI (xs (i + 3)).toInt, vR 100]) (n := 5) (stk := []) C0 (xwX0_bind hlt (d := d) (by omega) (b01 (xs (i + 1)).toInt) (xs (i + 2)).toInt (xs (i + 3)).toInt σ) e1 (lw_SW q747 q748 q162 q749) (by decide +kernel) rfl (by decide) (by omega) (avc trivial (avc (b01_r _) (avc (inR_toInt _) (avc (inR_toInt _) (avc trivial avn))))) (by decide) rfl rfl (b1.1.trans b0.1.symm) b1.2.1 b1.2.2 dL_law_924 ?_
  refine wl_istore C0 (loc' := [(5, vI k0), (4, vI (i : Int)), (3, vR 100), (2, vR 2), (1, vR 1), (0, vR 9)]) dL_law_927 (by decide) rfl ?_
  refine wl_aload_n C0 3 dL_law_929 rfl ?_
  refine wl_scr C0 (kk := 1) (by omega) hL rfl (j0 := 5) (j := 1) rfl rfl dL_law_930 dL_law_931 dL_law_933 dL_law_934 dL_law_935 ?_
  refine wl_bool C0 (t0 := 943) (te := 944) (inR_toInt _) dL_law_936 (by decide) dL_law_939 dL_law_940 (by decide) dL_law_943 (by decide) ?_
  refine wl_scr C0 (kk := 2) (by omega) hL rfl (j0 := 5) (j := 1) rfl rfl dL_law_944 dL_law_945 dL_law_947 dL_law_948 dL_law_949 ?_
  refine wl_scr C0 (kk := 3) (by omega) hL rfl (j0 := 5) (j := 1) rfl rfl dL_law_950 dL_law_951 dL_law_953 dL_law_954 dL_law_955 ?_
  refine wl_callV (As := [vI (b01 (xs (i + 1)).toInt), vI (xs (i + 2)).toInt, vI (xs (i + 3)).toInt]) (n := 3) (stk := []) (ob := 2) (ci := 2) (b0 := 200) (N := 83) C0 (Ct.upT NoRef_I rfl ((allTl l d).2.2.2.2.2.2.2.2.2.2.2.2.2.2.2.2.2.2.2.2.2.2.2.2.2.2.2.2.2.2.2.2.2.2.2.2.2.2.2.1 (b01 (xs (i + 1)).toInt) (xs (i + 2)).toInt (xs (i + 3)).toInt (dnT σ1))) e2 rfl rfl (lw_V q1499 q1500 q1501 q168 q1502) (by decide +kernel) rfl (by decide) (by omega) (avc (b01_r _) (avc (inR_toInt _) (avc (inR_toInt _) avn))) (by decide) rfl rfl (b2.1.trans b1.1.symm) b2.2.1 b2.2.2 dL_law_956 ?_
  refine wl_istore C0 (loc' := [(6, vI r), (5, vI k0), (4, vI (i : Int)), (3, vR 100), (2, vR 2), (1, vR 1), (0, vR 9)]) dL_law_959 (by decide) rfl ?_
  refine wl_aload_n C0 4 dL_law_961 rfl ?_
  refine wl_callV (As := []) (n := 0) (stk := []) (ob := 2) (ci := 2) (b0 := 200) (N := 83) C0 (Ct.upT NoRef_I rfl ((allTl l d).1 (dnT σ2))) e3 rfl rfl (lw_V q1081 q1082 q1083 q168 q1084) (by decide +kernel) rfl (by decide) (by omega) avn (by decide) rfl rfl (b3.1.trans b2.1.symm) b3.2.1 b3.2.2 dL_law_962 ?_
  refine wl_same C0 (j := 1) (t0 := 972) rfl dL_law_965 dL_law_967 (by decide) ?_
  refine wl_out C0 (t0 := 989) (j3 := 3) (j5 := 1) (j6 := 0) hk hr b3.1 hq rfl rfl rfl dL_law_972 dL_law_974 (by decide) dL_law_977 dL_law_978 dL_law_979 dL_law_980 dL_law_982 dL_law_983 dL_law_984 (by decide) ?_
  refine wl_goto C0 1711 dL_law_989 (by decide) ?_
  exact wl_pick [2, 3, 4, 5, 6] (fun _ => rfl) k
theorem lc_12 {p : Program} {l : Launch} {e : Env} {s : State} {m : MethodId} {below : List Frame} {meth : Method} {c : Code} {G : Gm} {b L : Nat} {xs : Nat → Int32} {Q : State → Prop} {σ σ' : Sg} {i d : Nat} (C0 : LwC p s m meth c G b L xs) (hlt : LT l) (hd : 12 ≤ d ∧ d + 2 ≤ 2048) (hL : L ≤ 320) (hi : i + 5 ≤ L) (h : StOK (bX0_cluster (callL d) (xs (i + 1)).toInt (xs (i + 2)).toInt (xs (i + 3)).toInt σ) (callMd d 45 [(xs (i + 1)).toInt, (xs (i + 2)).toInt, (xs (i + 3)).toInt]) (callMd d 0 []) False σ σ') (k : WL p l e s m below meth c G b Q σ' 1711 (locL i) []) : WL p l e s m below meth c G b Q σ 992 (locL i) [] := by
  obtain ⟨k0, r, σ1, σ2, e1, e2, e3, hq, hk, hr, hz, b0, b1, b2, b3⟩ := h
  refine wl_aload_n C0 3 dL_law_992 rfl ?_
  refine wl_scr C0 (kk := 1) (by omega) hL rfl (j0 := 4) (j := 0) rfl rfl dL_law_993 dL_law_994 dL_law_996 dL_law_997 dL_law_998 ?_
  refine wl_scr C0 (kk := 2) (by omega) hL rfl (j0 := 4) (j := 0) rfl rfl dL_law_999 dL_law_1000 dL_law_1002 dL_law_1003 dL_law_1004 ?_
  refine wl_scr C0 (kk := 3) (by omega) hL rfl (j0 := 4) (j := 0) rfl rfl dL_law_1005 dL_law_1006 dL_law_1008 dL_law_1009 dL_law_1010 ?_
  refine wl_aload_n C0 1 dL_law_1011 rfl ?_
  refine wl_callS (As := [vR 1, vI (xs (i + 1)).toInt, vI (xs (i + 2)).toInt, vI (xs (i + 3)).toInt, vR 100]) (n := 5) (stk := []) C0 (xwX0_cluster hlt (d := d) (by omega) (xs (i + 1)).toInt (xs (i + 2)).toInt (xs (i + 3)).toInt σ) e1 (lw_SW q766 q767 q162 q768) (by decide +kernel) rfl (by decide) (by omega) (avc trivial (avc (inR_toInt _) (avc (inR_toInt _) (avc (inR_toInt _) (avc trivial avn))))) (by decide) rfl rfl (b1.1.trans b0.1.symm) b1.2.1 b1.2.2 dL_law_1012 ?_
  refine wl_istore C0 (loc' := [(5, vI k0), (4, vI (i : Int)), (3, vR 100), (2, vR 2), (1, vR 1), (0, vR 9)]) dL_law_1015 (by decide) rfl ?_
  refine wl_aload_n C0 3 dL_law_1017 rfl ?_
  refine wl_scr C0 (kk := 1) (by omega) hL rfl (j0 := 5) (j := 1) rfl rfl dL_law_1018 dL_law_1019 dL_law_1021 dL_law_1022 dL_law_1023 ?_
  refine wl_scr C0 (kk := 2) (by omega) hL rfl (j0 := 5) (j := 1) rfl rfl dL_law_1024 dL_law_1025 dL_law_1027 dL_law_1028 dL_law_1029 ?_
  refine wl_scr C0 (kk := 3) (by omega) hL rfl (j0 := 5) (j := 1) rfl rfl dL_law_1030 dL_law_1031 dL_law_1033 dL_law_1034 dL_law_1035 ?_
  refine wl_callV (As := [vI (xs (i + 1)).toInt, vI (xs (i + 2)).toInt, vI (xs (i + 3)).toInt]) (n := 3) (stk := []) (ob := 2) (ci := 2) (b0 := 200) (N := 83) C0 (Ct.upT NoRef_I rfl ((allTl l d).2.2.2.2.2.2.2.2.2.2.2.2.2.2.2.2.2.2.2.2.2.2.2.2.2.2.2.2.2.2.2.2.2.2.2.2.2.2.2.2.2.2.2.2.1 (xs (i + 1)).toInt (xs (i + 2)).toInt (xs (i + 3)).toInt (dnT σ1))) e2 rfl rfl (lw_V q1519 q1520 q1521 q168 q1522) (by decide +kernel) rfl (by decide) (by omega) (avc (inR_toInt _) (avc (inR_toInt _) (avc (inR_toInt _) avn))) (by decide) rfl rfl (b2.1.trans b1.1.symm) b2.2.1 b2.2.2 dL_law_1036 ?_
  refine wl_istore C0 (loc' := [(6, vI r), (5, vI k0), (4, vI (i : Int)), (3, vR 100), (2, vR 2), (1, vR 1), (0, vR 9)]) dL_law_1039 (by decide) rfl ?_
  refine wl_aload_n C0 4 dL_law_1041 rfl ?_
  refine wl_callV (As := []) (n := 0) (stk := []) (ob := 2) (ci := 2) (b0 := 200) (N := 83) C0 (Ct.upT NoRef_I rfl ((allTl l d).1 (dnT σ2))) e3 rfl rfl (lw_V q1081 q1082 q1083 q168 q1084) (by decide +kernel) rfl (by decide) (by omega) avn (by decide) rfl rfl (b3.1.trans b2.1.symm) b3.2.1 b3.2.2 dL_law_1042 ?_
  refine wl_same C0 (j := 1) (t0 := 1052) rfl dL_law_1045 dL_law_1047 (by decide) ?_
  refine wl_out C0 (t0 := 1069) (j3 := 3) (j5 := 1) (j6 := 0) hk hr b3.1 hq rfl rfl rfl dL_law_1052 dL_law_1054 (by decide) dL_law_1057 dL_law_1058 dL_law_1059 dL_law_1060 dL_law_1062 dL_law_1063 dL_law_1064 (by decide) ?_
  refine wl_goto C0 1711 dL_law_1069 (by decide) ?_
  exact wl_pick [2, 3, 4, 5, 6] (fun _ => rfl) k
theorem lc_13 {p : Program} {l : Launch} {e : Env} {s : State} {m : MethodId} {below : List Frame} {meth : Method} {c : Code} {G : Gm} {b L : Nat} {xs : Nat → Int32} {Q : State → Prop} {σ σ' : Sg} {i d : Nat} (C0 : LwC p s m meth c G b L xs) (hlt : LT l) (hd : 12 ≤ d ∧ d + 2 ≤ 2048) (hL : L ≤ 320) (hi : i + 5 ≤ L) (h : StOK (bX0_gives (callL d) (xs (i + 1)).toInt (xs (i + 2)).toInt (xs (i + 3)).toInt (xs (i + 4)).toInt σ) (callMd d 47 [(xs (i + 1)).toInt, (xs (i + 2)).toInt, (xs (i + 3)).toInt, (xs (i + 4)).toInt]) (callMd d 0 []) False σ σ') (k : WL p l e s m below meth c G b Q σ' 1711 (locL i) []) : WL p l e s m below meth c G b Q σ 1072 (locL i) [] := by
  obtain ⟨k0, r, σ1, σ2, e1, e2, e3, hq, hk, hr, hz, b0, b1, b2, b3⟩ := h
  refine wl_aload_n C0 3 dL_law_1072 rfl ?_
  refine wl_scr C0 (kk := 1) (by omega) hL rfl (j0 := 4) (j := 0) rfl rfl dL_law_1073 dL_law_1074 dL_law_1076 dL_law_1077 dL_law_1078 ?_
  refine wl_scr C0 (kk := 2) (by omega) hL rfl (j0 := 4) (j := 0) rfl rfl dL_law_1079 dL_law_1080 dL_law_1082 dL_law_1083 dL_law_1084 ?_
  refine wl_scr C0 (kk := 3) (by omega) hL rfl (j0 := 4) (j := 0) rfl rfl dL_law_1085 dL_law_1086 dL_law_1088 dL_law_1089 dL_law_1090 ?_
  refine wl_scr C0 (kk := 4) (by omega) hL rfl (j0 := 4) (j := 0) rfl rfl dL_law_1091 dL_law_1092 dL_law_1094 dL_law_1095 dL_law_1096 ?_
  refine wl_aload_n C0 1 dL_law_1097 rfl ?_
  refine wl_callS (As := [vR 1, vI (xs (i + 1)).toInt, vI (xs (i + 2)).toInt, vI (xs (i + 3)).toInt, vI (xs (i + 4)).toInt, vR 100]) (n := 6) (stk := []) C0 (xwX0_gives hlt (d := d) (by omega) (xs (i + 1)).toInt (xs (i + 2)).toInt (xs (i + 3)).toInt (xs (i + 4)).toInt σ) e1 (lw_SW q781 q782 q162 q783) (by decide +kernel) rfl (by decide) (by omega) (avc trivial (avc (inR_toInt _) (avc (inR_toInt _) (avc (inR_toInt _) (avc (inR_toInt _) (avc trivial avn)))))) (by decide) rfl rfl (b1.1.trans b0.1.symm) b1.2.1 b1.2.2 dL_law_1098 ?_
  refine wl_istore C0 (loc' := [(5, vI k0), (4, vI (i : Int)), (3, vR 100), (2, vR 2), (1, vR 1), (0, vR 9)]) dL_law_1101 (by decide) rfl ?_
  refine wl_aload_n C0 3 dL_law_1103 rfl ?_
  refine wl_scr C0 (kk := 1) (by omega) hL rfl (j0 := 5) (j := 1) rfl rfl dL_law_1104 dL_law_1105 dL_law_1107 dL_law_1108 dL_law_1109 ?_
  refine wl_scr C0 (kk := 2) (by omega) hL rfl (j0 := 5) (j := 1) rfl rfl dL_law_1110 dL_law_1111 dL_law_1113 dL_law_1114 dL_law_1115 ?_
  refine wl_scr C0 (kk := 3) (by omega) hL rfl (j0 := 5) (j := 1) rfl rfl dL_law_1116 dL_law_1117 dL_law_1119 dL_law_1120 dL_law_1121 ?_
  refine wl_scr C0 (kk := 4) (by omega) hL rfl (j0 := 5) (j := 1) rfl rfl dL_law_1122 dL_law_1123 dL_law_1125 dL_law_1126 dL_law_1127 ?_
  refine wl_callV (As := [vI (xs (i + 1)).toInt, vI (xs (i + 2)).toInt, vI (xs (i + 3)).toInt, vI (xs (i + 4)).toInt]) (n := 4) (stk := []) (ob := 2) (ci := 2) (b0 := 200) (N := 83) C0 (Ct.upT NoRef_I rfl ((allTl l d).2.2.2.2.2.2.2.2.2.2.2.2.2.2.2.2.2.2.2.2.2.2.2.2.2.2.2.2.2.2.2.2.2.2.2.2.2.2.2.2.2.2.2.2.2.2.1 (xs (i + 1)).toInt (xs (i + 2)).toInt (xs (i + 3)).toInt (xs (i + 4)).toInt (dnT σ1))) e2 rfl rfl (lw_V q1527 q1528 q1529 q168 q1530) (by decide +kernel) rfl (by decide) (by omega) (avc (inR_toInt _) (avc (inR_toInt _) (avc (inR_toInt _) (avc (inR_toInt _) avn)))) (by decide) rfl rfl (b2.1.trans b1.1.symm) b2.2.1 b2.2.2 dL_law_1128 ?_
  refine wl_istore C0 (loc' := [(6, vI r), (5, vI k0), (4, vI (i : Int)), (3, vR 100), (2, vR 2), (1, vR 1), (0, vR 9)]) dL_law_1131 (by decide) rfl ?_
  refine wl_aload_n C0 4 dL_law_1133 rfl ?_
  refine wl_callV (As := []) (n := 0) (stk := []) (ob := 2) (ci := 2) (b0 := 200) (N := 83) C0 (Ct.upT NoRef_I rfl ((allTl l d).1 (dnT σ2))) e3 rfl rfl (lw_V q1081 q1082 q1083 q168 q1084) (by decide +kernel) rfl (by decide) (by omega) avn (by decide) rfl rfl (b3.1.trans b2.1.symm) b3.2.1 b3.2.2 dL_law_1134 ?_
  refine wl_same C0 (j := 1) (t0 := 1144) rfl dL_law_1137 dL_law_1139 (by decide) ?_
  refine wl_out C0 (t0 := 1161) (j3 := 3) (j5 := 1) (j6 := 0) hk hr b3.1 hq rfl rfl rfl dL_law_1144 dL_law_1146 (by decide) dL_law_1149 dL_law_1150 dL_law_1151 dL_law_1152 dL_law_1154 dL_law_1155 dL_law_1156 (by decide) ?_
  refine wl_goto C0 1711 dL_law_1161 (by decide) ?_
  exact wl_pick [2, 3, 4, 5, 6] (fun _ => rfl) k
theorem lc_14 {p : Program} {l : Launch} {e : Env} {s : State} {m : MethodId} {below : List Frame} {meth : Method} {c : Code} {G : Gm} {b L : Nat} {xs : Nat → Int32} {Q : State → Prop} {σ σ' : Sg} {i d : Nat} (C0 : LwC p s m meth c G b L xs) (hlt : LT l) (hd : 12 ≤ d ∧ d + 2 ≤ 2048) (hL : L ≤ 320) (hi : i + 5 ≤ L) (h : StOK (bX0_reduce (callL d) (xs (i + 1)).toInt (xs (i + 2)).toInt (xs (i + 3)).toInt (xs (i + 4)).toInt σ) (callMd d 49 [(xs (i + 1)).toInt, (xs (i + 2)).toInt, (xs (i + 3)).toInt, (xs (i + 4)).toInt]) (callMd d 0 []) False σ σ') (k : WL p l e s m below meth c G b Q σ' 1711 (locL i) []) : WL p l e s m below meth c G b Q σ 1164 (locL i) [] := by
  obtain ⟨k0, r, σ1, σ2, e1, e2, e3, hq, hk, hr, hz, b0, b1, b2, b3⟩ := h
  refine wl_aload_n C0 3 dL_law_1164 rfl ?_
  refine wl_scr C0 (kk := 1) (by omega) hL rfl (j0 := 4) (j := 0) rfl rfl dL_law_1165 dL_law_1166 dL_law_1168 dL_law_1169 dL_law_1170 ?_
  refine wl_scr C0 (kk := 2) (by omega) hL rfl (j0 := 4) (j := 0) rfl rfl dL_law_1171 dL_law_1172 dL_law_1174 dL_law_1175 dL_law_1176 ?_
  refine wl_scr C0 (kk := 3) (by omega) hL rfl (j0 := 4) (j := 0) rfl rfl dL_law_1177 dL_law_1178 dL_law_1180 dL_law_1181 dL_law_1182 ?_
  refine wl_scr C0 (kk := 4) (by omega) hL rfl (j0 := 4) (j := 0) rfl rfl dL_law_1183 dL_law_1184 dL_law_1186 dL_law_1187 dL_law_1188 ?_
  refine wl_aload_n C0 1 dL_law_1189 rfl ?_
  refine wl_callS (As := [vR 1, vI (xs (i + 1)).toInt, vI (xs (i + 2)).toInt, vI (xs (i + 3)).toInt, vI (xs (i + 4)).toInt, vR 100]) (n := 6) (stk := []) C0 (xwX0_reduce hlt (d := d) (by omega) (xs (i + 1)).toInt (xs (i + 2)).toInt (xs (i + 3)).toInt (xs (i + 4)).toInt σ) e1 (lw_SW q792 q793 q162 q794) (by decide +kernel) rfl (by decide) (by omega) (avc trivial (avc (inR_toInt _) (avc (inR_toInt _) (avc (inR_toInt _) (avc (inR_toInt _) (avc trivial avn)))))) (by decide) rfl rfl (b1.1.trans b0.1.symm) b1.2.1 b1.2.2 dL_law_1190 ?_
  refine wl_istore C0 (loc' := [(5, vI k0), (4, vI (i : Int)), (3, vR 100), (2, vR 2), (1, vR 1), (0, vR 9)]) dL_law_1193 (by decide) rfl ?_
  refine wl_aload_n C0 3 dL_law_1195 rfl ?_
  refine wl_scr C0 (kk := 1) (by omega) hL rfl (j0 := 5) (j := 1) rfl rfl dL_law_1196 dL_law_1197 dL_law_1199 dL_law_1200 dL_law_1201 ?_
  refine wl_scr C0 (kk := 2) (by omega) hL rfl (j0 := 5) (j := 1) rfl rfl dL_law_1202 dL_law_1203 dL_law_1205 dL_law_1206 dL_law_1207 ?_
  refine wl_scr C0 (kk := 3) (by omega) hL rfl (j0 := 5) (j := 1) rfl rfl dL_law_1208 dL_law_1209 dL_law_1211 dL_law_1212 dL_law_1213 ?_
  refine wl_scr C0 (kk := 4) (by omega) hL rfl (j0 := 5) (j := 1) rfl rfl dL_law_1214 dL_law_1215 dL_law_1217 dL_law_1218 dL_law_1219 ?_
  refine wl_callV (As := [vI (xs (i + 1)).toInt, vI (xs (i + 2)).toInt, vI (xs (i + 3)).toInt, vI (xs (i + 4)).toInt]) (n := 4) (stk := []) (ob := 2) (ci := 2) (b0 := 200) (N := 83) C0 (Ct.upT NoRef_I rfl ((allTl l d).2.2.2.2.2.2.2.2.2.2.2.2.2.2.2.2.2.2.2.2.2.2.2.2.2.2.2.2.2.2.2.2.2.2.2.2.2.2.2.2.2.2.2.2.2.2.2.2.1 (xs (i + 1)).toInt (xs (i + 2)).toInt (xs (i + 3)).toInt (xs (i + 4)).toInt (dnT σ1))) e2 rfl rfl (lw_V q1535 q1536 q1537 q168 q1538) (by decide +kernel) rfl (by decide) (by omega) (avc (inR_toInt _) (avc (inR_toInt _) (avc (inR_toInt _) (avc (inR_toInt _) avn)))) (by decide) rfl rfl (b2.1.trans b1.1.symm) b2.2.1 b2.2.2 dL_law_1220 ?_
  refine wl_istore C0 (loc' := [(6, vI r), (5, vI k0), (4, vI (i : Int)), (3, vR 100), (2, vR 2), (1, vR 1), (0, vR 9)]) dL_law_1223 (by decide) rfl ?_
  refine wl_aload_n C0 4 dL_law_1225 rfl ?_
  refine wl_callV (As := []) (n := 0) (stk := []) (ob := 2) (ci := 2) (b0 := 200) (N := 83) C0 (Ct.upT NoRef_I rfl ((allTl l d).1 (dnT σ2))) e3 rfl rfl (lw_V q1081 q1082 q1083 q168 q1084) (by decide +kernel) rfl (by decide) (by omega) avn (by decide) rfl rfl (b3.1.trans b2.1.symm) b3.2.1 b3.2.2 dL_law_1226 ?_
  refine wl_same C0 (j := 1) (t0 := 1236) rfl dL_law_1229 dL_law_1231 (by decide) ?_
  refine wl_out C0 (t0 := 1253) (j3 := 3) (j5 := 1) (j6 := 0) hk hr b3.1 hq rfl rfl rfl dL_law_1236 dL_law_1238 (by decide) dL_law_1241 dL_law_1242 dL_law_1243 dL_law_1244 dL_law_1246 dL_law_1247 dL_law_1248 (by decide) ?_
  refine wl_goto C0 1711 dL_law_1253 (by decide) ?_
  exact wl_pick [2, 3, 4, 5, 6] (fun _ => rfl) k
theorem lc_15 {p : Program} {l : Launch} {e : Env} {s : State} {m : MethodId} {below : List Frame} {meth : Method} {c : Code} {G : Gm} {b L : Nat} {xs : Nat → Int32} {Q : State → Prop} {σ σ' : Sg} {i d : Nat} (C0 : LwC p s m meth c G b L xs) (hlt : LT l) (hd : 12 ≤ d ∧ d + 2 ≤ 2048) (hL : L ≤ 320) (hi : i + 5 ≤ L) (h : StOK (bX0_premise (callL d) (xs (i + 1)).toInt σ) (callMd d 50 [(xs (i + 1)).toInt]) (callMd d 0 []) False σ σ') (k : WL p l e s m below meth c G b Q σ' 1711 (locL i) []) : WL p l e s m below meth c G b Q σ 1256 (locL i) [] := by
  obtain ⟨k0, r, σ1, σ2, e1, e2, e3, hq, hk, hr, hz, b0, b1, b2, b3⟩ := h
  refine wl_aload_n C0 3 dL_law_1256 rfl ?_
  refine wl_scr C0 (kk := 1) (by omega) hL rfl (j0 := 4) (j := 0) rfl rfl dL_law_1257 dL_law_1258 dL_law_1260 dL_law_1261 dL_law_1262 ?_
  refine wl_aload_n C0 1 dL_law_1263 rfl ?_
  refine wl_callS (As := [vR 1, vI (xs (i + 1)).toInt, vR 100]) (n := 3) (stk := []) C0 (xwX0_premise hlt (d := d) (by omega) (xs (i + 1)).toInt σ) e1 (lw_SW q799 q800 q162 q801) (by decide +kernel) rfl (by decide) (by omega) (avc trivial (avc (inR_toInt _) (avc trivial avn))) (by decide) rfl rfl (b1.1.trans b0.1.symm) b1.2.1 b1.2.2 dL_law_1264 ?_
  refine wl_istore C0 (loc' := [(5, vI k0), (4, vI (i : Int)), (3, vR 100), (2, vR 2), (1, vR 1), (0, vR 9)]) dL_law_1267 (by decide) rfl ?_
  refine wl_aload_n C0 3 dL_law_1269 rfl ?_
  refine wl_scr C0 (kk := 1) (by omega) hL rfl (j0 := 5) (j := 1) rfl rfl dL_law_1270 dL_law_1271 dL_law_1273 dL_law_1274 dL_law_1275 ?_
  refine wl_callV (As := [vI (xs (i + 1)).toInt]) (n := 1) (stk := []) (ob := 2) (ci := 2) (b0 := 200) (N := 83) C0 (Ct.upT NoRef_I rfl ((allTl l d).2.2.2.2.2.2.2.2.2.2.2.2.2.2.2.2.2.2.2.2.2.2.2.2.2.2.2.2.2.2.2.2.2.2.2.2.2.2.2.2.2.2.2.2.2.2.2.2.2.1 (xs (i + 1)).toInt (dnT σ1))) e2 rfl rfl (lw_V q1539 q1540 q1541 q168 q1542) (by decide +kernel) rfl (by decide) (by omega) (avc (inR_toInt _) avn) (by decide) rfl rfl (b2.1.trans b1.1.symm) b2.2.1 b2.2.2 dL_law_1276 ?_
  refine wl_istore C0 (loc' := [(6, vI r), (5, vI k0), (4, vI (i : Int)), (3, vR 100), (2, vR 2), (1, vR 1), (0, vR 9)]) dL_law_1279 (by decide) rfl ?_
  refine wl_aload_n C0 4 dL_law_1281 rfl ?_
  refine wl_callV (As := []) (n := 0) (stk := []) (ob := 2) (ci := 2) (b0 := 200) (N := 83) C0 (Ct.upT NoRef_I rfl ((allTl l d).1 (dnT σ2))) e3 rfl rfl (lw_V q1081 q1082 q1083 q168 q1084) (by decide +kernel) rfl (by decide) (by omega) avn (by decide) rfl rfl (b3.1.trans b2.1.symm) b3.2.1 b3.2.2 dL_law_1282 ?_
  refine wl_same C0 (j := 1) (t0 := 1292) rfl dL_law_1285 dL_law_1287 (by decide) ?_
  refine wl_out C0 (t0 := 1309) (j3 := 3) (j5 := 1) (j6 := 0) hk hr b3.1 hq rfl rfl rfl dL_law_1292 dL_law_1294 (by decide) dL_law_1297 dL_law_1298 dL_law_1299 dL_law_1300 dL_law_1302 dL_law_1303 dL_law_1304 (by decide) ?_
  refine wl_goto C0 1711 dL_law_1309 (by decide) ?_
  exact wl_pick [2, 3, 4, 5, 6] (fun _ => rfl) k
theorem lc_16 {p : Program} {l : Launch} {e : Env} {s : State} {m : MethodId} {below : List Frame} {meth : Method} {c : Code} {G : Gm} {b L : Nat} {xs : Nat → Int32} {Q : State → Prop} {σ σ' : Sg} {i d : Nat} (C0 : LwC p s m meth c G b L xs) (hd : d + 2 ≤ 2048) (h : StC (callL d 0 [] σ) (callMd d 51 []) σ σ') (k : WL p l e s m below meth c G b Q σ' 1711 (locL i) []) : WL p l e s m below meth c G b Q σ 1312 (locL i) [] := by
  obtain ⟨r, σ1, e1, e2, b0, b1, b2⟩ := h
  refine wl_aload_n C0 3 dL_law_1312 rfl ?_
  refine wl_callV (As := []) (n := 0) (stk := []) (ob := 1) (ci := 1) (b0 := 30) (N := 57) C0 (Ct.upC NoRef_I ((allCl l d).1 (dnC σ))) e1 rfl rfl (lw_V q481 q482 q483 q163 q484) (by decide +kernel) rfl (by decide) (by omega) avn (by decide) rfl rfl (b1.1.trans b0.1.symm) b1.2.1 b1.2.2 dL_law_1313 ?_
  refine wl_aload_n C0 2 dL_law_1316 rfl ?_
  refine wl_callV (As := []) (n := 0) (stk := [vI r]) (ob := 2) (ci := 2) (b0 := 200) (N := 83) C0 (Ct.upT NoRef_I rfl ((allTl l d).2.2.2.2.2.2.2.2.2.2.2.2.2.2.2.2.2.2.2.2.2.2.2.2.2.2.2.2.2.2.2.2.2.2.2.2.2.2.2.2.2.2.2.2.2.2.2.2.2.2.1 (dnT σ1))) e2 rfl rfl (lw_V q1543 q1544 q1545 q168 q1546) (by decide +kernel) rfl (by decide) (by omega) avn (Nat.le_of_ble_eq_true rfl) rfl rfl (b2.1.trans b1.1.symm) b2.2.1 b2.2.2 dL_law_1317 ?_
  exact wl_same2 C0 (t0 := 1711) dL_law_1320 (by decide) k
theorem lc_17 {p : Program} {l : Launch} {e : Env} {s : State} {m : MethodId} {below : List Frame} {meth : Method} {c : Code} {G : Gm} {b L : Nat} {xs : Nat → Int32} {Q : State → Prop} {σ σ' : Sg} {i d : Nat} (C0 : LwC p s m meth c G b L xs) (hlt : LT l) (hd : 12 ≤ d ∧ d + 2 ≤ 2048) (hL : L ≤ 320) (hi : i + 5 ≤ L) (h : StOK (bX0_check (callL d) (xs (i + 1)).toInt σ) (callMd d 52 [(xs (i + 1)).toInt]) (callMd d 0 []) False σ σ') (k : WL p l e s m below meth c G b Q σ' 1711 (locL i) []) : WL p l e s m below meth c G b Q σ 1325 (locL i) [] := by
  obtain ⟨k0, r, σ1, σ2, e1, e2, e3, hq, hk, hr, hz, b0, b1, b2, b3⟩ := h
  refine wl_aload_n C0 3 dL_law_1325 rfl ?_
  refine wl_scr C0 (kk := 1) (by omega) hL rfl (j0 := 4) (j := 0) rfl rfl dL_law_1326 dL_law_1327 dL_law_1329 dL_law_1330 dL_law_1331 ?_
  refine wl_aload_n C0 1 dL_law_1332 rfl ?_
  refine wl_callS (As := [vR 1, vI (xs (i + 1)).toInt, vR 100]) (n := 3) (stk := []) C0 (xwX0_check hlt (d := d) (by omega) (xs (i + 1)).toInt σ) e1 (lw_SW q806 q807 q162 q808) (by decide +kernel) rfl (by decide) (by omega) (avc trivial (avc (inR_toInt _) (avc trivial avn))) (by decide) rfl rfl (b1.1.trans b0.1.symm) b1.2.1 b1.2.2 dL_law_1333 ?_
  refine wl_istore C0 (loc' := [(5, vI k0), (4, vI (i : Int)), (3, vR 100), (2, vR 2), (1, vR 1), (0, vR 9)]) dL_law_1336 (by decide) rfl ?_
  refine wl_aload_n C0 3 dL_law_1338 rfl ?_
  refine wl_scr C0 (kk := 1) (by omega) hL rfl (j0 := 5) (j := 1) rfl rfl dL_law_1339 dL_law_1340 dL_law_1342 dL_law_1343 dL_law_1344 ?_
  refine wl_callV (As := [vI (xs (i + 1)).toInt]) (n := 1) (stk := []) (ob := 2) (ci := 2) (b0 := 200) (N := 83) C0 (Ct.upT NoRef_I rfl ((allTl l d).2.2.2.2.2.2.2.2.2.2.2.2.2.2.2.2.2.2.2.2.2.2.2.2.2.2.2.2.2.2.2.2.2.2.2.2.2.2.2.2.2.2.2.2.2.2.2.2.2.2.2.1 (xs (i + 1)).toInt (dnT σ1))) e2 rfl rfl (lw_V q1547 q1548 q1549 q168 q1550) (by decide +kernel) rfl (by decide) (by omega) (avc (inR_toInt _) avn) (by decide) rfl rfl (b2.1.trans b1.1.symm) b2.2.1 b2.2.2 dL_law_1345 ?_
  refine wl_istore C0 (loc' := [(6, vI r), (5, vI k0), (4, vI (i : Int)), (3, vR 100), (2, vR 2), (1, vR 1), (0, vR 9)]) dL_law_1348 (by decide) rfl ?_
  refine wl_aload_n C0 4 dL_law_1350 rfl ?_
  refine wl_callV (As := []) (n := 0) (stk := []) (ob := 2) (ci := 2) (b0 := 200) (N := 83) C0 (Ct.upT NoRef_I rfl ((allTl l d).1 (dnT σ2))) e3 rfl rfl (lw_V q1081 q1082 q1083 q168 q1084) (by decide +kernel) rfl (by decide) (by omega) avn (by decide) rfl rfl (b3.1.trans b2.1.symm) b3.2.1 b3.2.2 dL_law_1351 ?_
  refine wl_same C0 (j := 1) (t0 := 1361) rfl dL_law_1354 dL_law_1356 (by decide) ?_
  refine wl_out C0 (t0 := 1378) (j3 := 3) (j5 := 1) (j6 := 0) hk hr b3.1 hq rfl rfl rfl dL_law_1361 dL_law_1363 (by decide) dL_law_1366 dL_law_1367 dL_law_1368 dL_law_1369 dL_law_1371 dL_law_1372 dL_law_1373 (by decide) ?_
  refine wl_goto C0 1711 dL_law_1378 (by decide) ?_
  exact wl_pick [2, 3, 4, 5, 6] (fun _ => rfl) k
theorem lc_18 {p : Program} {l : Launch} {e : Env} {s : State} {m : MethodId} {below : List Frame} {meth : Method} {c : Code} {G : Gm} {b L : Nat} {xs : Nat → Int32} {Q : State → Prop} {σ σ' : Sg} {i d : Nat} (C0 : LwC p s m meth c G b L xs) (hlt : LT l) (hd : 12 ≤ d ∧ d + 2 ≤ 2048) (hL : L ≤ 320) (hi : i + 5 ≤ L) (h : StOK (bX0_fits (callL d) (xs (i + 1)).toInt (xs (i + 2)).toInt σ) (callMd d 113 [(xs (i + 1)).toInt, (xs (i + 2)).toInt]) (callMd d 0 []) True σ σ') (k : WL p l e s m below meth c G b Q σ' 1711 (locL i) []) : WL p l e s m below meth c G b Q σ 1381 (locL i) [] := by
  obtain ⟨k0, r, σ1, σ2, e1, e2, e3, hq, hk, hr, hz, b0, b1, b2, b3⟩ := h
  refine wl_aload_n C0 3 dL_law_1381 rfl ?_
  refine wl_scr C0 (kk := 1) (by omega) hL rfl (j0 := 4) (j := 0) rfl rfl dL_law_1382 dL_law_1383 dL_law_1385 dL_law_1386 dL_law_1387 ?_
  refine wl_scr C0 (kk := 2) (by omega) hL rfl (j0 := 4) (j := 0) rfl rfl dL_law_1388 dL_law_1389 dL_law_1391 dL_law_1392 dL_law_1393 ?_
  refine wl_aload_n C0 1 dL_law_1394 rfl ?_
  refine wl_callS (As := [vR 1, vI (xs (i + 1)).toInt, vI (xs (i + 2)).toInt, vR 100]) (n := 4) (stk := []) C0 (xwX0_fits hlt (d := d) (by omega) (xs (i + 1)).toInt (xs (i + 2)).toInt σ) e1 (lw_SW q1006 q1007 q162 q1008) (by decide +kernel) rfl (by decide) (by omega) (avc trivial (avc (inR_toInt _) (avc (inR_toInt _) (avc trivial avn)))) (by decide) rfl rfl (b1.1.trans b0.1.symm) b1.2.1 b1.2.2 dL_law_1395 ?_
  refine wl_istore C0 (loc' := [(5, vI k0), (4, vI (i : Int)), (3, vR 100), (2, vR 2), (1, vR 1), (0, vR 9)]) dL_law_1398 (by decide) rfl ?_
  refine wl_aload_n C0 3 dL_law_1400 rfl ?_
  refine wl_scr C0 (kk := 1) (by omega) hL rfl (j0 := 5) (j := 1) rfl rfl dL_law_1401 dL_law_1402 dL_law_1404 dL_law_1405 dL_law_1406 ?_
  refine wl_scr C0 (kk := 2) (by omega) hL rfl (j0 := 5) (j := 1) rfl rfl dL_law_1407 dL_law_1408 dL_law_1410 dL_law_1411 dL_law_1412 ?_
  refine wl_callV (As := [vI (xs (i + 1)).toInt, vI (xs (i + 2)).toInt]) (n := 2) (stk := []) (ob := 2) (ci := 2) (b0 := 200) (N := 83) C0 (Ct.upT NoRef_I rfl ((allTl l d).2.2.2.2.2.2.2.2.2.2.2.2.2.2.2.2.2.2.2.2.2.2.2.2.2.2.2.2.2.2.2.2.2.2.2.2.2.2.2.2.2.2.2.2.2.2.2.2.2.2.2.2.2.2.2.2.2.2.2.2.2.2.2.2.2.2.2.2.2.2.2.2.2.2.2.2.2.2.2.2.2.2.2.2.2.2.2.2.2.2.2.2.2.2.2.2.2.2.2.2.2.2.2.2.2.2.2.2.2.2.2.2.1 (xs (i + 1)).toInt (xs (i + 2)).toInt (dnT σ1))) e2 rfl rfl (lw_V q1794 q1795 q1796 q168 q1797) (by decide +kernel) rfl (by decide) (by omega) (avc (inR_toInt _) (avc (inR_toInt _) avn)) (by decide) rfl rfl (b2.1.trans b1.1.symm) b2.2.1 b2.2.2 dL_law_1413 ?_
  refine wl_istore C0 (loc' := [(6, vI r), (5, vI k0), (4, vI (i : Int)), (3, vR 100), (2, vR 2), (1, vR 1), (0, vR 9)]) dL_law_1416 (by decide) rfl ?_
  refine wl_aload_n C0 4 dL_law_1418 rfl ?_
  refine wl_callV (As := []) (n := 0) (stk := []) (ob := 2) (ci := 2) (b0 := 200) (N := 83) C0 (Ct.upT NoRef_I rfl ((allTl l d).1 (dnT σ2))) e3 rfl rfl (lw_V q1081 q1082 q1083 q168 q1084) (by decide +kernel) rfl (by decide) (by omega) avn (by decide) rfl rfl (b3.1.trans b2.1.symm) b3.2.1 b3.2.2 dL_law_1419 ?_
  refine wl_same C0 (j := 1) (t0 := 1429) rfl dL_law_1422 dL_law_1424 (by decide) ?_
  refine wl_outZ C0 (t0 := 1453) (t1 := 1446) (te := 1447) (j3 := 3) (j5 := 1) (j6 := 0) hk (hz trivial) b3.1 hq rfl rfl rfl dL_law_1429 dL_law_1431 (by decide) dL_law_1434 dL_law_1435 dL_law_1436 dL_law_1437 dL_law_1439 (by decide) dL_law_1442 dL_law_1443 (by decide) dL_law_1446 (by decide) dL_law_1447 dL_law_1448 (by decide) ?_
  refine wl_goto C0 1711 dL_law_1453 (by decide) ?_
  exact wl_pick [2, 3, 4, 5, 6] (fun _ => rfl) k
theorem lc_19 {p : Program} {l : Launch} {e : Env} {s : State} {m : MethodId} {below : List Frame} {meth : Method} {c : Code} {G : Gm} {b L : Nat} {xs : Nat → Int32} {Q : State → Prop} {σ σ' : Sg} {i d : Nat} (C0 : LwC p s m meth c G b L xs) (hlt : LT l) (hd : 12 ≤ d ∧ d + 2 ≤ 2048) (hL : L ≤ 320) (hi : i + 5 ≤ L) (h : StOK (bX0_adjectives (callL d) (xs (i + 1)).toInt σ) (callMd d 114 [(xs (i + 1)).toInt]) (callMd d 0 []) False σ σ') (k : WL p l e s m below meth c G b Q σ' 1711 (locL i) []) : WL p l e s m below meth c G b Q σ 1456 (locL i) [] := by
  obtain ⟨k0, r, σ1, σ2, e1, e2, e3, hq, hk, hr, hz, b0, b1, b2, b3⟩ := h
  refine wl_aload_n C0 3 dL_law_1456 rfl ?_
  refine wl_scr C0 (kk := 1) (by omega) hL rfl (j0 := 4) (j := 0) rfl rfl dL_law_1457 dL_law_1458 dL_law_1460 dL_law_1461 dL_law_1462 ?_
  refine wl_aload_n C0 1 dL_law_1463 rfl ?_
  refine wl_callS (As := [vR 1, vI (xs (i + 1)).toInt, vR 100]) (n := 3) (stk := []) C0 (xwX0_adjectives hlt (d := d) (by omega) (xs (i + 1)).toInt σ) e1 (lw_SW q1049 q1050 q162 q1051) (by decide +kernel) rfl (by decide) (by omega) (avc trivial (avc (inR_toInt _) (avc trivial avn))) (by decide) rfl rfl (b1.1.trans b0.1.symm) b1.2.1 b1.2.2 dL_law_1464 ?_
  refine wl_istore C0 (loc' := [(5, vI k0), (4, vI (i : Int)), (3, vR 100), (2, vR 2), (1, vR 1), (0, vR 9)]) dL_law_1467 (by decide) rfl ?_
  refine wl_aload_n C0 3 dL_law_1469 rfl ?_
  refine wl_scr C0 (kk := 1) (by omega) hL rfl (j0 := 5) (j := 1) rfl rfl dL_law_1470 dL_law_1471 dL_law_1473 dL_law_1474 dL_law_1475 ?_
  refine wl_callV (As := [vI (xs (i + 1)).toInt]) (n := 1) (stk := []) (ob := 2) (ci := 2) (b0 := 200) (N := 83) C0 (Ct.upT NoRef_I rfl ((allTl l d).2.2.2.2.2.2.2.2.2.2.2.2.2.2.2.2.2.2.2.2.2.2.2.2.2.2.2.2.2.2.2.2.2.2.2.2.2.2.2.2.2.2.2.2.2.2.2.2.2.2.2.2.2.2.2.2.2.2.2.2.2.2.2.2.2.2.2.2.2.2.2.2.2.2.2.2.2.2.2.2.2.2.2.2.2.2.2.2.2.2.2.2.2.2.2.2.2.2.2.2.2.2.2.2.2.2.2.2.2.2.2.2.2.1 (xs (i + 1)).toInt (dnT σ1))) e2 rfl rfl (lw_V q1798 q1799 q1800 q168 q1801) (by decide +kernel) rfl (by decide) (by omega) (avc (inR_toInt _) avn) (by decide) rfl rfl (b2.1.trans b1.1.symm) b2.2.1 b2.2.2 dL_law_1476 ?_
  refine wl_istore C0 (loc' := [(6, vI r), (5, vI k0), (4, vI (i : Int)), (3, vR 100), (2, vR 2), (1, vR 1), (0, vR 9)]) dL_law_1479 (by decide) rfl ?_
  refine wl_aload_n C0 4 dL_law_1481 rfl ?_
  refine wl_callV (As := []) (n := 0) (stk := []) (ob := 2) (ci := 2) (b0 := 200) (N := 83) C0 (Ct.upT NoRef_I rfl ((allTl l d).1 (dnT σ2))) e3 rfl rfl (lw_V q1081 q1082 q1083 q168 q1084) (by decide +kernel) rfl (by decide) (by omega) avn (by decide) rfl rfl (b3.1.trans b2.1.symm) b3.2.1 b3.2.2 dL_law_1482 ?_
  refine wl_same C0 (j := 1) (t0 := 1492) rfl dL_law_1485 dL_law_1487 (by decide) ?_
  refine wl_out C0 (t0 := 1509) (j3 := 3) (j5 := 1) (j6 := 0) hk hr b3.1 hq rfl rfl rfl dL_law_1492 dL_law_1494 (by decide) dL_law_1497 dL_law_1498 dL_law_1499 dL_law_1500 dL_law_1502 dL_law_1503 dL_law_1504 (by decide) ?_
  refine wl_goto C0 1711 dL_law_1509 (by decide) ?_
  exact wl_pick [2, 3, 4, 5, 6] (fun _ => rfl) k
theorem lc_20 {p : Program} {l : Launch} {e : Env} {s : State} {m : MethodId} {below : List Frame} {meth : Method} {c : Code} {G : Gm} {b L : Nat} {xs : Nat → Int32} {Q : State → Prop} {σ σ' : Sg} {i d : Nat} (C0 : LwC p s m meth c G b L xs) (hlt : LT l) (hd : 12 ≤ d ∧ d + 2 ≤ 2048) (hL : L ≤ 320) (hi : i + 5 ≤ L) (h : StOK (bX0_alike (callL d) (xs (i + 1)).toInt (xs (i + 2)).toInt σ) (callMd d 115 [(xs (i + 1)).toInt, (xs (i + 2)).toInt]) (callMd d 0 []) True σ σ') (k : WL p l e s m below meth c G b Q σ' 1711 (locL i) []) : WL p l e s m below meth c G b Q σ 1512 (locL i) [] := by
  obtain ⟨k0, r, σ1, σ2, e1, e2, e3, hq, hk, hr, hz, b0, b1, b2, b3⟩ := h
  refine wl_aload_n C0 3 dL_law_1512 rfl ?_
  refine wl_scr C0 (kk := 1) (by omega) hL rfl (j0 := 4) (j := 0) rfl rfl dL_law_1513 dL_law_1514 dL_law_1516 dL_law_1517 dL_law_1518 ?_
  refine wl_scr C0 (kk := 2) (by omega) hL rfl (j0 := 4) (j := 0) rfl rfl dL_law_1519 dL_law_1520 dL_law_1522 dL_law_1523 dL_law_1524 ?_
  refine wl_aload_n C0 1 dL_law_1525 rfl ?_
  refine wl_callS (As := [vR 1, vI (xs (i + 1)).toInt, vI (xs (i + 2)).toInt, vR 100]) (n := 4) (stk := []) C0 (xwX0_alike hlt (d := d) (by omega) (xs (i + 1)).toInt (xs (i + 2)).toInt σ) e1 (lw_SW q1056 q1057 q162 q1058) (by decide +kernel) rfl (by decide) (by omega) (avc trivial (avc (inR_toInt _) (avc (inR_toInt _) (avc trivial avn)))) (by decide) rfl rfl (b1.1.trans b0.1.symm) b1.2.1 b1.2.2 dL_law_1526 ?_
  refine wl_istore C0 (loc' := [(5, vI k0), (4, vI (i : Int)), (3, vR 100), (2, vR 2), (1, vR 1), (0, vR 9)]) dL_law_1529 (by decide) rfl ?_
  refine wl_aload_n C0 3 dL_law_1531 rfl ?_
  refine wl_scr C0 (kk := 1) (by omega) hL rfl (j0 := 5) (j := 1) rfl rfl dL_law_1532 dL_law_1533 dL_law_1535 dL_law_1536 dL_law_1537 ?_
  refine wl_scr C0 (kk := 2) (by omega) hL rfl (j0 := 5) (j := 1) rfl rfl dL_law_1538 dL_law_1539 dL_law_1541 dL_law_1542 dL_law_1543 ?_
  refine wl_callV (As := [vI (xs (i + 1)).toInt, vI (xs (i + 2)).toInt]) (n := 2) (stk := []) (ob := 2) (ci := 2) (b0 := 200) (N := 83) C0 (Ct.upT NoRef_I rfl ((allTl l d).2.2.2.2.2.2.2.2.2.2.2.2.2.2.2.2.2.2.2.2.2.2.2.2.2.2.2.2.2.2.2.2.2.2.2.2.2.2.2.2.2.2.2.2.2.2.2.2.2.2.2.2.2.2.2.2.2.2.2.2.2.2.2.2.2.2.2.2.2.2.2.2.2.2.2.2.2.2.2.2.2.2.2.2.2.2.2.2.2.2.2.2.2.2.2.2.2.2.2.2.2.2.2.2.2.2.2.2.2.2.2.2.2.2.1 (xs (i + 1)).toInt (xs (i + 2)).toInt (dnT σ1))) e2 rfl rfl (lw_V q1802 q1803 q1804 q168 q1805) (by decide +kernel) rfl (by decide) (by omega) (avc (inR_toInt _) (avc (inR_toInt _) avn)) (by decide) rfl rfl (b2.1.trans b1.1.symm) b2.2.1 b2.2.2 dL_law_1544 ?_
  refine wl_istore C0 (loc' := [(6, vI r), (5, vI k0), (4, vI (i : Int)), (3, vR 100), (2, vR 2), (1, vR 1), (0, vR 9)]) dL_law_1547 (by decide) rfl ?_
  refine wl_aload_n C0 4 dL_law_1549 rfl ?_
  refine wl_callV (As := []) (n := 0) (stk := []) (ob := 2) (ci := 2) (b0 := 200) (N := 83) C0 (Ct.upT NoRef_I rfl ((allTl l d).1 (dnT σ2))) e3 rfl rfl (lw_V q1081 q1082 q1083 q168 q1084) (by decide +kernel) rfl (by decide) (by omega) avn (by decide) rfl rfl (b3.1.trans b2.1.symm) b3.2.1 b3.2.2 dL_law_1550 ?_
  refine wl_same C0 (j := 1) (t0 := 1560) rfl dL_law_1553 dL_law_1555 (by decide) ?_
  refine wl_outZ C0 (t0 := 1584) (t1 := 1577) (te := 1578) (j3 := 3) (j5 := 1) (j6 := 0) hk (hz trivial) b3.1 hq rfl rfl rfl dL_law_1560 dL_law_1562 (by decide) dL_law_1565 dL_law_1566 dL_law_1567 dL_law_1568 dL_law_1570 (by decide) dL_law_1573 dL_law_1574 (by decide) dL_law_1577 (by decide) dL_law_1578 dL_law_1579 (by decide) ?_
  refine wl_goto C0 1711 dL_law_1584 (by decide) ?_
  exact wl_pick [2, 3, 4, 5, 6] (fun _ => rfl) k
theorem lc_21 {p : Program} {l : Launch} {e : Env} {s : State} {m : MethodId} {below : List Frame} {meth : Method} {c : Code} {G : Gm} {b L : Nat} {xs : Nat → Int32} {Q : State → Prop} {σ σ' : Sg} {i d : Nat} (C0 : LwC p s m meth c G b L xs) (hlt : LT l) (hd : 12 ≤ d ∧ d + 2 ≤ 2048) (hL : L ≤ 320) (hi : i + 5 ≤ L) (h : StOK (bX0_about (callL d) (xs (i + 1)).toInt (xs (i + 2)).toInt σ) (callMd d 116 [(xs (i + 1)).toInt, (xs (i + 2)).toInt]) (callMd d 0 []) False σ σ') (k : WL p l e s m below meth c G b Q σ' 1711 (locL i) []) : WL p l e s m below meth c G b Q σ 1587 (locL i) [] := by
  obtain ⟨k0, r, σ1, σ2, e1, e2, e3, hq, hk, hr, hz, b0, b1, b2, b3⟩ := h
  refine wl_aload_n C0 3 dL_law_1587 rfl ?_
  refine wl_scr C0 (kk := 1) (by omega) hL rfl (j0 := 4) (j := 0) rfl rfl dL_law_1588 dL_law_1589 dL_law_1591 dL_law_1592 dL_law_1593 ?_
  refine wl_scr C0 (kk := 2) (by omega) hL rfl (j0 := 4) (j := 0) rfl rfl dL_law_1594 dL_law_1595 dL_law_1597 dL_law_1598 dL_law_1599 ?_
  refine wl_aload_n C0 1 dL_law_1600 rfl ?_
  refine wl_callS (As := [vR 1, vI (xs (i + 1)).toInt, vI (xs (i + 2)).toInt, vR 100]) (n := 4) (stk := []) C0 (xwX0_about hlt (d := d) (by omega) (xs (i + 1)).toInt (xs (i + 2)).toInt σ) e1 (lw_SW q1063 q1064 q162 q1065) (by decide +kernel) rfl (by decide) (by omega) (avc trivial (avc (inR_toInt _) (avc (inR_toInt _) (avc trivial avn)))) (by decide) rfl rfl (b1.1.trans b0.1.symm) b1.2.1 b1.2.2 dL_law_1601 ?_
  refine wl_istore C0 (loc' := [(5, vI k0), (4, vI (i : Int)), (3, vR 100), (2, vR 2), (1, vR 1), (0, vR 9)]) dL_law_1604 (by decide) rfl ?_
  refine wl_aload_n C0 3 dL_law_1606 rfl ?_
  refine wl_scr C0 (kk := 1) (by omega) hL rfl (j0 := 5) (j := 1) rfl rfl dL_law_1607 dL_law_1608 dL_law_1610 dL_law_1611 dL_law_1612 ?_
  refine wl_scr C0 (kk := 2) (by omega) hL rfl (j0 := 5) (j := 1) rfl rfl dL_law_1613 dL_law_1614 dL_law_1616 dL_law_1617 dL_law_1618 ?_
  refine wl_callV (As := [vI (xs (i + 1)).toInt, vI (xs (i + 2)).toInt]) (n := 2) (stk := []) (ob := 2) (ci := 2) (b0 := 200) (N := 83) C0 (Ct.upT NoRef_I rfl ((allTl l d).2.2.2.2.2.2.2.2.2.2.2.2.2.2.2.2.2.2.2.2.2.2.2.2.2.2.2.2.2.2.2.2.2.2.2.2.2.2.2.2.2.2.2.2.2.2.2.2.2.2.2.2.2.2.2.2.2.2.2.2.2.2.2.2.2.2.2.2.2.2.2.2.2.2.2.2.2.2.2.2.2.2.2.2.2.2.2.2.2.2.2.2.2.2.2.2.2.2.2.2.2.2.2.2.2.2.2.2.2.2.2.2.2.2.2.1 (xs (i + 1)).toInt (xs (i + 2)).toInt (dnT σ1))) e2 rfl rfl (lw_V q1806 q1807 q1808 q168 q1809) (by decide +kernel) rfl (by decide) (by omega) (avc (inR_toInt _) (avc (inR_toInt _) avn)) (by decide) rfl rfl (b2.1.trans b1.1.symm) b2.2.1 b2.2.2 dL_law_1619 ?_
  refine wl_istore C0 (loc' := [(6, vI r), (5, vI k0), (4, vI (i : Int)), (3, vR 100), (2, vR 2), (1, vR 1), (0, vR 9)]) dL_law_1622 (by decide) rfl ?_
  refine wl_aload_n C0 4 dL_law_1624 rfl ?_
  refine wl_callV (As := []) (n := 0) (stk := []) (ob := 2) (ci := 2) (b0 := 200) (N := 83) C0 (Ct.upT NoRef_I rfl ((allTl l d).1 (dnT σ2))) e3 rfl rfl (lw_V q1081 q1082 q1083 q168 q1084) (by decide +kernel) rfl (by decide) (by omega) avn (by decide) rfl rfl (b3.1.trans b2.1.symm) b3.2.1 b3.2.2 dL_law_1625 ?_
  refine wl_same C0 (j := 1) (t0 := 1635) rfl dL_law_1628 dL_law_1630 (by decide) ?_
  refine wl_out C0 (t0 := 1652) (j3 := 3) (j5 := 1) (j6 := 0) hk hr b3.1 hq rfl rfl rfl dL_law_1635 dL_law_1637 (by decide) dL_law_1640 dL_law_1641 dL_law_1642 dL_law_1643 dL_law_1645 dL_law_1646 dL_law_1647 (by decide) ?_
  refine wl_goto C0 1711 dL_law_1652 (by decide) ?_
  exact wl_pick [2, 3, 4, 5, 6] (fun _ => rfl) k
theorem lc_22 {p : Program} {l : Launch} {e : Env} {s : State} {m : MethodId} {below : List Frame} {meth : Method} {c : Code} {G : Gm} {b L : Nat} {xs : Nat → Int32} {Q : State → Prop} {σ σ' : Sg} {i d : Nat} (C0 : LwC p s m meth c G b L xs) (hlt : LT l) (hd : 12 ≤ d ∧ d + 2 ≤ 2048) (hL : L ≤ 320) (hi : i + 5 ≤ L) (h : StOK (bX0_count (callL d) (xs (i + 1)).toInt σ) (callMd d 117 [(xs (i + 1)).toInt]) (callMd d 0 []) False σ σ') (k : WL p l e s m below meth c G b Q σ' 1711 (locL i) []) : WL p l e s m below meth c G b Q σ 1655 (locL i) [] := by
  obtain ⟨k0, r, σ1, σ2, e1, e2, e3, hq, hk, hr, hz, b0, b1, b2, b3⟩ := h
  refine wl_aload_n C0 3 dL_law_1655 rfl ?_
  refine wl_scr C0 (kk := 1) (by omega) hL rfl (j0 := 4) (j := 0) rfl rfl dL_law_1656 dL_law_1657 dL_law_1659 dL_law_1660 dL_law_1661 ?_
  refine wl_aload_n C0 1 dL_law_1662 rfl ?_
  refine wl_callS (As := [vR 1, vI (xs (i + 1)).toInt, vR 100]) (n := 3) (stk := []) C0 (xwX0_count hlt (d := d) (by omega) (xs (i + 1)).toInt σ) e1 (lw_SW q1074 q1075 q162 q1076) (by decide +kernel) rfl (by decide) (by omega) (avc trivial (avc (inR_toInt _) (avc trivial avn))) (by decide) rfl rfl (b1.1.trans b0.1.symm) b1.2.1 b1.2.2 dL_law_1663 ?_
  refine wl_istore C0 (loc' := [(5, vI k0), (4, vI (i : Int)), (3, vR 100), (2, vR 2), (1, vR 1), (0, vR 9)]) dL_law_1666 (by decide) rfl ?_
  refine wl_aload_n C0 3 dL_law_1668 rfl ?_
  refine wl_scr C0 (kk := 1) (by omega) hL rfl (j0 := 5) (j := 1) rfl rfl dL_law_1669 dL_law_1670 dL_law_1672 dL_law_1673 dL_law_1674 ?_
  refine wl_callV (As := [vI (xs (i + 1)).toInt]) (n := 1) (stk := []) (ob := 2) (ci := 2) (b0 := 200) (N := 83) C0 (Ct.upT NoRef_I rfl ((allTl l d).2.2.2.2.2.2.2.2.2.2.2.2.2.2.2.2.2.2.2.2.2.2.2.2.2.2.2.2.2.2.2.2.2.2.2.2.2.2.2.2.2.2.2.2.2.2.2.2.2.2.2.2.2.2.2.2.2.2.2.2.2.2.2.2.2.2.2.2.2.2.2.2.2.2.2.2.2.2.2.2.2.2.2.2.2.2.2.2.2.2.2.2.2.2.2.2.2.2.2.2.2.2.2.2.2.2.2.2.2.2.2.2.2.2.2.2 (xs (i + 1)).toInt (dnT σ1))) e2 rfl rfl (lw_V q1810 q1811 q1812 q168 q1813) (by decide +kernel) rfl (by decide) (by omega) (avc (inR_toInt _) avn) (by decide) rfl rfl (b2.1.trans b1.1.symm) b2.2.1 b2.2.2 dL_law_1675 ?_
  refine wl_istore C0 (loc' := [(6, vI r), (5, vI k0), (4, vI (i : Int)), (3, vR 100), (2, vR 2), (1, vR 1), (0, vR 9)]) dL_law_1678 (by decide) rfl ?_
  refine wl_aload_n C0 4 dL_law_1680 rfl ?_
  refine wl_callV (As := []) (n := 0) (stk := []) (ob := 2) (ci := 2) (b0 := 200) (N := 83) C0 (Ct.upT NoRef_I rfl ((allTl l d).1 (dnT σ2))) e3 rfl rfl (lw_V q1081 q1082 q1083 q168 q1084) (by decide +kernel) rfl (by decide) (by omega) avn (by decide) rfl rfl (b3.1.trans b2.1.symm) b3.2.1 b3.2.2 dL_law_1681 ?_
  refine wl_same C0 (j := 1) (t0 := 1691) rfl dL_law_1684 dL_law_1686 (by decide) ?_
  refine wl_out C0 (t0 := 1708) (j3 := 3) (j5 := 1) (j6 := 0) hk hr b3.1 hq rfl rfl rfl dL_law_1691 dL_law_1693 (by decide) dL_law_1696 dL_law_1697 dL_law_1698 dL_law_1699 dL_law_1701 dL_law_1702 dL_law_1703 (by decide) ?_
  refine wl_goto C0 1711 dL_law_1708 (by decide) ?_
  exact wl_pick [2, 3, 4, 5, 6] (fun _ => rfl) k
def LStep (d : Nat) (x : Nat → Int) (σ σ' : Sg) : Prop := if o_and (x 0) 31 = 0 then StOK (bX0_mode (callL d) (x 1) (b01 (x 2)) σ) (callMd d 11 [(x 1), (b01 (x 2))]) (callMd d 0 []) False σ σ' else if o_and (x 0) 31 = 1 then StOK (bX0_attribute (callL d) σ) (callMd d 18 []) (callMd d 0 []) False σ σ' else if o_and (x 0) 31 = 2 then StOK (bX0_functor (callL d) (x 1) (x 2) σ) (callMd d 19 [(x 1), (x 2)]) (callMd d 0 []) False σ σ' else if o_and (x 0) 31 = 3 then StOK (bX0_predicate (callL d) (x 1) σ) (callMd d 20 [(x 1)]) (callMd d 0 []) False σ σ' else if o_and (x 0) 31 = 4 then StOK (bX0_type (callL d) (x 1) (x 2) (x 3) σ) (callMd d 21 [(x 1), (x 2), (x 3)]) (callMd d 0 []) False σ σ' else if o_and (x 0) 31 = 5 then StOK (bX0_constant (callL d) (x 1) σ) (callMd d 24 [(x 1)]) (callMd d 0 []) False σ σ' else if o_and (x 0) 31 = 6 then StOK (bX0_locus (callL d) (x 1) σ) (callMd d 28 [(x 1)]) (callMd d 0 []) False σ σ' else if o_and (x 0) 31 = 7 then StOK (bX0_apply (callL d) (x 1) (x 2) (x 3) σ) (callMd d 29 [(x 1), (x 2), (x 3)]) (callMd d 0 []) False σ σ' else if o_and (x 0) 31 = 8 then StOK (bX0_the (callL d) (x 1) σ) (callMd d 30 [(x 1)]) (callMd d 0 []) False σ σ' else if o_and (x 0) 31 = 9 then StOK (bX0_atom (callL d) (x 1) (x 2) (x 3) (x 4) σ) (callMd d 31 [(x 1), (x 2), (x 3), (x 4)]) (callMd d 0 []) False σ σ' else if o_and (x 0) 31 = 10 then StOK (bX0_join (callL d) (x 1) (x 2) (x 3) σ) (callMd d 35 [(x 1), (x 2), (x 3)]) (callMd d 0 []) False σ σ' else if o_and (x 0) 31 = 11 then StOK (bX0_bind (callL d) (b01 (x 1)) (x 2) (x 3) σ) (callMd d 40 [(b01 (x 1)), (x 2), (x 3)]) (callMd d 0 []) False σ σ' else if o_and (x 0) 31 = 12 then StOK (bX0_cluster (callL d) (x 1) (x 2) (x 3) σ) (callMd d 45 [(x 1), (x 2), (x 3)]) (callMd d 0 []) False σ σ' else if o_and (x 0) 31 = 13 then StOK (bX0_gives (callL d) (x 1) (x 2) (x 3) (x 4) σ) (callMd d 47 [(x 1), (x 2), (x 3), (x 4)]) (callMd d 0 []) False σ σ' else if o_and (x 0) 31 = 14 then StOK (bX0_reduce (callL d) (x 1) (x 2) (x 3) (x 4) σ) (callMd d 49 [(x 1), (x 2), (x 3), (x 4)]) (callMd d 0 []) False σ σ' else if o_and (x 0) 31 = 15 then StOK (bX0_premise (callL d) (x 1) σ) (callMd d 50 [(x 1)]) (callMd d 0 []) False σ σ' else if o_and (x 0) 31 = 16 then StC (callL d 0 [] σ) (callMd d 51 []) σ σ' else if o_and (x 0) 31 = 17 then StOK (bX0_check (callL d) (x 1) σ) (callMd d 52 [(x 1)]) (callMd d 0 []) False σ σ' else if o_and (x 0) 31 = 18 then StOK (bX0_fits (callL d) (x 1) (x 2) σ) (callMd d 113 [(x 1), (x 2)]) (callMd d 0 []) True σ σ' else if o_and (x 0) 31 = 19 then StOK (bX0_adjectives (callL d) (x 1) σ) (callMd d 114 [(x 1)]) (callMd d 0 []) False σ σ' else if o_and (x 0) 31 = 20 then StOK (bX0_alike (callL d) (x 1) (x 2) σ) (callMd d 115 [(x 1), (x 2)]) (callMd d 0 []) True σ σ' else if o_and (x 0) 31 = 21 then StOK (bX0_about (callL d) (x 1) (x 2) σ) (callMd d 116 [(x 1), (x 2)]) (callMd d 0 []) False σ σ' else if o_and (x 0) 31 = 22 then StOK (bX0_count (callL d) (x 1) σ) (callMd d 117 [(x 1)]) (callMd d 0 []) False σ σ' else (σ' = σ ∧ Bnd σ)
theorem law_iter {p : Program} {l : Launch} {e : Env} {s : State} {m : MethodId} {below : List Frame} {meth : Method} {c : Code} {G : Gm} {b L : Nat} {xs : Nat → Int32} {Q : State → Prop} {σ σ' : Sg} {i d : Nat} (C0 : LwC p s m meth c G b L xs) (hlt : LT l) (hd : 12 ≤ d ∧ d + 2 ≤ 2048) (hL : L ≤ 320) (hi : i + 5 ≤ L) (h : LStep d (fun j => (xs (i + j)).toInt) σ σ') (k : WL p l e s m below meth c G b Q σ' 1711 (locL i) []) : WL p l e s m below meth c G b Q σ 32 (locL i) [] := by
  refine wl_scr0 C0 (j0 := 4) (j := 0) (by omega) hL rfl rfl dL_law_32 dL_law_33 dL_law_35 ?_
  refine wl_bipush C0 (by decide) dL_law_36 ?_
  refine wl_lift (pc' := 39) (stk' := [vI (o_and (xs i).toInt 31)]) (fun ad H locs cells slots ls _ _ _ _ kk => lv_iand C0.1.1 C0.1.2.1 dL_law_38 (by rw [← i32_wrap (_ &&& _)]; exact kk)) ?_
  unfold LStep at h
  dsimp only [Nat.add_zero] at h
  generalize hop : o_and (xs i).toInt 31 = op at h ⊢
  have hor : inR op := by rw [← hop]; exact inR_toInt _
  by_cases e0 : op = 0
  · rw [if_pos e0] at h
    refine wl_tswIn C0 144 0 dL_law_39 ⟨by decide, by decide, by decide⟩ rfl (by decide) e0 ?_
    exact lc_0 C0 hlt hd hL hi h k
  rw [if_neg e0] at h
  by_cases e1 : op = 1
  · rw [if_pos e1] at h
    refine wl_tswIn C0 228 1 dL_law_39 ⟨by decide, by decide, by decide⟩ rfl (by decide) e1 ?_
    exact lc_1 C0 hlt hd hL hi h k
  rw [if_neg e1] at h
  by_cases e2 : op = 2
  · rw [if_pos e2] at h
    refine wl_tswIn C0 272 2 dL_law_39 ⟨by decide, by decide, by decide⟩ rfl (by decide) e2 ?_
    exact lc_2 C0 hlt hd hL hi h k
  rw [if_neg e2] at h
  by_cases e3 : op = 3
  · rw [if_pos e3] at h
    refine wl_tswIn C0 340 3 dL_law_39 ⟨by decide, by decide, by decide⟩ rfl (by decide) e3 ?_
    exact lc_3 C0 hlt hd hL hi h k
  rw [if_neg e3] at h
  by_cases e4 : op = 4
  · rw [if_pos e4] at h
    refine wl_tswIn C0 396 4 dL_law_39 ⟨by decide, by decide, by decide⟩ rfl (by decide) e4 ?_
    exact lc_4 C0 hlt hd hL hi h k
  rw [if_neg e4] at h
  by_cases e5 : op = 5
  · rw [if_pos e5] at h
    refine wl_tswIn C0 476 5 dL_law_39 ⟨by decide, by decide, by decide⟩ rfl (by decide) e5 ?_
    exact lc_5 C0 hlt hd hL hi h k
  rw [if_neg e5] at h
  by_cases e6 : op = 6
  · rw [if_pos e6] at h
    refine wl_tswIn C0 532 6 dL_law_39 ⟨by decide, by decide, by decide⟩ rfl (by decide) e6 ?_
    exact lc_6 C0 hlt hd hL hi h k
  rw [if_neg e6] at h
  by_cases e7 : op = 7
  · rw [if_pos e7] at h
    refine wl_tswIn C0 588 7 dL_law_39 ⟨by decide, by decide, by decide⟩ rfl (by decide) e7 ?_
    exact lc_7 C0 hlt hd hL hi h k
  rw [if_neg e7] at h
  by_cases e8 : op = 8
  · rw [if_pos e8] at h
    refine wl_tswIn C0 668 8 dL_law_39 ⟨by decide, by decide, by decide⟩ rfl (by decide) e8 ?_
    exact lc_8 C0 hlt hd hL hi h k
  rw [if_neg e8] at h
  by_cases e9 : op = 9
  · rw [if_pos e9] at h
    refine wl_tswIn C0 724 9 dL_law_39 ⟨by decide, by decide, by decide⟩ rfl (by decide) e9 ?_
    exact lc_9 C0 hlt hd hL hi h k
  rw [if_neg e9] at h
  by_cases e10 : op = 10
  · rw [if_pos e10] at h
    refine wl_tswIn C0 816 10 dL_law_39 ⟨by decide, by decide, by decide⟩ rfl (by decide) e10 ?_
    exact lc_10 C0 hlt hd hL hi h k
  rw [if_neg e10] at h
  by_cases e11 : op = 11
  · rw [if_pos e11] at h
    refine wl_tswIn C0 896 11 dL_law_39 ⟨by decide, by decide, by decide⟩ rfl (by decide) e11 ?_
    exact lc_11 C0 hlt hd hL hi h k
  rw [if_neg e11] at h
  by_cases e12 : op = 12
  · rw [if_pos e12] at h
    refine wl_tswIn C0 992 12 dL_law_39 ⟨by decide, by decide, by decide⟩ rfl (by decide) e12 ?_
    exact lc_12 C0 hlt hd hL hi h k
  rw [if_neg e12] at h
  by_cases e13 : op = 13
  · rw [if_pos e13] at h
    refine wl_tswIn C0 1072 13 dL_law_39 ⟨by decide, by decide, by decide⟩ rfl (by decide) e13 ?_
    exact lc_13 C0 hlt hd hL hi h k
  rw [if_neg e13] at h
  by_cases e14 : op = 14
  · rw [if_pos e14] at h
    refine wl_tswIn C0 1164 14 dL_law_39 ⟨by decide, by decide, by decide⟩ rfl (by decide) e14 ?_
    exact lc_14 C0 hlt hd hL hi h k
  rw [if_neg e14] at h
  by_cases e15 : op = 15
  · rw [if_pos e15] at h
    refine wl_tswIn C0 1256 15 dL_law_39 ⟨by decide, by decide, by decide⟩ rfl (by decide) e15 ?_
    exact lc_15 C0 hlt hd hL hi h k
  rw [if_neg e15] at h
  by_cases e16 : op = 16
  · rw [if_pos e16] at h
    refine wl_tswIn C0 1312 16 dL_law_39 ⟨by decide, by decide, by decide⟩ rfl (by decide) e16 ?_
    exact lc_16 C0 hd.2 h k
  rw [if_neg e16] at h
  by_cases e17 : op = 17
  · rw [if_pos e17] at h
    refine wl_tswIn C0 1325 17 dL_law_39 ⟨by decide, by decide, by decide⟩ rfl (by decide) e17 ?_
    exact lc_17 C0 hlt hd hL hi h k
  rw [if_neg e17] at h
  by_cases e18 : op = 18
  · rw [if_pos e18] at h
    refine wl_tswIn C0 1381 18 dL_law_39 ⟨by decide, by decide, by decide⟩ rfl (by decide) e18 ?_
    exact lc_18 C0 hlt hd hL hi h k
  rw [if_neg e18] at h
  by_cases e19 : op = 19
  · rw [if_pos e19] at h
    refine wl_tswIn C0 1456 19 dL_law_39 ⟨by decide, by decide, by decide⟩ rfl (by decide) e19 ?_
    exact lc_19 C0 hlt hd hL hi h k
  rw [if_neg e19] at h
  by_cases e20 : op = 20
  · rw [if_pos e20] at h
    refine wl_tswIn C0 1512 20 dL_law_39 ⟨by decide, by decide, by decide⟩ rfl (by decide) e20 ?_
    exact lc_20 C0 hlt hd hL hi h k
  rw [if_neg e20] at h
  by_cases e21 : op = 21
  · rw [if_pos e21] at h
    refine wl_tswIn C0 1587 21 dL_law_39 ⟨by decide, by decide, by decide⟩ rfl (by decide) e21 ?_
    exact lc_21 C0 hlt hd hL hi h k
  rw [if_neg e21] at h
  by_cases e22 : op = 22
  · rw [if_pos e22] at h
    refine wl_tswIn C0 1655 22 dL_law_39 ⟨by decide, by decide, by decide⟩ rfl (by decide) e22 ?_
    exact lc_22 C0 hlt hd hL hi h k
  rw [if_neg e22] at h
  obtain ⟨rfl, hB⟩ := h
  refine wl_tswOut C0 1711 dL_law_39 hor ?_ (by decide) k
  omega
theorem StOK.b {w : Option (Int × Sg)} {m t : Sg → Option (Int × Sg)} {z : Prop} {σ σ' : Sg} (h : StOK w m t z σ σ') : Bnd σ' := by
  obtain ⟨k, r, σ1, σ2, -, -, -, -, -, -, -, -, -, -, h⟩ := h
  exact h
theorem StC.b {w : Option (Int × Sg)} {m : Sg → Option (Int × Sg)} {σ σ' : Sg} (h : StC w m σ σ') : Bnd σ' := by
  obtain ⟨r, σ1, -, -, -, -, h⟩ := h
  exact h
theorem LStep_bnd {d : Nat} {x : Nat → Int} {σ σ' : Sg} (h : LStep d x σ σ') : Bnd σ' := by
  unfold LStep at h
  generalize o_and (x 0) 31 = op at h
  by_cases e0 : op = 0
  · rw [if_pos e0] at h; exact h.b
  rw [if_neg e0] at h
  by_cases e1 : op = 1
  · rw [if_pos e1] at h; exact h.b
  rw [if_neg e1] at h
  by_cases e2 : op = 2
  · rw [if_pos e2] at h; exact h.b
  rw [if_neg e2] at h
  by_cases e3 : op = 3
  · rw [if_pos e3] at h; exact h.b
  rw [if_neg e3] at h
  by_cases e4 : op = 4
  · rw [if_pos e4] at h; exact h.b
  rw [if_neg e4] at h
  by_cases e5 : op = 5
  · rw [if_pos e5] at h; exact h.b
  rw [if_neg e5] at h
  by_cases e6 : op = 6
  · rw [if_pos e6] at h; exact h.b
  rw [if_neg e6] at h
  by_cases e7 : op = 7
  · rw [if_pos e7] at h; exact h.b
  rw [if_neg e7] at h
  by_cases e8 : op = 8
  · rw [if_pos e8] at h; exact h.b
  rw [if_neg e8] at h
  by_cases e9 : op = 9
  · rw [if_pos e9] at h; exact h.b
  rw [if_neg e9] at h
  by_cases e10 : op = 10
  · rw [if_pos e10] at h; exact h.b
  rw [if_neg e10] at h
  by_cases e11 : op = 11
  · rw [if_pos e11] at h; exact h.b
  rw [if_neg e11] at h
  by_cases e12 : op = 12
  · rw [if_pos e12] at h; exact h.b
  rw [if_neg e12] at h
  by_cases e13 : op = 13
  · rw [if_pos e13] at h; exact h.b
  rw [if_neg e13] at h
  by_cases e14 : op = 14
  · rw [if_pos e14] at h; exact h.b
  rw [if_neg e14] at h
  by_cases e15 : op = 15
  · rw [if_pos e15] at h; exact h.b
  rw [if_neg e15] at h
  by_cases e16 : op = 16
  · rw [if_pos e16] at h; exact h.b
  rw [if_neg e16] at h
  by_cases e17 : op = 17
  · rw [if_pos e17] at h; exact h.b
  rw [if_neg e17] at h
  by_cases e18 : op = 18
  · rw [if_pos e18] at h; exact h.b
  rw [if_neg e18] at h
  by_cases e19 : op = 19
  · rw [if_pos e19] at h; exact h.b
  rw [if_neg e19] at h
  by_cases e20 : op = 20
  · rw [if_pos e20] at h; exact h.b
  rw [if_neg e20] at h
  by_cases e21 : op = 21
  · rw [if_pos e21] at h; exact h.b
  rw [if_neg e21] at h
  by_cases e22 : op = 22
  · rw [if_pos e22] at h; exact h.b
  rw [if_neg e22] at h
  obtain ⟨rfl, h⟩ := h
  exact h
