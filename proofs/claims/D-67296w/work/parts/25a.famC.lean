theorem Ct_none {l : Launch} {d : Nat} {F : Fm} {cl0 : List vw_C} {y : MethodName} {cy : ByteArray} {nL : Nat} {ret : Option FieldType} {D : Nat} {α : Type} {rv : α → Rs} {As : List AV} {σ : Sg} : Ct l d F cl0 y cy nL ret D rv As σ none := ⟨(fun _ _ r σ' h => by cases h), (fun r σ' h => by cases h)⟩
def AX1_clear_ (l : Launch) (d : Nat) : Prop := ∀ (u : Sg), Ct l d FC clA yX1_clear cX1_clear 2 (some .int) DX1_clear rvI [vR 1] u (runC d 0 [] u)
def AX1_loci_ (l : Launch) (d : Nat) : Prop := ∀ (a1 : Int) (u : Sg), Ct l d FC clA yX1_loci cX1_loci 5 (some .int) DX1_loci rvI [vR 1, vI a1] u (runC d 5 [a1] u)
def AX1_isTerm_ (l : Launch) (d : Nat) : Prop := ∀ (a1 : Int) (u : Sg), Ct l d FC clA yX1_isTerm cX1_isTerm 1 (some .boolean) DX1_isTerm rvI [vI a1] u (runC d 12 [a1] u)
def AX1_withSet_ (l : Launch) (d : Nat) : Prop := ∀ (a1 a2 a3 : Int) (u : Sg), Ct l d FC clA yX1_withSet cX1_withSet 6 (some .int) DX1_withSet rvI [vR 1, vI a1, vI a2, vI a3] u (runC d 14 [a1, a2, a3] u)
def AX1_typed_ (l : Launch) (d : Nat) : Prop := ∀ (a1 a2 a3 : Int) (u : Sg), Ct l d FC clA yX1_typed cX1_typed 8 (some .int) DX1_typed rvI [vR 1, vI a1, vI a2, vI a3] u (runC d 15 [a1, a2, a3] u)
def AX1_newOne_ (l : Launch) (d : Nat) : Prop := ∀ (a1 : Int) (u : Sg), Ct l d FC clA yX1_newOne cX1_newOne 2 (some .int) DX1_newOne rvI [vR 1, vI a1] u (runC d 19 [a1] u)
def AX1_either_ (l : Launch) (d : Nat) : Prop := ∀ (a1 a2 : Int) (u : Sg), Ct l d FC clA yX1_either cX1_either 5 (some .int) DX1_either rvI [vR 1, vI a1, vI a2] u (runC d 27 [a1, a2] u)
def AX1_argOf_ (l : Launch) (d : Nat) : Prop := ∀ (a1 : Int) (u : Sg), Ct l d FC clA yX1_argOf cX1_argOf 2 (some .int) DX1_argOf rvI [vR 1, vI a1] u (runC d 30 [a1] u)
def AX1_casesOf_ (l : Launch) (d : Nat) : Prop := ∀ (a1 a2 : Int) (u : Sg), Ct l d FC clA yX1_casesOf cX1_casesOf 7 (some .int) DX1_casesOf rvI [vR 1, vI a1, vI a2] u (runC d 37 [a1, a2] u)
def AX1_open_ (l : Launch) (d : Nat) : Prop := ∀ (a1 : Int) (u : Sg), Ct l d FC clA yX1_open cX1_open 7 (some .int) DX1_open rvI [vR 1, vI a1] u (runC d 38 [a1] u)
def AX1_pend_ (l : Launch) (d : Nat) : Prop := ∀ (a1 a2 : Int) (u : Sg), Ct l d FC clA yX1_pend cX1_pend 3 (some .int) DX1_pend rvI [vR 1, vI a1, vI a2] u (runC d 39 [a1, a2] u)
def AX1_split_ (l : Launch) (d : Nat) : Prop := ∀ (a1 a2 : Int) (u : Sg), Ct l d FC clA yX1_split cX1_split 9 none DX1_split rvV [vR 1, vI a1, vI a2] u (runC d 40 [a1, a2] u)
def AX1_refuted_ (l : Launch) (d : Nat) : Prop := ∀ (a1 a2 : Int) (u : Sg), Ct l d FC clA yX1_refuted cX1_refuted 6 (some .int) DX1_refuted rvI [vR 1, vI a1, vI a2] u (runC d 41 [a1, a2] u)
def AX1_know_ (l : Launch) (d : Nat) : Prop := ∀ (a1 : Int) (u : Sg), Ct l d FC clA yX1_know cX1_know 2 none DX1_know rvV [vR 1, vI a1] u (runC d 42 [a1] u)
def AX1_room_2_ (l : Launch) (d : Nat) : Prop := ∀ (a1 : Int) (u : Sg), Ct l d FC clA yX1_room_2 cX1_room_2 3 none DX1_room_2 rvV [vR 1, vI a1] u (runC d 43 [a1] u)
def AX1_termsOf_ (l : Launch) (d : Nat) : Prop := ∀ (a1 : Int) (u : Sg), Ct l d FC clA yX1_termsOf cX1_termsOf 4 none DX1_termsOf rvV [vR 1, vI a1] u (runC d 44 [a1] u)
def AX1_atHand_ (l : Launch) (d : Nat) : Prop := ∀ (a1 : Int) (u : Sg), Ct l d FC clA yX1_atHand cX1_atHand 3 none DX1_atHand rvV [vR 1, vI a1] u (runC d 45 [a1] u)
def AX1_isAtHand_ (l : Launch) (d : Nat) : Prop := ∀ (a1 : Int) (u : Sg), Ct l d FC clA yX1_isAtHand cX1_isAtHand 2 (some .boolean) DX1_isAtHand rvI [vR 1, vI a1] u (runC d 46 [a1] u)
def AX1_typeOf_ (l : Launch) (d : Nat) : Prop := ∀ (a1 : Int) (u : Sg), Ct l d FC clA yX1_typeOf cX1_typeOf 3 (some .int) DX1_typeOf rvI [vR 1, vI a1] u (runC d 47 [a1] u)
def AX1_hasType_ (l : Launch) (d : Nat) : Prop := ∀ (a1 a2 : Int) (u : Sg), Ct l d FC clA yX1_hasType cX1_hasType 6 (some .boolean) DX1_hasType rvI [vR 1, vI a1, vI a2] u (runC d 48 [a1, a2] u)
def AX1_hasModeFact_ (l : Launch) (d : Nat) : Prop := ∀ (a1 a2 a3 : Int) (u : Sg), Ct l d FC clA yX1_hasModeFact cX1_hasModeFact 5 (some .boolean) DX1_hasModeFact rvI [vR 1, vI a1, vI a2, vI a3] u (runC d 49 [a1, a2, a3] u)
def AX1_adjectiveFact_ (l : Launch) (d : Nat) : Prop := ∀ (a1 a2 : Int) (u : Sg), Ct l d FC clA yX1_adjectiveFact cX1_adjectiveFact 4 (some .boolean) DX1_adjectiveFact rvI [vR 1, vI a1, vI a2] u (runC d 50 [a1, a2] u)
def AX1_parent_ (l : Launch) (d : Nat) : Prop := ∀ (a1 : Int) (u : Sg), Ct l d FC clA yX1_parent cX1_parent 2 (some .int) DX1_parent rvI [vR 1, vI a1] u (runC d 51 [a1] u)
def AX1_firstsOf_ (l : Launch) (d : Nat) : Prop := ∀ (u : Sg), Ct l d FC clA yX1_firstsOf cX1_firstsOf 5 (some .int) DX1_firstsOf rvI [vR 1] u (runC d 52 [] u)
def AX1_stands_ (l : Launch) (d : Nat) : Prop := ∀ (a1 : Int) (u : Sg), Ct l d FC clA yX1_stands cX1_stands 3 (some .boolean) DX1_stands rvI [vR 1, vI a1] u (runC d 53 [a1] u)
def AX1_close_ (l : Launch) (d : Nat) : Prop := ∀ (u : Sg), Ct l d FC clA yX1_close cX1_close 6 none DX1_close rvV [vR 1] u (runC d 54 [] u)
def AX1_join_2_ (l : Launch) (d : Nat) : Prop := ∀ (a1 a2 : Int) (u : Sg), Ct l d FC clA yX1_join_2 cX1_join_2 5 (some .boolean) DX1_join_2 rvI [vR 1, vI a1, vI a2] u (runC d 55 [a1, a2] u)
def AX1_root_ (l : Launch) (d : Nat) : Prop := ∀ (a1 : Int) (u : Sg), Ct l d FC clA yX1_root cX1_root 3 (some .int) DX1_root rvI [vR 1, vI a1] u (runC d 56 [a1] u)
def AX1_plain_ (l : Launch) (d : Nat) : Prop := ∀ (a1 a2 : Int) (u : Sg), Ct l d FC clA yX1_plain cX1_plain 4 (some .int) DX1_plain rvI [vR 1, vI a1, vI a2] u (runC d 57 [a1, a2] u)
def AX1_alikeTerms_ (l : Launch) (d : Nat) : Prop := ∀ (a1 a2 : Int) (u : Sg), Ct l d FC clA yX1_alikeTerms cX1_alikeTerms 7 (some .boolean) DX1_alikeTerms rvI [vR 1, vI a1, vI a2] u (runC d 58 [a1, a2] u)
def AX1_equal_ (l : Launch) (d : Nat) : Prop := ∀ (a1 a2 : Int) (u : Sg), Ct l d FC clA yX1_equal cX1_equal 3 (some .boolean) DX1_equal rvI [vR 1, vI a1, vI a2] u (runC d 59 [a1, a2] u)
def AX1_closeTerm_ (l : Launch) (d : Nat) : Prop := ∀ (a1 : Int) (u : Sg), Ct l d FC clA yX1_closeTerm cX1_closeTerm 10 (some .boolean) DX1_closeTerm rvI [vR 1, vI a1] u (runC d 60 [a1] u)
def AX1_classFits_ (l : Launch) (d : Nat) : Prop := ∀ (a1 a2 : Int) (u : Sg), Ct l d FC clA yX1_classFits cX1_classFits 4 (some .boolean) DX1_classFits rvI [vR 1, vI a1, vI a2] u (runC d 61 [a1, a2] u)
def AX1_classHasMode_ (l : Launch) (d : Nat) : Prop := ∀ (a1 a2 a3 : Int) (u : Sg), Ct l d FC clA yX1_classHasMode cX1_classHasMode 5 (some .boolean) DX1_classHasMode rvI [vR 1, vI a1, vI a2, vI a3] u (runC d 62 [a1, a2, a3] u)
def AX1_classHas_ (l : Launch) (d : Nat) : Prop := ∀ (a1 a2 : Int) (u : Sg), Ct l d FC clA yX1_classHas cX1_classHas 4 (some .boolean) DX1_classHas rvI [vR 1, vI a1, vI a2] u (runC d 63 [a1, a2] u)
def AX1_closeClasses_ (l : Launch) (d : Nat) : Prop := ∀ (a1 : Int) (u : Sg), Ct l d FC clA yX1_closeClasses cX1_closeClasses 8 (some .boolean) DX1_closeClasses rvI [vR 1, vI a1] u (runC d 64 [a1] u)
def AX1_contradictory_ (l : Launch) (d : Nat) : Prop := ∀ (u : Sg), Ct l d FC clA yX1_contradictory cX1_contradictory 6 (some .boolean) DX1_contradictory rvI [vR 1] u (runC d 65 [] u)
def AX1_isKnownHere_ (l : Launch) (d : Nat) : Prop := ∀ (a1 : Int) (u : Sg), Ct l d FC clA yX1_isKnownHere cX1_isKnownHere 2 (some .boolean) DX1_isKnownHere rvI [vR 1, vI a1] u (runC d 66 [a1] u)
def AX1_holds_ (l : Launch) (d : Nat) : Prop := ∀ (a1 : Int) (u : Sg), Ct l d FC clA yX1_holds cX1_holds 3 (some .boolean) DX1_holds rvI [vR 1, vI a1] u (runC d 67 [a1] u)
def AX1_fails_ (l : Launch) (d : Nat) : Prop := ∀ (a1 a2 : Int) (u : Sg), Ct l d FC clA yX1_fails cX1_fails 8 (some .boolean) DX1_fails rvI [vR 1, vI a1, vI a2] u (runC d 68 [a1, a2] u)
def AX1_isSaid_ (l : Launch) (d : Nat) : Prop := ∀ (a1 a2 : Int) (u : Sg), Ct l d FC clA yX1_isSaid cX1_isSaid 5 (some .boolean) DX1_isSaid rvI [vR 1, vI a1, vI a2] u (runC d 69 [a1, a2] u)
def AX1_sameAtom_ (l : Launch) (d : Nat) : Prop := ∀ (a1 a2 : Int) (u : Sg), Ct l d FC clA yX1_sameAtom cX1_sameAtom 4 (some .boolean) DX1_sameAtom rvI [vR 1, vI a1, vI a2] u (runC d 70 [a1, a2] u)
def AX1_round_ (l : Launch) (d : Nat) : Prop := ∀ (u : Sg), Ct l d FC clA yX1_round cX1_round 8 (some .boolean) DX1_round rvI [vR 1] u (runC d 71 [] u)
def AX1_come_ (l : Launch) (d : Nat) : Prop := ∀ (a1 : Int) (u : Sg), Ct l d FC clA yX1_come cX1_come 3 none DX1_come rvV [vR 1, vI a1] u (runC d 72 [a1] u)
def AX1_isNew_ (l : Launch) (d : Nat) : Prop := ∀ (a1 : Int) (u : Sg), Ct l d FC clA yX1_isNew cX1_isNew 2 (some .boolean) DX1_isNew rvI [vR 1, vI a1] u (runC d 73 [a1] u)
def AX1_placed_ (l : Launch) (d : Nat) : Prop := ∀ (a1 a2 a3 : Int) (u : Sg), Ct l d FC clA yX1_placed cX1_placed 12 (some .int) DX1_placed rvI [vR 1, vI a1, vI a2, vI a3] u (runC d 74 [a1, a2, a3] u)
def AX1_isWithin_ (l : Launch) (d : Nat) : Prop := ∀ (a1 a2 : Int) (u : Sg), Ct l d FC clA yX1_isWithin cX1_isWithin 5 (some .boolean) DX1_isWithin rvI [vR 1, vI a1, vI a2] u (runC d 75 [a1, a2] u)
def AX1_counted_ (l : Launch) (d : Nat) : Prop := ∀ (a1 : Int) (u : Sg), Ct l d FC clA yX1_counted cX1_counted 2 (some .int) DX1_counted rvI [vR 1, vI a1] u (runC d 76 [a1] u)
def AX1_oneLeft_ (l : Launch) (d : Nat) : Prop := ∀ (a1 : Int) (u : Sg), Ct l d FC clA yX1_oneLeft cX1_oneLeft 5 none DX1_oneLeft rvV [vR 1, vI a1] u (runC d 77 [a1] u)
def AX1_newConstant_ (l : Launch) (d : Nat) : Prop := ∀ (a1 : Int) (u : Sg), Ct l d FC clA yX1_newConstant cX1_newConstant 2 none DX1_newConstant rvV [vR 1, vI a1] u (runC d 78 [a1] u)
def AX1_forget_ (l : Launch) (d : Nat) : Prop := ∀ (a1 a2 a3 : Int) (u : Sg), Ct l d FC clA yX1_forget cX1_forget 4 none DX1_forget rvV [vR 1, vI a1, vI a2, vI a3] u (runC d 79 [a1, a2, a3] u)
def AX1_fits0_ (l : Launch) (d : Nat) : Prop := ∀ (a1 a2 : Int) (u : Sg), Ct l d FC clA yX1_fits0 cX1_fits0 3 (some .boolean) DX1_fits0 rvI [vR 1, vI a1, vI a2] u (runC d 81 [a1, a2] u)
def AX1_hasMode_ (l : Launch) (d : Nat) : Prop := ∀ (a1 a2 a3 : Int) (u : Sg), Ct l d FC clA yX1_hasMode cX1_hasMode 5 (some .boolean) DX1_hasMode rvI [vR 1, vI a1, vI a2, vI a3] u (runC d 82 [a1, a2, a3] u)
def AX1_adjectivesOf_ (l : Launch) (d : Nat) : Prop := ∀ (a1 : Int) (u : Sg), Ct l d FC clA yX1_adjectivesOf cX1_adjectivesOf 2 (some .int) DX1_adjectivesOf rvI [vR 1, vI a1] u (runC d 83 [a1] u)
def AX1_adjectivesOf0_ (l : Launch) (d : Nat) : Prop := ∀ (a1 : Int) (u : Sg), Ct l d FC clA yX1_adjectivesOf0 cX1_adjectivesOf0 10 (some .int) DX1_adjectivesOf0 rvI [vR 1, vI a1] u (runC d 84 [a1] u)
def AX1_addAdjective_ (l : Launch) (d : Nat) : Prop := ∀ (a1 a2 : Int) (u : Sg), Ct l d FC clA yX1_addAdjective cX1_addAdjective 4 (some .boolean) DX1_addAdjective rvI [vR 1, vI a1, vI a2] u (runC d 85 [a1, a2] u)
def AX1_inRow_ (l : Launch) (d : Nat) : Prop := ∀ (a1 a2 : Int) (u : Sg), Ct l d FC clA yX1_inRow cX1_inRow 4 (some .boolean) DX1_inRow rvI [vR 1, vI a1, vI a2] u (runC d 86 [a1, a2] u)
def AX1_ofMode_ (l : Launch) (d : Nat) : Prop := ∀ (a1 a2 : Int) (u : Sg), Ct l d FC clA yX1_ofMode cX1_ofMode 5 (some .boolean) DX1_ofMode rvI [vR 1, vI a1, vI a2] u (runC d 87 [a1, a2] u)
def AX1_within_ (l : Launch) (d : Nat) : Prop := ∀ (a1 a2 : Int) (u : Sg), Ct l d FC clA yX1_within cX1_within 4 (some .boolean) DX1_within rvI [vR 1, vI a1, vI a2] u (runC d 88 [a1, a2] u)
def AX1_hasAdjective_ (l : Launch) (d : Nat) : Prop := ∀ (a1 a2 : Int) (u : Sg), Ct l d FC clA yX1_hasAdjective cX1_hasAdjective 4 (some .boolean) DX1_hasAdjective rvI [vR 1, vI a1, vI a2] u (runC d 89 [a1, a2] u)
def AX2_make_ (l : Launch) (d : Nat) : Prop := ∀ (a1 a2 a3 : Int) (u : Sg), Ct l d FC clA yX2_make cX2_make 13 (some .int) DX2_make rvI [vR 0, vI a1, vI a2, vI a3] u (runC d 94 [a1, a2, a3] u)
def AX2_hash_ (l : Launch) (d : Nat) : Prop := ∀ (a1 a2 a3 : Int) (u : Sg), Ct l d FC clA yX2_hash cX2_hash 6 (some .int) DX2_hash rvI [vR 0, vI a1, vI a2, vI a3] u (runC d 95 [a1, a2, a3] u)
def AX2_make_2_ (l : Launch) (d : Nat) : Prop := ∀ (a1 a2 a3 a4 : Int) (u : Sg), Ct l d FC clA yX2_make_2 cX2_make_2 6 (some .int) DX2_make_2 rvI [vR 0, vI a1, vI a2, vI a3, vI a4] u (runC d 96 [a1, a2, a3, a4] u)
def AX2_push_ (l : Launch) (d : Nat) : Prop := ∀ (a1 : Int) (u : Sg), Ct l d FC clA yX2_push cX2_push 2 none DX2_push rvV [vR 0, vI a1] u (runC d 97 [a1] u)
def AX2_at_ (l : Launch) (d : Nat) : Prop := ∀ (a1 a2 : Int) (u : Sg), Ct l d FC clA yX2_at cX2_at 3 (some .int) DX2_at rvI [vR 0, vI a1, vI a2] u (runC d 98 [a1, a2] u)
def AX2_forget_ (l : Launch) (d : Nat) : Prop := ∀ (a1 a2 : Int) (u : Sg), Ct l d FC clA yX2_forget cX2_forget 5 none DX2_forget rvV [vR 0, vI a1, vI a2] u (runC d 99 [a1, a2] u)
def AX2_mode_ (l : Launch) (d : Nat) : Prop := ∀ (a1 a2 a3 : Int) (u : Sg), Ct l d FC clA yX2_mode cX2_mode 4 (some .int) DX2_mode rvI [vR 0, vI a1, vI a2, vI a3] u (runC d 100 [a1, a2, a3] u)
def AX2_pair_ (l : Launch) (d : Nat) : Prop := ∀ (a1 a2 a3 a4 : Int) (u : Sg), Ct l d FC clA yX2_pair cX2_pair 6 (some .int) DX2_pair rvI [vR 0, vI a1, vI a2, vI a3, vI a4] u (runC d 101 [a1, a2, a3, a4] u)
def AX2_not_ (l : Launch) (d : Nat) : Prop := ∀ (a1 : Int) (u : Sg), Ct l d FC clA yX2_not cX2_not 2 (some .int) DX2_not rvI [vR 0, vI a1] u (runC d 102 [a1] u)
def AX2_and_ (l : Launch) (d : Nat) : Prop := ∀ (a1 a2 : Int) (u : Sg), Ct l d FC clA yX2_and cX2_and 4 (some .int) DX2_and rvI [vR 0, vI a1, vI a2] u (runC d 103 [a1, a2] u)
def AX2_and_2_ (l : Launch) (d : Nat) : Prop := ∀ (a1 : Int) (u : Sg), Ct l d FC clA yX2_and_2 cX2_and_2 7 (some .int) DX2_and_2 rvI [vR 0, vI a1] u (runC d 104 [a1] u)
def AX2_implies_ (l : Launch) (d : Nat) : Prop := ∀ (a1 a2 : Int) (u : Sg), Ct l d FC clA yX2_implies cX2_implies 3 (some .int) DX2_implies rvI [vR 0, vI a1, vI a2] u (runC d 105 [a1, a2] u)
def AX2_iff_ (l : Launch) (d : Nat) : Prop := ∀ (a1 a2 : Int) (u : Sg), Ct l d FC clA yX2_iff cX2_iff 3 (some .int) DX2_iff rvI [vR 0, vI a1, vI a2] u (runC d 106 [a1, a2] u)
def AX2_bind_ (l : Launch) (d : Nat) : Prop := ∀ (a1 a2 : Int) (u : Sg), Ct l d FC clA yX2_bind cX2_bind 3 (some .int) DX2_bind rvI [vR 0, vI a1, vI a2] u (runC d 107 [a1, a2] u)
def AX2_change_ (l : Launch) (d : Nat) : Prop := ∀ (a1 a2 : Int) (u : Sg), Ct l d FC clA yX2_change cX2_change 10 (some .int) DX2_change rvI [vR 0, vI a1, vI a2] u (runC d 108 [a1, a2] u)
def AX2_all_ (l : Launch) (d : Nat) : Prop := ∀ (a1 a2 : Int) (u : Sg), Ct l d FC clA yX2_all cX2_all 3 (some .int) DX2_all rvI [vR 0, vI a1, vI a2] u (runC d 109 [a1, a2] u)
def AX2_put_ (l : Launch) (d : Nat) : Prop := ∀ (a1 a2 : Int) (u : Sg), Ct l d FC clA yX2_put cX2_put 3 (some .int) DX2_put rvI [vR 0, vI a1, vI a2] u (runC d 110 [a1, a2] u)
def AX2_loci_ (l : Launch) (d : Nat) : Prop := ∀ (a1 a2 a3 a4 : Int) (u : Sg), Ct l d FC clA yX2_loci cX2_loci 5 (some .int) DX2_loci rvI [vR 0, vI a1, vI a2, vI a3, vI a4] u (runC d 111 [a1, a2, a3, a4] u)
def AX2_has_ (l : Launch) (d : Nat) : Prop := ∀ (a1 a2 : Int) (u : Sg), Ct l d FC clA yX2_has cX2_has 5 (some .boolean) DX2_has rvI [vR 0, vI a1, vI a2] u (runC d 112 [a1, a2] u)
def AX2_seek_ (l : Launch) (d : Nat) : Prop := ∀ (a1 a2 a3 : Int) (u : Sg), Ct l d FC clA yX2_seek cX2_seek 8 (some .int) DX2_seek rvI [vR 0, vI a1, vI a2, vI a3] u (runC d 113 [a1, a2, a3] u)
def AX2_partsOf_ (l : Launch) (d : Nat) : Prop := ∀ (a1 : Int) (u : Sg), Ct l d FC clA yX2_partsOf cX2_partsOf 2 (some .int) DX2_partsOf rvI [vR 0, vI a1] u (runC d 114 [a1] u)
def AAC (l : Launch) (d : Nat) : Prop := AX1_clear_ l d ∧ AX1_loci_ l d ∧ AX1_isTerm_ l d ∧ AX1_withSet_ l d ∧ AX1_typed_ l d ∧ AX1_newOne_ l d ∧ AX1_either_ l d ∧ AX1_argOf_ l d ∧ AX1_casesOf_ l d ∧ AX1_open_ l d ∧ AX1_pend_ l d ∧ AX1_split_ l d ∧ AX1_refuted_ l d ∧ AX1_know_ l d ∧ AX1_room_2_ l d ∧ AX1_termsOf_ l d ∧ AX1_atHand_ l d ∧ AX1_isAtHand_ l d ∧ AX1_typeOf_ l d ∧ AX1_hasType_ l d ∧ AX1_hasModeFact_ l d ∧ AX1_adjectiveFact_ l d ∧ AX1_parent_ l d ∧ AX1_firstsOf_ l d ∧ AX1_stands_ l d ∧ AX1_close_ l d ∧ AX1_join_2_ l d ∧ AX1_root_ l d ∧ AX1_plain_ l d ∧ AX1_alikeTerms_ l d ∧ AX1_equal_ l d ∧ AX1_closeTerm_ l d ∧ AX1_classFits_ l d ∧ AX1_classHasMode_ l d ∧ AX1_classHas_ l d ∧ AX1_closeClasses_ l d ∧ AX1_contradictory_ l d ∧ AX1_isKnownHere_ l d ∧ AX1_holds_ l d ∧ AX1_fails_ l d ∧ AX1_isSaid_ l d ∧ AX1_sameAtom_ l d ∧ AX1_round_ l d ∧ AX1_come_ l d ∧ AX1_isNew_ l d ∧ AX1_placed_ l d ∧ AX1_isWithin_ l d ∧ AX1_counted_ l d ∧ AX1_oneLeft_ l d ∧ AX1_newConstant_ l d ∧ AX1_forget_ l d ∧ AX1_fits0_ l d ∧ AX1_hasMode_ l d ∧ AX1_adjectivesOf_ l d ∧ AX1_adjectivesOf0_ l d ∧ AX1_addAdjective_ l d ∧ AX1_inRow_ l d ∧ AX1_ofMode_ l d ∧ AX1_within_ l d ∧ AX1_hasAdjective_ l d ∧ AX2_make_ l d ∧ AX2_hash_ l d ∧ AX2_make_2_ l d ∧ AX2_push_ l d ∧ AX2_at_ l d ∧ AX2_forget_ l d ∧ AX2_mode_ l d ∧ AX2_pair_ l d ∧ AX2_not_ l d ∧ AX2_and_ l d ∧ AX2_and_2_ l d ∧ AX2_implies_ l d ∧ AX2_iff_ l d ∧ AX2_bind_ l d ∧ AX2_change_ l d ∧ AX2_all_ l d ∧ AX2_put_ l d ∧ AX2_loci_ l d ∧ AX2_has_ l d ∧ AX2_seek_ l d ∧ AX2_partsOf_ l d
theorem sX1_clear {l : Launch} {d : Nat} (hd : 2 ≤ d) (p0 : Program) (e0 : Env) (s0 : State) (m0 : MethodId) (meth0 : Method) (c0 : Code) (G0 : Gm) : AX1_clear_ l (d + 1) := fun  u => by
  rw [runC_eq hd]
  exact ctX1_clear (call := runC d) p0 e0 s0 m0 meth0 c0 G0 hd   u
theorem sX1_loci {l : Launch} {d : Nat} (hd : 2 ≤ d) (hX2_at : AX2_at_ l d) (hX1_loci : AX1_loci_ l d) (p0 : Program) (e0 : Env) (s0 : State) (m0 : MethodId) (meth0 : Method) (c0 : Code) (G0 : Gm) : AX1_loci_ l (d + 1) := fun a1 u => by
  rw [runC_eq hd]
  exact ctX1_loci (call := runC d) p0 e0 s0 m0 meth0 c0 G0 hd hX2_at hX1_loci a1 u
theorem sX1_isTerm {l : Launch} {d : Nat} (hd : 2 ≤ d) (p0 : Program) (e0 : Env) (s0 : State) (m0 : MethodId) (meth0 : Method) (c0 : Code) (G0 : Gm) : AX1_isTerm_ l (d + 1) := fun a1 u => by
  rw [runC_eq hd]
  exact ctX1_isTerm (call := runC d) p0 e0 s0 m0 meth0 c0 G0 hd  a1 u
theorem sX1_withSet {l : Launch} {d : Nat} (hd : 2 ≤ d) (hX2_push : AX2_push_ l d) (hX1_typed : AX1_typed_ l d) (p0 : Program) (e0 : Env) (s0 : State) (m0 : MethodId) (meth0 : Method) (c0 : Code) (G0 : Gm) : AX1_withSet_ l (d + 1) := fun a1 a2 a3 u => by
  rw [runC_eq hd]
  exact ctX1_withSet (call := runC d) p0 e0 s0 m0 meth0 c0 G0 hd hX2_push hX1_typed a1 a2 a3 u
theorem sX1_typed {l : Launch} {d : Nat} (hd : 2 ≤ d) (hX2_push : AX2_push_ l d) (hX2_make : AX2_make_ l d) (p0 : Program) (e0 : Env) (s0 : State) (m0 : MethodId) (meth0 : Method) (c0 : Code) (G0 : Gm) : AX1_typed_ l (d + 1) := fun a1 a2 a3 u => by
  rw [runC_eq hd]
  exact ctX1_typed (call := runC d) p0 e0 s0 m0 meth0 c0 G0 hd hX2_push hX2_make a1 a2 a3 u
theorem sX1_newOne {l : Launch} {d : Nat} (hd : 2 ≤ d) (hX2_make : AX2_make_ l d) (p0 : Program) (e0 : Env) (s0 : State) (m0 : MethodId) (meth0 : Method) (c0 : Code) (G0 : Gm) : AX1_newOne_ l (d + 1) := fun a1 u => by
  rw [runC_eq hd]
  exact ctX1_newOne (call := runC d) p0 e0 s0 m0 meth0 c0 G0 hd hX2_make a1 u
theorem sX1_either {l : Launch} {d : Nat} (hd : 2 ≤ d) (hX2_not : AX2_not_ l d) (hX2_and : AX2_and_ l d) (p0 : Program) (e0 : Env) (s0 : State) (m0 : MethodId) (meth0 : Method) (c0 : Code) (G0 : Gm) : AX1_either_ l (d + 1) := fun a1 a2 u => by
  rw [runC_eq hd]
  exact ctX1_either (call := runC d) p0 e0 s0 m0 meth0 c0 G0 hd hX2_not hX2_and a1 a2 u
theorem sX1_argOf {l : Launch} {d : Nat} (hd : 2 ≤ d) (hX2_at : AX2_at_ l d) (p0 : Program) (e0 : Env) (s0 : State) (m0 : MethodId) (meth0 : Method) (c0 : Code) (G0 : Gm) : AX1_argOf_ l (d + 1) := fun a1 u => by
  rw [runC_eq hd]
  exact ctX1_argOf (call := runC d) p0 e0 s0 m0 meth0 c0 G0 hd hX2_at a1 u
theorem sX1_casesOf {l : Launch} {d : Nat} (hd : 2 ≤ d) (hX1_casesOf : AX1_casesOf_ l d) (hX2_at : AX2_at_ l d) (p0 : Program) (e0 : Env) (s0 : State) (m0 : MethodId) (meth0 : Method) (c0 : Code) (G0 : Gm) : AX1_casesOf_ l (d + 1) := fun a1 a2 u => by
  rw [runC_eq hd]
  exact ctX1_casesOf (call := runC d) p0 e0 s0 m0 meth0 c0 G0 hd hX1_casesOf hX2_at a1 a2 u
theorem sX1_open {l : Launch} {d : Nat} (hd : 2 ≤ d) (hX2_at : AX2_at_ l d) (hX1_open : AX1_open_ l d) (hX2_push : AX2_push_ l d) (hX2_and_2 : AX2_and_2_ l d) (hX2_not : AX2_not_ l d) (hX2_make : AX2_make_ l d) (hX1_newOne : AX1_newOne_ l d) (hX2_put : AX2_put_ l d) (p0 : Program) (e0 : Env) (s0 : State) (m0 : MethodId) (meth0 : Method) (c0 : Code) (G0 : Gm) : AX1_open_ l (d + 1) := fun a1 u => by
  rw [runC_eq hd]
  exact ctX1_open (call := runC d) p0 e0 s0 m0 meth0 c0 G0 hd hX2_at hX1_open hX2_push hX2_and_2 hX2_not hX2_make hX1_newOne hX2_put a1 u
theorem sX1_pend {l : Launch} {d : Nat} (hd : 2 ≤ d) (p0 : Program) (e0 : Env) (s0 : State) (m0 : MethodId) (meth0 : Method) (c0 : Code) (G0 : Gm) : AX1_pend_ l (d + 1) := fun a1 a2 u => by
  rw [runC_eq hd]
  exact ctX1_pend (call := runC d) p0 e0 s0 m0 meth0 c0 G0 hd  a1 a2 u
theorem sX1_split {l : Launch} {d : Nat} (hd : 2 ≤ d) (hX2_at : AX2_at_ l d) (hX1_pend : AX1_pend_ l d) (hX1_refuted : AX1_refuted_ l d) (hX1_forget : AX1_forget_ l d) (hX1_split : AX1_split_ l d) (p0 : Program) (e0 : Env) (s0 : State) (m0 : MethodId) (meth0 : Method) (c0 : Code) (G0 : Gm) : AX1_split_ l (d + 1) := fun a1 a2 u => by
  rw [runC_eq hd]
  exact ctX1_split (call := runC d) p0 e0 s0 m0 meth0 c0 G0 hd hX2_at hX1_pend hX1_refuted hX1_forget hX1_split a1 a2 u
theorem sX1_refuted {l : Launch} {d : Nat} (hd : 2 ≤ d) (hX1_know : AX1_know_ l d) (hX1_termsOf : AX1_termsOf_ l d) (hX1_firstsOf : AX1_firstsOf_ l d) (hX1_atHand : AX1_atHand_ l d) (hX1_contradictory : AX1_contradictory_ l d) (hX1_round : AX1_round_ l d) (hX1_close : AX1_close_ l d) (p0 : Program) (e0 : Env) (s0 : State) (m0 : MethodId) (meth0 : Method) (c0 : Code) (G0 : Gm) : AX1_refuted_ l (d + 1) := fun a1 a2 u => by
  rw [runC_eq hd]
  exact ctX1_refuted (call := runC d) p0 e0 s0 m0 meth0 c0 G0 hd hX1_know hX1_termsOf hX1_firstsOf hX1_atHand hX1_contradictory hX1_round hX1_close a1 a2 u
theorem sX1_know {l : Launch} {d : Nat} (hd : 2 ≤ d) (hX1_room_2 : AX1_room_2_ l d) (p0 : Program) (e0 : Env) (s0 : State) (m0 : MethodId) (meth0 : Method) (c0 : Code) (G0 : Gm) : AX1_know_ l (d + 1) := fun a1 u => by
  rw [runC_eq hd]
  exact ctX1_know (call := runC d) p0 e0 s0 m0 meth0 c0 G0 hd hX1_room_2 a1 u
theorem sX1_room_2 {l : Launch} {d : Nat} (hd : 2 ≤ d) (p0 : Program) (e0 : Env) (s0 : State) (m0 : MethodId) (meth0 : Method) (c0 : Code) (G0 : Gm) : AX1_room_2_ l (d + 1) := fun a1 u => by
  rw [runC_eq hd]
  exact ctX1_room_2 (call := runC d) p0 e0 s0 m0 meth0 c0 G0 hd  a1 u
theorem sX1_termsOf {l : Launch} {d : Nat} (hd : 2 ≤ d) (hX2_at : AX2_at_ l d) (hX1_termsOf : AX1_termsOf_ l d) (hX1_isTerm : AX1_isTerm_ l d) (hX1_atHand : AX1_atHand_ l d) (p0 : Program) (e0 : Env) (s0 : State) (m0 : MethodId) (meth0 : Method) (c0 : Code) (G0 : Gm) : AX1_termsOf_ l (d + 1) := fun a1 u => by
  rw [runC_eq hd]
  exact ctX1_termsOf (call := runC d) p0 e0 s0 m0 meth0 c0 G0 hd hX2_at hX1_termsOf hX1_isTerm hX1_atHand a1 u
theorem sX1_atHand {l : Launch} {d : Nat} (hd : 2 ≤ d) (hX1_isAtHand : AX1_isAtHand_ l d) (hX1_typeOf : AX1_typeOf_ l d) (hX1_hasType : AX1_hasType_ l d) (hX1_room_2 : AX1_room_2_ l d) (hX2_at : AX2_at_ l d) (hX1_argOf : AX1_argOf_ l d) (hX1_atHand : AX1_atHand_ l d) (p0 : Program) (e0 : Env) (s0 : State) (m0 : MethodId) (meth0 : Method) (c0 : Code) (G0 : Gm) : AX1_atHand_ l (d + 1) := fun a1 u => by
  rw [runC_eq hd]
  exact ctX1_atHand (call := runC d) p0 e0 s0 m0 meth0 c0 G0 hd hX1_isAtHand hX1_typeOf hX1_hasType hX1_room_2 hX2_at hX1_argOf hX1_atHand a1 u
theorem sX1_isAtHand {l : Launch} {d : Nat} (hd : 2 ≤ d) (p0 : Program) (e0 : Env) (s0 : State) (m0 : MethodId) (meth0 : Method) (c0 : Code) (G0 : Gm) : AX1_isAtHand_ l (d + 1) := fun a1 u => by
  rw [runC_eq hd]
  exact ctX1_isAtHand (call := runC d) p0 e0 s0 m0 meth0 c0 G0 hd  a1 u
theorem sX1_typeOf {l : Launch} {d : Nat} (hd : 2 ≤ d) (hX2_loci : AX2_loci_ l d) (hX2_at : AX2_at_ l d) (p0 : Program) (e0 : Env) (s0 : State) (m0 : MethodId) (meth0 : Method) (c0 : Code) (G0 : Gm) : AX1_typeOf_ l (d + 1) := fun a1 u => by
  rw [runC_eq hd]
  exact ctX1_typeOf (call := runC d) p0 e0 s0 m0 meth0 c0 G0 hd hX2_loci hX2_at a1 u
theorem sX1_hasType {l : Launch} {d : Nat} (hd : 2 ≤ d) (hX2_at : AX2_at_ l d) (hX1_adjectiveFact : AX1_adjectiveFact_ l d) (hX1_parent : AX1_parent_ l d) (hX1_argOf : AX1_argOf_ l d) (hX1_hasModeFact : AX1_hasModeFact_ l d) (p0 : Program) (e0 : Env) (s0 : State) (m0 : MethodId) (meth0 : Method) (c0 : Code) (G0 : Gm) : AX1_hasType_ l (d + 1) := fun a1 a2 u => by
  rw [runC_eq hd]
  exact ctX1_hasType (call := runC d) p0 e0 s0 m0 meth0 c0 G0 hd hX2_at hX1_adjectiveFact hX1_parent hX1_argOf hX1_hasModeFact a1 a2 u
theorem sX1_hasModeFact {l : Launch} {d : Nat} (hd : 2 ≤ d) (hX1_atHand : AX1_atHand_ l d) (p0 : Program) (e0 : Env) (s0 : State) (m0 : MethodId) (meth0 : Method) (c0 : Code) (G0 : Gm) : AX1_hasModeFact_ l (d + 1) := fun a1 a2 a3 u => by
  rw [runC_eq hd]
  exact ctX1_hasModeFact (call := runC d) p0 e0 s0 m0 meth0 c0 G0 hd hX1_atHand a1 a2 a3 u
theorem sX1_adjectiveFact {l : Launch} {d : Nat} (hd : 2 ≤ d) (p0 : Program) (e0 : Env) (s0 : State) (m0 : MethodId) (meth0 : Method) (c0 : Code) (G0 : Gm) : AX1_adjectiveFact_ l (d + 1) := fun a1 a2 u => by
  rw [runC_eq hd]
  exact ctX1_adjectiveFact (call := runC d) p0 e0 s0 m0 meth0 c0 G0 hd  a1 a2 u
theorem sX1_parent {l : Launch} {d : Nat} (hd : 2 ≤ d) (hX1_argOf : AX1_argOf_ l d) (hX2_loci : AX2_loci_ l d) (p0 : Program) (e0 : Env) (s0 : State) (m0 : MethodId) (meth0 : Method) (c0 : Code) (G0 : Gm) : AX1_parent_ l (d + 1) := fun a1 u => by
  rw [runC_eq hd]
  exact ctX1_parent (call := runC d) p0 e0 s0 m0 meth0 c0 G0 hd hX1_argOf hX2_loci a1 u
theorem sX1_firstsOf {l : Launch} {d : Nat} (hd : 2 ≤ d) (hX1_stands : AX1_stands_ l d) (p0 : Program) (e0 : Env) (s0 : State) (m0 : MethodId) (meth0 : Method) (c0 : Code) (G0 : Gm) : AX1_firstsOf_ l (d + 1) := fun  u => by
  rw [runC_eq hd]
  exact ctX1_firstsOf (call := runC d) p0 e0 s0 m0 meth0 c0 G0 hd hX1_stands  u
theorem sX1_stands {l : Launch} {d : Nat} (hd : 2 ≤ d) (hX2_has : AX2_has_ l d) (p0 : Program) (e0 : Env) (s0 : State) (m0 : MethodId) (meth0 : Method) (c0 : Code) (G0 : Gm) : AX1_stands_ l (d + 1) := fun a1 u => by
  rw [runC_eq hd]
  exact ctX1_stands (call := runC d) p0 e0 s0 m0 meth0 c0 G0 hd hX2_has a1 u
theorem sX1_close {l : Launch} {d : Nat} (hd : 2 ≤ d) (hX1_adjectiveFact : AX1_adjectiveFact_ l d) (hX2_at : AX2_at_ l d) (hX1_plain : AX1_plain_ l d) (hX1_hasType : AX1_hasType_ l d) (hX1_join_2 : AX1_join_2_ l d) (hX1_root : AX1_root_ l d) (hX1_alikeTerms : AX1_alikeTerms_ l d) (hX1_closeTerm : AX1_closeTerm_ l d) (hX1_closeClasses : AX1_closeClasses_ l d) (p0 : Program) (e0 : Env) (s0 : State) (m0 : MethodId) (meth0 : Method) (c0 : Code) (G0 : Gm) : AX1_close_ l (d + 1) := fun  u => by
  rw [runC_eq hd]
  exact ctX1_close (call := runC d) p0 e0 s0 m0 meth0 c0 G0 hd hX1_adjectiveFact hX2_at hX1_plain hX1_hasType hX1_join_2 hX1_root hX1_alikeTerms hX1_closeTerm hX1_closeClasses  u
theorem sX1_join_2 {l : Launch} {d : Nat} (hd : 2 ≤ d) (hX1_root : AX1_root_ l d) (p0 : Program) (e0 : Env) (s0 : State) (m0 : MethodId) (meth0 : Method) (c0 : Code) (G0 : Gm) : AX1_join_2_ l (d + 1) := fun a1 a2 u => by
  rw [runC_eq hd]
  exact ctX1_join_2 (call := runC d) p0 e0 s0 m0 meth0 c0 G0 hd hX1_root a1 a2 u
theorem sX1_root {l : Launch} {d : Nat} (hd : 2 ≤ d) (p0 : Program) (e0 : Env) (s0 : State) (m0 : MethodId) (meth0 : Method) (c0 : Code) (G0 : Gm) : AX1_root_ l (d + 1) := fun a1 u => by
  rw [runC_eq hd]
  exact ctX1_root (call := runC d) p0 e0 s0 m0 meth0 c0 G0 hd  a1 u
theorem sX1_plain {l : Launch} {d : Nat} (hd : 2 ≤ d) (hX1_typed : AX1_typed_ l d) (p0 : Program) (e0 : Env) (s0 : State) (m0 : MethodId) (meth0 : Method) (c0 : Code) (G0 : Gm) : AX1_plain_ l (d + 1) := fun a1 a2 u => by
  rw [runC_eq hd]
  exact ctX1_plain (call := runC d) p0 e0 s0 m0 meth0 c0 G0 hd hX1_typed a1 a2 u
theorem sX1_alikeTerms {l : Launch} {d : Nat} (hd : 2 ≤ d) (hX2_at : AX2_at_ l d) (hX1_argOf : AX1_argOf_ l d) (hX1_equal : AX1_equal_ l d) (p0 : Program) (e0 : Env) (s0 : State) (m0 : MethodId) (meth0 : Method) (c0 : Code) (G0 : Gm) : AX1_alikeTerms_ l (d + 1) := fun a1 a2 u => by
  rw [runC_eq hd]
  exact ctX1_alikeTerms (call := runC d) p0 e0 s0 m0 meth0 c0 G0 hd hX2_at hX1_argOf hX1_equal a1 a2 u
theorem sX1_equal {l : Launch} {d : Nat} (hd : 2 ≤ d) (hX1_isAtHand : AX1_isAtHand_ l d) (hX1_root : AX1_root_ l d) (p0 : Program) (e0 : Env) (s0 : State) (m0 : MethodId) (meth0 : Method) (c0 : Code) (G0 : Gm) : AX1_equal_ l (d + 1) := fun a1 a2 u => by
  rw [runC_eq hd]
  exact ctX1_equal (call := runC d) p0 e0 s0 m0 meth0 c0 G0 hd hX1_isAtHand hX1_root a1 a2 u
theorem sX1_closeTerm {l : Launch} {d : Nat} (hd : 2 ≤ d) (hX2_at : AX2_at_ l d) (hX1_adjectiveFact : AX1_adjectiveFact_ l d) (hX2_loci : AX2_loci_ l d) (hX1_atHand : AX1_atHand_ l d) (hX1_join_2 : AX1_join_2_ l d) (hX1_classFits : AX1_classFits_ l d) (p0 : Program) (e0 : Env) (s0 : State) (m0 : MethodId) (meth0 : Method) (c0 : Code) (G0 : Gm) : AX1_closeTerm_ l (d + 1) := fun a1 u => by
  rw [runC_eq hd]
  exact ctX1_closeTerm (call := runC d) p0 e0 s0 m0 meth0 c0 G0 hd hX2_at hX1_adjectiveFact hX2_loci hX1_atHand hX1_join_2 hX1_classFits a1 u
theorem sX1_classFits {l : Launch} {d : Nat} (hd : 2 ≤ d) (hX1_argOf : AX1_argOf_ l d) (hX1_classHasMode : AX1_classHasMode_ l d) (hX2_at : AX2_at_ l d) (hX1_classHas : AX1_classHas_ l d) (p0 : Program) (e0 : Env) (s0 : State) (m0 : MethodId) (meth0 : Method) (c0 : Code) (G0 : Gm) : AX1_classFits_ l (d + 1) := fun a1 a2 u => by
  rw [runC_eq hd]
  exact ctX1_classFits (call := runC d) p0 e0 s0 m0 meth0 c0 G0 hd hX1_argOf hX1_classHasMode hX2_at hX1_classHas a1 a2 u
theorem sX1_classHasMode {l : Launch} {d : Nat} (hd : 2 ≤ d) (hX1_equal : AX1_equal_ l d) (p0 : Program) (e0 : Env) (s0 : State) (m0 : MethodId) (meth0 : Method) (c0 : Code) (G0 : Gm) : AX1_classHasMode_ l (d + 1) := fun a1 a2 a3 u => by
  rw [runC_eq hd]
  exact ctX1_classHasMode (call := runC d) p0 e0 s0 m0 meth0 c0 G0 hd hX1_equal a1 a2 a3 u
theorem sX1_classHas {l : Launch} {d : Nat} (hd : 2 ≤ d) (hX1_equal : AX1_equal_ l d) (p0 : Program) (e0 : Env) (s0 : State) (m0 : MethodId) (meth0 : Method) (c0 : Code) (G0 : Gm) : AX1_classHas_ l (d + 1) := fun a1 a2 u => by
  rw [runC_eq hd]
  exact ctX1_classHas (call := runC d) p0 e0 s0 m0 meth0 c0 G0 hd hX1_equal a1 a2 u
theorem sX1_closeClasses {l : Launch} {d : Nat} (hd : 2 ≤ d) (hX1_equal : AX1_equal_ l d) (hX1_argOf : AX1_argOf_ l d) (hX1_classHasMode : AX1_classHasMode_ l d) (hX2_at : AX2_at_ l d) (hX1_classHas : AX1_classHas_ l d) (hX1_adjectiveFact : AX1_adjectiveFact_ l d) (p0 : Program) (e0 : Env) (s0 : State) (m0 : MethodId) (meth0 : Method) (c0 : Code) (G0 : Gm) : AX1_closeClasses_ l (d + 1) := fun a1 u => by
  rw [runC_eq hd]
  exact ctX1_closeClasses (call := runC d) p0 e0 s0 m0 meth0 c0 G0 hd hX1_equal hX1_argOf hX1_classHasMode hX2_at hX1_classHas hX1_adjectiveFact a1 u
theorem sX1_contradictory {l : Launch} {d : Nat} (hd : 2 ≤ d) (hX1_classHas : AX1_classHas_ l d) (hX2_at : AX2_at_ l d) (hX1_isKnownHere : AX1_isKnownHere_ l d) (hX1_holds : AX1_holds_ l d) (p0 : Program) (e0 : Env) (s0 : State) (m0 : MethodId) (meth0 : Method) (c0 : Code) (G0 : Gm) : AX1_contradictory_ l (d + 1) := fun  u => by
  rw [runC_eq hd]
  exact ctX1_contradictory (call := runC d) p0 e0 s0 m0 meth0 c0 G0 hd hX1_classHas hX2_at hX1_isKnownHere hX1_holds  u
theorem sX1_isKnownHere {l : Launch} {d : Nat} (hd : 2 ≤ d) (p0 : Program) (e0 : Env) (s0 : State) (m0 : MethodId) (meth0 : Method) (c0 : Code) (G0 : Gm) : AX1_isKnownHere_ l (d + 1) := fun a1 u => by
  rw [runC_eq hd]
  exact ctX1_isKnownHere (call := runC d) p0 e0 s0 m0 meth0 c0 G0 hd  a1 u
theorem sX1_holds {l : Launch} {d : Nat} (hd : 2 ≤ d) (hX2_at : AX2_at_ l d) (hX1_equal : AX1_equal_ l d) (hX1_isSaid : AX1_isSaid_ l d) (hX1_classHas : AX1_classHas_ l d) (hX1_classHasMode : AX1_classHasMode_ l d) (hX1_fails : AX1_fails_ l d) (hX1_holds : AX1_holds_ l d) (hX1_isKnownHere : AX1_isKnownHere_ l d) (p0 : Program) (e0 : Env) (s0 : State) (m0 : MethodId) (meth0 : Method) (c0 : Code) (G0 : Gm) : AX1_holds_ l (d + 1) := fun a1 u => by
  rw [runC_eq hd]
  exact ctX1_holds (call := runC d) p0 e0 s0 m0 meth0 c0 G0 hd hX2_at hX1_equal hX1_isSaid hX1_classHas hX1_classHasMode hX1_fails hX1_holds hX1_isKnownHere a1 u
theorem sX1_fails {l : Launch} {d : Nat} (hd : 2 ≤ d) (hX2_at : AX2_at_ l d) (hX1_equal : AX1_equal_ l d) (hX1_isSaid : AX1_isSaid_ l d) (hX1_classHas : AX1_classHas_ l d) (hX2_not : AX2_not_ l d) (hX1_holds : AX1_holds_ l d) (hX1_isKnownHere : AX1_isKnownHere_ l d) (p0 : Program) (e0 : Env) (s0 : State) (m0 : MethodId) (meth0 : Method) (c0 : Code) (G0 : Gm) : AX1_fails_ l (d + 1) := fun a1 a2 u => by
  rw [runC_eq hd]
  exact ctX1_fails (call := runC d) p0 e0 s0 m0 meth0 c0 G0 hd hX2_at hX1_equal hX1_isSaid hX1_classHas hX2_not hX1_holds hX1_isKnownHere a1 a2 u
theorem sX1_isSaid {l : Launch} {d : Nat} (hd : 2 ≤ d) (hX1_sameAtom : AX1_sameAtom_ l d) (hX2_at : AX2_at_ l d) (p0 : Program) (e0 : Env) (s0 : State) (m0 : MethodId) (meth0 : Method) (c0 : Code) (G0 : Gm) : AX1_isSaid_ l (d + 1) := fun a1 a2 u => by
  rw [runC_eq hd]
  exact ctX1_isSaid (call := runC d) p0 e0 s0 m0 meth0 c0 G0 hd hX1_sameAtom hX2_at a1 a2 u
theorem sX1_sameAtom {l : Launch} {d : Nat} (hd : 2 ≤ d) (hX2_at : AX2_at_ l d) (hX1_equal : AX1_equal_ l d) (p0 : Program) (e0 : Env) (s0 : State) (m0 : MethodId) (meth0 : Method) (c0 : Code) (G0 : Gm) : AX1_sameAtom_ l (d + 1) := fun a1 a2 u => by
  rw [runC_eq hd]
  exact ctX1_sameAtom (call := runC d) p0 e0 s0 m0 meth0 c0 G0 hd hX2_at hX1_equal a1 a2 u
theorem sX1_round {l : Launch} {d : Nat} (hd : 2 ≤ d) (hX2_at : AX2_at_ l d) (hX1_come : AX1_come_ l d) (hX1_classFits : AX1_classFits_ l d) (hX2_put : AX2_put_ l d) (hX1_placed : AX1_placed_ l d) (hX1_isNew : AX1_isNew_ l d) (hX1_oneLeft : AX1_oneLeft_ l d) (hX1_room_2 : AX1_room_2_ l d) (hX1_newOne : AX1_newOne_ l d) (hX1_newConstant : AX1_newConstant_ l d) (hX2_not : AX2_not_ l d) (hX1_know : AX1_know_ l d) (p0 : Program) (e0 : Env) (s0 : State) (m0 : MethodId) (meth0 : Method) (c0 : Code) (G0 : Gm) : AX1_round_ l (d + 1) := fun  u => by
  rw [runC_eq hd]
  exact ctX1_round (call := runC d) p0 e0 s0 m0 meth0 c0 G0 hd hX2_at hX1_come hX1_classFits hX2_put hX1_placed hX1_isNew hX1_oneLeft hX1_room_2 hX1_newOne hX1_newConstant hX2_not hX1_know  u
theorem sX1_come {l : Launch} {d : Nat} (hd : 2 ≤ d) (hX1_isKnownHere : AX1_isKnownHere_ l d) (p0 : Program) (e0 : Env) (s0 : State) (m0 : MethodId) (meth0 : Method) (c0 : Code) (G0 : Gm) : AX1_come_ l (d + 1) := fun a1 u => by
  rw [runC_eq hd]
  exact ctX1_come (call := runC d) p0 e0 s0 m0 meth0 c0 G0 hd hX1_isKnownHere a1 u
theorem sX1_isNew {l : Launch} {d : Nat} (hd : 2 ≤ d) (p0 : Program) (e0 : Env) (s0 : State) (m0 : MethodId) (meth0 : Method) (c0 : Code) (G0 : Gm) : AX1_isNew_ l (d + 1) := fun a1 u => by
  rw [runC_eq hd]
  exact ctX1_isNew (call := runC d) p0 e0 s0 m0 meth0 c0 G0 hd  a1 u
theorem sX1_placed {l : Launch} {d : Nat} (hd : 2 ≤ d) (hX1_isTerm : AX1_isTerm_ l d) (hX2_at : AX2_at_ l d) (hX1_argOf : AX1_argOf_ l d) (hX1_placed : AX1_placed_ l d) (hX1_counted : AX1_counted_ l d) (hX2_push : AX2_push_ l d) (hX2_seek : AX2_seek_ l d) (hX1_isWithin : AX1_isWithin_ l d) (p0 : Program) (e0 : Env) (s0 : State) (m0 : MethodId) (meth0 : Method) (c0 : Code) (G0 : Gm) : AX1_placed_ l (d + 1) := fun a1 a2 a3 u => by
  rw [runC_eq hd]
  exact ctX1_placed (call := runC d) p0 e0 s0 m0 meth0 c0 G0 hd hX1_isTerm hX2_at hX1_argOf hX1_placed hX1_counted hX2_push hX2_seek hX1_isWithin a1 a2 a3 u
theorem sX1_isWithin {l : Launch} {d : Nat} (hd : 2 ≤ d) (hX2_at : AX2_at_ l d) (hX1_isWithin : AX1_isWithin_ l d) (p0 : Program) (e0 : Env) (s0 : State) (m0 : MethodId) (meth0 : Method) (c0 : Code) (G0 : Gm) : AX1_isWithin_ l (d + 1) := fun a1 a2 u => by
  rw [runC_eq hd]
  exact ctX1_isWithin (call := runC d) p0 e0 s0 m0 meth0 c0 G0 hd hX2_at hX1_isWithin a1 a2 u
theorem sX1_counted {l : Launch} {d : Nat} (hd : 2 ≤ d) (hX1_isAtHand : AX1_isAtHand_ l d) (p0 : Program) (e0 : Env) (s0 : State) (m0 : MethodId) (meth0 : Method) (c0 : Code) (G0 : Gm) : AX1_counted_ l (d + 1) := fun a1 u => by
  rw [runC_eq hd]
  exact ctX1_counted (call := runC d) p0 e0 s0 m0 meth0 c0 G0 hd hX1_isAtHand a1 u
theorem sX1_oneLeft {l : Launch} {d : Nat} (hd : 2 ≤ d) (hX2_at : AX2_at_ l d) (hX1_holds : AX1_holds_ l d) (hX2_not : AX2_not_ l d) (hX1_come : AX1_come_ l d) (p0 : Program) (e0 : Env) (s0 : State) (m0 : MethodId) (meth0 : Method) (c0 : Code) (G0 : Gm) : AX1_oneLeft_ l (d + 1) := fun a1 u => by
  rw [runC_eq hd]
  exact ctX1_oneLeft (call := runC d) p0 e0 s0 m0 meth0 c0 G0 hd hX2_at hX1_holds hX2_not hX1_come a1 u
theorem sX1_newConstant {l : Launch} {d : Nat} (hd : 2 ≤ d) (p0 : Program) (e0 : Env) (s0 : State) (m0 : MethodId) (meth0 : Method) (c0 : Code) (G0 : Gm) : AX1_newConstant_ l (d + 1) := fun a1 u => by
  rw [runC_eq hd]
  exact ctX1_newConstant (call := runC d) p0 e0 s0 m0 meth0 c0 G0 hd  a1 u
theorem sX1_forget {l : Launch} {d : Nat} (hd : 2 ≤ d) (hX2_forget : AX2_forget_ l d) (p0 : Program) (e0 : Env) (s0 : State) (m0 : MethodId) (meth0 : Method) (c0 : Code) (G0 : Gm) : AX1_forget_ l (d + 1) := fun a1 a2 a3 u => by
  rw [runC_eq hd]
  exact ctX1_forget (call := runC d) p0 e0 s0 m0 meth0 c0 G0 hd hX2_forget a1 a2 a3 u
theorem sX1_fits0 {l : Launch} {d : Nat} (hd : 2 ≤ d) (hX1_typeOf : AX1_typeOf_ l d) (hX1_argOf : AX1_argOf_ l d) (hX1_hasMode : AX1_hasMode_ l d) (hX1_adjectivesOf : AX1_adjectivesOf_ l d) (hX1_adjectivesOf0 : AX1_adjectivesOf0_ l d) (hX1_within : AX1_within_ l d) (p0 : Program) (e0 : Env) (s0 : State) (m0 : MethodId) (meth0 : Method) (c0 : Code) (G0 : Gm) : AX1_fits0_ l (d + 1) := fun a1 a2 u => by
  rw [runC_eq hd]
  exact ctX1_fits0 (call := runC d) p0 e0 s0 m0 meth0 c0 G0 hd hX1_typeOf hX1_argOf hX1_hasMode hX1_adjectivesOf hX1_adjectivesOf0 hX1_within a1 a2 u
theorem sX1_hasMode {l : Launch} {d : Nat} (hd : 2 ≤ d) (hX1_parent : AX1_parent_ l d) (hX1_argOf : AX1_argOf_ l d) (p0 : Program) (e0 : Env) (s0 : State) (m0 : MethodId) (meth0 : Method) (c0 : Code) (G0 : Gm) : AX1_hasMode_ l (d + 1) := fun a1 a2 a3 u => by
  rw [runC_eq hd]
  exact ctX1_hasMode (call := runC d) p0 e0 s0 m0 meth0 c0 G0 hd hX1_parent hX1_argOf a1 a2 a3 u
theorem sX1_adjectivesOf {l : Launch} {d : Nat} (hd : 2 ≤ d) (p0 : Program) (e0 : Env) (s0 : State) (m0 : MethodId) (meth0 : Method) (c0 : Code) (G0 : Gm) : AX1_adjectivesOf_ l (d + 1) := fun a1 u => by
  rw [runC_eq hd]
  exact ctX1_adjectivesOf (call := runC d) p0 e0 s0 m0 meth0 c0 G0 hd  a1 u
theorem sX1_adjectivesOf0 {l : Launch} {d : Nat} (hd : 2 ≤ d) (hX1_typeOf : AX1_typeOf_ l d) (hX2_at : AX2_at_ l d) (hX1_addAdjective : AX1_addAdjective_ l d) (hX1_parent : AX1_parent_ l d) (hX1_inRow : AX1_inRow_ l d) (hX1_ofMode : AX1_ofMode_ l d) (hX1_typed : AX1_typed_ l d) (hX2_loci : AX2_loci_ l d) (hX1_fits0 : AX1_fits0_ l d) (p0 : Program) (e0 : Env) (s0 : State) (m0 : MethodId) (meth0 : Method) (c0 : Code) (G0 : Gm) : AX1_adjectivesOf0_ l (d + 1) := fun a1 u => by
  rw [runC_eq hd]
  exact ctX1_adjectivesOf0 (call := runC d) p0 e0 s0 m0 meth0 c0 G0 hd hX1_typeOf hX2_at hX1_addAdjective hX1_parent hX1_inRow hX1_ofMode hX1_typed hX2_loci hX1_fits0 a1 u
theorem sX1_addAdjective {l : Launch} {d : Nat} (hd : 2 ≤ d) (hX2_push : AX2_push_ l d) (p0 : Program) (e0 : Env) (s0 : State) (m0 : MethodId) (meth0 : Method) (c0 : Code) (G0 : Gm) : AX1_addAdjective_ l (d + 1) := fun a1 a2 u => by
  rw [runC_eq hd]
  exact ctX1_addAdjective (call := runC d) p0 e0 s0 m0 meth0 c0 G0 hd hX2_push a1 a2 u
theorem sX1_inRow {l : Launch} {d : Nat} (hd : 2 ≤ d) (p0 : Program) (e0 : Env) (s0 : State) (m0 : MethodId) (meth0 : Method) (c0 : Code) (G0 : Gm) : AX1_inRow_ l (d + 1) := fun a1 a2 u => by
  rw [runC_eq hd]
  exact ctX1_inRow (call := runC d) p0 e0 s0 m0 meth0 c0 G0 hd  a1 a2 u
theorem sX1_ofMode {l : Launch} {d : Nat} (hd : 2 ≤ d) (hX1_parent : AX1_parent_ l d) (hX1_argOf : AX1_argOf_ l d) (hX1_typeOf : AX1_typeOf_ l d) (hX1_hasMode : AX1_hasMode_ l d) (p0 : Program) (e0 : Env) (s0 : State) (m0 : MethodId) (meth0 : Method) (c0 : Code) (G0 : Gm) : AX1_ofMode_ l (d + 1) := fun a1 a2 u => by
  rw [runC_eq hd]
  exact ctX1_ofMode (call := runC d) p0 e0 s0 m0 meth0 c0 G0 hd hX1_parent hX1_argOf hX1_typeOf hX1_hasMode a1 a2 u
theorem sX1_within {l : Launch} {d : Nat} (hd : 2 ≤ d) (hX2_at : AX2_at_ l d) (hX1_hasAdjective : AX1_hasAdjective_ l d) (p0 : Program) (e0 : Env) (s0 : State) (m0 : MethodId) (meth0 : Method) (c0 : Code) (G0 : Gm) : AX1_within_ l (d + 1) := fun a1 a2 u => by
  rw [runC_eq hd]
  exact ctX1_within (call := runC d) p0 e0 s0 m0 meth0 c0 G0 hd hX2_at hX1_hasAdjective a1 a2 u
theorem sX1_hasAdjective {l : Launch} {d : Nat} (hd : 2 ≤ d) (hX2_at : AX2_at_ l d) (p0 : Program) (e0 : Env) (s0 : State) (m0 : MethodId) (meth0 : Method) (c0 : Code) (G0 : Gm) : AX1_hasAdjective_ l (d + 1) := fun a1 a2 u => by
  rw [runC_eq hd]
  exact ctX1_hasAdjective (call := runC d) p0 e0 s0 m0 meth0 c0 G0 hd hX2_at a1 a2 u
theorem sX2_make {l : Launch} {d : Nat} (hd : 2 ≤ d) (hX2_hash : AX2_hash_ l d) (p0 : Program) (e0 : Env) (s0 : State) (m0 : MethodId) (meth0 : Method) (c0 : Code) (G0 : Gm) : AX2_make_ l (d + 1) := fun a1 a2 a3 u => by
  rw [runC_eq hd]
  exact ctX2_make (call := runC d) p0 e0 s0 m0 meth0 c0 G0 hd hX2_hash a1 a2 a3 u
theorem sX2_hash {l : Launch} {d : Nat} (hd : 2 ≤ d) (p0 : Program) (e0 : Env) (s0 : State) (m0 : MethodId) (meth0 : Method) (c0 : Code) (G0 : Gm) : AX2_hash_ l (d + 1) := fun a1 a2 a3 u => by
  rw [runC_eq hd]
  exact ctX2_hash (call := runC d) p0 e0 s0 m0 meth0 c0 G0 hd  a1 a2 a3 u
theorem sX2_make_2 {l : Launch} {d : Nat} (hd : 2 ≤ d) (hX2_push : AX2_push_ l d) (hX2_make : AX2_make_ l d) (p0 : Program) (e0 : Env) (s0 : State) (m0 : MethodId) (meth0 : Method) (c0 : Code) (G0 : Gm) : AX2_make_2_ l (d + 1) := fun a1 a2 a3 a4 u => by
  rw [runC_eq hd]
  exact ctX2_make_2 (call := runC d) p0 e0 s0 m0 meth0 c0 G0 hd hX2_push hX2_make a1 a2 a3 a4 u
theorem sX2_push {l : Launch} {d : Nat} (hd : 2 ≤ d) (p0 : Program) (e0 : Env) (s0 : State) (m0 : MethodId) (meth0 : Method) (c0 : Code) (G0 : Gm) : AX2_push_ l (d + 1) := fun a1 u => by
  rw [runC_eq hd]
  exact ctX2_push (call := runC d) p0 e0 s0 m0 meth0 c0 G0 hd  a1 u
theorem sX2_at {l : Launch} {d : Nat} (hd : 2 ≤ d) (p0 : Program) (e0 : Env) (s0 : State) (m0 : MethodId) (meth0 : Method) (c0 : Code) (G0 : Gm) : AX2_at_ l (d + 1) := fun a1 a2 u => by
  rw [runC_eq hd]
  exact ctX2_at (call := runC d) p0 e0 s0 m0 meth0 c0 G0 hd  a1 a2 u
theorem sX2_forget {l : Launch} {d : Nat} (hd : 2 ≤ d) (hX2_push : AX2_push_ l d) (hX2_hash : AX2_hash_ l d) (p0 : Program) (e0 : Env) (s0 : State) (m0 : MethodId) (meth0 : Method) (c0 : Code) (G0 : Gm) : AX2_forget_ l (d + 1) := fun a1 a2 u => by
  rw [runC_eq hd]
  exact ctX2_forget (call := runC d) p0 e0 s0 m0 meth0 c0 G0 hd hX2_push hX2_hash a1 a2 u
theorem sX2_mode {l : Launch} {d : Nat} (hd : 2 ≤ d) (hX2_pair : AX2_pair_ l d) (p0 : Program) (e0 : Env) (s0 : State) (m0 : MethodId) (meth0 : Method) (c0 : Code) (G0 : Gm) : AX2_mode_ l (d + 1) := fun a1 a2 a3 u => by
  rw [runC_eq hd]
  exact ctX2_mode (call := runC d) p0 e0 s0 m0 meth0 c0 G0 hd hX2_pair a1 a2 a3 u
theorem sX2_pair {l : Launch} {d : Nat} (hd : 2 ≤ d) (hX2_push : AX2_push_ l d) (hX2_make : AX2_make_ l d) (p0 : Program) (e0 : Env) (s0 : State) (m0 : MethodId) (meth0 : Method) (c0 : Code) (G0 : Gm) : AX2_pair_ l (d + 1) := fun a1 a2 a3 a4 u => by
  rw [runC_eq hd]
  exact ctX2_pair (call := runC d) p0 e0 s0 m0 meth0 c0 G0 hd hX2_push hX2_make a1 a2 a3 a4 u
theorem sX2_not {l : Launch} {d : Nat} (hd : 2 ≤ d) (hX2_at : AX2_at_ l d) (hX2_make_2 : AX2_make_2_ l d) (p0 : Program) (e0 : Env) (s0 : State) (m0 : MethodId) (meth0 : Method) (c0 : Code) (G0 : Gm) : AX2_not_ l (d + 1) := fun a1 u => by
  rw [runC_eq hd]
  exact ctX2_not (call := runC d) p0 e0 s0 m0 meth0 c0 G0 hd hX2_at hX2_make_2 a1 u
theorem sX2_and {l : Launch} {d : Nat} (hd : 2 ≤ d) (hX2_push : AX2_push_ l d) (hX2_and_2 : AX2_and_2_ l d) (p0 : Program) (e0 : Env) (s0 : State) (m0 : MethodId) (meth0 : Method) (c0 : Code) (G0 : Gm) : AX2_and_ l (d + 1) := fun a1 a2 u => by
  rw [runC_eq hd]
  exact ctX2_and (call := runC d) p0 e0 s0 m0 meth0 c0 G0 hd hX2_push hX2_and_2 a1 a2 u
theorem sX2_and_2 {l : Launch} {d : Nat} (hd : 2 ≤ d) (hX2_at : AX2_at_ l d) (hX2_push : AX2_push_ l d) (hX2_make : AX2_make_ l d) (p0 : Program) (e0 : Env) (s0 : State) (m0 : MethodId) (meth0 : Method) (c0 : Code) (G0 : Gm) : AX2_and_2_ l (d + 1) := fun a1 u => by
  rw [runC_eq hd]
  exact ctX2_and_2 (call := runC d) p0 e0 s0 m0 meth0 c0 G0 hd hX2_at hX2_push hX2_make a1 u
theorem sX2_implies {l : Launch} {d : Nat} (hd : 2 ≤ d) (hX2_not : AX2_not_ l d) (hX2_and : AX2_and_ l d) (p0 : Program) (e0 : Env) (s0 : State) (m0 : MethodId) (meth0 : Method) (c0 : Code) (G0 : Gm) : AX2_implies_ l (d + 1) := fun a1 a2 u => by
  rw [runC_eq hd]
  exact ctX2_implies (call := runC d) p0 e0 s0 m0 meth0 c0 G0 hd hX2_not hX2_and a1 a2 u
theorem sX2_iff {l : Launch} {d : Nat} (hd : 2 ≤ d) (hX2_implies : AX2_implies_ l d) (hX2_and : AX2_and_ l d) (p0 : Program) (e0 : Env) (s0 : State) (m0 : MethodId) (meth0 : Method) (c0 : Code) (G0 : Gm) : AX2_iff_ l (d + 1) := fun a1 a2 u => by
  rw [runC_eq hd]
  exact ctX2_iff (call := runC d) p0 e0 s0 m0 meth0 c0 G0 hd hX2_implies hX2_and a1 a2 u
theorem sX2_bind {l : Launch} {d : Nat} (hd : 2 ≤ d) (hX2_change : AX2_change_ l d) (p0 : Program) (e0 : Env) (s0 : State) (m0 : MethodId) (meth0 : Method) (c0 : Code) (G0 : Gm) : AX2_bind_ l (d + 1) := fun a1 a2 u => by
  rw [runC_eq hd]
  exact ctX2_bind (call := runC d) p0 e0 s0 m0 meth0 c0 G0 hd hX2_change a1 a2 u
theorem sX2_change {l : Launch} {d : Nat} (hd : 2 ≤ d) (hX2_make : AX2_make_ l d) (hX2_push : AX2_push_ l d) (hX2_at : AX2_at_ l d) (hX2_change : AX2_change_ l d) (hX2_not : AX2_not_ l d) (hX2_and_2 : AX2_and_2_ l d) (p0 : Program) (e0 : Env) (s0 : State) (m0 : MethodId) (meth0 : Method) (c0 : Code) (G0 : Gm) : AX2_change_ l (d + 1) := fun a1 a2 u => by
  rw [runC_eq hd]
  exact ctX2_change (call := runC d) p0 e0 s0 m0 meth0 c0 G0 hd hX2_make hX2_push hX2_at hX2_change hX2_not hX2_and_2 a1 a2 u
theorem sX2_all {l : Launch} {d : Nat} (hd : 2 ≤ d) (hX2_pair : AX2_pair_ l d) (p0 : Program) (e0 : Env) (s0 : State) (m0 : MethodId) (meth0 : Method) (c0 : Code) (G0 : Gm) : AX2_all_ l (d + 1) := fun a1 a2 u => by
  rw [runC_eq hd]
  exact ctX2_all (call := runC d) p0 e0 s0 m0 meth0 c0 G0 hd hX2_pair a1 a2 u
theorem sX2_put {l : Launch} {d : Nat} (hd : 2 ≤ d) (hX2_change : AX2_change_ l d) (p0 : Program) (e0 : Env) (s0 : State) (m0 : MethodId) (meth0 : Method) (c0 : Code) (G0 : Gm) : AX2_put_ l (d + 1) := fun a1 a2 u => by
  rw [runC_eq hd]
  exact ctX2_put (call := runC d) p0 e0 s0 m0 meth0 c0 G0 hd hX2_change a1 a2 u
theorem sX2_loci {l : Launch} {d : Nat} (hd : 2 ≤ d) (hX2_change : AX2_change_ l d) (p0 : Program) (e0 : Env) (s0 : State) (m0 : MethodId) (meth0 : Method) (c0 : Code) (G0 : Gm) : AX2_loci_ l (d + 1) := fun a1 a2 a3 a4 u => by
  rw [runC_eq hd]
  exact ctX2_loci (call := runC d) p0 e0 s0 m0 meth0 c0 G0 hd hX2_change a1 a2 a3 a4 u
theorem sX2_has {l : Launch} {d : Nat} (hd : 2 ≤ d) (hX2_at : AX2_at_ l d) (hX2_has : AX2_has_ l d) (p0 : Program) (e0 : Env) (s0 : State) (m0 : MethodId) (meth0 : Method) (c0 : Code) (G0 : Gm) : AX2_has_ l (d + 1) := fun a1 a2 u => by
  rw [runC_eq hd]
  exact ctX2_has (call := runC d) p0 e0 s0 m0 meth0 c0 G0 hd hX2_at hX2_has a1 a2 u
theorem sX2_seek {l : Launch} {d : Nat} (hd : 2 ≤ d) (hX2_hash : AX2_hash_ l d) (p0 : Program) (e0 : Env) (s0 : State) (m0 : MethodId) (meth0 : Method) (c0 : Code) (G0 : Gm) : AX2_seek_ l (d + 1) := fun a1 a2 a3 u => by
  rw [runC_eq hd]
  exact ctX2_seek (call := runC d) p0 e0 s0 m0 meth0 c0 G0 hd hX2_hash a1 a2 a3 u
theorem sX2_partsOf {l : Launch} {d : Nat} (hd : 2 ≤ d) (p0 : Program) (e0 : Env) (s0 : State) (m0 : MethodId) (meth0 : Method) (c0 : Code) (G0 : Gm) : AX2_partsOf_ l (d + 1) := fun a1 u => by
  rw [runC_eq hd]
  exact ctX2_partsOf (call := runC d) p0 e0 s0 m0 meth0 c0 G0 hd  a1 u
theorem allC (l : Launch) (p0 : Program) (e0 : Env) (s0 : State) (m0 : MethodId) (meth0 : Method) (c0 : Code) (G0 : Gm) : ∀ d, AAC l d := by
  intro d
  induction d with
  | zero => exact ⟨fun  _ => Ct_none, fun _ _ => Ct_none, fun _ _ => Ct_none, fun _ _ _ _ => Ct_none, fun _ _ _ _ => Ct_none, fun _ _ => Ct_none, fun _ _ _ => Ct_none, fun _ _ => Ct_none, fun _ _ _ => Ct_none, fun _ _ => Ct_none, fun _ _ _ => Ct_none, fun _ _ _ => Ct_none, fun _ _ _ => Ct_none, fun _ _ => Ct_none, fun _ _ => Ct_none, fun _ _ => Ct_none, fun _ _ => Ct_none, fun _ _ => Ct_none, fun _ _ => Ct_none, fun _ _ _ => Ct_none, fun _ _ _ _ => Ct_none, fun _ _ _ => Ct_none, fun _ _ => Ct_none, fun  _ => Ct_none, fun _ _ => Ct_none, fun  _ => Ct_none, fun _ _ _ => Ct_none, fun _ _ => Ct_none, fun _ _ _ => Ct_none, fun _ _ _ => Ct_none, fun _ _ _ => Ct_none, fun _ _ => Ct_none, fun _ _ _ => Ct_none, fun _ _ _ _ => Ct_none, fun _ _ _ => Ct_none, fun _ _ => Ct_none, fun  _ => Ct_none, fun _ _ => Ct_none, fun _ _ => Ct_none, fun _ _ _ => Ct_none, fun _ _ _ => Ct_none, fun _ _ _ => Ct_none, fun  _ => Ct_none, fun _ _ => Ct_none, fun _ _ => Ct_none, fun _ _ _ _ => Ct_none, fun _ _ _ => Ct_none, fun _ _ => Ct_none, fun _ _ => Ct_none, fun _ _ => Ct_none, fun _ _ _ _ => Ct_none, fun _ _ _ => Ct_none, fun _ _ _ _ => Ct_none, fun _ _ => Ct_none, fun _ _ => Ct_none, fun _ _ _ => Ct_none, fun _ _ _ => Ct_none, fun _ _ _ => Ct_none, fun _ _ _ => Ct_none, fun _ _ _ => Ct_none, fun _ _ _ _ => Ct_none, fun _ _ _ _ => Ct_none, fun _ _ _ _ _ => Ct_none, fun _ _ => Ct_none, fun _ _ _ => Ct_none, fun _ _ _ => Ct_none, fun _ _ _ _ => Ct_none, fun _ _ _ _ _ => Ct_none, fun _ _ => Ct_none, fun _ _ _ => Ct_none, fun _ _ => Ct_none, fun _ _ _ => Ct_none, fun _ _ _ => Ct_none, fun _ _ _ => Ct_none, fun _ _ _ => Ct_none, fun _ _ _ => Ct_none, fun _ _ _ => Ct_none, fun _ _ _ _ _ => Ct_none, fun _ _ _ => Ct_none, fun _ _ _ _ => Ct_none, fun _ _ => Ct_none⟩
  | succ d ih =>
    by_cases hd : 2 ≤ d
    · obtain ⟨hX1_clear, hX1_loci, hX1_isTerm, hX1_withSet, hX1_typed, hX1_newOne, hX1_either, hX1_argOf, hX1_casesOf, hX1_open, hX1_pend, hX1_split, hX1_refuted, hX1_know, hX1_room_2, hX1_termsOf, hX1_atHand, hX1_isAtHand, hX1_typeOf, hX1_hasType, hX1_hasModeFact, hX1_adjectiveFact, hX1_parent, hX1_firstsOf, hX1_stands, hX1_close, hX1_join_2, hX1_root, hX1_plain, hX1_alikeTerms, hX1_equal, hX1_closeTerm, hX1_classFits, hX1_classHasMode, hX1_classHas, hX1_closeClasses, hX1_contradictory, hX1_isKnownHere, hX1_holds, hX1_fails, hX1_isSaid, hX1_sameAtom, hX1_round, hX1_come, hX1_isNew, hX1_placed, hX1_isWithin, hX1_counted, hX1_oneLeft, hX1_newConstant, hX1_forget, hX1_fits0, hX1_hasMode, hX1_adjectivesOf, hX1_adjectivesOf0, hX1_addAdjective, hX1_inRow, hX1_ofMode, hX1_within, hX1_hasAdjective, hX2_make, hX2_hash, hX2_make_2, hX2_push, hX2_at, hX2_forget, hX2_mode, hX2_pair, hX2_not, hX2_and, hX2_and_2, hX2_implies, hX2_iff, hX2_bind, hX2_change, hX2_all, hX2_put, hX2_loci, hX2_has, hX2_seek, hX2_partsOf⟩ := ih
      exact ⟨sX1_clear hd  p0 e0 s0 m0 meth0 c0 G0, sX1_loci hd hX2_at hX1_loci p0 e0 s0 m0 meth0 c0 G0, sX1_isTerm hd  p0 e0 s0 m0 meth0 c0 G0, sX1_withSet hd hX2_push hX1_typed p0 e0 s0 m0 meth0 c0 G0, sX1_typed hd hX2_push hX2_make p0 e0 s0 m0 meth0 c0 G0, sX1_newOne hd hX2_make p0 e0 s0 m0 meth0 c0 G0, sX1_either hd hX2_not hX2_and p0 e0 s0 m0 meth0 c0 G0, sX1_argOf hd hX2_at p0 e0 s0 m0 meth0 c0 G0, sX1_casesOf hd hX1_casesOf hX2_at p0 e0 s0 m0 meth0 c0 G0, sX1_open hd hX2_at hX1_open hX2_push hX2_and_2 hX2_not hX2_make hX1_newOne hX2_put p0 e0 s0 m0 meth0 c0 G0, sX1_pend hd  p0 e0 s0 m0 meth0 c0 G0, sX1_split hd hX2_at hX1_pend hX1_refuted hX1_forget hX1_split p0 e0 s0 m0 meth0 c0 G0, sX1_refuted hd hX1_know hX1_termsOf hX1_firstsOf hX1_atHand hX1_contradictory hX1_round hX1_close p0 e0 s0 m0 meth0 c0 G0, sX1_know hd hX1_room_2 p0 e0 s0 m0 meth0 c0 G0, sX1_room_2 hd  p0 e0 s0 m0 meth0 c0 G0, sX1_termsOf hd hX2_at hX1_termsOf hX1_isTerm hX1_atHand p0 e0 s0 m0 meth0 c0 G0, sX1_atHand hd hX1_isAtHand hX1_typeOf hX1_hasType hX1_room_2 hX2_at hX1_argOf hX1_atHand p0 e0 s0 m0 meth0 c0 G0, sX1_isAtHand hd  p0 e0 s0 m0 meth0 c0 G0, sX1_typeOf hd hX2_loci hX2_at p0 e0 s0 m0 meth0 c0 G0, sX1_hasType hd hX2_at hX1_adjectiveFact hX1_parent hX1_argOf hX1_hasModeFact p0 e0 s0 m0 meth0 c0 G0, sX1_hasModeFact hd hX1_atHand p0 e0 s0 m0 meth0 c0 G0, sX1_adjectiveFact hd  p0 e0 s0 m0 meth0 c0 G0, sX1_parent hd hX1_argOf hX2_loci p0 e0 s0 m0 meth0 c0 G0, sX1_firstsOf hd hX1_stands p0 e0 s0 m0 meth0 c0 G0, sX1_stands hd hX2_has p0 e0 s0 m0 meth0 c0 G0, sX1_close hd hX1_adjectiveFact hX2_at hX1_plain hX1_hasType hX1_join_2 hX1_root hX1_alikeTerms hX1_closeTerm hX1_closeClasses p0 e0 s0 m0 meth0 c0 G0, sX1_join_2 hd hX1_root p0 e0 s0 m0 meth0 c0 G0, sX1_root hd  p0 e0 s0 m0 meth0 c0 G0, sX1_plain hd hX1_typed p0 e0 s0 m0 meth0 c0 G0, sX1_alikeTerms hd hX2_at hX1_argOf hX1_equal p0 e0 s0 m0 meth0 c0 G0, sX1_equal hd hX1_isAtHand hX1_root p0 e0 s0 m0 meth0 c0 G0, sX1_closeTerm hd hX2_at hX1_adjectiveFact hX2_loci hX1_atHand hX1_join_2 hX1_classFits p0 e0 s0 m0 meth0 c0 G0, sX1_classFits hd hX1_argOf hX1_classHasMode hX2_at hX1_classHas p0 e0 s0 m0 meth0 c0 G0, sX1_classHasMode hd hX1_equal p0 e0 s0 m0 meth0 c0 G0, sX1_classHas hd hX1_equal p0 e0 s0 m0 meth0 c0 G0, sX1_closeClasses hd hX1_equal hX1_argOf hX1_classHasMode hX2_at hX1_classHas hX1_adjectiveFact p0 e0 s0 m0 meth0 c0 G0, sX1_contradictory hd hX1_classHas hX2_at hX1_isKnownHere hX1_holds p0 e0 s0 m0 meth0 c0 G0, sX1_isKnownHere hd  p0 e0 s0 m0 meth0 c0 G0, sX1_holds hd hX2_at hX1_equal hX1_isSaid hX1_classHas hX1_classHasMode hX1_fails hX1_holds hX1_isKnownHere p0 e0 s0 m0 meth0 c0 G0, sX1_fails hd hX2_at hX1_equal hX1_isSaid hX1_classHas hX2_not hX1_holds hX1_isKnownHere p0 e0 s0 m0 meth0 c0 G0, sX1_isSaid hd hX1_sameAtom hX2_at p0 e0 s0 m0 meth0 c0 G0, sX1_sameAtom hd hX2_at hX1_equal p0 e0 s0 m0 meth0 c0 G0, sX1_round hd hX2_at hX1_come hX1_classFits hX2_put hX1_placed hX1_isNew hX1_oneLeft hX1_room_2 hX1_newOne hX1_newConstant hX2_not hX1_know p0 e0 s0 m0 meth0 c0 G0, sX1_come hd hX1_isKnownHere p0 e0 s0 m0 meth0 c0 G0, sX1_isNew hd  p0 e0 s0 m0 meth0 c0 G0, sX1_placed hd hX1_isTerm hX2_at hX1_argOf hX1_placed hX1_counted hX2_push hX2_seek hX1_isWithin p0 e0 s0 m0 meth0 c0 G0, sX1_isWithin hd hX2_at hX1_isWithin p0 e0 s0 m0 meth0 c0 G0, sX1_counted hd hX1_isAtHand p0 e0 s0 m0 meth0 c0 G0, sX1_oneLeft hd hX2_at hX1_holds hX2_not hX1_come p0 e0 s0 m0 meth0 c0 G0, sX1_newConstant hd  p0 e0 s0 m0 meth0 c0 G0, sX1_forget hd hX2_forget p0 e0 s0 m0 meth0 c0 G0, sX1_fits0 hd hX1_typeOf hX1_argOf hX1_hasMode hX1_adjectivesOf hX1_adjectivesOf0 hX1_within p0 e0 s0 m0 meth0 c0 G0, sX1_hasMode hd hX1_parent hX1_argOf p0 e0 s0 m0 meth0 c0 G0, sX1_adjectivesOf hd  p0 e0 s0 m0 meth0 c0 G0, sX1_adjectivesOf0 hd hX1_typeOf hX2_at hX1_addAdjective hX1_parent hX1_inRow hX1_ofMode hX1_typed hX2_loci hX1_fits0 p0 e0 s0 m0 meth0 c0 G0, sX1_addAdjective hd hX2_push p0 e0 s0 m0 meth0 c0 G0, sX1_inRow hd  p0 e0 s0 m0 meth0 c0 G0, sX1_ofMode hd hX1_parent hX1_argOf hX1_typeOf hX1_hasMode p0 e0 s0 m0 meth0 c0 G0, sX1_within hd hX2_at hX1_hasAdjective p0 e0 s0 m0 meth0 c0 G0, sX1_hasAdjective hd hX2_at p0 e0 s0 m0 meth0 c0 G0, sX2_make hd hX2_hash p0 e0 s0 m0 meth0 c0 G0, sX2_hash hd  p0 e0 s0 m0 meth0 c0 G0, sX2_make_2 hd hX2_push hX2_make p0 e0 s0 m0 meth0 c0 G0, sX2_push hd  p0 e0 s0 m0 meth0 c0 G0, sX2_at hd  p0 e0 s0 m0 meth0 c0 G0, sX2_forget hd hX2_push hX2_hash p0 e0 s0 m0 meth0 c0 G0, sX2_mode hd hX2_pair p0 e0 s0 m0 meth0 c0 G0, sX2_pair hd hX2_push hX2_make p0 e0 s0 m0 meth0 c0 G0, sX2_not hd hX2_at hX2_make_2 p0 e0 s0 m0 meth0 c0 G0, sX2_and hd hX2_push hX2_and_2 p0 e0 s0 m0 meth0 c0 G0, sX2_and_2 hd hX2_at hX2_push hX2_make p0 e0 s0 m0 meth0 c0 G0, sX2_implies hd hX2_not hX2_and p0 e0 s0 m0 meth0 c0 G0, sX2_iff hd hX2_implies hX2_and p0 e0 s0 m0 meth0 c0 G0, sX2_bind hd hX2_change p0 e0 s0 m0 meth0 c0 G0, sX2_change hd hX2_make hX2_push hX2_at hX2_change hX2_not hX2_and_2 p0 e0 s0 m0 meth0 c0 G0, sX2_all hd hX2_pair p0 e0 s0 m0 meth0 c0 G0, sX2_put hd hX2_change p0 e0 s0 m0 meth0 c0 G0, sX2_loci hd hX2_change p0 e0 s0 m0 meth0 c0 G0, sX2_has hd hX2_at hX2_has p0 e0 s0 m0 meth0 c0 G0, sX2_seek hd hX2_hash p0 e0 s0 m0 meth0 c0 G0, sX2_partsOf hd  p0 e0 s0 m0 meth0 c0 G0⟩
    · have e : ∀ k as u, runC (d + 1) k as u = none := fun k as u => if_neg hd
      exact ⟨fun  _ => by rw [e]; exact Ct_none, fun _ _ => by rw [e]; exact Ct_none, fun _ _ => by rw [e]; exact Ct_none, fun _ _ _ _ => by rw [e]; exact Ct_none, fun _ _ _ _ => by rw [e]; exact Ct_none, fun _ _ => by rw [e]; exact Ct_none, fun _ _ _ => by rw [e]; exact Ct_none, fun _ _ => by rw [e]; exact Ct_none, fun _ _ _ => by rw [e]; exact Ct_none, fun _ _ => by rw [e]; exact Ct_none, fun _ _ _ => by rw [e]; exact Ct_none, fun _ _ _ => by rw [e]; exact Ct_none, fun _ _ _ => by rw [e]; exact Ct_none, fun _ _ => by rw [e]; exact Ct_none, fun _ _ => by rw [e]; exact Ct_none, fun _ _ => by rw [e]; exact Ct_none, fun _ _ => by rw [e]; exact Ct_none, fun _ _ => by rw [e]; exact Ct_none, fun _ _ => by rw [e]; exact Ct_none, fun _ _ _ => by rw [e]; exact Ct_none, fun _ _ _ _ => by rw [e]; exact Ct_none, fun _ _ _ => by rw [e]; exact Ct_none, fun _ _ => by rw [e]; exact Ct_none, fun  _ => by rw [e]; exact Ct_none, fun _ _ => by rw [e]; exact Ct_none, fun  _ => by rw [e]; exact Ct_none, fun _ _ _ => by rw [e]; exact Ct_none, fun _ _ => by rw [e]; exact Ct_none, fun _ _ _ => by rw [e]; exact Ct_none, fun _ _ _ => by rw [e]; exact Ct_none, fun _ _ _ => by rw [e]; exact Ct_none, fun _ _ => by rw [e]; exact Ct_none, fun _ _ _ => by rw [e]; exact Ct_none, fun _ _ _ _ => by rw [e]; exact Ct_none, fun _ _ _ => by rw [e]; exact Ct_none, fun _ _ => by rw [e]; exact Ct_none, fun  _ => by rw [e]; exact Ct_none, fun _ _ => by rw [e]; exact Ct_none, fun _ _ => by rw [e]; exact Ct_none, fun _ _ _ => by rw [e]; exact Ct_none, fun _ _ _ => by rw [e]; exact Ct_none, fun _ _ _ => by rw [e]; exact Ct_none, fun  _ => by rw [e]; exact Ct_none, fun _ _ => by rw [e]; exact Ct_none, fun _ _ => by rw [e]; exact Ct_none, fun _ _ _ _ => by rw [e]; exact Ct_none, fun _ _ _ => by rw [e]; exact Ct_none, fun _ _ => by rw [e]; exact Ct_none, fun _ _ => by rw [e]; exact Ct_none, fun _ _ => by rw [e]; exact Ct_none, fun _ _ _ _ => by rw [e]; exact Ct_none, fun _ _ _ => by rw [e]; exact Ct_none, fun _ _ _ _ => by rw [e]; exact Ct_none, fun _ _ => by rw [e]; exact Ct_none, fun _ _ => by rw [e]; exact Ct_none, fun _ _ _ => by rw [e]; exact Ct_none, fun _ _ _ => by rw [e]; exact Ct_none, fun _ _ _ => by rw [e]; exact Ct_none, fun _ _ _ => by rw [e]; exact Ct_none, fun _ _ _ => by rw [e]; exact Ct_none, fun _ _ _ _ => by rw [e]; exact Ct_none, fun _ _ _ _ => by rw [e]; exact Ct_none, fun _ _ _ _ _ => by rw [e]; exact Ct_none, fun _ _ => by rw [e]; exact Ct_none, fun _ _ _ => by rw [e]; exact Ct_none, fun _ _ _ => by rw [e]; exact Ct_none, fun _ _ _ _ => by rw [e]; exact Ct_none, fun _ _ _ _ _ => by rw [e]; exact Ct_none, fun _ _ => by rw [e]; exact Ct_none, fun _ _ _ => by rw [e]; exact Ct_none, fun _ _ => by rw [e]; exact Ct_none, fun _ _ _ => by rw [e]; exact Ct_none, fun _ _ _ => by rw [e]; exact Ct_none, fun _ _ _ => by rw [e]; exact Ct_none, fun _ _ _ => by rw [e]; exact Ct_none, fun _ _ _ => by rw [e]; exact Ct_none, fun _ _ _ => by rw [e]; exact Ct_none, fun _ _ _ _ _ => by rw [e]; exact Ct_none, fun _ _ _ => by rw [e]; exact Ct_none, fun _ _ _ _ => by rw [e]; exact Ct_none, fun _ _ => by rw [e]; exact Ct_none⟩
