def AX3_thrown_ (l : Launch) (d : Nat) : Prop := ∀ (u : Sg), Ct l d FT clA yX3_thrown cX3_thrown 1 (some .int) DX3_thrown rvI [vR 0] u (runT d 0 [] u)
def AX3_plain_ (l : Launch) (d : Nat) : Prop := ∀ (a1 a2 : Int) (u : Sg), Ct l d FT clA yX3_plain cX3_plain 3 (some .int) DX3_plain rvI [vR 0, vI a1, vI a2] u (runT d 1 [a1, a2] u)
def AX3_typed_ (l : Launch) (d : Nat) : Prop := ∀ (a1 a2 a3 : Int) (u : Sg), Ct l d FT clA yX3_typed cX3_typed 8 (some .int) DX3_typed rvI [vR 0, vI a1, vI a2, vI a3] u (runT d 2 [a1, a2, a3] u)
def AX3_give_ (l : Launch) (d : Nat) : Prop := ∀ (a1 : Int) (u : Sg), Ct l d FT clA yX3_give cX3_give 2 none DX3_give rvV [vR 0, vI a1] u (runT d 3 [a1] u)
def AX3_node_ (l : Launch) (d : Nat) : Prop := ∀ (a1 a2 : Int) (u : Sg), Ct l d FT clA yX3_node cX3_node 7 (some .int) DX3_node rvI [vR 0, vI a1, vI a2] u (runT d 5 [a1, a2] u)
def AX3_measure_ (l : Launch) (d : Nat) : Prop := ∀ (a1 : Int) (u : Sg), Ct l d FT clA yX3_measure cX3_measure 8 none DX3_measure rvV [vR 0, vI a1] u (runT d 6 [a1] u)
def AX3_get_ (l : Launch) (d : Nat) : Prop := ∀ (a1 a2 : Int) (u : Sg), Ct l d FT clA yX3_get cX3_get 3 (some .int) DX3_get rvI [vR 0, vI a1, vI a2] u (runT d 7 [a1, a2] u)
def AX3_first_ (l : Launch) (d : Nat) : Prop := ∀ (a1 : Int) (u : Sg), Ct l d FT clA yX3_first cX3_first 1 (some .int) DX3_first rvI [vI a1] u (runT d 8 [a1] u)
def AX3_fresh_ (l : Launch) (d : Nat) : Prop := ∀ (a1 a2 : Int) (u : Sg), Ct l d FT clA yX3_fresh cX3_fresh 3 (some .int) DX3_fresh rvI [vR 0, vI a1, vI a2] u (runT d 9 [a1, a2] u)
def AX3_anew_ (l : Launch) (d : Nat) : Prop := ∀ (u : Sg), Ct l d FT clA yX3_anew cX3_anew 2 none DX3_anew rvV [vR 0] u (runT d 10 [] u)
def AX3_mode_ (l : Launch) (d : Nat) : Prop := ∀ (a1 a2 : Int) (u : Sg), Ct l d FT clA yX3_mode cX3_mode 4 (some .int) DX3_mode rvI [vR 0, vI a1, vI a2] u (runT d 11 [a1, a2] u)
def AX3_form_ (l : Launch) (d : Nat) : Prop := ∀ (a1 a2 : Int) (u : Sg), Ct l d FT clA yX3_form cX3_form 3 (some .int) DX3_form rvI [vR 0, vI a1, vI a2] u (runT d 12 [a1, a2] u)
def AX3_sortOf_ (l : Launch) (d : Nat) : Prop := ∀ (a1 : Int) (u : Sg), Ct l d FT clA yX3_sortOf cX3_sortOf 2 (some .int) DX3_sortOf rvI [vR 0, vI a1] u (runT d 13 [a1] u)
def AX3_isBelow_ (l : Launch) (d : Nat) : Prop := ∀ (a1 a2 : Int) (u : Sg), Ct l d FT clA yX3_isBelow cX3_isBelow 3 (some .boolean) DX3_isBelow rvI [vR 0, vI a1, vI a2] u (runT d 14 [a1, a2] u)
def AX3_mentions_ (l : Launch) (d : Nat) : Prop := ∀ (a1 a2 : Int) (u : Sg), Ct l d FT clA yX3_mentions cX3_mentions 4 (some .boolean) DX3_mentions rvI [vR 0, vI a1, vI a2] u (runT d 15 [a1, a2] u)
def AX3_isPart_ (l : Launch) (d : Nat) : Prop := ∀ (a1 a2 : Int) (u : Sg), Ct l d FT clA yX3_isPart cX3_isPart 4 (some .boolean) DX3_isPart rvI [vR 0, vI a1, vI a2] u (runT d 16 [a1, a2] u)
def AX3_fails_ (l : Launch) (d : Nat) : Prop := ∀ (a1 : Int) (u : Sg), Ct l d FT clA yX3_fails cX3_fails 2 (some .int) DX3_fails rvI [vR 0, vI a1] u (runT d 17 [a1] u)
def AX3_attribute_ (l : Launch) (d : Nat) : Prop := ∀ (u : Sg), Ct l d FT clA yX3_attribute cX3_attribute 1 (some .int) DX3_attribute rvI [vR 0] u (runT d 18 [] u)
def AX3_functor_ (l : Launch) (d : Nat) : Prop := ∀ (a1 a2 : Int) (u : Sg), Ct l d FT clA yX3_functor cX3_functor 4 (some .int) DX3_functor rvI [vR 0, vI a1, vI a2] u (runT d 19 [a1, a2] u)
def AX3_predicate_ (l : Launch) (d : Nat) : Prop := ∀ (a1 : Int) (u : Sg), Ct l d FT clA yX3_predicate cX3_predicate 2 (some .int) DX3_predicate rvI [vR 0, vI a1] u (runT d 20 [a1] u)
def AX3_type_ (l : Launch) (d : Nat) : Prop := ∀ (a1 a2 a3 : Int) (u : Sg), Ct l d FT clA yX3_type cX3_type 7 (some .int) DX3_type rvI [vR 0, vI a1, vI a2, vI a3] u (runT d 21 [a1, a2, a3] u)
def AX3_isSet_ (l : Launch) (d : Nat) : Prop := ∀ (a1 : Int) (u : Sg), Ct l d FT clA yX3_isSet cX3_isSet 2 (some .boolean) DX3_isSet rvI [vR 0, vI a1] u (runT d 22 [a1] u)
def AX3_gives_ (l : Launch) (d : Nat) : Prop := ∀ (a1 : Int) (u : Sg), Ct l d FT clA yX3_gives cX3_gives 2 (some .int) DX3_gives rvI [vR 0, vI a1] u (runT d 23 [a1] u)
def AX3_constant_ (l : Launch) (d : Nat) : Prop := ∀ (a1 : Int) (u : Sg), Ct l d FT clA yX3_constant cX3_constant 3 (some .int) DX3_constant rvI [vR 0, vI a1] u (runT d 24 [a1] u)
def AX3_closed_ (l : Launch) (d : Nat) : Prop := ∀ (a1 a2 : Int) (u : Sg), Ct l d FT clA yX3_closed cX3_closed 4 (some .int) DX3_closed rvI [vR 0, vI a1, vI a2] u (runT d 25 [a1, a2] u)
def AX3_isClosed_ (l : Launch) (d : Nat) : Prop := ∀ (a1 : Int) (u : Sg), Ct l d FT clA yX3_isClosed cX3_isClosed 2 (some .boolean) DX3_isClosed rvI [vR 0, vI a1] u (runT d 26 [a1] u)
def AX3_leaf_ (l : Launch) (d : Nat) : Prop := ∀ (a1 a2 : Int) (u : Sg), Ct l d FT clA yX3_leaf cX3_leaf 4 (some .int) DX3_leaf rvI [vR 0, vI a1, vI a2] u (runT d 27 [a1, a2] u)
def AX3_locus_ (l : Launch) (d : Nat) : Prop := ∀ (a1 : Int) (u : Sg), Ct l d FT clA yX3_locus cX3_locus 2 (some .int) DX3_locus rvI [vR 0, vI a1] u (runT d 28 [a1] u)
def AX3_apply_ (l : Launch) (d : Nat) : Prop := ∀ (a1 a2 a3 : Int) (u : Sg), Ct l d FT clA yX3_apply cX3_apply 8 (some .int) DX3_apply rvI [vR 0, vI a1, vI a2, vI a3] u (runT d 29 [a1, a2, a3] u)
def AX3_the_ (l : Launch) (d : Nat) : Prop := ∀ (a1 : Int) (u : Sg), Ct l d FT clA yX3_the cX3_the 3 (some .int) DX3_the rvI [vR 0, vI a1] u (runT d 30 [a1] u)
def AX3_atom_ (l : Launch) (d : Nat) : Prop := ∀ (a1 a2 a3 a4 : Int) (u : Sg), Ct l d FT clA yX3_atom cX3_atom 9 (some .int) DX3_atom rvI [vR 0, vI a1, vI a2, vI a3, vI a4] u (runT d 31 [a1, a2, a3, a4] u)
def AX3_two_ (l : Launch) (d : Nat) : Prop := ∀ (a1 a2 a3 : Int) (u : Sg), Ct l d FT clA yX3_two cX3_two 5 (some .int) DX3_two rvI [vR 0, vI a1, vI a2, vI a3] u (runT d 32 [a1, a2, a3] u)
def AX3_modeOf_ (l : Launch) (d : Nat) : Prop := ∀ (a1 a2 a3 : Int) (u : Sg), Ct l d FT clA yX3_modeOf cX3_modeOf 5 (some .int) DX3_modeOf rvI [vR 0, vI a1, vI a2, vI a3] u (runT d 33 [a1, a2, a3] u)
def AX3_truth_ (l : Launch) (d : Nat) : Prop := ∀ (u : Sg), Ct l d FT clA yX3_truth cX3_truth 1 (some .int) DX3_truth rvI [vR 0] u (runT d 34 [] u)
def AX3_join_ (l : Launch) (d : Nat) : Prop := ∀ (a1 a2 a3 : Int) (u : Sg), Ct l d FT clA yX3_join cX3_join 6 (some .int) DX3_join rvI [vR 0, vI a1, vI a2, vI a3] u (runT d 35 [a1, a2, a3] u)
def AX3_not_ (l : Launch) (d : Nat) : Prop := ∀ (a1 : Int) (u : Sg), Ct l d FT clA yX3_not cX3_not 2 (some .int) DX3_not rvI [vR 0, vI a1] u (runT d 36 [a1] u)
def AX3_and_ (l : Launch) (d : Nat) : Prop := ∀ (a1 a2 : Int) (u : Sg), Ct l d FT clA yX3_and cX3_and 4 (some .int) DX3_and rvI [vR 0, vI a1, vI a2] u (runT d 37 [a1, a2] u)
def AX3_and_2_ (l : Launch) (d : Nat) : Prop := ∀ (a1 : Int) (u : Sg), Ct l d FT clA yX3_and_2 cX3_and_2 8 (some .int) DX3_and_2 rvI [vR 0, vI a1] u (runT d 38 [a1] u)
def AX3_implies_ (l : Launch) (d : Nat) : Prop := ∀ (a1 a2 : Int) (u : Sg), Ct l d FT clA yX3_implies cX3_implies 3 (some .int) DX3_implies rvI [vR 0, vI a1, vI a2] u (runT d 39 [a1, a2] u)
def AX3_bind_ (l : Launch) (d : Nat) : Prop := ∀ (a1 a2 a3 : Int) (u : Sg), Ct l d FT clA yX3_bind cX3_bind 8 (some .int) DX3_bind rvI [vR 0, vI a1, vI a2, vI a3] u (runT d 40 [a1, a2, a3] u)
def AX3_bind_2_ (l : Launch) (d : Nat) : Prop := ∀ (a1 a2 a3 : Int) (u : Sg), Ct l d FT clA yX3_bind_2 cX3_bind_2 7 (some .int) DX3_bind_2 rvI [vR 0, vI a1, vI a2, vI a3] u (runT d 41 [a1, a2, a3] u)
def AX3_bound_ (l : Launch) (d : Nat) : Prop := ∀ (a1 : Int) (u : Sg), Ct l d FT clA yX3_bound cX3_bound 2 (some .int) DX3_bound rvI [vR 0, vI a1] u (runT d 42 [a1] u)
def AX3_again_ (l : Launch) (d : Nat) : Prop := ∀ (a1 a2 : Int) (u : Sg), Ct l d FT clA yX3_again cX3_again 5 (some .int) DX3_again rvI [vR 0, vI a1, vI a2] u (runT d 43 [a1, a2] u)
def AX3_all_ (l : Launch) (d : Nat) : Prop := ∀ (a1 a2 : Int) (u : Sg), Ct l d FT clA yX3_all cX3_all 3 (some .int) DX3_all rvI [vR 0, vI a1, vI a2] u (runT d 44 [a1, a2] u)
def AX3_cluster_ (l : Launch) (d : Nat) : Prop := ∀ (a1 a2 a3 : Int) (u : Sg), Ct l d FT clA yX3_cluster cX3_cluster 7 (some .int) DX3_cluster rvI [vR 0, vI a1, vI a2, vI a3] u (runT d 45 [a1, a2, a3] u)
def AX3_registered_ (l : Launch) (d : Nat) : Prop := ∀ (u : Sg), Ct l d FT clA yX3_registered cX3_registered 1 (some .int) DX3_registered rvI [vR 0] u (runT d 46 [] u)
def AX3_gives_2_ (l : Launch) (d : Nat) : Prop := ∀ (a1 a2 a3 a4 : Int) (u : Sg), Ct l d FT clA yX3_gives_2 cX3_gives_2 5 (some .int) DX3_gives_2 rvI [vR 0, vI a1, vI a2, vI a3, vI a4] u (runT d 47 [a1, a2, a3, a4] u)
def AX3_types_ (l : Launch) (d : Nat) : Prop := ∀ (a1 a2 a3 : Int) (u : Sg), Ct l d FT clA yX3_types cX3_types 7 (some .boolean) DX3_types rvI [vR 0, vI a1, vI a2, vI a3] u (runT d 48 [a1, a2, a3] u)
def AX3_reduce_ (l : Launch) (d : Nat) : Prop := ∀ (a1 a2 a3 a4 : Int) (u : Sg), Ct l d FT clA yX3_reduce cX3_reduce 6 (some .int) DX3_reduce rvI [vR 0, vI a1, vI a2, vI a3, vI a4] u (runT d 49 [a1, a2, a3, a4] u)
def AX3_premise_ (l : Launch) (d : Nat) : Prop := ∀ (a1 : Int) (u : Sg), Ct l d FT clA yX3_premise cX3_premise 3 (some .int) DX3_premise rvI [vR 0, vI a1] u (runT d 50 [a1] u)
def AX3_clear_ (l : Launch) (d : Nat) : Prop := ∀ (u : Sg), Ct l d FT clA yX3_clear cX3_clear 2 (some .int) DX3_clear rvI [vR 0] u (runT d 51 [] u)
def AX3_check_ (l : Launch) (d : Nat) : Prop := ∀ (a1 : Int) (u : Sg), Ct l d FT clA yX3_check cX3_check 3 (some .int) DX3_check rvI [vR 0, vI a1] u (runT d 52 [a1] u)
def AX3_checked_ (l : Launch) (d : Nat) : Prop := ∀ (a1 : Int) (u : Sg), Ct l d FT clA yX3_checked cX3_checked 16 (some .int) DX3_checked rvI [vR 0, vI a1] u (runT d 53 [a1] u)
def AX3_q_ (l : Launch) (d : Nat) : Prop := ∀ (a1 : Int) (u : Sg), Ct l d FT clA yX3_q cX3_q 4 (some .int) DX3_q rvI [vR 0, vI a1] u (runT d 54 [a1] u)
def AX3_tree_ (l : Launch) (d : Nat) : Prop := ∀ (a1 : Int) (u : Sg), Ct l d FT clA yX3_tree cX3_tree 7 (some .int) DX3_tree rvI [vR 0, vI a1] u (runT d 55 [a1] u)
def AX3_counted_ (l : Launch) (d : Nat) : Prop := ∀ (a1 : Int) (u : Sg), Ct l d FT clA yX3_counted cX3_counted 6 (some .int) DX3_counted rvI [vR 0, vI a1] u (runT d 56 [a1] u)
def AX3_hang_ (l : Launch) (d : Nat) : Prop := ∀ (a1 a2 a3 : Int) (u : Sg), Ct l d FT clA yX3_hang cX3_hang 4 (some .int) DX3_hang rvI [vR 0, vI a1, vI a2, vI a3] u (runT d 57 [a1, a2, a3] u)
def AX3_put_ (l : Launch) (d : Nat) : Prop := ∀ (a1 a2 a3 : Int) (u : Sg), Ct l d FT clA yX3_put cX3_put 8 (some .int) DX3_put rvI [vR 0, vI a1, vI a2, vI a3] u (runT d 58 [a1, a2, a3] u)
def AX3_lift_ (l : Launch) (d : Nat) : Prop := ∀ (a1 a2 : Int) (u : Sg), Ct l d FT clA yX3_lift cX3_lift 3 (some .int) DX3_lift rvI [vR 0, vI a1, vI a2] u (runT d 59 [a1, a2] u)
def AX3_lift_2_ (l : Launch) (d : Nat) : Prop := ∀ (a1 a2 a3 : Int) (u : Sg), Ct l d FT clA yX3_lift_2 cX3_lift_2 6 (some .int) DX3_lift_2 rvI [vR 0, vI a1, vI a2, vI a3] u (runT d 60 [a1, a2, a3] u)
def AX3_caseOf_ (l : Launch) (d : Nat) : Prop := ∀ (a1 a2 : Int) (u : Sg), Ct l d FT clA yX3_caseOf cX3_caseOf 8 (some .int) DX3_caseOf rvI [vR 0, vI a1, vL a2] u (runT d 61 [a1, a2] u)
def AX3_leavesOf_ (l : Launch) (d : Nat) : Prop := ∀ (a1 a2 : Int) (u : Sg), Ct l d FT clA yX3_leavesOf cX3_leavesOf 5 none DX3_leavesOf rvV [vR 0, vI a1, vL a2] u (runT d 62 [a1, a2] u)
def AX3_knows_ (l : Launch) (d : Nat) : Prop := ∀ (a1 : Int) (u : Sg), Ct l d FT clA yX3_knows cX3_knows 2 none DX3_knows rvV [vR 0, vI a1] u (runT d 63 [a1] u)
def AX3_terms_ (l : Launch) (d : Nat) : Prop := ∀ (a1 : Int) (u : Sg), Ct l d FT clA yX3_terms cX3_terms 4 none DX3_terms rvV [vR 0, vI a1] u (runT d 64 [a1] u)
def AX3_isTerm_ (l : Launch) (d : Nat) : Prop := ∀ (a1 : Int) (u : Sg), Ct l d FT clA yX3_isTerm cX3_isTerm 1 (some .boolean) DX3_isTerm rvI [vI a1] u (runT d 65 [a1] u)
def AX3_indexOf_ (l : Launch) (d : Nat) : Prop := ∀ (a1 : Int) (u : Sg), Ct l d FT clA yX3_indexOf cX3_indexOf 2 (some .int) DX3_indexOf rvI [vR 0, vI a1] u (runT d 66 [a1] u)
def AX3_closing_ (l : Launch) (d : Nat) : Prop := ∀ (u : Sg), Ct l d FT clA yX3_closing cX3_closing 4 none DX3_closing rvV [vR 0] u (runT d 67 [] u)
def AX3_takeIn_ (l : Launch) (d : Nat) : Prop := ∀ (u : Sg), Ct l d FT clA yX3_takeIn cX3_takeIn 4 none DX3_takeIn rvV [vR 0] u (runT d 68 [] u)
def AX3_join_2_ (l : Launch) (d : Nat) : Prop := ∀ (a1 a2 : Int) (u : Sg), Ct l d FT clA yX3_join_2 cX3_join_2 5 none DX3_join_2 rvV [vR 0, vI a1, vI a2] u (runT d 69 [a1, a2] u)
def AX3_top_ (l : Launch) (d : Nat) : Prop := ∀ (a1 : Int) (u : Sg), Ct l d FT clA yX3_top cX3_top 2 (some .int) DX3_top rvI [vR 0, vI a1] u (runT d 70 [a1] u)
def AX3_adj_ (l : Launch) (d : Nat) : Prop := ∀ (a1 a2 : Int) (u : Sg), Ct l d FT clA yX3_adj cX3_adj 3 none DX3_adj rvV [vR 0, vI a1, vI a2] u (runT d 71 [a1, a2] u)
def AX3_hasAdj_ (l : Launch) (d : Nat) : Prop := ∀ (a1 a2 : Int) (u : Sg), Ct l d FT clA yX3_hasAdj cX3_hasAdj 4 (some .boolean) DX3_hasAdj rvI [vR 0, vI a1, vI a2] u (runT d 72 [a1, a2] u)
def AX3_hasType_ (l : Launch) (d : Nat) : Prop := ∀ (a1 a2 : Int) (u : Sg), Ct l d FT clA yX3_hasType cX3_hasType 5 none DX3_hasType rvV [vR 0, vI a1, vI a2] u (runT d 73 [a1, a2] u)
def AX3_mode_2_ (l : Launch) (d : Nat) : Prop := ∀ (a1 a2 a3 : Int) (u : Sg), Ct l d FT clA yX3_mode_2 cX3_mode_2 4 none DX3_mode_2 rvV [vR 0, vI a1, vI a2, vI a3] u (runT d 74 [a1, a2, a3] u)
def AX3_hasHere_ (l : Launch) (d : Nat) : Prop := ∀ (a1 a2 a3 : Int) (u : Sg), Ct l d FT clA yX3_hasHere cX3_hasHere 5 (some .boolean) DX3_hasHere rvI [vR 0, vI a1, vI a2, vI a3] u (runT d 75 [a1, a2, a3] u)
def AX3_equal_ (l : Launch) (d : Nat) : Prop := ∀ (a1 a2 : Int) (u : Sg), Ct l d FT clA yX3_equal cX3_equal 5 (some .boolean) DX3_equal rvI [vR 0, vI a1, vI a2] u (runT d 76 [a1, a2] u)
def AX3_parent_ (l : Launch) (d : Nat) : Prop := ∀ (a1 : Int) (u : Sg), Ct l d FT clA yX3_parent cX3_parent 3 (some .int) DX3_parent rvI [vR 0, vI a1] u (runT d 77 [a1] u)
def AX3_move_ (l : Launch) (d : Nat) : Prop := ∀ (a1 : Int) (u : Sg), Ct l d FT clA yX3_move cX3_move 2 (some .int) DX3_move rvI [vR 0, vI a1] u (runT d 78 [a1] u)
def AX3_move_2_ (l : Launch) (d : Nat) : Prop := ∀ (a1 a2 : Int) (u : Sg), Ct l d FT clA yX3_move_2 cX3_move_2 6 (some .int) DX3_move_2 rvI [vR 0, vI a1, vI a2] u (runT d 79 [a1, a2] u)
def AX3_typeOf_ (l : Launch) (d : Nat) : Prop := ∀ (a1 : Int) (u : Sg), Ct l d FT clA yX3_typeOf cX3_typeOf 2 (some .int) DX3_typeOf rvI [vR 0, vI a1] u (runT d 80 [a1] u)
def AX3_moveLoci_ (l : Launch) (d : Nat) : Prop := ∀ (a1 : Int) (u : Sg), Ct l d FT clA yX3_moveLoci cX3_moveLoci 3 none DX3_moveLoci rvV [vR 0, vI a1] u (runT d 81 [a1] u)
def AX3_isCongruent_ (l : Launch) (d : Nat) : Prop := ∀ (a1 a2 : Int) (u : Sg), Ct l d FT clA yX3_isCongruent cX3_isCongruent 7 (some .boolean) DX3_isCongruent rvI [vR 0, vI a1, vI a2] u (runT d 82 [a1, a2] u)
def AX3_byRegistrations_ (l : Launch) (d : Nat) : Prop := ∀ (u : Sg), Ct l d FT clA yX3_byRegistrations cX3_byRegistrations 5 none DX3_byRegistrations rvV [vR 0] u (runT d 83 [] u)
def AX3_conditional_ (l : Launch) (d : Nat) : Prop := ∀ (a1 a2 : Int) (u : Sg), Ct l d FT clA yX3_conditional cX3_conditional 7 none DX3_conditional rvV [vR 0, vI a1, vI a2] u (runT d 84 [a1, a2] u)
def AX3_adjs_ (l : Launch) (d : Nat) : Prop := ∀ (a1 a2 : Int) (u : Sg), Ct l d FT clA yX3_adjs cX3_adjs 4 none DX3_adjs rvV [vR 0, vI a1, vI a2] u (runT d 85 [a1, a2] u)
def AX3_termsFit_ (l : Launch) (d : Nat) : Prop := ∀ (a1 a2 : Int) (u : Sg), Ct l d FT clA yX3_termsFit cX3_termsFit 4 (some .boolean) DX3_termsFit rvI [vR 0, vI a1, vI a2] u (runT d 86 [a1, a2] u)
def AX3_fitsHere_ (l : Launch) (d : Nat) : Prop := ∀ (a1 a2 : Int) (u : Sg), Ct l d FT clA yX3_fitsHere cX3_fitsHere 5 (some .boolean) DX3_fitsHere rvI [vR 0, vI a1, vI a2] u (runT d 87 [a1, a2] u)
def AX3_suits_ (l : Launch) (d : Nat) : Prop := ∀ (a1 a2 : Int) (u : Sg), Ct l d FT clA yX3_suits cX3_suits 4 (some .boolean) DX3_suits rvI [vR 0, vI a1, vI a2] u (runT d 88 [a1, a2] u)
def AX3_has_ (l : Launch) (d : Nat) : Prop := ∀ (a1 a2 a3 : Int) (u : Sg), Ct l d FT clA yX3_has cX3_has 5 (some .boolean) DX3_has rvI [vR 0, vI a1, vI a2, vI a3] u (runT d 89 [a1, a2, a3] u)
def AX3_setOf_ (l : Launch) (d : Nat) : Prop := ∀ (a1 : Int) (u : Sg), Ct l d FT clA yX3_setOf cX3_setOf 4 (some .int) DX3_setOf rvI [vR 0, vI a1] u (runT d 90 [a1] u)
def AX3_allOf_ (l : Launch) (d : Nat) : Prop := ∀ (a1 : Int) (u : Sg), Ct l d FT clA yX3_allOf cX3_allOf 6 (some .int) DX3_allOf rvI [vR 0, vI a1] u (runT d 91 [a1] u)
def AX3_wants_ (l : Launch) (d : Nat) : Prop := ∀ (a1 : Int) (u : Sg), Ct l d FT clA yX3_wants cX3_wants 2 none DX3_wants rvV [vR 0, vI a1] u (runT d 92 [a1] u)
def AX3_isRemembered_ (l : Launch) (d : Nat) : Prop := ∀ (a1 : Int) (u : Sg), Ct l d FT clA yX3_isRemembered cX3_isRemembered 2 (some .boolean) DX3_isRemembered rvI [vR 0, vI a1] u (runT d 93 [a1] u)
def AX3_found_ (l : Launch) (d : Nat) : Prop := ∀ (a1 : Int) (u : Sg), Ct l d FT clA yX3_found cX3_found 6 (some .int) DX3_found rvI [vR 0, vI a1] u (runT d 94 [a1] u)
def AX3_ownAndParents_ (l : Launch) (d : Nat) : Prop := ∀ (a1 : Int) (u : Sg), Ct l d FT clA yX3_ownAndParents cX3_ownAndParents 4 (some .int) DX3_ownAndParents rvI [vR 0, vI a1] u (runT d 95 [a1] u)
def AX3_termsSuit_ (l : Launch) (d : Nat) : Prop := ∀ (a1 a2 : Int) (u : Sg), Ct l d FT clA yX3_termsSuit cX3_termsSuit 4 (some .boolean) DX3_termsSuit rvI [vR 0, vI a1, vI a2] u (runT d 96 [a1, a2] u)
def AX3_hasOf_ (l : Launch) (d : Nat) : Prop := ∀ (a1 a2 : Int) (u : Sg), Ct l d FT clA yX3_hasOf cX3_hasOf 5 (some .boolean) DX3_hasOf rvI [vR 0, vI a1, vI a2] u (runT d 97 [a1, a2] u)
def AX3_same_ (l : Launch) (d : Nat) : Prop := ∀ (a1 a2 : Int) (u : Sg), Ct l d FT clA yX3_same cX3_same 3 none DX3_same rvV [vR 0, vI a1, vI a2] u (runT d 98 [a1, a2] u)
def AX3_isContradictory_ (l : Launch) (d : Nat) : Prop := ∀ (u : Sg), Ct l d FT clA yX3_isContradictory cX3_isContradictory 4 (some .boolean) DX3_isContradictory rvI [vR 0] u (runT d 99 [] u)
def AX3_holds_ (l : Launch) (d : Nat) : Prop := ∀ (a1 : Int) (u : Sg), Ct l d FT clA yX3_holds cX3_holds 10 (some .boolean) DX3_holds rvI [vR 0, vI a1] u (runT d 100 [a1] u)
def AX3_isKnownAtom_ (l : Launch) (d : Nat) : Prop := ∀ (a1 a2 : Int) (u : Sg), Ct l d FT clA yX3_isKnownAtom cX3_isKnownAtom 6 (some .boolean) DX3_isKnownAtom rvI [vR 0, vI a1, vI a2] u (runT d 101 [a1, a2] u)
def AX3_isAtom_ (l : Launch) (d : Nat) : Prop := ∀ (a1 : Int) (u : Sg), Ct l d FT clA yX3_isAtom cX3_isAtom 2 (some .boolean) DX3_isAtom rvI [vR 0, vI a1] u (runT d 102 [a1] u)
def AX3_isAlike_ (l : Launch) (d : Nat) : Prop := ∀ (a1 a2 : Int) (u : Sg), Ct l d FT clA yX3_isAlike cX3_isAlike 5 (some .boolean) DX3_isAlike rvI [vR 0, vI a1, vI a2] u (runT d 103 [a1, a2] u)
def AX3_brings_ (l : Launch) (d : Nat) : Prop := ∀ (a1 a2 : Int) (u : Sg), Ct l d FT clA yX3_brings cX3_brings 4 none DX3_brings rvV [vR 0, vI a1, vI a2] u (runT d 104 [a1, a2] u)
def AX3_bringsOf_ (l : Launch) (d : Nat) : Prop := ∀ (a1 a2 : Int) (u : Sg), Ct l d FT clA yX3_bringsOf cX3_bringsOf 10 none DX3_bringsOf rvV [vR 0, vI a1, vI a2] u (runT d 105 [a1, a2] u)
def AX3_comes_ (l : Launch) (d : Nat) : Prop := ∀ (a1 : Int) (u : Sg), Ct l d FT clA yX3_comes cX3_comes 2 none DX3_comes rvV [vR 0, vI a1] u (runT d 106 [a1] u)
def AX3_instance_ (l : Launch) (d : Nat) : Prop := ∀ (a1 a2 : Int) (u : Sg), Ct l d FT clA yX3_instance cX3_instance 5 none DX3_instance rvV [vR 0, vI a1, vI a2] u (runT d 107 [a1, a2] u)
def AX3_losing_ (l : Launch) (d : Nat) : Prop := ∀ (a1 a2 a3 : Int) (u : Sg), Ct l d FT clA yX3_losing cX3_losing 5 none DX3_losing rvV [vR 0, vI a1, vI a2, vI a3] u (runT d 108 [a1, a2, a3] u)
def AX3_isOnly_ (l : Launch) (d : Nat) : Prop := ∀ (a1 a2 : Int) (u : Sg), Ct l d FT clA yX3_isOnly cX3_isOnly 4 (some .boolean) DX3_isOnly rvI [vR 0, vI a1, vI a2] u (runT d 109 [a1, a2] u)
def AX3_forget_ (l : Launch) (d : Nat) : Prop := ∀ (a1 a2 : Int) (u : Sg), Ct l d FT clA yX3_forget cX3_forget 3 none DX3_forget rvV [vR 0, vI a1, vI a2] u (runT d 110 [a1, a2] u)
def AX3_isDone_ (l : Launch) (d : Nat) : Prop := ∀ (a1 : Int) (u : Sg), Ct l d FT clA yX3_isDone cX3_isDone 2 (some .boolean) DX3_isDone rvI [vR 0, vI a1] u (runT d 111 [a1] u)
def AX3_done_ (l : Launch) (d : Nat) : Prop := ∀ (a1 : Int) (u : Sg), Ct l d FT clA yX3_done cX3_done 2 none DX3_done rvV [vR 0, vI a1] u (runT d 112 [a1] u)
def AX3_fits_ (l : Launch) (d : Nat) : Prop := ∀ (a1 a2 : Int) (u : Sg), Ct l d FT clA yX3_fits cX3_fits 5 (some .boolean) DX3_fits rvI [vR 0, vI a1, vI a2] u (runT d 113 [a1, a2] u)
def AX3_adjectives_ (l : Launch) (d : Nat) : Prop := ∀ (a1 : Int) (u : Sg), Ct l d FT clA yX3_adjectives cX3_adjectives 3 (some .int) DX3_adjectives rvI [vR 0, vI a1] u (runT d 114 [a1] u)
def AX3_alike_ (l : Launch) (d : Nat) : Prop := ∀ (a1 a2 : Int) (u : Sg), Ct l d FT clA yX3_alike cX3_alike 3 (some .boolean) DX3_alike rvI [vR 0, vI a1, vI a2] u (runT d 115 [a1, a2] u)
def AX3_about_ (l : Launch) (d : Nat) : Prop := ∀ (a1 a2 : Int) (u : Sg), Ct l d FT clA yX3_about cX3_about 10 (some .int) DX3_about rvI [vR 0, vI a1, vI a2] u (runT d 116 [a1, a2] u)
def AX3_count_ (l : Launch) (d : Nat) : Prop := ∀ (a1 : Int) (u : Sg), Ct l d FT clA yX3_count cX3_count 2 (some .int) DX3_count rvI [vR 0, vI a1] u (runT d 117 [a1] u)
def AAT (l : Launch) (d : Nat) : Prop := AX3_thrown_ l d ∧ AX3_plain_ l d ∧ AX3_typed_ l d ∧ AX3_give_ l d ∧ AX3_node_ l d ∧ AX3_measure_ l d ∧ AX3_get_ l d ∧ AX3_first_ l d ∧ AX3_fresh_ l d ∧ AX3_anew_ l d ∧ AX3_mode_ l d ∧ AX3_form_ l d ∧ AX3_sortOf_ l d ∧ AX3_isBelow_ l d ∧ AX3_mentions_ l d ∧ AX3_isPart_ l d ∧ AX3_fails_ l d ∧ AX3_attribute_ l d ∧ AX3_functor_ l d ∧ AX3_predicate_ l d ∧ AX3_type_ l d ∧ AX3_isSet_ l d ∧ AX3_gives_ l d ∧ AX3_constant_ l d ∧ AX3_closed_ l d ∧ AX3_isClosed_ l d ∧ AX3_leaf_ l d ∧ AX3_locus_ l d ∧ AX3_apply_ l d ∧ AX3_the_ l d ∧ AX3_atom_ l d ∧ AX3_two_ l d ∧ AX3_modeOf_ l d ∧ AX3_truth_ l d ∧ AX3_join_ l d ∧ AX3_not_ l d ∧ AX3_and_ l d ∧ AX3_and_2_ l d ∧ AX3_implies_ l d ∧ AX3_bind_ l d ∧ AX3_bind_2_ l d ∧ AX3_bound_ l d ∧ AX3_again_ l d ∧ AX3_all_ l d ∧ AX3_cluster_ l d ∧ AX3_registered_ l d ∧ AX3_gives_2_ l d ∧ AX3_types_ l d ∧ AX3_reduce_ l d ∧ AX3_premise_ l d ∧ AX3_clear_ l d ∧ AX3_check_ l d ∧ AX3_checked_ l d ∧ AX3_q_ l d ∧ AX3_tree_ l d ∧ AX3_counted_ l d ∧ AX3_hang_ l d ∧ AX3_put_ l d ∧ AX3_lift_ l d ∧ AX3_lift_2_ l d ∧ AX3_caseOf_ l d ∧ AX3_leavesOf_ l d ∧ AX3_knows_ l d ∧ AX3_terms_ l d ∧ AX3_isTerm_ l d ∧ AX3_indexOf_ l d ∧ AX3_closing_ l d ∧ AX3_takeIn_ l d ∧ AX3_join_2_ l d ∧ AX3_top_ l d ∧ AX3_adj_ l d ∧ AX3_hasAdj_ l d ∧ AX3_hasType_ l d ∧ AX3_mode_2_ l d ∧ AX3_hasHere_ l d ∧ AX3_equal_ l d ∧ AX3_parent_ l d ∧ AX3_move_ l d ∧ AX3_move_2_ l d ∧ AX3_typeOf_ l d ∧ AX3_moveLoci_ l d ∧ AX3_isCongruent_ l d ∧ AX3_byRegistrations_ l d ∧ AX3_conditional_ l d ∧ AX3_adjs_ l d ∧ AX3_termsFit_ l d ∧ AX3_fitsHere_ l d ∧ AX3_suits_ l d ∧ AX3_has_ l d ∧ AX3_setOf_ l d ∧ AX3_allOf_ l d ∧ AX3_wants_ l d ∧ AX3_isRemembered_ l d ∧ AX3_found_ l d ∧ AX3_ownAndParents_ l d ∧ AX3_termsSuit_ l d ∧ AX3_hasOf_ l d ∧ AX3_same_ l d ∧ AX3_isContradictory_ l d ∧ AX3_holds_ l d ∧ AX3_isKnownAtom_ l d ∧ AX3_isAtom_ l d ∧ AX3_isAlike_ l d ∧ AX3_brings_ l d ∧ AX3_bringsOf_ l d ∧ AX3_comes_ l d ∧ AX3_instance_ l d ∧ AX3_losing_ l d ∧ AX3_isOnly_ l d ∧ AX3_forget_ l d ∧ AX3_isDone_ l d ∧ AX3_done_ l d ∧ AX3_fits_ l d ∧ AX3_adjectives_ l d ∧ AX3_alike_ l d ∧ AX3_about_ l d ∧ AX3_count_ l d
theorem sX3_thrown {l : Launch} {d : Nat} (hd : 2 ≤ d) (p0 : Program) (e0 : Env) (s0 : State) (m0 : MethodId) (meth0 : Method) (c0 : Code) (G0 : Gm) : AX3_thrown_ l (d + 1) := fun  u => by
  rw [runT_eq hd]
  exact ctX3_thrown (call := runT d) p0 e0 s0 m0 meth0 c0 G0 hd   u
theorem sX3_plain {l : Launch} {d : Nat} (hd : 2 ≤ d) (hX3_typed : AX3_typed_ l d) (p0 : Program) (e0 : Env) (s0 : State) (m0 : MethodId) (meth0 : Method) (c0 : Code) (G0 : Gm) : AX3_plain_ l (d + 1) := fun a1 a2 u => by
  rw [runT_eq hd]
  exact ctX3_plain (call := runT d) p0 e0 s0 m0 meth0 c0 G0 hd hX3_typed a1 a2 u
theorem sX3_typed {l : Launch} {d : Nat} (hd : 2 ≤ d) (hX3_give : AX3_give_ l d) (hX3_node : AX3_node_ l d) (p0 : Program) (e0 : Env) (s0 : State) (m0 : MethodId) (meth0 : Method) (c0 : Code) (G0 : Gm) : AX3_typed_ l (d + 1) := fun a1 a2 a3 u => by
  rw [runT_eq hd]
  exact ctX3_typed (call := runT d) p0 e0 s0 m0 meth0 c0 G0 hd hX3_give hX3_node a1 a2 a3 u
theorem sX3_give {l : Launch} {d : Nat} (hd : 2 ≤ d) (p0 : Program) (e0 : Env) (s0 : State) (m0 : MethodId) (meth0 : Method) (c0 : Code) (G0 : Gm) : AX3_give_ l (d + 1) := fun a1 u => by
  rw [runT_eq hd]
  exact ctX3_give (call := runT d) p0 e0 s0 m0 meth0 c0 G0 hd  a1 u
theorem sX3_node {l : Launch} {d : Nat} (hd : 2 ≤ d) (hX3_measure : AX3_measure_ l d) (p0 : Program) (e0 : Env) (s0 : State) (m0 : MethodId) (meth0 : Method) (c0 : Code) (G0 : Gm) : AX3_node_ l (d + 1) := fun a1 a2 u => by
  rw [runT_eq hd]
  exact ctX3_node (call := runT d) p0 e0 s0 m0 meth0 c0 G0 hd hX3_measure a1 a2 u
theorem sX3_measure {l : Launch} {d : Nat} (hd : 2 ≤ d) (hX3_get : AX3_get_ l d) (hX3_first : AX3_first_ l d) (p0 : Program) (e0 : Env) (s0 : State) (m0 : MethodId) (meth0 : Method) (c0 : Code) (G0 : Gm) : AX3_measure_ l (d + 1) := fun a1 u => by
  rw [runT_eq hd]
  exact ctX3_measure (call := runT d) p0 e0 s0 m0 meth0 c0 G0 hd hX3_get hX3_first a1 u
theorem sX3_get {l : Launch} {d : Nat} (hd : 2 ≤ d) (p0 : Program) (e0 : Env) (s0 : State) (m0 : MethodId) (meth0 : Method) (c0 : Code) (G0 : Gm) : AX3_get_ l (d + 1) := fun a1 a2 u => by
  rw [runT_eq hd]
  exact ctX3_get (call := runT d) p0 e0 s0 m0 meth0 c0 G0 hd  a1 a2 u
theorem sX3_first {l : Launch} {d : Nat} (hd : 2 ≤ d) (p0 : Program) (e0 : Env) (s0 : State) (m0 : MethodId) (meth0 : Method) (c0 : Code) (G0 : Gm) : AX3_first_ l (d + 1) := fun a1 u => by
  rw [runT_eq hd]
  exact ctX3_first (call := runT d) p0 e0 s0 m0 meth0 c0 G0 hd  a1 u
theorem sX3_fresh {l : Launch} {d : Nat} (hd : 2 ≤ d) (hX3_anew : AX3_anew_ l d) (p0 : Program) (e0 : Env) (s0 : State) (m0 : MethodId) (meth0 : Method) (c0 : Code) (G0 : Gm) : AX3_fresh_ l (d + 1) := fun a1 a2 u => by
  rw [runT_eq hd]
  exact ctX3_fresh (call := runT d) p0 e0 s0 m0 meth0 c0 G0 hd hX3_anew a1 a2 u
theorem sX3_anew {l : Launch} {d : Nat} (hd : 2 ≤ d) (p0 : Program) (e0 : Env) (s0 : State) (m0 : MethodId) (meth0 : Method) (c0 : Code) (G0 : Gm) : AX3_anew_ l (d + 1) := fun  u => by
  rw [runT_eq hd]
  exact ctX3_anew (call := runT d) p0 e0 s0 m0 meth0 c0 G0 hd   u
theorem sX3_mode {l : Launch} {d : Nat} (hd : 2 ≤ d) (hX3_fails : AX3_fails_ l d) (hX3_form : AX3_form_ l d) (hX3_isBelow : AX3_isBelow_ l d) (p0 : Program) (e0 : Env) (s0 : State) (m0 : MethodId) (meth0 : Method) (c0 : Code) (G0 : Gm) : AX3_mode_ l (d + 1) := fun a1 a2 u => by
  rw [runT_eq hd]
  exact ctX3_mode (call := runT d) p0 e0 s0 m0 meth0 c0 G0 hd hX3_fails hX3_form hX3_isBelow a1 a2 u
theorem sX3_form {l : Launch} {d : Nat} (hd : 2 ≤ d) (hX3_sortOf : AX3_sortOf_ l d) (p0 : Program) (e0 : Env) (s0 : State) (m0 : MethodId) (meth0 : Method) (c0 : Code) (G0 : Gm) : AX3_form_ l (d + 1) := fun a1 a2 u => by
  rw [runT_eq hd]
  exact ctX3_form (call := runT d) p0 e0 s0 m0 meth0 c0 G0 hd hX3_sortOf a1 a2 u
theorem sX3_sortOf {l : Launch} {d : Nat} (hd : 2 ≤ d) (p0 : Program) (e0 : Env) (s0 : State) (m0 : MethodId) (meth0 : Method) (c0 : Code) (G0 : Gm) : AX3_sortOf_ l (d + 1) := fun a1 u => by
  rw [runT_eq hd]
  exact ctX3_sortOf (call := runT d) p0 e0 s0 m0 meth0 c0 G0 hd  a1 u
theorem sX3_isBelow {l : Launch} {d : Nat} (hd : 2 ≤ d) (hX3_mentions : AX3_mentions_ l d) (p0 : Program) (e0 : Env) (s0 : State) (m0 : MethodId) (meth0 : Method) (c0 : Code) (G0 : Gm) : AX3_isBelow_ l (d + 1) := fun a1 a2 u => by
  rw [runT_eq hd]
  exact ctX3_isBelow (call := runT d) p0 e0 s0 m0 meth0 c0 G0 hd hX3_mentions a1 a2 u
theorem sX3_mentions {l : Launch} {d : Nat} (hd : 2 ≤ d) (hX3_get : AX3_get_ l d) (hX3_isPart : AX3_isPart_ l d) (hX3_mentions : AX3_mentions_ l d) (p0 : Program) (e0 : Env) (s0 : State) (m0 : MethodId) (meth0 : Method) (c0 : Code) (G0 : Gm) : AX3_mentions_ l (d + 1) := fun a1 a2 u => by
  rw [runT_eq hd]
  exact ctX3_mentions (call := runT d) p0 e0 s0 m0 meth0 c0 G0 hd hX3_get hX3_isPart hX3_mentions a1 a2 u
theorem sX3_isPart {l : Launch} {d : Nat} (hd : 2 ≤ d) (hX3_get : AX3_get_ l d) (hX3_first : AX3_first_ l d) (p0 : Program) (e0 : Env) (s0 : State) (m0 : MethodId) (meth0 : Method) (c0 : Code) (G0 : Gm) : AX3_isPart_ l (d + 1) := fun a1 a2 u => by
  rw [runT_eq hd]
  exact ctX3_isPart (call := runT d) p0 e0 s0 m0 meth0 c0 G0 hd hX3_get hX3_first a1 a2 u
theorem sX3_fails {l : Launch} {d : Nat} (hd : 2 ≤ d) (p0 : Program) (e0 : Env) (s0 : State) (m0 : MethodId) (meth0 : Method) (c0 : Code) (G0 : Gm) : AX3_fails_ l (d + 1) := fun a1 u => by
  rw [runT_eq hd]
  exact ctX3_fails (call := runT d) p0 e0 s0 m0 meth0 c0 G0 hd  a1 u
theorem sX3_attribute {l : Launch} {d : Nat} (hd : 2 ≤ d) (hX3_fails : AX3_fails_ l d) (p0 : Program) (e0 : Env) (s0 : State) (m0 : MethodId) (meth0 : Method) (c0 : Code) (G0 : Gm) : AX3_attribute_ l (d + 1) := fun  u => by
  rw [runT_eq hd]
  exact ctX3_attribute (call := runT d) p0 e0 s0 m0 meth0 c0 G0 hd hX3_fails  u
theorem sX3_functor {l : Launch} {d : Nat} (hd : 2 ≤ d) (hX3_fails : AX3_fails_ l d) (hX3_form : AX3_form_ l d) (hX3_isBelow : AX3_isBelow_ l d) (p0 : Program) (e0 : Env) (s0 : State) (m0 : MethodId) (meth0 : Method) (c0 : Code) (G0 : Gm) : AX3_functor_ l (d + 1) := fun a1 a2 u => by
  rw [runT_eq hd]
  exact ctX3_functor (call := runT d) p0 e0 s0 m0 meth0 c0 G0 hd hX3_fails hX3_form hX3_isBelow a1 a2 u
theorem sX3_predicate {l : Launch} {d : Nat} (hd : 2 ≤ d) (hX3_fails : AX3_fails_ l d) (p0 : Program) (e0 : Env) (s0 : State) (m0 : MethodId) (meth0 : Method) (c0 : Code) (G0 : Gm) : AX3_predicate_ l (d + 1) := fun a1 u => by
  rw [runT_eq hd]
  exact ctX3_predicate (call := runT d) p0 e0 s0 m0 meth0 c0 G0 hd hX3_fails a1 u
theorem sX3_type {l : Launch} {d : Nat} (hd : 2 ≤ d) (hX3_fails : AX3_fails_ l d) (hX3_isSet : AX3_isSet_ l d) (hX3_give : AX3_give_ l d) (hX3_typed : AX3_typed_ l d) (hX3_gives : AX3_gives_ l d) (hX3_form : AX3_form_ l d) (p0 : Program) (e0 : Env) (s0 : State) (m0 : MethodId) (meth0 : Method) (c0 : Code) (G0 : Gm) : AX3_type_ l (d + 1) := fun a1 a2 a3 u => by
  rw [runT_eq hd]
  exact ctX3_type (call := runT d) p0 e0 s0 m0 meth0 c0 G0 hd hX3_fails hX3_isSet hX3_give hX3_typed hX3_gives hX3_form a1 a2 a3 u
theorem sX3_isSet {l : Launch} {d : Nat} (hd : 2 ≤ d) (p0 : Program) (e0 : Env) (s0 : State) (m0 : MethodId) (meth0 : Method) (c0 : Code) (G0 : Gm) : AX3_isSet_ l (d + 1) := fun a1 u => by
  rw [runT_eq hd]
  exact ctX3_isSet (call := runT d) p0 e0 s0 m0 meth0 c0 G0 hd  a1 u
theorem sX3_gives {l : Launch} {d : Nat} (hd : 2 ≤ d) (hX3_fails : AX3_fails_ l d) (p0 : Program) (e0 : Env) (s0 : State) (m0 : MethodId) (meth0 : Method) (c0 : Code) (G0 : Gm) : AX3_gives_ l (d + 1) := fun a1 u => by
  rw [runT_eq hd]
  exact ctX3_gives (call := runT d) p0 e0 s0 m0 meth0 c0 G0 hd hX3_fails a1 u
theorem sX3_constant {l : Launch} {d : Nat} (hd : 2 ≤ d) (hX3_closed : AX3_closed_ l d) (hX3_fails : AX3_fails_ l d) (hX3_fresh : AX3_fresh_ l d) (hX3_leaf : AX3_leaf_ l d) (hX3_gives : AX3_gives_ l d) (p0 : Program) (e0 : Env) (s0 : State) (m0 : MethodId) (meth0 : Method) (c0 : Code) (G0 : Gm) : AX3_constant_ l (d + 1) := fun a1 u => by
  rw [runT_eq hd]
  exact ctX3_constant (call := runT d) p0 e0 s0 m0 meth0 c0 G0 hd hX3_closed hX3_fails hX3_fresh hX3_leaf hX3_gives a1 u
theorem sX3_closed {l : Launch} {d : Nat} (hd : 2 ≤ d) (hX3_form : AX3_form_ l d) (hX3_isClosed : AX3_isClosed_ l d) (p0 : Program) (e0 : Env) (s0 : State) (m0 : MethodId) (meth0 : Method) (c0 : Code) (G0 : Gm) : AX3_closed_ l (d + 1) := fun a1 a2 u => by
  rw [runT_eq hd]
  exact ctX3_closed (call := runT d) p0 e0 s0 m0 meth0 c0 G0 hd hX3_form hX3_isClosed a1 a2 u
theorem sX3_isClosed {l : Launch} {d : Nat} (hd : 2 ≤ d) (hX3_mentions : AX3_mentions_ l d) (p0 : Program) (e0 : Env) (s0 : State) (m0 : MethodId) (meth0 : Method) (c0 : Code) (G0 : Gm) : AX3_isClosed_ l (d + 1) := fun a1 u => by
  rw [runT_eq hd]
  exact ctX3_isClosed (call := runT d) p0 e0 s0 m0 meth0 c0 G0 hd hX3_mentions a1 u
theorem sX3_leaf {l : Launch} {d : Nat} (hd : 2 ≤ d) (hX3_give : AX3_give_ l d) (hX3_node : AX3_node_ l d) (p0 : Program) (e0 : Env) (s0 : State) (m0 : MethodId) (meth0 : Method) (c0 : Code) (G0 : Gm) : AX3_leaf_ l (d + 1) := fun a1 a2 u => by
  rw [runT_eq hd]
  exact ctX3_leaf (call := runT d) p0 e0 s0 m0 meth0 c0 G0 hd hX3_give hX3_node a1 a2 u
theorem sX3_locus {l : Launch} {d : Nat} (hd : 2 ≤ d) (hX3_fails : AX3_fails_ l d) (hX3_leaf : AX3_leaf_ l d) (hX3_gives : AX3_gives_ l d) (p0 : Program) (e0 : Env) (s0 : State) (m0 : MethodId) (meth0 : Method) (c0 : Code) (G0 : Gm) : AX3_locus_ l (d + 1) := fun a1 u => by
  rw [runT_eq hd]
  exact ctX3_locus (call := runT d) p0 e0 s0 m0 meth0 c0 G0 hd hX3_fails hX3_leaf hX3_gives a1 u
theorem sX3_apply {l : Launch} {d : Nat} (hd : 2 ≤ d) (hX3_fails : AX3_fails_ l d) (hX3_node : AX3_node_ l d) (hX3_gives : AX3_gives_ l d) (hX3_give : AX3_give_ l d) (hX3_form : AX3_form_ l d) (p0 : Program) (e0 : Env) (s0 : State) (m0 : MethodId) (meth0 : Method) (c0 : Code) (G0 : Gm) : AX3_apply_ l (d + 1) := fun a1 a2 a3 u => by
  rw [runT_eq hd]
  exact ctX3_apply (call := runT d) p0 e0 s0 m0 meth0 c0 G0 hd hX3_fails hX3_node hX3_gives hX3_give hX3_form a1 a2 a3 u
theorem sX3_the {l : Launch} {d : Nat} (hd : 2 ≤ d) (hX3_form : AX3_form_ l d) (hX3_fails : AX3_fails_ l d) (hX3_leaf : AX3_leaf_ l d) (hX3_gives : AX3_gives_ l d) (p0 : Program) (e0 : Env) (s0 : State) (m0 : MethodId) (meth0 : Method) (c0 : Code) (G0 : Gm) : AX3_the_ l (d + 1) := fun a1 u => by
  rw [runT_eq hd]
  exact ctX3_the (call := runT d) p0 e0 s0 m0 meth0 c0 G0 hd hX3_form hX3_fails hX3_leaf hX3_gives a1 u
theorem sX3_atom {l : Launch} {d : Nat} (hd : 2 ≤ d) (hX3_closed : AX3_closed_ l d) (hX3_fails : AX3_fails_ l d) (hX3_two : AX3_two_ l d) (hX3_gives : AX3_gives_ l d) (hX3_node : AX3_node_ l d) (hX3_give : AX3_give_ l d) (hX3_modeOf : AX3_modeOf_ l d) (p0 : Program) (e0 : Env) (s0 : State) (m0 : MethodId) (meth0 : Method) (c0 : Code) (G0 : Gm) : AX3_atom_ l (d + 1) := fun a1 a2 a3 a4 u => by
  rw [runT_eq hd]
  exact ctX3_atom (call := runT d) p0 e0 s0 m0 meth0 c0 G0 hd hX3_closed hX3_fails hX3_two hX3_gives hX3_node hX3_give hX3_modeOf a1 a2 a3 a4 u
theorem sX3_two {l : Launch} {d : Nat} (hd : 2 ≤ d) (hX3_give : AX3_give_ l d) (hX3_node : AX3_node_ l d) (p0 : Program) (e0 : Env) (s0 : State) (m0 : MethodId) (meth0 : Method) (c0 : Code) (G0 : Gm) : AX3_two_ l (d + 1) := fun a1 a2 a3 u => by
  rw [runT_eq hd]
  exact ctX3_two (call := runT d) p0 e0 s0 m0 meth0 c0 G0 hd hX3_give hX3_node a1 a2 a3 u
theorem sX3_modeOf {l : Launch} {d : Nat} (hd : 2 ≤ d) (hX3_truth : AX3_truth_ l d) (hX3_give : AX3_give_ l d) (hX3_node : AX3_node_ l d) (p0 : Program) (e0 : Env) (s0 : State) (m0 : MethodId) (meth0 : Method) (c0 : Code) (G0 : Gm) : AX3_modeOf_ l (d + 1) := fun a1 a2 a3 u => by
  rw [runT_eq hd]
  exact ctX3_modeOf (call := runT d) p0 e0 s0 m0 meth0 c0 G0 hd hX3_truth hX3_give hX3_node a1 a2 a3 u
theorem sX3_truth {l : Launch} {d : Nat} (hd : 2 ≤ d) (hX3_node : AX3_node_ l d) (p0 : Program) (e0 : Env) (s0 : State) (m0 : MethodId) (meth0 : Method) (c0 : Code) (G0 : Gm) : AX3_truth_ l (d + 1) := fun  u => by
  rw [runT_eq hd]
  exact ctX3_truth (call := runT d) p0 e0 s0 m0 meth0 c0 G0 hd hX3_node  u
theorem sX3_join {l : Launch} {d : Nat} (hd : 2 ≤ d) (hX3_fails : AX3_fails_ l d) (hX3_form : AX3_form_ l d) (hX3_not : AX3_not_ l d) (hX3_gives : AX3_gives_ l d) (hX3_and : AX3_and_ l d) (hX3_implies : AX3_implies_ l d) (p0 : Program) (e0 : Env) (s0 : State) (m0 : MethodId) (meth0 : Method) (c0 : Code) (G0 : Gm) : AX3_join_ l (d + 1) := fun a1 a2 a3 u => by
  rw [runT_eq hd]
  exact ctX3_join (call := runT d) p0 e0 s0 m0 meth0 c0 G0 hd hX3_fails hX3_form hX3_not hX3_gives hX3_and hX3_implies a1 a2 a3 u
theorem sX3_not {l : Launch} {d : Nat} (hd : 2 ≤ d) (hX3_get : AX3_get_ l d) (hX3_leaf : AX3_leaf_ l d) (p0 : Program) (e0 : Env) (s0 : State) (m0 : MethodId) (meth0 : Method) (c0 : Code) (G0 : Gm) : AX3_not_ l (d + 1) := fun a1 u => by
  rw [runT_eq hd]
  exact ctX3_not (call := runT d) p0 e0 s0 m0 meth0 c0 G0 hd hX3_get hX3_leaf a1 u
theorem sX3_and {l : Launch} {d : Nat} (hd : 2 ≤ d) (hX3_give : AX3_give_ l d) (hX3_and_2 : AX3_and_2_ l d) (p0 : Program) (e0 : Env) (s0 : State) (m0 : MethodId) (meth0 : Method) (c0 : Code) (G0 : Gm) : AX3_and_ l (d + 1) := fun a1 a2 u => by
  rw [runT_eq hd]
  exact ctX3_and (call := runT d) p0 e0 s0 m0 meth0 c0 G0 hd hX3_give hX3_and_2 a1 a2 u
theorem sX3_and_2 {l : Launch} {d : Nat} (hd : 2 ≤ d) (hX3_get : AX3_get_ l d) (hX3_give : AX3_give_ l d) (hX3_truth : AX3_truth_ l d) (hX3_node : AX3_node_ l d) (p0 : Program) (e0 : Env) (s0 : State) (m0 : MethodId) (meth0 : Method) (c0 : Code) (G0 : Gm) : AX3_and_2_ l (d + 1) := fun a1 u => by
  rw [runT_eq hd]
  exact ctX3_and_2 (call := runT d) p0 e0 s0 m0 meth0 c0 G0 hd hX3_get hX3_give hX3_truth hX3_node a1 u
theorem sX3_implies {l : Launch} {d : Nat} (hd : 2 ≤ d) (hX3_not : AX3_not_ l d) (hX3_and : AX3_and_ l d) (p0 : Program) (e0 : Env) (s0 : State) (m0 : MethodId) (meth0 : Method) (c0 : Code) (G0 : Gm) : AX3_implies_ l (d + 1) := fun a1 a2 u => by
  rw [runT_eq hd]
  exact ctX3_implies (call := runT d) p0 e0 s0 m0 meth0 c0 G0 hd hX3_not hX3_and a1 a2 u
theorem sX3_bind {l : Launch} {d : Nat} (hd : 2 ≤ d) (hX3_fails : AX3_fails_ l d) (hX3_form : AX3_form_ l d) (hX3_get : AX3_get_ l d) (hX3_gives : AX3_gives_ l d) (hX3_bind_2 : AX3_bind_2_ l d) (hX3_all : AX3_all_ l d) (hX3_not : AX3_not_ l d) (p0 : Program) (e0 : Env) (s0 : State) (m0 : MethodId) (meth0 : Method) (c0 : Code) (G0 : Gm) : AX3_bind_ l (d + 1) := fun a1 a2 a3 u => by
  rw [runT_eq hd]
  exact ctX3_bind (call := runT d) p0 e0 s0 m0 meth0 c0 G0 hd hX3_fails hX3_form hX3_get hX3_gives hX3_bind_2 hX3_all hX3_not a1 a2 a3 u
theorem sX3_bind_2 {l : Launch} {d : Nat} (hd : 2 ≤ d) (hX3_get : AX3_get_ l d) (hX3_bound : AX3_bound_ l d) (hX3_give : AX3_give_ l d) (hX3_isPart : AX3_isPart_ l d) (hX3_bind_2 : AX3_bind_2_ l d) (hX3_again : AX3_again_ l d) (p0 : Program) (e0 : Env) (s0 : State) (m0 : MethodId) (meth0 : Method) (c0 : Code) (G0 : Gm) : AX3_bind_2_ l (d + 1) := fun a1 a2 a3 u => by
  rw [runT_eq hd]
  exact ctX3_bind_2 (call := runT d) p0 e0 s0 m0 meth0 c0 G0 hd hX3_get hX3_bound hX3_give hX3_isPart hX3_bind_2 hX3_again a1 a2 a3 u
theorem sX3_bound {l : Launch} {d : Nat} (hd : 2 ≤ d) (hX3_leaf : AX3_leaf_ l d) (p0 : Program) (e0 : Env) (s0 : State) (m0 : MethodId) (meth0 : Method) (c0 : Code) (G0 : Gm) : AX3_bound_ l (d + 1) := fun a1 u => by
  rw [runT_eq hd]
  exact ctX3_bound (call := runT d) p0 e0 s0 m0 meth0 c0 G0 hd hX3_leaf a1 u
theorem sX3_again {l : Launch} {d : Nat} (hd : 2 ≤ d) (hX3_node : AX3_node_ l d) (hX3_not : AX3_not_ l d) (hX3_and_2 : AX3_and_2_ l d) (hX3_all : AX3_all_ l d) (p0 : Program) (e0 : Env) (s0 : State) (m0 : MethodId) (meth0 : Method) (c0 : Code) (G0 : Gm) : AX3_again_ l (d + 1) := fun a1 a2 u => by
  rw [runT_eq hd]
  exact ctX3_again (call := runT d) p0 e0 s0 m0 meth0 c0 G0 hd hX3_node hX3_not hX3_and_2 hX3_all a1 a2 u
theorem sX3_all {l : Launch} {d : Nat} (hd : 2 ≤ d) (hX3_two : AX3_two_ l d) (p0 : Program) (e0 : Env) (s0 : State) (m0 : MethodId) (meth0 : Method) (c0 : Code) (G0 : Gm) : AX3_all_ l (d + 1) := fun a1 a2 u => by
  rw [runT_eq hd]
  exact ctX3_all (call := runT d) p0 e0 s0 m0 meth0 c0 G0 hd hX3_two a1 a2 u
theorem sX3_cluster {l : Launch} {d : Nat} (hd : 2 ≤ d) (hX3_fails : AX3_fails_ l d) (hX3_form : AX3_form_ l d) (hX3_closed : AX3_closed_ l d) (hX3_isSet : AX3_isSet_ l d) (hX3_registered : AX3_registered_ l d) (hX3_get : AX3_get_ l d) (p0 : Program) (e0 : Env) (s0 : State) (m0 : MethodId) (meth0 : Method) (c0 : Code) (G0 : Gm) : AX3_cluster_ l (d + 1) := fun a1 a2 a3 u => by
  rw [runT_eq hd]
  exact ctX3_cluster (call := runT d) p0 e0 s0 m0 meth0 c0 G0 hd hX3_fails hX3_form hX3_closed hX3_isSet hX3_registered hX3_get a1 a2 a3 u
theorem sX3_registered {l : Launch} {d : Nat} (hd : 2 ≤ d) (hX3_anew : AX3_anew_ l d) (p0 : Program) (e0 : Env) (s0 : State) (m0 : MethodId) (meth0 : Method) (c0 : Code) (G0 : Gm) : AX3_registered_ l (d + 1) := fun  u => by
  rw [runT_eq hd]
  exact ctX3_registered (call := runT d) p0 e0 s0 m0 meth0 c0 G0 hd hX3_anew  u
theorem sX3_gives_2 {l : Launch} {d : Nat} (hd : 2 ≤ d) (hX3_fails : AX3_fails_ l d) (hX3_types : AX3_types_ l d) (hX3_isSet : AX3_isSet_ l d) (hX3_registered : AX3_registered_ l d) (p0 : Program) (e0 : Env) (s0 : State) (m0 : MethodId) (meth0 : Method) (c0 : Code) (G0 : Gm) : AX3_gives_2_ l (d + 1) := fun a1 a2 a3 a4 u => by
  rw [runT_eq hd]
  exact ctX3_gives_2 (call := runT d) p0 e0 s0 m0 meth0 c0 G0 hd hX3_fails hX3_types hX3_isSet hX3_registered a1 a2 a3 a4 u
theorem sX3_types {l : Launch} {d : Nat} (hd : 2 ≤ d) (hX3_isBelow : AX3_isBelow_ l d) (hX3_form : AX3_form_ l d) (p0 : Program) (e0 : Env) (s0 : State) (m0 : MethodId) (meth0 : Method) (c0 : Code) (G0 : Gm) : AX3_types_ l (d + 1) := fun a1 a2 a3 u => by
  rw [runT_eq hd]
  exact ctX3_types (call := runT d) p0 e0 s0 m0 meth0 c0 G0 hd hX3_isBelow hX3_form a1 a2 a3 u
theorem sX3_reduce {l : Launch} {d : Nat} (hd : 2 ≤ d) (hX3_fails : AX3_fails_ l d) (hX3_form : AX3_form_ l d) (hX3_types : AX3_types_ l d) (hX3_isBelow : AX3_isBelow_ l d) (hX3_registered : AX3_registered_ l d) (p0 : Program) (e0 : Env) (s0 : State) (m0 : MethodId) (meth0 : Method) (c0 : Code) (G0 : Gm) : AX3_reduce_ l (d + 1) := fun a1 a2 a3 a4 u => by
  rw [runT_eq hd]
  exact ctX3_reduce (call := runT d) p0 e0 s0 m0 meth0 c0 G0 hd hX3_fails hX3_form hX3_types hX3_isBelow hX3_registered a1 a2 a3 a4 u
theorem sX3_premise {l : Launch} {d : Nat} (hd : 2 ≤ d) (hX3_form : AX3_form_ l d) (hX3_fails : AX3_fails_ l d) (p0 : Program) (e0 : Env) (s0 : State) (m0 : MethodId) (meth0 : Method) (c0 : Code) (G0 : Gm) : AX3_premise_ l (d + 1) := fun a1 u => by
  rw [runT_eq hd]
  exact ctX3_premise (call := runT d) p0 e0 s0 m0 meth0 c0 G0 hd hX3_form hX3_fails a1 u
theorem sX3_clear {l : Launch} {d : Nat} (hd : 2 ≤ d) (p0 : Program) (e0 : Env) (s0 : State) (m0 : MethodId) (meth0 : Method) (c0 : Code) (G0 : Gm) : AX3_clear_ l (d + 1) := fun  u => by
  rw [runT_eq hd]
  exact ctX3_clear (call := runT d) p0 e0 s0 m0 meth0 c0 G0 hd   u
theorem sX3_check {l : Launch} {d : Nat} (hd : 2 ≤ d) (hX3_form : AX3_form_ l d) (hX3_fails : AX3_fails_ l d) (hX3_checked : AX3_checked_ l d) (p0 : Program) (e0 : Env) (s0 : State) (m0 : MethodId) (meth0 : Method) (c0 : Code) (G0 : Gm) : AX3_check_ l (d + 1) := fun a1 u => by
  rw [runT_eq hd]
  exact ctX3_check (call := runT d) p0 e0 s0 m0 meth0 c0 G0 hd hX3_form hX3_fails hX3_checked a1 u
theorem sX3_checked {l : Launch} {d : Nat} (hd : 2 ≤ d) (hX3_q : AX3_q_ l d) (hX3_tree : AX3_tree_ l d) (hX3_hang : AX3_hang_ l d) (hX3_forget : AX3_forget_ l d) (hX3_caseOf : AX3_caseOf_ l d) (hX3_not : AX3_not_ l d) (hX3_counted : AX3_counted_ l d) (p0 : Program) (e0 : Env) (s0 : State) (m0 : MethodId) (meth0 : Method) (c0 : Code) (G0 : Gm) : AX3_checked_ l (d + 1) := fun a1 u => by
  rw [runT_eq hd]
  exact ctX3_checked (call := runT d) p0 e0 s0 m0 meth0 c0 G0 hd hX3_q hX3_tree hX3_hang hX3_forget hX3_caseOf hX3_not hX3_counted a1 u
theorem sX3_q {l : Launch} {d : Nat} (hd : 2 ≤ d) (p0 : Program) (e0 : Env) (s0 : State) (m0 : MethodId) (meth0 : Method) (c0 : Code) (G0 : Gm) : AX3_q_ l (d + 1) := fun a1 u => by
  rw [runT_eq hd]
  exact ctX3_q (call := runT d) p0 e0 s0 m0 meth0 c0 G0 hd  a1 u
theorem sX3_tree {l : Launch} {d : Nat} (hd : 2 ≤ d) (hX3_q : AX3_q_ l d) (hX3_counted : AX3_counted_ l d) (hX3_get : AX3_get_ l d) (hX3_tree : AX3_tree_ l d) (hX3_hang : AX3_hang_ l d) (hX3_not : AX3_not_ l d) (hX3_fresh : AX3_fresh_ l d) (hX3_leaf : AX3_leaf_ l d) (hX3_put : AX3_put_ l d) (p0 : Program) (e0 : Env) (s0 : State) (m0 : MethodId) (meth0 : Method) (c0 : Code) (G0 : Gm) : AX3_tree_ l (d + 1) := fun a1 u => by
  rw [runT_eq hd]
  exact ctX3_tree (call := runT d) p0 e0 s0 m0 meth0 c0 G0 hd hX3_q hX3_counted hX3_get hX3_tree hX3_hang hX3_not hX3_fresh hX3_leaf hX3_put a1 u
theorem sX3_counted {l : Launch} {d : Nat} (hd : 2 ≤ d) (p0 : Program) (e0 : Env) (s0 : State) (m0 : MethodId) (meth0 : Method) (c0 : Code) (G0 : Gm) : AX3_counted_ l (d + 1) := fun a1 u => by
  rw [runT_eq hd]
  exact ctX3_counted (call := runT d) p0 e0 s0 m0 meth0 c0 G0 hd  a1 u
theorem sX3_hang {l : Launch} {d : Nat} (hd : 2 ≤ d) (p0 : Program) (e0 : Env) (s0 : State) (m0 : MethodId) (meth0 : Method) (c0 : Code) (G0 : Gm) : AX3_hang_ l (d + 1) := fun a1 a2 a3 u => by
  rw [runT_eq hd]
  exact ctX3_hang (call := runT d) p0 e0 s0 m0 meth0 c0 G0 hd  a1 a2 a3 u
theorem sX3_put {l : Launch} {d : Nat} (hd : 2 ≤ d) (hX3_get : AX3_get_ l d) (hX3_lift : AX3_lift_ l d) (hX3_bound : AX3_bound_ l d) (hX3_give : AX3_give_ l d) (hX3_isPart : AX3_isPart_ l d) (hX3_put : AX3_put_ l d) (hX3_again : AX3_again_ l d) (p0 : Program) (e0 : Env) (s0 : State) (m0 : MethodId) (meth0 : Method) (c0 : Code) (G0 : Gm) : AX3_put_ l (d + 1) := fun a1 a2 a3 u => by
  rw [runT_eq hd]
  exact ctX3_put (call := runT d) p0 e0 s0 m0 meth0 c0 G0 hd hX3_get hX3_lift hX3_bound hX3_give hX3_isPart hX3_put hX3_again a1 a2 a3 u
theorem sX3_lift {l : Launch} {d : Nat} (hd : 2 ≤ d) (hX3_lift_2 : AX3_lift_2_ l d) (p0 : Program) (e0 : Env) (s0 : State) (m0 : MethodId) (meth0 : Method) (c0 : Code) (G0 : Gm) : AX3_lift_ l (d + 1) := fun a1 a2 u => by
  rw [runT_eq hd]
  exact ctX3_lift (call := runT d) p0 e0 s0 m0 meth0 c0 G0 hd hX3_lift_2 a1 a2 u
theorem sX3_lift_2 {l : Launch} {d : Nat} (hd : 2 ≤ d) (hX3_get : AX3_get_ l d) (hX3_bound : AX3_bound_ l d) (hX3_give : AX3_give_ l d) (hX3_isPart : AX3_isPart_ l d) (hX3_lift_2 : AX3_lift_2_ l d) (hX3_again : AX3_again_ l d) (p0 : Program) (e0 : Env) (s0 : State) (m0 : MethodId) (meth0 : Method) (c0 : Code) (G0 : Gm) : AX3_lift_2_ l (d + 1) := fun a1 a2 a3 u => by
  rw [runT_eq hd]
  exact ctX3_lift_2 (call := runT d) p0 e0 s0 m0 meth0 c0 G0 hd hX3_get hX3_bound hX3_give hX3_isPart hX3_lift_2 hX3_again a1 a2 a3 u
theorem sX3_caseOf {l : Launch} {d : Nat} (hd : 2 ≤ d) (hX3_leavesOf : AX3_leavesOf_ l d) (hX3_terms : AX3_terms_ l d) (hX3_closing : AX3_closing_ l d) (hX3_isContradictory : AX3_isContradictory_ l d) (hX3_brings : AX3_brings_ l d) (p0 : Program) (e0 : Env) (s0 : State) (m0 : MethodId) (meth0 : Method) (c0 : Code) (G0 : Gm) : AX3_caseOf_ l (d + 1) := fun a1 a2 u => by
  rw [runT_eq hd]
  exact ctX3_caseOf (call := runT d) p0 e0 s0 m0 meth0 c0 G0 hd hX3_leavesOf hX3_terms hX3_closing hX3_isContradictory hX3_brings a1 a2 u
theorem sX3_leavesOf {l : Launch} {d : Nat} (hd : 2 ≤ d) (hX3_knows : AX3_knows_ l d) (hX3_leavesOf : AX3_leavesOf_ l d) (p0 : Program) (e0 : Env) (s0 : State) (m0 : MethodId) (meth0 : Method) (c0 : Code) (G0 : Gm) : AX3_leavesOf_ l (d + 1) := fun a1 a2 u => by
  rw [runT_eq hd]
  exact ctX3_leavesOf (call := runT d) p0 e0 s0 m0 meth0 c0 G0 hd hX3_knows hX3_leavesOf a1 a2 u
theorem sX3_knows {l : Launch} {d : Nat} (hd : 2 ≤ d) (p0 : Program) (e0 : Env) (s0 : State) (m0 : MethodId) (meth0 : Method) (c0 : Code) (G0 : Gm) : AX3_knows_ l (d + 1) := fun a1 u => by
  rw [runT_eq hd]
  exact ctX3_knows (call := runT d) p0 e0 s0 m0 meth0 c0 G0 hd  a1 u
theorem sX3_terms {l : Launch} {d : Nat} (hd : 2 ≤ d) (hX3_isPart : AX3_isPart_ l d) (hX3_get : AX3_get_ l d) (hX3_terms : AX3_terms_ l d) (hX3_isTerm : AX3_isTerm_ l d) (hX3_indexOf : AX3_indexOf_ l d) (p0 : Program) (e0 : Env) (s0 : State) (m0 : MethodId) (meth0 : Method) (c0 : Code) (G0 : Gm) : AX3_terms_ l (d + 1) := fun a1 u => by
  rw [runT_eq hd]
  exact ctX3_terms (call := runT d) p0 e0 s0 m0 meth0 c0 G0 hd hX3_isPart hX3_get hX3_terms hX3_isTerm hX3_indexOf a1 u
theorem sX3_isTerm {l : Launch} {d : Nat} (hd : 2 ≤ d) (p0 : Program) (e0 : Env) (s0 : State) (m0 : MethodId) (meth0 : Method) (c0 : Code) (G0 : Gm) : AX3_isTerm_ l (d + 1) := fun a1 u => by
  rw [runT_eq hd]
  exact ctX3_isTerm (call := runT d) p0 e0 s0 m0 meth0 c0 G0 hd  a1 u
theorem sX3_indexOf {l : Launch} {d : Nat} (hd : 2 ≤ d) (p0 : Program) (e0 : Env) (s0 : State) (m0 : MethodId) (meth0 : Method) (c0 : Code) (G0 : Gm) : AX3_indexOf_ l (d + 1) := fun a1 u => by
  rw [runT_eq hd]
  exact ctX3_indexOf (call := runT d) p0 e0 s0 m0 meth0 c0 G0 hd  a1 u
theorem sX3_closing {l : Launch} {d : Nat} (hd : 2 ≤ d) (hX3_takeIn : AX3_takeIn_ l d) (hX3_top : AX3_top_ l d) (hX3_isCongruent : AX3_isCongruent_ l d) (hX3_join_2 : AX3_join_2_ l d) (hX3_byRegistrations : AX3_byRegistrations_ l d) (p0 : Program) (e0 : Env) (s0 : State) (m0 : MethodId) (meth0 : Method) (c0 : Code) (G0 : Gm) : AX3_closing_ l (d + 1) := fun  u => by
  rw [runT_eq hd]
  exact ctX3_closing (call := runT d) p0 e0 s0 m0 meth0 c0 G0 hd hX3_takeIn hX3_top hX3_isCongruent hX3_join_2 hX3_byRegistrations  u
theorem sX3_takeIn {l : Launch} {d : Nat} (hd : 2 ≤ d) (hX3_terms : AX3_terms_ l d) (hX3_get : AX3_get_ l d) (hX3_indexOf : AX3_indexOf_ l d) (hX3_plain : AX3_plain_ l d) (hX3_hasType : AX3_hasType_ l d) (hX3_adj : AX3_adj_ l d) (hX3_join_2 : AX3_join_2_ l d) (hX3_typeOf : AX3_typeOf_ l d) (p0 : Program) (e0 : Env) (s0 : State) (m0 : MethodId) (meth0 : Method) (c0 : Code) (G0 : Gm) : AX3_takeIn_ l (d + 1) := fun  u => by
  rw [runT_eq hd]
  exact ctX3_takeIn (call := runT d) p0 e0 s0 m0 meth0 c0 G0 hd hX3_terms hX3_get hX3_indexOf hX3_plain hX3_hasType hX3_adj hX3_join_2 hX3_typeOf  u
theorem sX3_join_2 {l : Launch} {d : Nat} (hd : 2 ≤ d) (hX3_top : AX3_top_ l d) (p0 : Program) (e0 : Env) (s0 : State) (m0 : MethodId) (meth0 : Method) (c0 : Code) (G0 : Gm) : AX3_join_2_ l (d + 1) := fun a1 a2 u => by
  rw [runT_eq hd]
  exact ctX3_join_2 (call := runT d) p0 e0 s0 m0 meth0 c0 G0 hd hX3_top a1 a2 u
theorem sX3_top {l : Launch} {d : Nat} (hd : 2 ≤ d) (p0 : Program) (e0 : Env) (s0 : State) (m0 : MethodId) (meth0 : Method) (c0 : Code) (G0 : Gm) : AX3_top_ l (d + 1) := fun a1 u => by
  rw [runT_eq hd]
  exact ctX3_top (call := runT d) p0 e0 s0 m0 meth0 c0 G0 hd  a1 u
theorem sX3_adj {l : Launch} {d : Nat} (hd : 2 ≤ d) (hX3_hasAdj : AX3_hasAdj_ l d) (p0 : Program) (e0 : Env) (s0 : State) (m0 : MethodId) (meth0 : Method) (c0 : Code) (G0 : Gm) : AX3_adj_ l (d + 1) := fun a1 a2 u => by
  rw [runT_eq hd]
  exact ctX3_adj (call := runT d) p0 e0 s0 m0 meth0 c0 G0 hd hX3_hasAdj a1 a2 u
theorem sX3_hasAdj {l : Launch} {d : Nat} (hd : 2 ≤ d) (hX3_top : AX3_top_ l d) (p0 : Program) (e0 : Env) (s0 : State) (m0 : MethodId) (meth0 : Method) (c0 : Code) (G0 : Gm) : AX3_hasAdj_ l (d + 1) := fun a1 a2 u => by
  rw [runT_eq hd]
  exact ctX3_hasAdj (call := runT d) p0 e0 s0 m0 meth0 c0 G0 hd hX3_top a1 a2 u
theorem sX3_hasType {l : Launch} {d : Nat} (hd : 2 ≤ d) (hX3_get : AX3_get_ l d) (hX3_adj : AX3_adj_ l d) (hX3_parent : AX3_parent_ l d) (hX3_mode_2 : AX3_mode_2_ l d) (hX3_terms : AX3_terms_ l d) (p0 : Program) (e0 : Env) (s0 : State) (m0 : MethodId) (meth0 : Method) (c0 : Code) (G0 : Gm) : AX3_hasType_ l (d + 1) := fun a1 a2 u => by
  rw [runT_eq hd]
  exact ctX3_hasType (call := runT d) p0 e0 s0 m0 meth0 c0 G0 hd hX3_get hX3_adj hX3_parent hX3_mode_2 hX3_terms a1 a2 u
theorem sX3_mode_2 {l : Launch} {d : Nat} (hd : 2 ≤ d) (hX3_hasHere : AX3_hasHere_ l d) (p0 : Program) (e0 : Env) (s0 : State) (m0 : MethodId) (meth0 : Method) (c0 : Code) (G0 : Gm) : AX3_mode_2_ l (d + 1) := fun a1 a2 a3 u => by
  rw [runT_eq hd]
  exact ctX3_mode_2 (call := runT d) p0 e0 s0 m0 meth0 c0 G0 hd hX3_hasHere a1 a2 a3 u
theorem sX3_hasHere {l : Launch} {d : Nat} (hd : 2 ≤ d) (hX3_top : AX3_top_ l d) (hX3_equal : AX3_equal_ l d) (p0 : Program) (e0 : Env) (s0 : State) (m0 : MethodId) (meth0 : Method) (c0 : Code) (G0 : Gm) : AX3_hasHere_ l (d + 1) := fun a1 a2 a3 u => by
  rw [runT_eq hd]
  exact ctX3_hasHere (call := runT d) p0 e0 s0 m0 meth0 c0 G0 hd hX3_top hX3_equal a1 a2 a3 u
theorem sX3_equal {l : Launch} {d : Nat} (hd : 2 ≤ d) (hX3_indexOf : AX3_indexOf_ l d) (hX3_top : AX3_top_ l d) (p0 : Program) (e0 : Env) (s0 : State) (m0 : MethodId) (meth0 : Method) (c0 : Code) (G0 : Gm) : AX3_equal_ l (d + 1) := fun a1 a2 u => by
  rw [runT_eq hd]
  exact ctX3_equal (call := runT d) p0 e0 s0 m0 meth0 c0 G0 hd hX3_indexOf hX3_top a1 a2 u
theorem sX3_parent {l : Launch} {d : Nat} (hd : 2 ≤ d) (hX3_get : AX3_get_ l d) (hX3_move : AX3_move_ l d) (p0 : Program) (e0 : Env) (s0 : State) (m0 : MethodId) (meth0 : Method) (c0 : Code) (G0 : Gm) : AX3_parent_ l (d + 1) := fun a1 u => by
  rw [runT_eq hd]
  exact ctX3_parent (call := runT d) p0 e0 s0 m0 meth0 c0 G0 hd hX3_get hX3_move a1 u
theorem sX3_move {l : Launch} {d : Nat} (hd : 2 ≤ d) (hX3_move_2 : AX3_move_2_ l d) (p0 : Program) (e0 : Env) (s0 : State) (m0 : MethodId) (meth0 : Method) (c0 : Code) (G0 : Gm) : AX3_move_ l (d + 1) := fun a1 u => by
  rw [runT_eq hd]
  exact ctX3_move (call := runT d) p0 e0 s0 m0 meth0 c0 G0 hd hX3_move_2 a1 u
theorem sX3_move_2 {l : Launch} {d : Nat} (hd : 2 ≤ d) (hX3_get : AX3_get_ l d) (hX3_lift : AX3_lift_ l d) (hX3_give : AX3_give_ l d) (hX3_isPart : AX3_isPart_ l d) (hX3_move_2 : AX3_move_2_ l d) (hX3_again : AX3_again_ l d) (p0 : Program) (e0 : Env) (s0 : State) (m0 : MethodId) (meth0 : Method) (c0 : Code) (G0 : Gm) : AX3_move_2_ l (d + 1) := fun a1 a2 u => by
  rw [runT_eq hd]
  exact ctX3_move_2 (call := runT d) p0 e0 s0 m0 meth0 c0 G0 hd hX3_get hX3_lift hX3_give hX3_isPart hX3_move_2 hX3_again a1 a2 u
theorem sX3_typeOf {l : Launch} {d : Nat} (hd : 2 ≤ d) (hX3_get : AX3_get_ l d) (hX3_moveLoci : AX3_moveLoci_ l d) (hX3_move : AX3_move_ l d) (p0 : Program) (e0 : Env) (s0 : State) (m0 : MethodId) (meth0 : Method) (c0 : Code) (G0 : Gm) : AX3_typeOf_ l (d + 1) := fun a1 u => by
  rw [runT_eq hd]
  exact ctX3_typeOf (call := runT d) p0 e0 s0 m0 meth0 c0 G0 hd hX3_get hX3_moveLoci hX3_move a1 u
theorem sX3_moveLoci {l : Launch} {d : Nat} (hd : 2 ≤ d) (hX3_get : AX3_get_ l d) (p0 : Program) (e0 : Env) (s0 : State) (m0 : MethodId) (meth0 : Method) (c0 : Code) (G0 : Gm) : AX3_moveLoci_ l (d + 1) := fun a1 u => by
  rw [runT_eq hd]
  exact ctX3_moveLoci (call := runT d) p0 e0 s0 m0 meth0 c0 G0 hd hX3_get a1 u
theorem sX3_isCongruent {l : Launch} {d : Nat} (hd : 2 ≤ d) (hX3_get : AX3_get_ l d) (hX3_equal : AX3_equal_ l d) (p0 : Program) (e0 : Env) (s0 : State) (m0 : MethodId) (meth0 : Method) (c0 : Code) (G0 : Gm) : AX3_isCongruent_ l (d + 1) := fun a1 a2 u => by
  rw [runT_eq hd]
  exact ctX3_isCongruent (call := runT d) p0 e0 s0 m0 meth0 c0 G0 hd hX3_get hX3_equal a1 a2 u
theorem sX3_byRegistrations {l : Launch} {d : Nat} (hd : 2 ≤ d) (hX3_top : AX3_top_ l d) (hX3_conditional : AX3_conditional_ l d) (hX3_get : AX3_get_ l d) (hX3_termsFit : AX3_termsFit_ l d) (hX3_adjs : AX3_adjs_ l d) (hX3_moveLoci : AX3_moveLoci_ l d) (hX3_move : AX3_move_ l d) (hX3_same : AX3_same_ l d) (p0 : Program) (e0 : Env) (s0 : State) (m0 : MethodId) (meth0 : Method) (c0 : Code) (G0 : Gm) : AX3_byRegistrations_ l (d + 1) := fun  u => by
  rw [runT_eq hd]
  exact ctX3_byRegistrations (call := runT d) p0 e0 s0 m0 meth0 c0 G0 hd hX3_top hX3_conditional hX3_get hX3_termsFit hX3_adjs hX3_moveLoci hX3_move hX3_same  u
theorem sX3_conditional {l : Launch} {d : Nat} (hd : 2 ≤ d) (hX3_get : AX3_get_ l d) (hX3_hasAdj : AX3_hasAdj_ l d) (hX3_top : AX3_top_ l d) (hX3_indexOf : AX3_indexOf_ l d) (hX3_hasHere : AX3_hasHere_ l d) (hX3_adjs : AX3_adjs_ l d) (p0 : Program) (e0 : Env) (s0 : State) (m0 : MethodId) (meth0 : Method) (c0 : Code) (G0 : Gm) : AX3_conditional_ l (d + 1) := fun a1 a2 u => by
  rw [runT_eq hd]
  exact ctX3_conditional (call := runT d) p0 e0 s0 m0 meth0 c0 G0 hd hX3_get hX3_hasAdj hX3_top hX3_indexOf hX3_hasHere hX3_adjs a1 a2 u
theorem sX3_adjs {l : Launch} {d : Nat} (hd : 2 ≤ d) (hX3_adj : AX3_adj_ l d) (p0 : Program) (e0 : Env) (s0 : State) (m0 : MethodId) (meth0 : Method) (c0 : Code) (G0 : Gm) : AX3_adjs_ l (d + 1) := fun a1 a2 u => by
  rw [runT_eq hd]
  exact ctX3_adjs (call := runT d) p0 e0 s0 m0 meth0 c0 G0 hd hX3_adj a1 a2 u
theorem sX3_termsFit {l : Launch} {d : Nat} (hd : 2 ≤ d) (hX3_move : AX3_move_ l d) (hX3_fitsHere : AX3_fitsHere_ l d) (hX3_moveLoci : AX3_moveLoci_ l d) (hX3_get : AX3_get_ l d) (p0 : Program) (e0 : Env) (s0 : State) (m0 : MethodId) (meth0 : Method) (c0 : Code) (G0 : Gm) : AX3_termsFit_ l (d + 1) := fun a1 a2 u => by
  rw [runT_eq hd]
  exact ctX3_termsFit (call := runT d) p0 e0 s0 m0 meth0 c0 G0 hd hX3_move hX3_fitsHere hX3_moveLoci hX3_get a1 a2 u
theorem sX3_fitsHere {l : Launch} {d : Nat} (hd : 2 ≤ d) (hX3_indexOf : AX3_indexOf_ l d) (hX3_suits : AX3_suits_ l d) (hX3_get : AX3_get_ l d) (hX3_hasHere : AX3_hasHere_ l d) (hX3_hasAdj : AX3_hasAdj_ l d) (p0 : Program) (e0 : Env) (s0 : State) (m0 : MethodId) (meth0 : Method) (c0 : Code) (G0 : Gm) : AX3_fitsHere_ l (d + 1) := fun a1 a2 u => by
  rw [runT_eq hd]
  exact ctX3_fitsHere (call := runT d) p0 e0 s0 m0 meth0 c0 G0 hd hX3_indexOf hX3_suits hX3_get hX3_hasHere hX3_hasAdj a1 a2 u
theorem sX3_suits {l : Launch} {d : Nat} (hd : 2 ≤ d) (hX3_typeOf : AX3_typeOf_ l d) (hX3_get : AX3_get_ l d) (hX3_has : AX3_has_ l d) (hX3_setOf : AX3_setOf_ l d) (hX3_allOf : AX3_allOf_ l d) (p0 : Program) (e0 : Env) (s0 : State) (m0 : MethodId) (meth0 : Method) (c0 : Code) (G0 : Gm) : AX3_suits_ l (d + 1) := fun a1 a2 u => by
  rw [runT_eq hd]
  exact ctX3_suits (call := runT d) p0 e0 s0 m0 meth0 c0 G0 hd hX3_typeOf hX3_get hX3_has hX3_setOf hX3_allOf a1 a2 u
theorem sX3_has {l : Launch} {d : Nat} (hd : 2 ≤ d) (hX3_parent : AX3_parent_ l d) (hX3_get : AX3_get_ l d) (p0 : Program) (e0 : Env) (s0 : State) (m0 : MethodId) (meth0 : Method) (c0 : Code) (G0 : Gm) : AX3_has_ l (d + 1) := fun a1 a2 a3 u => by
  rw [runT_eq hd]
  exact ctX3_has (call := runT d) p0 e0 s0 m0 meth0 c0 G0 hd hX3_parent hX3_get a1 a2 a3 u
theorem sX3_setOf {l : Launch} {d : Nat} (hd : 2 ≤ d) (hX3_get : AX3_get_ l d) (p0 : Program) (e0 : Env) (s0 : State) (m0 : MethodId) (meth0 : Method) (c0 : Code) (G0 : Gm) : AX3_setOf_ l (d + 1) := fun a1 u => by
  rw [runT_eq hd]
  exact ctX3_setOf (call := runT d) p0 e0 s0 m0 meth0 c0 G0 hd hX3_get a1 u
theorem sX3_allOf {l : Launch} {d : Nat} (hd : 2 ≤ d) (hX3_wants : AX3_wants_ l d) (hX3_isRemembered : AX3_isRemembered_ l d) (hX3_found : AX3_found_ l d) (hX3_get : AX3_get_ l d) (p0 : Program) (e0 : Env) (s0 : State) (m0 : MethodId) (meth0 : Method) (c0 : Code) (G0 : Gm) : AX3_allOf_ l (d + 1) := fun a1 u => by
  rw [runT_eq hd]
  exact ctX3_allOf (call := runT d) p0 e0 s0 m0 meth0 c0 G0 hd hX3_wants hX3_isRemembered hX3_found hX3_get a1 u
theorem sX3_wants {l : Launch} {d : Nat} (hd : 2 ≤ d) (hX3_isRemembered : AX3_isRemembered_ l d) (p0 : Program) (e0 : Env) (s0 : State) (m0 : MethodId) (meth0 : Method) (c0 : Code) (G0 : Gm) : AX3_wants_ l (d + 1) := fun a1 u => by
  rw [runT_eq hd]
  exact ctX3_wants (call := runT d) p0 e0 s0 m0 meth0 c0 G0 hd hX3_isRemembered a1 u
theorem sX3_isRemembered {l : Launch} {d : Nat} (hd : 2 ≤ d) (p0 : Program) (e0 : Env) (s0 : State) (m0 : MethodId) (meth0 : Method) (c0 : Code) (G0 : Gm) : AX3_isRemembered_ l (d + 1) := fun a1 u => by
  rw [runT_eq hd]
  exact ctX3_isRemembered (call := runT d) p0 e0 s0 m0 meth0 c0 G0 hd  a1 u
theorem sX3_found {l : Launch} {d : Nat} (hd : 2 ≤ d) (hX3_setOf : AX3_setOf_ l d) (hX3_hasOf : AX3_hasOf_ l d) (hX3_typeOf : AX3_typeOf_ l d) (hX3_ownAndParents : AX3_ownAndParents_ l d) (hX3_get : AX3_get_ l d) (hX3_termsSuit : AX3_termsSuit_ l d) (p0 : Program) (e0 : Env) (s0 : State) (m0 : MethodId) (meth0 : Method) (c0 : Code) (G0 : Gm) : AX3_found_ l (d + 1) := fun a1 u => by
  rw [runT_eq hd]
  exact ctX3_found (call := runT d) p0 e0 s0 m0 meth0 c0 G0 hd hX3_setOf hX3_hasOf hX3_typeOf hX3_ownAndParents hX3_get hX3_termsSuit a1 u
theorem sX3_ownAndParents {l : Launch} {d : Nat} (hd : 2 ≤ d) (hX3_setOf : AX3_setOf_ l d) (hX3_parent : AX3_parent_ l d) (p0 : Program) (e0 : Env) (s0 : State) (m0 : MethodId) (meth0 : Method) (c0 : Code) (G0 : Gm) : AX3_ownAndParents_ l (d + 1) := fun a1 u => by
  rw [runT_eq hd]
  exact ctX3_ownAndParents (call := runT d) p0 e0 s0 m0 meth0 c0 G0 hd hX3_setOf hX3_parent a1 u
theorem sX3_termsSuit {l : Launch} {d : Nat} (hd : 2 ≤ d) (hX3_move : AX3_move_ l d) (hX3_suits : AX3_suits_ l d) (hX3_moveLoci : AX3_moveLoci_ l d) (hX3_get : AX3_get_ l d) (p0 : Program) (e0 : Env) (s0 : State) (m0 : MethodId) (meth0 : Method) (c0 : Code) (G0 : Gm) : AX3_termsSuit_ l (d + 1) := fun a1 a2 u => by
  rw [runT_eq hd]
  exact ctX3_termsSuit (call := runT d) p0 e0 s0 m0 meth0 c0 G0 hd hX3_move hX3_suits hX3_moveLoci hX3_get a1 a2 u
theorem sX3_hasOf {l : Launch} {d : Nat} (hd : 2 ≤ d) (hX3_get : AX3_get_ l d) (hX3_parent : AX3_parent_ l d) (hX3_typeOf : AX3_typeOf_ l d) (hX3_has : AX3_has_ l d) (p0 : Program) (e0 : Env) (s0 : State) (m0 : MethodId) (meth0 : Method) (c0 : Code) (G0 : Gm) : AX3_hasOf_ l (d + 1) := fun a1 a2 u => by
  rw [runT_eq hd]
  exact ctX3_hasOf (call := runT d) p0 e0 s0 m0 meth0 c0 G0 hd hX3_get hX3_parent hX3_typeOf hX3_has a1 a2 u
theorem sX3_same {l : Launch} {d : Nat} (hd : 2 ≤ d) (hX3_terms : AX3_terms_ l d) (hX3_indexOf : AX3_indexOf_ l d) (hX3_join_2 : AX3_join_2_ l d) (p0 : Program) (e0 : Env) (s0 : State) (m0 : MethodId) (meth0 : Method) (c0 : Code) (G0 : Gm) : AX3_same_ l (d + 1) := fun a1 a2 u => by
  rw [runT_eq hd]
  exact ctX3_same (call := runT d) p0 e0 s0 m0 meth0 c0 G0 hd hX3_terms hX3_indexOf hX3_join_2 a1 a2 u
theorem sX3_isContradictory {l : Launch} {d : Nat} (hd : 2 ≤ d) (hX3_hasAdj : AX3_hasAdj_ l d) (hX3_get : AX3_get_ l d) (hX3_equal : AX3_equal_ l d) (hX3_isKnownAtom : AX3_isKnownAtom_ l d) (hX3_indexOf : AX3_indexOf_ l d) (hX3_hasHere : AX3_hasHere_ l d) (hX3_holds : AX3_holds_ l d) (p0 : Program) (e0 : Env) (s0 : State) (m0 : MethodId) (meth0 : Method) (c0 : Code) (G0 : Gm) : AX3_isContradictory_ l (d + 1) := fun  u => by
  rw [runT_eq hd]
  exact ctX3_isContradictory (call := runT d) p0 e0 s0 m0 meth0 c0 G0 hd hX3_hasAdj hX3_get hX3_equal hX3_isKnownAtom hX3_indexOf hX3_hasHere hX3_holds  u
theorem sX3_holds {l : Launch} {d : Nat} (hd : 2 ≤ d) (hX3_get : AX3_get_ l d) (hX3_holds : AX3_holds_ l d) (hX3_not : AX3_not_ l d) (hX3_equal : AX3_equal_ l d) (hX3_indexOf : AX3_indexOf_ l d) (hX3_hasAdj : AX3_hasAdj_ l d) (hX3_isKnownAtom : AX3_isKnownAtom_ l d) (hX3_hasHere : AX3_hasHere_ l d) (p0 : Program) (e0 : Env) (s0 : State) (m0 : MethodId) (meth0 : Method) (c0 : Code) (G0 : Gm) : AX3_holds_ l (d + 1) := fun a1 u => by
  rw [runT_eq hd]
  exact ctX3_holds (call := runT d) p0 e0 s0 m0 meth0 c0 G0 hd hX3_get hX3_holds hX3_not hX3_equal hX3_indexOf hX3_hasAdj hX3_isKnownAtom hX3_hasHere a1 u
theorem sX3_isKnownAtom {l : Launch} {d : Nat} (hd : 2 ≤ d) (hX3_isAtom : AX3_isAtom_ l d) (hX3_isAlike : AX3_isAlike_ l d) (hX3_get : AX3_get_ l d) (p0 : Program) (e0 : Env) (s0 : State) (m0 : MethodId) (meth0 : Method) (c0 : Code) (G0 : Gm) : AX3_isKnownAtom_ l (d + 1) := fun a1 a2 u => by
  rw [runT_eq hd]
  exact ctX3_isKnownAtom (call := runT d) p0 e0 s0 m0 meth0 c0 G0 hd hX3_isAtom hX3_isAlike hX3_get a1 a2 u
theorem sX3_isAtom {l : Launch} {d : Nat} (hd : 2 ≤ d) (p0 : Program) (e0 : Env) (s0 : State) (m0 : MethodId) (meth0 : Method) (c0 : Code) (G0 : Gm) : AX3_isAtom_ l (d + 1) := fun a1 u => by
  rw [runT_eq hd]
  exact ctX3_isAtom (call := runT d) p0 e0 s0 m0 meth0 c0 G0 hd  a1 u
theorem sX3_isAlike {l : Launch} {d : Nat} (hd : 2 ≤ d) (hX3_first : AX3_first_ l d) (hX3_get : AX3_get_ l d) (hX3_equal : AX3_equal_ l d) (p0 : Program) (e0 : Env) (s0 : State) (m0 : MethodId) (meth0 : Method) (c0 : Code) (G0 : Gm) : AX3_isAlike_ l (d + 1) := fun a1 a2 u => by
  rw [runT_eq hd]
  exact ctX3_isAlike (call := runT d) p0 e0 s0 m0 meth0 c0 G0 hd hX3_first hX3_get hX3_equal a1 a2 u
theorem sX3_brings {l : Launch} {d : Nat} (hd : 2 ≤ d) (hX3_bringsOf : AX3_bringsOf_ l d) (hX3_knows : AX3_knows_ l d) (p0 : Program) (e0 : Env) (s0 : State) (m0 : MethodId) (meth0 : Method) (c0 : Code) (G0 : Gm) : AX3_brings_ l (d + 1) := fun a1 a2 u => by
  rw [runT_eq hd]
  exact ctX3_brings (call := runT d) p0 e0 s0 m0 meth0 c0 G0 hd hX3_bringsOf hX3_knows a1 a2 u
theorem sX3_bringsOf {l : Launch} {d : Nat} (hd : 2 ≤ d) (hX3_get : AX3_get_ l d) (hX3_comes : AX3_comes_ l d) (hX3_instance : AX3_instance_ l d) (hX3_isDone : AX3_isDone_ l d) (hX3_done : AX3_done_ l d) (hX3_fresh : AX3_fresh_ l d) (hX3_leaf : AX3_leaf_ l d) (hX3_put : AX3_put_ l d) (hX3_not : AX3_not_ l d) (hX3_holds : AX3_holds_ l d) (p0 : Program) (e0 : Env) (s0 : State) (m0 : MethodId) (meth0 : Method) (c0 : Code) (G0 : Gm) : AX3_bringsOf_ l (d + 1) := fun a1 a2 u => by
  rw [runT_eq hd]
  exact ctX3_bringsOf (call := runT d) p0 e0 s0 m0 meth0 c0 G0 hd hX3_get hX3_comes hX3_instance hX3_isDone hX3_done hX3_fresh hX3_leaf hX3_put hX3_not hX3_holds a1 a2 u
theorem sX3_comes {l : Launch} {d : Nat} (hd : 2 ≤ d) (p0 : Program) (e0 : Env) (s0 : State) (m0 : MethodId) (meth0 : Method) (c0 : Code) (G0 : Gm) : AX3_comes_ l (d + 1) := fun a1 u => by
  rw [runT_eq hd]
  exact ctX3_comes (call := runT d) p0 e0 s0 m0 meth0 c0 G0 hd  a1 u
theorem sX3_instance {l : Launch} {d : Nat} (hd : 2 ≤ d) (hX3_get : AX3_get_ l d) (hX3_fitsHere : AX3_fitsHere_ l d) (hX3_put : AX3_put_ l d) (hX3_comes : AX3_comes_ l d) (hX3_losing : AX3_losing_ l d) (hX3_forget : AX3_forget_ l d) (p0 : Program) (e0 : Env) (s0 : State) (m0 : MethodId) (meth0 : Method) (c0 : Code) (G0 : Gm) : AX3_instance_ l (d + 1) := fun a1 a2 u => by
  rw [runT_eq hd]
  exact ctX3_instance (call := runT d) p0 e0 s0 m0 meth0 c0 G0 hd hX3_get hX3_fitsHere hX3_put hX3_comes hX3_losing hX3_forget a1 a2 u
theorem sX3_losing {l : Launch} {d : Nat} (hd : 2 ≤ d) (hX3_isPart : AX3_isPart_ l d) (hX3_losing : AX3_losing_ l d) (hX3_get : AX3_get_ l d) (hX3_isTerm : AX3_isTerm_ l d) (hX3_isOnly : AX3_isOnly_ l d) (hX3_put : AX3_put_ l d) (hX3_indexOf : AX3_indexOf_ l d) (p0 : Program) (e0 : Env) (s0 : State) (m0 : MethodId) (meth0 : Method) (c0 : Code) (G0 : Gm) : AX3_losing_ l (d + 1) := fun a1 a2 a3 u => by
  rw [runT_eq hd]
  exact ctX3_losing (call := runT d) p0 e0 s0 m0 meth0 c0 G0 hd hX3_isPart hX3_losing hX3_get hX3_isTerm hX3_isOnly hX3_put hX3_indexOf a1 a2 a3 u
theorem sX3_isOnly {l : Launch} {d : Nat} (hd : 2 ≤ d) (hX3_get : AX3_get_ l d) (hX3_isPart : AX3_isPart_ l d) (hX3_isOnly : AX3_isOnly_ l d) (p0 : Program) (e0 : Env) (s0 : State) (m0 : MethodId) (meth0 : Method) (c0 : Code) (G0 : Gm) : AX3_isOnly_ l (d + 1) := fun a1 a2 u => by
  rw [runT_eq hd]
  exact ctX3_isOnly (call := runT d) p0 e0 s0 m0 meth0 c0 G0 hd hX3_get hX3_isPart hX3_isOnly a1 a2 u
theorem sX3_forget {l : Launch} {d : Nat} (hd : 2 ≤ d) (hX3_anew : AX3_anew_ l d) (p0 : Program) (e0 : Env) (s0 : State) (m0 : MethodId) (meth0 : Method) (c0 : Code) (G0 : Gm) : AX3_forget_ l (d + 1) := fun a1 a2 u => by
  rw [runT_eq hd]
  exact ctX3_forget (call := runT d) p0 e0 s0 m0 meth0 c0 G0 hd hX3_anew a1 a2 u
theorem sX3_isDone {l : Launch} {d : Nat} (hd : 2 ≤ d) (p0 : Program) (e0 : Env) (s0 : State) (m0 : MethodId) (meth0 : Method) (c0 : Code) (G0 : Gm) : AX3_isDone_ l (d + 1) := fun a1 u => by
  rw [runT_eq hd]
  exact ctX3_isDone (call := runT d) p0 e0 s0 m0 meth0 c0 G0 hd  a1 u
theorem sX3_done {l : Launch} {d : Nat} (hd : 2 ≤ d) (p0 : Program) (e0 : Env) (s0 : State) (m0 : MethodId) (meth0 : Method) (c0 : Code) (G0 : Gm) : AX3_done_ l (d + 1) := fun a1 u => by
  rw [runT_eq hd]
  exact ctX3_done (call := runT d) p0 e0 s0 m0 meth0 c0 G0 hd  a1 u
theorem sX3_fits {l : Launch} {d : Nat} (hd : 2 ≤ d) (hX3_fails : AX3_fails_ l d) (hX3_closed : AX3_closed_ l d) (hX3_suits : AX3_suits_ l d) (p0 : Program) (e0 : Env) (s0 : State) (m0 : MethodId) (meth0 : Method) (c0 : Code) (G0 : Gm) : AX3_fits_ l (d + 1) := fun a1 a2 u => by
  rw [runT_eq hd]
  exact ctX3_fits (call := runT d) p0 e0 s0 m0 meth0 c0 G0 hd hX3_fails hX3_closed hX3_suits a1 a2 u
theorem sX3_adjectives {l : Launch} {d : Nat} (hd : 2 ≤ d) (hX3_closed : AX3_closed_ l d) (hX3_fails : AX3_fails_ l d) (hX3_allOf : AX3_allOf_ l d) (p0 : Program) (e0 : Env) (s0 : State) (m0 : MethodId) (meth0 : Method) (c0 : Code) (G0 : Gm) : AX3_adjectives_ l (d + 1) := fun a1 u => by
  rw [runT_eq hd]
  exact ctX3_adjectives (call := runT d) p0 e0 s0 m0 meth0 c0 G0 hd hX3_closed hX3_fails hX3_allOf a1 u
theorem sX3_alike {l : Launch} {d : Nat} (hd : 2 ≤ d) (hX3_fails : AX3_fails_ l d) (p0 : Program) (e0 : Env) (s0 : State) (m0 : MethodId) (meth0 : Method) (c0 : Code) (G0 : Gm) : AX3_alike_ l (d + 1) := fun a1 a2 u => by
  rw [runT_eq hd]
  exact ctX3_alike (call := runT d) p0 e0 s0 m0 meth0 c0 G0 hd hX3_fails a1 a2 u
theorem sX3_about {l : Launch} {d : Nat} (hd : 2 ≤ d) (hX3_fails : AX3_fails_ l d) (hX3_sortOf : AX3_sortOf_ l d) (hX3_tree : AX3_tree_ l d) (hX3_forget : AX3_forget_ l d) (p0 : Program) (e0 : Env) (s0 : State) (m0 : MethodId) (meth0 : Method) (c0 : Code) (G0 : Gm) : AX3_about_ l (d + 1) := fun a1 a2 u => by
  rw [runT_eq hd]
  exact ctX3_about (call := runT d) p0 e0 s0 m0 meth0 c0 G0 hd hX3_fails hX3_sortOf hX3_tree hX3_forget a1 a2 u
theorem sX3_count {l : Launch} {d : Nat} (hd : 2 ≤ d) (hX3_fails : AX3_fails_ l d) (p0 : Program) (e0 : Env) (s0 : State) (m0 : MethodId) (meth0 : Method) (c0 : Code) (G0 : Gm) : AX3_count_ l (d + 1) := fun a1 u => by
  rw [runT_eq hd]
  exact ctX3_count (call := runT d) p0 e0 s0 m0 meth0 c0 G0 hd hX3_fails a1 u
theorem allT (l : Launch) (p0 : Program) (e0 : Env) (s0 : State) (m0 : MethodId) (meth0 : Method) (c0 : Code) (G0 : Gm) : ∀ d, AAT l d := by
  intro d
  induction d with
  | zero => exact ⟨fun  _ => Ct_none, fun _ _ _ => Ct_none, fun _ _ _ _ => Ct_none, fun _ _ => Ct_none, fun _ _ _ => Ct_none, fun _ _ => Ct_none, fun _ _ _ => Ct_none, fun _ _ => Ct_none, fun _ _ _ => Ct_none, fun  _ => Ct_none, fun _ _ _ => Ct_none, fun _ _ _ => Ct_none, fun _ _ => Ct_none, fun _ _ _ => Ct_none, fun _ _ _ => Ct_none, fun _ _ _ => Ct_none, fun _ _ => Ct_none, fun  _ => Ct_none, fun _ _ _ => Ct_none, fun _ _ => Ct_none, fun _ _ _ _ => Ct_none, fun _ _ => Ct_none, fun _ _ => Ct_none, fun _ _ => Ct_none, fun _ _ _ => Ct_none, fun _ _ => Ct_none, fun _ _ _ => Ct_none, fun _ _ => Ct_none, fun _ _ _ _ => Ct_none, fun _ _ => Ct_none, fun _ _ _ _ _ => Ct_none, fun _ _ _ _ => Ct_none, fun _ _ _ _ => Ct_none, fun  _ => Ct_none, fun _ _ _ _ => Ct_none, fun _ _ => Ct_none, fun _ _ _ => Ct_none, fun _ _ => Ct_none, fun _ _ _ => Ct_none, fun _ _ _ _ => Ct_none, fun _ _ _ _ => Ct_none, fun _ _ => Ct_none, fun _ _ _ => Ct_none, fun _ _ _ => Ct_none, fun _ _ _ _ => Ct_none, fun  _ => Ct_none, fun _ _ _ _ _ => Ct_none, fun _ _ _ _ => Ct_none, fun _ _ _ _ _ => Ct_none, fun _ _ => Ct_none, fun  _ => Ct_none, fun _ _ => Ct_none, fun _ _ => Ct_none, fun _ _ => Ct_none, fun _ _ => Ct_none, fun _ _ => Ct_none, fun _ _ _ _ => Ct_none, fun _ _ _ _ => Ct_none, fun _ _ _ => Ct_none, fun _ _ _ _ => Ct_none, fun _ _ _ => Ct_none, fun _ _ _ => Ct_none, fun _ _ => Ct_none, fun _ _ => Ct_none, fun _ _ => Ct_none, fun _ _ => Ct_none, fun  _ => Ct_none, fun  _ => Ct_none, fun _ _ _ => Ct_none, fun _ _ => Ct_none, fun _ _ _ => Ct_none, fun _ _ _ => Ct_none, fun _ _ _ => Ct_none, fun _ _ _ _ => Ct_none, fun _ _ _ _ => Ct_none, fun _ _ _ => Ct_none, fun _ _ => Ct_none, fun _ _ => Ct_none, fun _ _ _ => Ct_none, fun _ _ => Ct_none, fun _ _ => Ct_none, fun _ _ _ => Ct_none, fun  _ => Ct_none, fun _ _ _ => Ct_none, fun _ _ _ => Ct_none, fun _ _ _ => Ct_none, fun _ _ _ => Ct_none, fun _ _ _ => Ct_none, fun _ _ _ _ => Ct_none, fun _ _ => Ct_none, fun _ _ => Ct_none, fun _ _ => Ct_none, fun _ _ => Ct_none, fun _ _ => Ct_none, fun _ _ => Ct_none, fun _ _ _ => Ct_none, fun _ _ _ => Ct_none, fun _ _ _ => Ct_none, fun  _ => Ct_none, fun _ _ => Ct_none, fun _ _ _ => Ct_none, fun _ _ => Ct_none, fun _ _ _ => Ct_none, fun _ _ _ => Ct_none, fun _ _ _ => Ct_none, fun _ _ => Ct_none, fun _ _ _ => Ct_none, fun _ _ _ _ => Ct_none, fun _ _ _ => Ct_none, fun _ _ _ => Ct_none, fun _ _ => Ct_none, fun _ _ => Ct_none, fun _ _ _ => Ct_none, fun _ _ => Ct_none, fun _ _ _ => Ct_none, fun _ _ _ => Ct_none, fun _ _ => Ct_none⟩
  | succ d ih =>
    by_cases hd : 2 ≤ d
    · obtain ⟨hX3_thrown, hX3_plain, hX3_typed, hX3_give, hX3_node, hX3_measure, hX3_get, hX3_first, hX3_fresh, hX3_anew, hX3_mode, hX3_form, hX3_sortOf, hX3_isBelow, hX3_mentions, hX3_isPart, hX3_fails, hX3_attribute, hX3_functor, hX3_predicate, hX3_type, hX3_isSet, hX3_gives, hX3_constant, hX3_closed, hX3_isClosed, hX3_leaf, hX3_locus, hX3_apply, hX3_the, hX3_atom, hX3_two, hX3_modeOf, hX3_truth, hX3_join, hX3_not, hX3_and, hX3_and_2, hX3_implies, hX3_bind, hX3_bind_2, hX3_bound, hX3_again, hX3_all, hX3_cluster, hX3_registered, hX3_gives_2, hX3_types, hX3_reduce, hX3_premise, hX3_clear, hX3_check, hX3_checked, hX3_q, hX3_tree, hX3_counted, hX3_hang, hX3_put, hX3_lift, hX3_lift_2, hX3_caseOf, hX3_leavesOf, hX3_knows, hX3_terms, hX3_isTerm, hX3_indexOf, hX3_closing, hX3_takeIn, hX3_join_2, hX3_top, hX3_adj, hX3_hasAdj, hX3_hasType, hX3_mode_2, hX3_hasHere, hX3_equal, hX3_parent, hX3_move, hX3_move_2, hX3_typeOf, hX3_moveLoci, hX3_isCongruent, hX3_byRegistrations, hX3_conditional, hX3_adjs, hX3_termsFit, hX3_fitsHere, hX3_suits, hX3_has, hX3_setOf, hX3_allOf, hX3_wants, hX3_isRemembered, hX3_found, hX3_ownAndParents, hX3_termsSuit, hX3_hasOf, hX3_same, hX3_isContradictory, hX3_holds, hX3_isKnownAtom, hX3_isAtom, hX3_isAlike, hX3_brings, hX3_bringsOf, hX3_comes, hX3_instance, hX3_losing, hX3_isOnly, hX3_forget, hX3_isDone, hX3_done, hX3_fits, hX3_adjectives, hX3_alike, hX3_about, hX3_count⟩ := ih
      exact ⟨sX3_thrown hd  p0 e0 s0 m0 meth0 c0 G0, sX3_plain hd hX3_typed p0 e0 s0 m0 meth0 c0 G0, sX3_typed hd hX3_give hX3_node p0 e0 s0 m0 meth0 c0 G0, sX3_give hd  p0 e0 s0 m0 meth0 c0 G0, sX3_node hd hX3_measure p0 e0 s0 m0 meth0 c0 G0, sX3_measure hd hX3_get hX3_first p0 e0 s0 m0 meth0 c0 G0, sX3_get hd  p0 e0 s0 m0 meth0 c0 G0, sX3_first hd  p0 e0 s0 m0 meth0 c0 G0, sX3_fresh hd hX3_anew p0 e0 s0 m0 meth0 c0 G0, sX3_anew hd  p0 e0 s0 m0 meth0 c0 G0, sX3_mode hd hX3_fails hX3_form hX3_isBelow p0 e0 s0 m0 meth0 c0 G0, sX3_form hd hX3_sortOf p0 e0 s0 m0 meth0 c0 G0, sX3_sortOf hd  p0 e0 s0 m0 meth0 c0 G0, sX3_isBelow hd hX3_mentions p0 e0 s0 m0 meth0 c0 G0, sX3_mentions hd hX3_get hX3_isPart hX3_mentions p0 e0 s0 m0 meth0 c0 G0, sX3_isPart hd hX3_get hX3_first p0 e0 s0 m0 meth0 c0 G0, sX3_fails hd  p0 e0 s0 m0 meth0 c0 G0, sX3_attribute hd hX3_fails p0 e0 s0 m0 meth0 c0 G0, sX3_functor hd hX3_fails hX3_form hX3_isBelow p0 e0 s0 m0 meth0 c0 G0, sX3_predicate hd hX3_fails p0 e0 s0 m0 meth0 c0 G0, sX3_type hd hX3_fails hX3_isSet hX3_give hX3_typed hX3_gives hX3_form p0 e0 s0 m0 meth0 c0 G0, sX3_isSet hd  p0 e0 s0 m0 meth0 c0 G0, sX3_gives hd hX3_fails p0 e0 s0 m0 meth0 c0 G0, sX3_constant hd hX3_closed hX3_fails hX3_fresh hX3_leaf hX3_gives p0 e0 s0 m0 meth0 c0 G0, sX3_closed hd hX3_form hX3_isClosed p0 e0 s0 m0 meth0 c0 G0, sX3_isClosed hd hX3_mentions p0 e0 s0 m0 meth0 c0 G0, sX3_leaf hd hX3_give hX3_node p0 e0 s0 m0 meth0 c0 G0, sX3_locus hd hX3_fails hX3_leaf hX3_gives p0 e0 s0 m0 meth0 c0 G0, sX3_apply hd hX3_fails hX3_node hX3_gives hX3_give hX3_form p0 e0 s0 m0 meth0 c0 G0, sX3_the hd hX3_form hX3_fails hX3_leaf hX3_gives p0 e0 s0 m0 meth0 c0 G0, sX3_atom hd hX3_closed hX3_fails hX3_two hX3_gives hX3_node hX3_give hX3_modeOf p0 e0 s0 m0 meth0 c0 G0, sX3_two hd hX3_give hX3_node p0 e0 s0 m0 meth0 c0 G0, sX3_modeOf hd hX3_truth hX3_give hX3_node p0 e0 s0 m0 meth0 c0 G0, sX3_truth hd hX3_node p0 e0 s0 m0 meth0 c0 G0, sX3_join hd hX3_fails hX3_form hX3_not hX3_gives hX3_and hX3_implies p0 e0 s0 m0 meth0 c0 G0, sX3_not hd hX3_get hX3_leaf p0 e0 s0 m0 meth0 c0 G0, sX3_and hd hX3_give hX3_and_2 p0 e0 s0 m0 meth0 c0 G0, sX3_and_2 hd hX3_get hX3_give hX3_truth hX3_node p0 e0 s0 m0 meth0 c0 G0, sX3_implies hd hX3_not hX3_and p0 e0 s0 m0 meth0 c0 G0, sX3_bind hd hX3_fails hX3_form hX3_get hX3_gives hX3_bind_2 hX3_all hX3_not p0 e0 s0 m0 meth0 c0 G0, sX3_bind_2 hd hX3_get hX3_bound hX3_give hX3_isPart hX3_bind_2 hX3_again p0 e0 s0 m0 meth0 c0 G0, sX3_bound hd hX3_leaf p0 e0 s0 m0 meth0 c0 G0, sX3_again hd hX3_node hX3_not hX3_and_2 hX3_all p0 e0 s0 m0 meth0 c0 G0, sX3_all hd hX3_two p0 e0 s0 m0 meth0 c0 G0, sX3_cluster hd hX3_fails hX3_form hX3_closed hX3_isSet hX3_registered hX3_get p0 e0 s0 m0 meth0 c0 G0, sX3_registered hd hX3_anew p0 e0 s0 m0 meth0 c0 G0, sX3_gives_2 hd hX3_fails hX3_types hX3_isSet hX3_registered p0 e0 s0 m0 meth0 c0 G0, sX3_types hd hX3_isBelow hX3_form p0 e0 s0 m0 meth0 c0 G0, sX3_reduce hd hX3_fails hX3_form hX3_types hX3_isBelow hX3_registered p0 e0 s0 m0 meth0 c0 G0, sX3_premise hd hX3_form hX3_fails p0 e0 s0 m0 meth0 c0 G0, sX3_clear hd  p0 e0 s0 m0 meth0 c0 G0, sX3_check hd hX3_form hX3_fails hX3_checked p0 e0 s0 m0 meth0 c0 G0, sX3_checked hd hX3_q hX3_tree hX3_hang hX3_forget hX3_caseOf hX3_not hX3_counted p0 e0 s0 m0 meth0 c0 G0, sX3_q hd  p0 e0 s0 m0 meth0 c0 G0, sX3_tree hd hX3_q hX3_counted hX3_get hX3_tree hX3_hang hX3_not hX3_fresh hX3_leaf hX3_put p0 e0 s0 m0 meth0 c0 G0, sX3_counted hd  p0 e0 s0 m0 meth0 c0 G0, sX3_hang hd  p0 e0 s0 m0 meth0 c0 G0, sX3_put hd hX3_get hX3_lift hX3_bound hX3_give hX3_isPart hX3_put hX3_again p0 e0 s0 m0 meth0 c0 G0, sX3_lift hd hX3_lift_2 p0 e0 s0 m0 meth0 c0 G0, sX3_lift_2 hd hX3_get hX3_bound hX3_give hX3_isPart hX3_lift_2 hX3_again p0 e0 s0 m0 meth0 c0 G0, sX3_caseOf hd hX3_leavesOf hX3_terms hX3_closing hX3_isContradictory hX3_brings p0 e0 s0 m0 meth0 c0 G0, sX3_leavesOf hd hX3_knows hX3_leavesOf p0 e0 s0 m0 meth0 c0 G0, sX3_knows hd  p0 e0 s0 m0 meth0 c0 G0, sX3_terms hd hX3_isPart hX3_get hX3_terms hX3_isTerm hX3_indexOf p0 e0 s0 m0 meth0 c0 G0, sX3_isTerm hd  p0 e0 s0 m0 meth0 c0 G0, sX3_indexOf hd  p0 e0 s0 m0 meth0 c0 G0, sX3_closing hd hX3_takeIn hX3_top hX3_isCongruent hX3_join_2 hX3_byRegistrations p0 e0 s0 m0 meth0 c0 G0, sX3_takeIn hd hX3_terms hX3_get hX3_indexOf hX3_plain hX3_hasType hX3_adj hX3_join_2 hX3_typeOf p0 e0 s0 m0 meth0 c0 G0, sX3_join_2 hd hX3_top p0 e0 s0 m0 meth0 c0 G0, sX3_top hd  p0 e0 s0 m0 meth0 c0 G0, sX3_adj hd hX3_hasAdj p0 e0 s0 m0 meth0 c0 G0, sX3_hasAdj hd hX3_top p0 e0 s0 m0 meth0 c0 G0, sX3_hasType hd hX3_get hX3_adj hX3_parent hX3_mode_2 hX3_terms p0 e0 s0 m0 meth0 c0 G0, sX3_mode_2 hd hX3_hasHere p0 e0 s0 m0 meth0 c0 G0, sX3_hasHere hd hX3_top hX3_equal p0 e0 s0 m0 meth0 c0 G0, sX3_equal hd hX3_indexOf hX3_top p0 e0 s0 m0 meth0 c0 G0, sX3_parent hd hX3_get hX3_move p0 e0 s0 m0 meth0 c0 G0, sX3_move hd hX3_move_2 p0 e0 s0 m0 meth0 c0 G0, sX3_move_2 hd hX3_get hX3_lift hX3_give hX3_isPart hX3_move_2 hX3_again p0 e0 s0 m0 meth0 c0 G0, sX3_typeOf hd hX3_get hX3_moveLoci hX3_move p0 e0 s0 m0 meth0 c0 G0, sX3_moveLoci hd hX3_get p0 e0 s0 m0 meth0 c0 G0, sX3_isCongruent hd hX3_get hX3_equal p0 e0 s0 m0 meth0 c0 G0, sX3_byRegistrations hd hX3_top hX3_conditional hX3_get hX3_termsFit hX3_adjs hX3_moveLoci hX3_move hX3_same p0 e0 s0 m0 meth0 c0 G0, sX3_conditional hd hX3_get hX3_hasAdj hX3_top hX3_indexOf hX3_hasHere hX3_adjs p0 e0 s0 m0 meth0 c0 G0, sX3_adjs hd hX3_adj p0 e0 s0 m0 meth0 c0 G0, sX3_termsFit hd hX3_move hX3_fitsHere hX3_moveLoci hX3_get p0 e0 s0 m0 meth0 c0 G0, sX3_fitsHere hd hX3_indexOf hX3_suits hX3_get hX3_hasHere hX3_hasAdj p0 e0 s0 m0 meth0 c0 G0, sX3_suits hd hX3_typeOf hX3_get hX3_has hX3_setOf hX3_allOf p0 e0 s0 m0 meth0 c0 G0, sX3_has hd hX3_parent hX3_get p0 e0 s0 m0 meth0 c0 G0, sX3_setOf hd hX3_get p0 e0 s0 m0 meth0 c0 G0, sX3_allOf hd hX3_wants hX3_isRemembered hX3_found hX3_get p0 e0 s0 m0 meth0 c0 G0, sX3_wants hd hX3_isRemembered p0 e0 s0 m0 meth0 c0 G0, sX3_isRemembered hd  p0 e0 s0 m0 meth0 c0 G0, sX3_found hd hX3_setOf hX3_hasOf hX3_typeOf hX3_ownAndParents hX3_get hX3_termsSuit p0 e0 s0 m0 meth0 c0 G0, sX3_ownAndParents hd hX3_setOf hX3_parent p0 e0 s0 m0 meth0 c0 G0, sX3_termsSuit hd hX3_move hX3_suits hX3_moveLoci hX3_get p0 e0 s0 m0 meth0 c0 G0, sX3_hasOf hd hX3_get hX3_parent hX3_typeOf hX3_has p0 e0 s0 m0 meth0 c0 G0, sX3_same hd hX3_terms hX3_indexOf hX3_join_2 p0 e0 s0 m0 meth0 c0 G0, sX3_isContradictory hd hX3_hasAdj hX3_get hX3_equal hX3_isKnownAtom hX3_indexOf hX3_hasHere hX3_holds p0 e0 s0 m0 meth0 c0 G0, sX3_holds hd hX3_get hX3_holds hX3_not hX3_equal hX3_indexOf hX3_hasAdj hX3_isKnownAtom hX3_hasHere p0 e0 s0 m0 meth0 c0 G0, sX3_isKnownAtom hd hX3_isAtom hX3_isAlike hX3_get p0 e0 s0 m0 meth0 c0 G0, sX3_isAtom hd  p0 e0 s0 m0 meth0 c0 G0, sX3_isAlike hd hX3_first hX3_get hX3_equal p0 e0 s0 m0 meth0 c0 G0, sX3_brings hd hX3_bringsOf hX3_knows p0 e0 s0 m0 meth0 c0 G0, sX3_bringsOf hd hX3_get hX3_comes hX3_instance hX3_isDone hX3_done hX3_fresh hX3_leaf hX3_put hX3_not hX3_holds p0 e0 s0 m0 meth0 c0 G0, sX3_comes hd  p0 e0 s0 m0 meth0 c0 G0, sX3_instance hd hX3_get hX3_fitsHere hX3_put hX3_comes hX3_losing hX3_forget p0 e0 s0 m0 meth0 c0 G0, sX3_losing hd hX3_isPart hX3_losing hX3_get hX3_isTerm hX3_isOnly hX3_put hX3_indexOf p0 e0 s0 m0 meth0 c0 G0, sX3_isOnly hd hX3_get hX3_isPart hX3_isOnly p0 e0 s0 m0 meth0 c0 G0, sX3_forget hd hX3_anew p0 e0 s0 m0 meth0 c0 G0, sX3_isDone hd  p0 e0 s0 m0 meth0 c0 G0, sX3_done hd  p0 e0 s0 m0 meth0 c0 G0, sX3_fits hd hX3_fails hX3_closed hX3_suits p0 e0 s0 m0 meth0 c0 G0, sX3_adjectives hd hX3_closed hX3_fails hX3_allOf p0 e0 s0 m0 meth0 c0 G0, sX3_alike hd hX3_fails p0 e0 s0 m0 meth0 c0 G0, sX3_about hd hX3_fails hX3_sortOf hX3_tree hX3_forget p0 e0 s0 m0 meth0 c0 G0, sX3_count hd hX3_fails p0 e0 s0 m0 meth0 c0 G0⟩
    · have e : ∀ k as u, runT (d + 1) k as u = none := fun k as u => if_neg hd
      exact ⟨fun  _ => by rw [e]; exact Ct_none, fun _ _ _ => by rw [e]; exact Ct_none, fun _ _ _ _ => by rw [e]; exact Ct_none, fun _ _ => by rw [e]; exact Ct_none, fun _ _ _ => by rw [e]; exact Ct_none, fun _ _ => by rw [e]; exact Ct_none, fun _ _ _ => by rw [e]; exact Ct_none, fun _ _ => by rw [e]; exact Ct_none, fun _ _ _ => by rw [e]; exact Ct_none, fun  _ => by rw [e]; exact Ct_none, fun _ _ _ => by rw [e]; exact Ct_none, fun _ _ _ => by rw [e]; exact Ct_none, fun _ _ => by rw [e]; exact Ct_none, fun _ _ _ => by rw [e]; exact Ct_none, fun _ _ _ => by rw [e]; exact Ct_none, fun _ _ _ => by rw [e]; exact Ct_none, fun _ _ => by rw [e]; exact Ct_none, fun  _ => by rw [e]; exact Ct_none, fun _ _ _ => by rw [e]; exact Ct_none, fun _ _ => by rw [e]; exact Ct_none, fun _ _ _ _ => by rw [e]; exact Ct_none, fun _ _ => by rw [e]; exact Ct_none, fun _ _ => by rw [e]; exact Ct_none, fun _ _ => by rw [e]; exact Ct_none, fun _ _ _ => by rw [e]; exact Ct_none, fun _ _ => by rw [e]; exact Ct_none, fun _ _ _ => by rw [e]; exact Ct_none, fun _ _ => by rw [e]; exact Ct_none, fun _ _ _ _ => by rw [e]; exact Ct_none, fun _ _ => by rw [e]; exact Ct_none, fun _ _ _ _ _ => by rw [e]; exact Ct_none, fun _ _ _ _ => by rw [e]; exact Ct_none, fun _ _ _ _ => by rw [e]; exact Ct_none, fun  _ => by rw [e]; exact Ct_none, fun _ _ _ _ => by rw [e]; exact Ct_none, fun _ _ => by rw [e]; exact Ct_none, fun _ _ _ => by rw [e]; exact Ct_none, fun _ _ => by rw [e]; exact Ct_none, fun _ _ _ => by rw [e]; exact Ct_none, fun _ _ _ _ => by rw [e]; exact Ct_none, fun _ _ _ _ => by rw [e]; exact Ct_none, fun _ _ => by rw [e]; exact Ct_none, fun _ _ _ => by rw [e]; exact Ct_none, fun _ _ _ => by rw [e]; exact Ct_none, fun _ _ _ _ => by rw [e]; exact Ct_none, fun  _ => by rw [e]; exact Ct_none, fun _ _ _ _ _ => by rw [e]; exact Ct_none, fun _ _ _ _ => by rw [e]; exact Ct_none, fun _ _ _ _ _ => by rw [e]; exact Ct_none, fun _ _ => by rw [e]; exact Ct_none, fun  _ => by rw [e]; exact Ct_none, fun _ _ => by rw [e]; exact Ct_none, fun _ _ => by rw [e]; exact Ct_none, fun _ _ => by rw [e]; exact Ct_none, fun _ _ => by rw [e]; exact Ct_none, fun _ _ => by rw [e]; exact Ct_none, fun _ _ _ _ => by rw [e]; exact Ct_none, fun _ _ _ _ => by rw [e]; exact Ct_none, fun _ _ _ => by rw [e]; exact Ct_none, fun _ _ _ _ => by rw [e]; exact Ct_none, fun _ _ _ => by rw [e]; exact Ct_none, fun _ _ _ => by rw [e]; exact Ct_none, fun _ _ => by rw [e]; exact Ct_none, fun _ _ => by rw [e]; exact Ct_none, fun _ _ => by rw [e]; exact Ct_none, fun _ _ => by rw [e]; exact Ct_none, fun  _ => by rw [e]; exact Ct_none, fun  _ => by rw [e]; exact Ct_none, fun _ _ _ => by rw [e]; exact Ct_none, fun _ _ => by rw [e]; exact Ct_none, fun _ _ _ => by rw [e]; exact Ct_none, fun _ _ _ => by rw [e]; exact Ct_none, fun _ _ _ => by rw [e]; exact Ct_none, fun _ _ _ _ => by rw [e]; exact Ct_none, fun _ _ _ _ => by rw [e]; exact Ct_none, fun _ _ _ => by rw [e]; exact Ct_none, fun _ _ => by rw [e]; exact Ct_none, fun _ _ => by rw [e]; exact Ct_none, fun _ _ _ => by rw [e]; exact Ct_none, fun _ _ => by rw [e]; exact Ct_none, fun _ _ => by rw [e]; exact Ct_none, fun _ _ _ => by rw [e]; exact Ct_none, fun  _ => by rw [e]; exact Ct_none, fun _ _ _ => by rw [e]; exact Ct_none, fun _ _ _ => by rw [e]; exact Ct_none, fun _ _ _ => by rw [e]; exact Ct_none, fun _ _ _ => by rw [e]; exact Ct_none, fun _ _ _ => by rw [e]; exact Ct_none, fun _ _ _ _ => by rw [e]; exact Ct_none, fun _ _ => by rw [e]; exact Ct_none, fun _ _ => by rw [e]; exact Ct_none, fun _ _ => by rw [e]; exact Ct_none, fun _ _ => by rw [e]; exact Ct_none, fun _ _ => by rw [e]; exact Ct_none, fun _ _ => by rw [e]; exact Ct_none, fun _ _ _ => by rw [e]; exact Ct_none, fun _ _ _ => by rw [e]; exact Ct_none, fun _ _ _ => by rw [e]; exact Ct_none, fun  _ => by rw [e]; exact Ct_none, fun _ _ => by rw [e]; exact Ct_none, fun _ _ _ => by rw [e]; exact Ct_none, fun _ _ => by rw [e]; exact Ct_none, fun _ _ _ => by rw [e]; exact Ct_none, fun _ _ _ => by rw [e]; exact Ct_none, fun _ _ _ => by rw [e]; exact Ct_none, fun _ _ => by rw [e]; exact Ct_none, fun _ _ _ => by rw [e]; exact Ct_none, fun _ _ _ _ => by rw [e]; exact Ct_none, fun _ _ _ => by rw [e]; exact Ct_none, fun _ _ _ => by rw [e]; exact Ct_none, fun _ _ => by rw [e]; exact Ct_none, fun _ _ => by rw [e]; exact Ct_none, fun _ _ _ => by rw [e]; exact Ct_none, fun _ _ => by rw [e]; exact Ct_none, fun _ _ _ => by rw [e]; exact Ct_none, fun _ _ _ => by rw [e]; exact Ct_none, fun _ _ => by rw [e]; exact Ct_none⟩
