theorem law_ev : LawEv := sorry
theorem i_vc : Claimed_1_1 ∧ Claimed_1_2 := vc_of law_ev
