theorem i_vc : Claimed_1_1 ∧ Claimed_1_2 := sorry
