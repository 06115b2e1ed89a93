/-! THE OWED NAME, but for the room -/
set_option maxRecDepth 100000
theorem i_vc_room (hroom : Room) : Claimed_1_1 ∧ Claimed_1_2 := i_vc_of (zLaw_of hroom)
