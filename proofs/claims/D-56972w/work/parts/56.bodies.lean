/-! THE INTERPRETER: the bodies by the methods' numbers (printed by tools/bodies.py) -/
set_option maxRecDepth 100000
def zB_good (k : Nat) (b : Nat × List zIt) : Prop := ∀ μ : zMt, zML[k]? = some μ → zcn[b.1]? = some μ.1.cls ∧ zI_good μ.2.1 b.2 ∧ μ.2.2.1 ≤ 45
theorem zB0_g : zB_good 0 (0, zi0) := fun μ h => by
  cases Option.some.inj ((show zML[0]? = some zm0 from rfl).symm.trans h)
  exact ⟨rfl, zi0_g, Nat.le_of_ble_eq_true rfl⟩
theorem zB1_g : zB_good 1 (1, zi1) := fun μ h => by
  cases Option.some.inj ((show zML[1]? = some zm1 from rfl).symm.trans h)
  exact ⟨rfl, zi1_g, Nat.le_of_ble_eq_true rfl⟩
theorem zB2_g : zB_good 2 (2, zi2) := fun μ h => by
  cases Option.some.inj ((show zML[2]? = some zm2 from rfl).symm.trans h)
  exact ⟨rfl, zi2_g, Nat.le_of_ble_eq_true rfl⟩
theorem zB3_g : zB_good 3 (3, zi3) := fun μ h => by
  cases Option.some.inj ((show zML[3]? = some zm3 from rfl).symm.trans h)
  exact ⟨rfl, zi3_g, Nat.le_of_ble_eq_true rfl⟩
theorem zB4_g : zB_good 4 (4, zi4) := fun μ h => by
  cases Option.some.inj ((show zML[4]? = some zm4 from rfl).symm.trans h)
  exact ⟨rfl, zi4_g, Nat.le_of_ble_eq_true rfl⟩
theorem zB5_g : zB_good 5 (0, zi5) := fun μ h => by
  cases Option.some.inj ((show zML[5]? = some zm5 from rfl).symm.trans h)
  exact ⟨rfl, zi5_g, Nat.le_of_ble_eq_true rfl⟩
theorem zB6_g : zB_good 6 (1, zi6) := fun μ h => by
  cases Option.some.inj ((show zML[6]? = some zm6 from rfl).symm.trans h)
  exact ⟨rfl, zi6_g, Nat.le_of_ble_eq_true rfl⟩
theorem zB7_g : zB_good 7 (0, zi7) := fun μ h => by
  cases Option.some.inj ((show zML[7]? = some zm7 from rfl).symm.trans h)
  exact ⟨rfl, zi7_g, Nat.le_of_ble_eq_true rfl⟩
theorem zB8_g : zB_good 8 (1, zi8) := fun μ h => by
  cases Option.some.inj ((show zML[8]? = some zm8 from rfl).symm.trans h)
  exact ⟨rfl, zi8_g, Nat.le_of_ble_eq_true rfl⟩
theorem zB9_g : zB_good 9 (5, zi9) := fun μ h => by
  cases Option.some.inj ((show zML[9]? = some zm9 from rfl).symm.trans h)
  exact ⟨rfl, zi9_g, Nat.le_of_ble_eq_true rfl⟩
theorem zB10_g : zB_good 10 (5, zi10) := fun μ h => by
  cases Option.some.inj ((show zML[10]? = some zm10 from rfl).symm.trans h)
  exact ⟨rfl, zi10_g, Nat.le_of_ble_eq_true rfl⟩
theorem zB11_g : zB_good 11 (5, zi11) := fun μ h => by
  cases Option.some.inj ((show zML[11]? = some zm11 from rfl).symm.trans h)
  exact ⟨rfl, zi11_g, Nat.le_of_ble_eq_true rfl⟩
theorem zB12_g : zB_good 12 (5, zi12) := fun μ h => by
  cases Option.some.inj ((show zML[12]? = some zm12 from rfl).symm.trans h)
  exact ⟨rfl, zi12_g, Nat.le_of_ble_eq_true rfl⟩
theorem zB13_g : zB_good 13 (6, zi13) := fun μ h => by
  cases Option.some.inj ((show zML[13]? = some zm13 from rfl).symm.trans h)
  exact ⟨rfl, zi13_g, Nat.le_of_ble_eq_true rfl⟩
theorem zB14_g : zB_good 14 (7, zi14) := fun μ h => by
  cases Option.some.inj ((show zML[14]? = some zm14 from rfl).symm.trans h)
  exact ⟨rfl, zi14_g, Nat.le_of_ble_eq_true rfl⟩
theorem zB15_g : zB_good 15 (8, zi15) := fun μ h => by
  cases Option.some.inj ((show zML[15]? = some zm15 from rfl).symm.trans h)
  exact ⟨rfl, zi15_g, Nat.le_of_ble_eq_true rfl⟩
theorem zB16_g : zB_good 16 (9, zi16) := fun μ h => by
  cases Option.some.inj ((show zML[16]? = some zm16 from rfl).symm.trans h)
  exact ⟨rfl, zi16_g, Nat.le_of_ble_eq_true rfl⟩
theorem zB17_g : zB_good 17 (0, zi17) := fun μ h => by
  cases Option.some.inj ((show zML[17]? = some zm17 from rfl).symm.trans h)
  exact ⟨rfl, zi17_g, Nat.le_of_ble_eq_true rfl⟩
theorem zB18_g : zB_good 18 (0, zi18) := fun μ h => by
  cases Option.some.inj ((show zML[18]? = some zm18 from rfl).symm.trans h)
  exact ⟨rfl, zi18_g, Nat.le_of_ble_eq_true rfl⟩
theorem zB19_g : zB_good 19 (0, zi19) := fun μ h => by
  cases Option.some.inj ((show zML[19]? = some zm19 from rfl).symm.trans h)
  exact ⟨rfl, zi19_g, Nat.le_of_ble_eq_true rfl⟩
theorem zB20_g : zB_good 20 (0, zi20) := fun μ h => by
  cases Option.some.inj ((show zML[20]? = some zm20 from rfl).symm.trans h)
  exact ⟨rfl, zi20_g, Nat.le_of_ble_eq_true rfl⟩
theorem zB21_g : zB_good 21 (0, zi21) := fun μ h => by
  cases Option.some.inj ((show zML[21]? = some zm21 from rfl).symm.trans h)
  exact ⟨rfl, zi21_g, Nat.le_of_ble_eq_true rfl⟩
theorem zB22_g : zB_good 22 (0, zi22) := fun μ h => by
  cases Option.some.inj ((show zML[22]? = some zm22 from rfl).symm.trans h)
  exact ⟨rfl, zi22_g, Nat.le_of_ble_eq_true rfl⟩
theorem zB23_g : zB_good 23 (10, zi23) := fun μ h => by
  cases Option.some.inj ((show zML[23]? = some zm23 from rfl).symm.trans h)
  exact ⟨rfl, zi23_g, Nat.le_of_ble_eq_true rfl⟩
theorem zB24_g : zB_good 24 (1, zi24) := fun μ h => by
  cases Option.some.inj ((show zML[24]? = some zm24 from rfl).symm.trans h)
  exact ⟨rfl, zi24_g, Nat.le_of_ble_eq_true rfl⟩
theorem zB25_g : zB_good 25 (11, zi25) := fun μ h => by
  cases Option.some.inj ((show zML[25]? = some zm25 from rfl).symm.trans h)
  exact ⟨rfl, zi25_g, Nat.le_of_ble_eq_true rfl⟩
theorem zB26_g : zB_good 26 (12, zi26) := fun μ h => by
  cases Option.some.inj ((show zML[26]? = some zm26 from rfl).symm.trans h)
  exact ⟨rfl, zi26_g, Nat.le_of_ble_eq_true rfl⟩
theorem zB27_g : zB_good 27 (1, zi27) := fun μ h => by
  cases Option.some.inj ((show zML[27]? = some zm27 from rfl).symm.trans h)
  exact ⟨rfl, zi27_g, Nat.le_of_ble_eq_true rfl⟩
theorem zB28_g : zB_good 28 (0, zi28) := fun μ h => by
  cases Option.some.inj ((show zML[28]? = some zm28 from rfl).symm.trans h)
  exact ⟨rfl, zi28_g, Nat.le_of_ble_eq_true rfl⟩
theorem zB29_g : zB_good 29 (13, zi29) := fun μ h => by
  cases Option.some.inj ((show zML[29]? = some zm29 from rfl).symm.trans h)
  exact ⟨rfl, zi29_g, Nat.le_of_ble_eq_true rfl⟩
theorem zB30_g : zB_good 30 (0, zi30) := fun μ h => by
  cases Option.some.inj ((show zML[30]? = some zm30 from rfl).symm.trans h)
  exact ⟨rfl, zi30_g, Nat.le_of_ble_eq_true rfl⟩
theorem zB31_g : zB_good 31 (13, zi31) := fun μ h => by
  cases Option.some.inj ((show zML[31]? = some zm31 from rfl).symm.trans h)
  exact ⟨rfl, zi31_g, Nat.le_of_ble_eq_true rfl⟩
theorem zB32_g : zB_good 32 (0, zi32) := fun μ h => by
  cases Option.some.inj ((show zML[32]? = some zm32 from rfl).symm.trans h)
  exact ⟨rfl, zi32_g, Nat.le_of_ble_eq_true rfl⟩
theorem zB33_g : zB_good 33 (14, zi33) := fun μ h => by
  cases Option.some.inj ((show zML[33]? = some zm33 from rfl).symm.trans h)
  exact ⟨rfl, zi33_g, Nat.le_of_ble_eq_true rfl⟩
theorem zB34_g : zB_good 34 (0, zi34) := fun μ h => by
  cases Option.some.inj ((show zML[34]? = some zm34 from rfl).symm.trans h)
  exact ⟨rfl, zi34_g, Nat.le_of_ble_eq_true rfl⟩
theorem zB35_g : zB_good 35 (15, zi35) := fun μ h => by
  cases Option.some.inj ((show zML[35]? = some zm35 from rfl).symm.trans h)
  exact ⟨rfl, zi35_g, Nat.le_of_ble_eq_true rfl⟩
theorem zB36_g : zB_good 36 (0, zi36) := fun μ h => by
  cases Option.some.inj ((show zML[36]? = some zm36 from rfl).symm.trans h)
  exact ⟨rfl, zi36_g, Nat.le_of_ble_eq_true rfl⟩
theorem zB37_g : zB_good 37 (0, zi37) := fun μ h => by
  cases Option.some.inj ((show zML[37]? = some zm37 from rfl).symm.trans h)
  exact ⟨rfl, zi37_g, Nat.le_of_ble_eq_true rfl⟩
theorem zB38_g : zB_good 38 (16, zi38) := fun μ h => by
  cases Option.some.inj ((show zML[38]? = some zm38 from rfl).symm.trans h)
  exact ⟨rfl, zi38_g, Nat.le_of_ble_eq_true rfl⟩
theorem zB39_g : zB_good 39 (0, zi39) := fun μ h => by
  cases Option.some.inj ((show zML[39]? = some zm39 from rfl).symm.trans h)
  exact ⟨rfl, zi39_g, Nat.le_of_ble_eq_true rfl⟩
theorem zB40_g : zB_good 40 (17, zi40) := fun μ h => by
  cases Option.some.inj ((show zML[40]? = some zm40 from rfl).symm.trans h)
  exact ⟨rfl, zi40_g, Nat.le_of_ble_eq_true rfl⟩
theorem zB41_g : zB_good 41 (18, zi41) := fun μ h => by
  cases Option.some.inj ((show zML[41]? = some zm41 from rfl).symm.trans h)
  exact ⟨rfl, zi41_g, Nat.le_of_ble_eq_true rfl⟩
theorem zB42_g : zB_good 42 (19, zi42) := fun μ h => by
  cases Option.some.inj ((show zML[42]? = some zm42 from rfl).symm.trans h)
  exact ⟨rfl, zi42_g, Nat.le_of_ble_eq_true rfl⟩
theorem zB43_g : zB_good 43 (19, zi43) := fun μ h => by
  cases Option.some.inj ((show zML[43]? = some zm43 from rfl).symm.trans h)
  exact ⟨rfl, zi43_g, Nat.le_of_ble_eq_true rfl⟩
theorem zB44_g : zB_good 44 (20, zi44) := fun μ h => by
  cases Option.some.inj ((show zML[44]? = some zm44 from rfl).symm.trans h)
  exact ⟨rfl, zi44_g, Nat.le_of_ble_eq_true rfl⟩
theorem zB45_g : zB_good 45 (1, zi45) := fun μ h => by
  cases Option.some.inj ((show zML[45]? = some zm45 from rfl).symm.trans h)
  exact ⟨rfl, zi45_g, Nat.le_of_ble_eq_true rfl⟩
theorem zB46_g : zB_good 46 (1, zi46) := fun μ h => by
  cases Option.some.inj ((show zML[46]? = some zm46 from rfl).symm.trans h)
  exact ⟨rfl, zi46_g, Nat.le_of_ble_eq_true rfl⟩
theorem zB47_g : zB_good 47 (1, zi47) := fun μ h => by
  cases Option.some.inj ((show zML[47]? = some zm47 from rfl).symm.trans h)
  exact ⟨rfl, zi47_g, Nat.le_of_ble_eq_true rfl⟩
theorem zB48_g : zB_good 48 (1, zi48) := fun μ h => by
  cases Option.some.inj ((show zML[48]? = some zm48 from rfl).symm.trans h)
  exact ⟨rfl, zi48_g, Nat.le_of_ble_eq_true rfl⟩
theorem zB49_g : zB_good 49 (21, zi49) := fun μ h => by
  cases Option.some.inj ((show zML[49]? = some zm49 from rfl).symm.trans h)
  exact ⟨rfl, zi49_g, Nat.le_of_ble_eq_true rfl⟩
theorem zB50_g : zB_good 50 (21, zi50) := fun μ h => by
  cases Option.some.inj ((show zML[50]? = some zm50 from rfl).symm.trans h)
  exact ⟨rfl, zi50_g, Nat.le_of_ble_eq_true rfl⟩
theorem zB51_g : zB_good 51 (22, zi51) := fun μ h => by
  cases Option.some.inj ((show zML[51]? = some zm51 from rfl).symm.trans h)
  exact ⟨rfl, zi51_g, Nat.le_of_ble_eq_true rfl⟩
theorem zB52_g : zB_good 52 (22, zi52) := fun μ h => by
  cases Option.some.inj ((show zML[52]? = some zm52 from rfl).symm.trans h)
  exact ⟨rfl, zi52_g, Nat.le_of_ble_eq_true rfl⟩
theorem zB53_g : zB_good 53 (15, zi53) := fun μ h => by
  cases Option.some.inj ((show zML[53]? = some zm53 from rfl).symm.trans h)
  exact ⟨rfl, zi53_g, Nat.le_of_ble_eq_true rfl⟩
theorem zB54_g : zB_good 54 (0, zi54) := fun μ h => by
  cases Option.some.inj ((show zML[54]? = some zm54 from rfl).symm.trans h)
  exact ⟨rfl, zi54_g, Nat.le_of_ble_eq_true rfl⟩
theorem zB55_g : zB_good 55 (23, zi55) := fun μ h => by
  cases Option.some.inj ((show zML[55]? = some zm55 from rfl).symm.trans h)
  exact ⟨rfl, zi55_g, Nat.le_of_ble_eq_true rfl⟩
theorem zB56_g : zB_good 56 (24, zi56) := fun μ h => by
  cases Option.some.inj ((show zML[56]? = some zm56 from rfl).symm.trans h)
  exact ⟨rfl, zi56_g, Nat.le_of_ble_eq_true rfl⟩
theorem zB57_g : zB_good 57 (25, zi57) := fun μ h => by
  cases Option.some.inj ((show zML[57]? = some zm57 from rfl).symm.trans h)
  exact ⟨rfl, zi57_g, Nat.le_of_ble_eq_true rfl⟩
theorem zB58_g : zB_good 58 (15, zi58) := fun μ h => by
  cases Option.some.inj ((show zML[58]? = some zm58 from rfl).symm.trans h)
  exact ⟨rfl, zi58_g, Nat.le_of_ble_eq_true rfl⟩
theorem zB59_g : zB_good 59 (26, zi59) := fun μ h => by
  cases Option.some.inj ((show zML[59]? = some zm59 from rfl).symm.trans h)
  exact ⟨rfl, zi59_g, Nat.le_of_ble_eq_true rfl⟩
theorem zB60_g : zB_good 60 (10, zi60) := fun μ h => by
  cases Option.some.inj ((show zML[60]? = some zm60 from rfl).symm.trans h)
  exact ⟨rfl, zi60_g, Nat.le_of_ble_eq_true rfl⟩
theorem zB61_g : zB_good 61 (8, zi61) := fun μ h => by
  cases Option.some.inj ((show zML[61]? = some zm61 from rfl).symm.trans h)
  exact ⟨rfl, zi61_g, Nat.le_of_ble_eq_true rfl⟩
theorem zB62_g : zB_good 62 (9, zi62) := fun μ h => by
  cases Option.some.inj ((show zML[62]? = some zm62 from rfl).symm.trans h)
  exact ⟨rfl, zi62_g, Nat.le_of_ble_eq_true rfl⟩
theorem zB63_g : zB_good 63 (6, zi63) := fun μ h => by
  cases Option.some.inj ((show zML[63]? = some zm63 from rfl).symm.trans h)
  exact ⟨rfl, zi63_g, Nat.le_of_ble_eq_true rfl⟩
theorem zB64_g : zB_good 64 (0, zi64) := fun μ h => by
  cases Option.some.inj ((show zML[64]? = some zm64 from rfl).symm.trans h)
  exact ⟨rfl, zi64_g, Nat.le_of_ble_eq_true rfl⟩
theorem zB65_g : zB_good 65 (0, zi65) := fun μ h => by
  cases Option.some.inj ((show zML[65]? = some zm65 from rfl).symm.trans h)
  exact ⟨rfl, zi65_g, Nat.le_of_ble_eq_true rfl⟩
theorem zB66_g : zB_good 66 (0, zi66) := fun μ h => by
  cases Option.some.inj ((show zML[66]? = some zm66 from rfl).symm.trans h)
  exact ⟨rfl, zi66_g, Nat.le_of_ble_eq_true rfl⟩
theorem zB67_g : zB_good 67 (27, zi67) := fun μ h => by
  cases Option.some.inj ((show zML[67]? = some zm67 from rfl).symm.trans h)
  exact ⟨rfl, zi67_g, Nat.le_of_ble_eq_true rfl⟩
theorem zB68_g : zB_good 68 (28, zi68) := fun μ h => by
  cases Option.some.inj ((show zML[68]? = some zm68 from rfl).symm.trans h)
  exact ⟨rfl, zi68_g, Nat.le_of_ble_eq_true rfl⟩
theorem zB69_g : zB_good 69 (15, zi69) := fun μ h => by
  cases Option.some.inj ((show zML[69]? = some zm69 from rfl).symm.trans h)
  exact ⟨rfl, zi69_g, Nat.le_of_ble_eq_true rfl⟩
theorem zB70_g : zB_good 70 (0, zi70) := fun μ h => by
  cases Option.some.inj ((show zML[70]? = some zm70 from rfl).symm.trans h)
  exact ⟨rfl, zi70_g, Nat.le_of_ble_eq_true rfl⟩
theorem zB71_g : zB_good 71 (0, zi71) := fun μ h => by
  cases Option.some.inj ((show zML[71]? = some zm71 from rfl).symm.trans h)
  exact ⟨rfl, zi71_g, Nat.le_of_ble_eq_true rfl⟩
theorem zB72_g : zB_good 72 (29, zi72) := fun μ h => by
  cases Option.some.inj ((show zML[72]? = some zm72 from rfl).symm.trans h)
  exact ⟨rfl, zi72_g, Nat.le_of_ble_eq_true rfl⟩
theorem zB73_g : zB_good 73 (15, zi73) := fun μ h => by
  cases Option.some.inj ((show zML[73]? = some zm73 from rfl).symm.trans h)
  exact ⟨rfl, zi73_g, Nat.le_of_ble_eq_true rfl⟩
theorem zB74_g : zB_good 74 (0, zi74) := fun μ h => by
  cases Option.some.inj ((show zML[74]? = some zm74 from rfl).symm.trans h)
  exact ⟨rfl, zi74_g, Nat.le_of_ble_eq_true rfl⟩
theorem zB75_g : zB_good 75 (0, zi75) := fun μ h => by
  cases Option.some.inj ((show zML[75]? = some zm75 from rfl).symm.trans h)
  exact ⟨rfl, zi75_g, Nat.le_of_ble_eq_true rfl⟩
theorem zB76_g : zB_good 76 (13, zi76) := fun μ h => by
  cases Option.some.inj ((show zML[76]? = some zm76 from rfl).symm.trans h)
  exact ⟨rfl, zi76_g, Nat.le_of_ble_eq_true rfl⟩
theorem zB77_g : zB_good 77 (4, zi77) := fun μ h => by
  cases Option.some.inj ((show zML[77]? = some zm77 from rfl).symm.trans h)
  exact ⟨rfl, zi77_g, Nat.le_of_ble_eq_true rfl⟩
theorem zB78_g : zB_good 78 (30, zi78) := fun μ h => by
  cases Option.some.inj ((show zML[78]? = some zm78 from rfl).symm.trans h)
  exact ⟨rfl, zi78_g, Nat.le_of_ble_eq_true rfl⟩
theorem zB79_g : zB_good 79 (31, zi79) := fun μ h => by
  cases Option.some.inj ((show zML[79]? = some zm79 from rfl).symm.trans h)
  exact ⟨rfl, zi79_g, Nat.le_of_ble_eq_true rfl⟩
theorem zB80_g : zB_good 80 (30, zi80) := fun μ h => by
  cases Option.some.inj ((show zML[80]? = some zm80 from rfl).symm.trans h)
  exact ⟨rfl, zi80_g, Nat.le_of_ble_eq_true rfl⟩
theorem zB81_g : zB_good 81 (32, zi81) := fun μ h => by
  cases Option.some.inj ((show zML[81]? = some zm81 from rfl).symm.trans h)
  exact ⟨rfl, zi81_g, Nat.le_of_ble_eq_true rfl⟩
theorem zB82_g : zB_good 82 (33, zi82) := fun μ h => by
  cases Option.some.inj ((show zML[82]? = some zm82 from rfl).symm.trans h)
  exact ⟨rfl, zi82_g, Nat.le_of_ble_eq_true rfl⟩
theorem zB83_g : zB_good 83 (34, zi83) := fun μ h => by
  cases Option.some.inj ((show zML[83]? = some zm83 from rfl).symm.trans h)
  exact ⟨rfl, zi83_g, Nat.le_of_ble_eq_true rfl⟩
theorem zB84_g : zB_good 84 (1, zi84) := fun μ h => by
  cases Option.some.inj ((show zML[84]? = some zm84 from rfl).symm.trans h)
  exact ⟨rfl, zi84_g, Nat.le_of_ble_eq_true rfl⟩
theorem zB85_g : zB_good 85 (15, zi85) := fun μ h => by
  cases Option.some.inj ((show zML[85]? = some zm85 from rfl).symm.trans h)
  exact ⟨rfl, zi85_g, Nat.le_of_ble_eq_true rfl⟩
theorem zB86_g : zB_good 86 (0, zi86) := fun μ h => by
  cases Option.some.inj ((show zML[86]? = some zm86 from rfl).symm.trans h)
  exact ⟨rfl, zi86_g, Nat.le_of_ble_eq_true rfl⟩
theorem zB87_g : zB_good 87 (15, zi87) := fun μ h => by
  cases Option.some.inj ((show zML[87]? = some zm87 from rfl).symm.trans h)
  exact ⟨rfl, zi87_g, Nat.le_of_ble_eq_true rfl⟩
theorem zB88_g : zB_good 88 (0, zi88) := fun μ h => by
  cases Option.some.inj ((show zML[88]? = some zm88 from rfl).symm.trans h)
  exact ⟨rfl, zi88_g, Nat.le_of_ble_eq_true rfl⟩
theorem zB89_g : zB_good 89 (0, zi89) := fun μ h => by
  cases Option.some.inj ((show zML[89]? = some zm89 from rfl).symm.trans h)
  exact ⟨rfl, zi89_g, Nat.le_of_ble_eq_true rfl⟩
theorem zB90_g : zB_good 90 (0, zi90) := fun μ h => by
  cases Option.some.inj ((show zML[90]? = some zm90 from rfl).symm.trans h)
  exact ⟨rfl, zi90_g, Nat.le_of_ble_eq_true rfl⟩
theorem zB91_g : zB_good 91 (15, zi91) := fun μ h => by
  cases Option.some.inj ((show zML[91]? = some zm91 from rfl).symm.trans h)
  exact ⟨rfl, zi91_g, Nat.le_of_ble_eq_true rfl⟩
theorem zB92_g : zB_good 92 (0, zi92) := fun μ h => by
  cases Option.some.inj ((show zML[92]? = some zm92 from rfl).symm.trans h)
  exact ⟨rfl, zi92_g, Nat.le_of_ble_eq_true rfl⟩
theorem zB93_g : zB_good 93 (15, zi93) := fun μ h => by
  cases Option.some.inj ((show zML[93]? = some zm93 from rfl).symm.trans h)
  exact ⟨rfl, zi93_g, Nat.le_of_ble_eq_true rfl⟩
theorem zB94_g : zB_good 94 (0, zi94) := fun μ h => by
  cases Option.some.inj ((show zML[94]? = some zm94 from rfl).symm.trans h)
  exact ⟨rfl, zi94_g, Nat.le_of_ble_eq_true rfl⟩
theorem zB95_g : zB_good 95 (15, zi95) := fun μ h => by
  cases Option.some.inj ((show zML[95]? = some zm95 from rfl).symm.trans h)
  exact ⟨rfl, zi95_g, Nat.le_of_ble_eq_true rfl⟩
theorem zB96_g : zB_good 96 (0, zi96) := fun μ h => by
  cases Option.some.inj ((show zML[96]? = some zm96 from rfl).symm.trans h)
  exact ⟨rfl, zi96_g, Nat.le_of_ble_eq_true rfl⟩
theorem zB97_g : zB_good 97 (24, zi97) := fun μ h => by
  cases Option.some.inj ((show zML[97]? = some zm97 from rfl).symm.trans h)
  exact ⟨rfl, zi97_g, Nat.le_of_ble_eq_true rfl⟩
theorem zB98_g : zB_good 98 (15, zi98) := fun μ h => by
  cases Option.some.inj ((show zML[98]? = some zm98 from rfl).symm.trans h)
  exact ⟨rfl, zi98_g, Nat.le_of_ble_eq_true rfl⟩
theorem zB99_g : zB_good 99 (0, zi99) := fun μ h => by
  cases Option.some.inj ((show zML[99]? = some zm99 from rfl).symm.trans h)
  exact ⟨rfl, zi99_g, Nat.le_of_ble_eq_true rfl⟩
theorem zB100_g : zB_good 100 (15, zi100) := fun μ h => by
  cases Option.some.inj ((show zML[100]? = some zm100 from rfl).symm.trans h)
  exact ⟨rfl, zi100_g, Nat.le_of_ble_eq_true rfl⟩
theorem zB101_g : zB_good 101 (0, zi101) := fun μ h => by
  cases Option.some.inj ((show zML[101]? = some zm101 from rfl).symm.trans h)
  exact ⟨rfl, zi101_g, Nat.le_of_ble_eq_true rfl⟩
theorem zB102_g : zB_good 102 (15, zi102) := fun μ h => by
  cases Option.some.inj ((show zML[102]? = some zm102 from rfl).symm.trans h)
  exact ⟨rfl, zi102_g, Nat.le_of_ble_eq_true rfl⟩
theorem zB103_g : zB_good 103 (0, zi103) := fun μ h => by
  cases Option.some.inj ((show zML[103]? = some zm103 from rfl).symm.trans h)
  exact ⟨rfl, zi103_g, Nat.le_of_ble_eq_true rfl⟩
theorem zB104_g : zB_good 104 (15, zi104) := fun μ h => by
  cases Option.some.inj ((show zML[104]? = some zm104 from rfl).symm.trans h)
  exact ⟨rfl, zi104_g, Nat.le_of_ble_eq_true rfl⟩
theorem zB105_g : zB_good 105 (0, zi105) := fun μ h => by
  cases Option.some.inj ((show zML[105]? = some zm105 from rfl).symm.trans h)
  exact ⟨rfl, zi105_g, Nat.le_of_ble_eq_true rfl⟩
theorem zB106_g : zB_good 106 (15, zi106) := fun μ h => by
  cases Option.some.inj ((show zML[106]? = some zm106 from rfl).symm.trans h)
  exact ⟨rfl, zi106_g, Nat.le_of_ble_eq_true rfl⟩
theorem zB107_g : zB_good 107 (0, zi107) := fun μ h => by
  cases Option.some.inj ((show zML[107]? = some zm107 from rfl).symm.trans h)
  exact ⟨rfl, zi107_g, Nat.le_of_ble_eq_true rfl⟩
theorem zB108_g : zB_good 108 (35, zi108) := fun μ h => by
  cases Option.some.inj ((show zML[108]? = some zm108 from rfl).symm.trans h)
  exact ⟨rfl, zi108_g, Nat.le_of_ble_eq_true rfl⟩
theorem zB109_g : zB_good 109 (15, zi109) := fun μ h => by
  cases Option.some.inj ((show zML[109]? = some zm109 from rfl).symm.trans h)
  exact ⟨rfl, zi109_g, Nat.le_of_ble_eq_true rfl⟩
theorem zB110_g : zB_good 110 (0, zi110) := fun μ h => by
  cases Option.some.inj ((show zML[110]? = some zm110 from rfl).symm.trans h)
  exact ⟨rfl, zi110_g, Nat.le_of_ble_eq_true rfl⟩
theorem zB111_g : zB_good 111 (0, zi111) := fun μ h => by
  cases Option.some.inj ((show zML[111]? = some zm111 from rfl).symm.trans h)
  exact ⟨rfl, zi111_g, Nat.le_of_ble_eq_true rfl⟩
theorem zB112_g : zB_good 112 (0, zi112) := fun μ h => by
  cases Option.some.inj ((show zML[112]? = some zm112 from rfl).symm.trans h)
  exact ⟨rfl, zi112_g, Nat.le_of_ble_eq_true rfl⟩
theorem zB113_g : zB_good 113 (28, zi113) := fun μ h => by
  cases Option.some.inj ((show zML[113]? = some zm113 from rfl).symm.trans h)
  exact ⟨rfl, zi113_g, Nat.le_of_ble_eq_true rfl⟩
theorem zB114_g : zB_good 114 (0, zi114) := fun μ h => by
  cases Option.some.inj ((show zML[114]? = some zm114 from rfl).symm.trans h)
  exact ⟨rfl, zi114_g, Nat.le_of_ble_eq_true rfl⟩
theorem zB115_g : zB_good 115 (36, zi115) := fun μ h => by
  cases Option.some.inj ((show zML[115]? = some zm115 from rfl).symm.trans h)
  exact ⟨rfl, zi115_g, Nat.le_of_ble_eq_true rfl⟩
theorem zB116_g : zB_good 116 (37, zi116) := fun μ h => by
  cases Option.some.inj ((show zML[116]? = some zm116 from rfl).symm.trans h)
  exact ⟨rfl, zi116_g, Nat.le_of_ble_eq_true rfl⟩
theorem zB117_g : zB_good 117 (9, zi117) := fun μ h => by
  cases Option.some.inj ((show zML[117]? = some zm117 from rfl).symm.trans h)
  exact ⟨rfl, zi117_g, Nat.le_of_ble_eq_true rfl⟩
theorem zB118_g : zB_good 118 (6, zi118) := fun μ h => by
  cases Option.some.inj ((show zML[118]? = some zm118 from rfl).symm.trans h)
  exact ⟨rfl, zi118_g, Nat.le_of_ble_eq_true rfl⟩
theorem zB119_g : zB_good 119 (15, zi119) := fun μ h => by
  cases Option.some.inj ((show zML[119]? = some zm119 from rfl).symm.trans h)
  exact ⟨rfl, zi119_g, Nat.le_of_ble_eq_true rfl⟩
theorem zB120_g : zB_good 120 (0, zi120) := fun μ h => by
  cases Option.some.inj ((show zML[120]? = some zm120 from rfl).symm.trans h)
  exact ⟨rfl, zi120_g, Nat.le_of_ble_eq_true rfl⟩
theorem zB121_g : zB_good 121 (15, zi121) := fun μ h => by
  cases Option.some.inj ((show zML[121]? = some zm121 from rfl).symm.trans h)
  exact ⟨rfl, zi121_g, Nat.le_of_ble_eq_true rfl⟩
theorem zB122_g : zB_good 122 (0, zi122) := fun μ h => by
  cases Option.some.inj ((show zML[122]? = some zm122 from rfl).symm.trans h)
  exact ⟨rfl, zi122_g, Nat.le_of_ble_eq_true rfl⟩
theorem zB123_g : zB_good 123 (0, zi123) := fun μ h => by
  cases Option.some.inj ((show zML[123]? = some zm123 from rfl).symm.trans h)
  exact ⟨rfl, zi123_g, Nat.le_of_ble_eq_true rfl⟩
theorem zB124_g : zB_good 124 (13, zi124) := fun μ h => by
  cases Option.some.inj ((show zML[124]? = some zm124 from rfl).symm.trans h)
  exact ⟨rfl, zi124_g, Nat.le_of_ble_eq_true rfl⟩
theorem zB125_g : zB_good 125 (17, zi125) := fun μ h => by
  cases Option.some.inj ((show zML[125]? = some zm125 from rfl).symm.trans h)
  exact ⟨rfl, zi125_g, Nat.le_of_ble_eq_true rfl⟩
theorem zB126_g : zB_good 126 (8, zi126) := fun μ h => by
  cases Option.some.inj ((show zML[126]? = some zm126 from rfl).symm.trans h)
  exact ⟨rfl, zi126_g, Nat.le_of_ble_eq_true rfl⟩
theorem zB127_g : zB_good 127 (0, zi127) := fun μ h => by
  cases Option.some.inj ((show zML[127]? = some zm127 from rfl).symm.trans h)
  exact ⟨rfl, zi127_g, Nat.le_of_ble_eq_true rfl⟩
theorem zB128_g : zB_good 128 (0, zi128) := fun μ h => by
  cases Option.some.inj ((show zML[128]? = some zm128 from rfl).symm.trans h)
  exact ⟨rfl, zi128_g, Nat.le_of_ble_eq_true rfl⟩
theorem zB129_g : zB_good 129 (18, zi129) := fun μ h => by
  cases Option.some.inj ((show zML[129]? = some zm129 from rfl).symm.trans h)
  exact ⟨rfl, zi129_g, Nat.le_of_ble_eq_true rfl⟩
theorem zB130_g : zB_good 130 (19, zi130) := fun μ h => by
  cases Option.some.inj ((show zML[130]? = some zm130 from rfl).symm.trans h)
  exact ⟨rfl, zi130_g, Nat.le_of_ble_eq_true rfl⟩
theorem zB131_g : zB_good 131 (19, zi131) := fun μ h => by
  cases Option.some.inj ((show zML[131]? = some zm131 from rfl).symm.trans h)
  exact ⟨rfl, zi131_g, Nat.le_of_ble_eq_true rfl⟩
theorem zB132_g : zB_good 132 (19, zi132) := fun μ h => by
  cases Option.some.inj ((show zML[132]? = some zm132 from rfl).symm.trans h)
  exact ⟨rfl, zi132_g, Nat.le_of_ble_eq_true rfl⟩
theorem zB133_g : zB_good 133 (19, zi133) := fun μ h => by
  cases Option.some.inj ((show zML[133]? = some zm133 from rfl).symm.trans h)
  exact ⟨rfl, zi133_g, Nat.le_of_ble_eq_true rfl⟩
theorem zB134_g : zB_good 134 (19, zi134) := fun μ h => by
  cases Option.some.inj ((show zML[134]? = some zm134 from rfl).symm.trans h)
  exact ⟨rfl, zi134_g, Nat.le_of_ble_eq_true rfl⟩
theorem zB135_g : zB_good 135 (19, zi135) := fun μ h => by
  cases Option.some.inj ((show zML[135]? = some zm135 from rfl).symm.trans h)
  exact ⟨rfl, zi135_g, Nat.le_of_ble_eq_true rfl⟩
theorem zB136_g : zB_good 136 (19, zi136) := fun μ h => by
  cases Option.some.inj ((show zML[136]? = some zm136 from rfl).symm.trans h)
  exact ⟨rfl, zi136_g, Nat.le_of_ble_eq_true rfl⟩
theorem zB137_g : zB_good 137 (35, zi137) := fun μ h => by
  cases Option.some.inj ((show zML[137]? = some zm137 from rfl).symm.trans h)
  exact ⟨rfl, zi137_g, Nat.le_of_ble_eq_true rfl⟩
theorem zB138_g : zB_good 138 (35, zi138) := fun μ h => by
  cases Option.some.inj ((show zML[138]? = some zm138 from rfl).symm.trans h)
  exact ⟨rfl, zi138_g, Nat.le_of_ble_eq_true rfl⟩
theorem zB139_g : zB_good 139 (38, zi139) := fun μ h => by
  cases Option.some.inj ((show zML[139]? = some zm139 from rfl).symm.trans h)
  exact ⟨rfl, zi139_g, Nat.le_of_ble_eq_true rfl⟩
theorem zB140_g : zB_good 140 (39, zi140) := fun μ h => by
  cases Option.some.inj ((show zML[140]? = some zm140 from rfl).symm.trans h)
  exact ⟨rfl, zi140_g, Nat.le_of_ble_eq_true rfl⟩
theorem zB141_g : zB_good 141 (39, zi141) := fun μ h => by
  cases Option.some.inj ((show zML[141]? = some zm141 from rfl).symm.trans h)
  exact ⟨rfl, zi141_g, Nat.le_of_ble_eq_true rfl⟩
theorem zB142_g : zB_good 142 (39, zi142) := fun μ h => by
  cases Option.some.inj ((show zML[142]? = some zm142 from rfl).symm.trans h)
  exact ⟨rfl, zi142_g, Nat.le_of_ble_eq_true rfl⟩
theorem zB143_g : zB_good 143 (30, zi143) := fun μ h => by
  cases Option.some.inj ((show zML[143]? = some zm143 from rfl).symm.trans h)
  exact ⟨rfl, zi143_g, Nat.le_of_ble_eq_true rfl⟩
theorem zB144_g : zB_good 144 (30, zi144) := fun μ h => by
  cases Option.some.inj ((show zML[144]? = some zm144 from rfl).symm.trans h)
  exact ⟨rfl, zi144_g, Nat.le_of_ble_eq_true rfl⟩
theorem zB145_g : zB_good 145 (30, zi145) := fun μ h => by
  cases Option.some.inj ((show zML[145]? = some zm145 from rfl).symm.trans h)
  exact ⟨rfl, zi145_g, Nat.le_of_ble_eq_true rfl⟩
theorem zB146_g : zB_good 146 (38, zi146) := fun μ h => by
  cases Option.some.inj ((show zML[146]? = some zm146 from rfl).symm.trans h)
  exact ⟨rfl, zi146_g, Nat.le_of_ble_eq_true rfl⟩
theorem zB147_g : zB_good 147 (38, zi147) := fun μ h => by
  cases Option.some.inj ((show zML[147]? = some zm147 from rfl).symm.trans h)
  exact ⟨rfl, zi147_g, Nat.le_of_ble_eq_true rfl⟩
theorem zB148_g : zB_good 148 (0, zi148) := fun μ h => by
  cases Option.some.inj ((show zML[148]? = some zm148 from rfl).symm.trans h)
  exact ⟨rfl, zi148_g, Nat.le_of_ble_eq_true rfl⟩
theorem zB149_g : zB_good 149 (18, zi149) := fun μ h => by
  cases Option.some.inj ((show zML[149]? = some zm149 from rfl).symm.trans h)
  exact ⟨rfl, zi149_g, Nat.le_of_ble_eq_true rfl⟩
theorem zB150_g : zB_good 150 (3, zi150) := fun μ h => by
  cases Option.some.inj ((show zML[150]? = some zm150 from rfl).symm.trans h)
  exact ⟨rfl, zi150_g, Nat.le_of_ble_eq_true rfl⟩
theorem zB151_g : zB_good 151 (0, zi151) := fun μ h => by
  cases Option.some.inj ((show zML[151]? = some zm151 from rfl).symm.trans h)
  exact ⟨rfl, zi151_g, Nat.le_of_ble_eq_true rfl⟩
theorem zB152_g : zB_good 152 (19, zi152) := fun μ h => by
  cases Option.some.inj ((show zML[152]? = some zm152 from rfl).symm.trans h)
  exact ⟨rfl, zi152_g, Nat.le_of_ble_eq_true rfl⟩
theorem zB153_g : zB_good 153 (19, zi153) := fun μ h => by
  cases Option.some.inj ((show zML[153]? = some zm153 from rfl).symm.trans h)
  exact ⟨rfl, zi153_g, Nat.le_of_ble_eq_true rfl⟩
theorem zB154_g : zB_good 154 (19, zi154) := fun μ h => by
  cases Option.some.inj ((show zML[154]? = some zm154 from rfl).symm.trans h)
  exact ⟨rfl, zi154_g, Nat.le_of_ble_eq_true rfl⟩
theorem zB155_g : zB_good 155 (15, zi155) := fun μ h => by
  cases Option.some.inj ((show zML[155]? = some zm155 from rfl).symm.trans h)
  exact ⟨rfl, zi155_g, Nat.le_of_ble_eq_true rfl⟩
theorem zB156_g : zB_good 156 (0, zi156) := fun μ h => by
  cases Option.some.inj ((show zML[156]? = some zm156 from rfl).symm.trans h)
  exact ⟨rfl, zi156_g, Nat.le_of_ble_eq_true rfl⟩
theorem zB157_g : zB_good 157 (15, zi157) := fun μ h => by
  cases Option.some.inj ((show zML[157]? = some zm157 from rfl).symm.trans h)
  exact ⟨rfl, zi157_g, Nat.le_of_ble_eq_true rfl⟩
theorem zB158_g : zB_good 158 (0, zi158) := fun μ h => by
  cases Option.some.inj ((show zML[158]? = some zm158 from rfl).symm.trans h)
  exact ⟨rfl, zi158_g, Nat.le_of_ble_eq_true rfl⟩
theorem zB159_g : zB_good 159 (18, zi159) := fun μ h => by
  cases Option.some.inj ((show zML[159]? = some zm159 from rfl).symm.trans h)
  exact ⟨rfl, zi159_g, Nat.le_of_ble_eq_true rfl⟩
theorem zB160_g : zB_good 160 (0, zi160) := fun μ h => by
  cases Option.some.inj ((show zML[160]? = some zm160 from rfl).symm.trans h)
  exact ⟨rfl, zi160_g, Nat.le_of_ble_eq_true rfl⟩
theorem zB161_g : zB_good 161 (15, zi161) := fun μ h => by
  cases Option.some.inj ((show zML[161]? = some zm161 from rfl).symm.trans h)
  exact ⟨rfl, zi161_g, Nat.le_of_ble_eq_true rfl⟩
theorem zB162_g : zB_good 162 (0, zi162) := fun μ h => by
  cases Option.some.inj ((show zML[162]? = some zm162 from rfl).symm.trans h)
  exact ⟨rfl, zi162_g, Nat.le_of_ble_eq_true rfl⟩
theorem zB163_g : zB_good 163 (0, zi163) := fun μ h => by
  cases Option.some.inj ((show zML[163]? = some zm163 from rfl).symm.trans h)
  exact ⟨rfl, zi163_g, Nat.le_of_ble_eq_true rfl⟩
theorem zB164_g : zB_good 164 (1, zi164) := fun μ h => by
  cases Option.some.inj ((show zML[164]? = some zm164 from rfl).symm.trans h)
  exact ⟨rfl, zi164_g, Nat.le_of_ble_eq_true rfl⟩
theorem zB165_g : zB_good 165 (1, zi165) := fun μ h => by
  cases Option.some.inj ((show zML[165]? = some zm165 from rfl).symm.trans h)
  exact ⟨rfl, zi165_g, Nat.le_of_ble_eq_true rfl⟩
theorem zB166_g : zB_good 166 (19, zi166) := fun μ h => by
  cases Option.some.inj ((show zML[166]? = some zm166 from rfl).symm.trans h)
  exact ⟨rfl, zi166_g, Nat.le_of_ble_eq_true rfl⟩
theorem zB167_g : zB_good 167 (15, zi167) := fun μ h => by
  cases Option.some.inj ((show zML[167]? = some zm167 from rfl).symm.trans h)
  exact ⟨rfl, zi167_g, Nat.le_of_ble_eq_true rfl⟩
theorem zB168_g : zB_good 168 (0, zi168) := fun μ h => by
  cases Option.some.inj ((show zML[168]? = some zm168 from rfl).symm.trans h)
  exact ⟨rfl, zi168_g, Nat.le_of_ble_eq_true rfl⟩
theorem zB169_g : zB_good 169 (15, zi169) := fun μ h => by
  cases Option.some.inj ((show zML[169]? = some zm169 from rfl).symm.trans h)
  exact ⟨rfl, zi169_g, Nat.le_of_ble_eq_true rfl⟩
theorem zB170_g : zB_good 170 (0, zi170) := fun μ h => by
  cases Option.some.inj ((show zML[170]? = some zm170 from rfl).symm.trans h)
  exact ⟨rfl, zi170_g, Nat.le_of_ble_eq_true rfl⟩
theorem zB171_g : zB_good 171 (0, zi171) := fun μ h => by
  cases Option.some.inj ((show zML[171]? = some zm171 from rfl).symm.trans h)
  exact ⟨rfl, zi171_g, Nat.le_of_ble_eq_true rfl⟩
theorem zB172_g : zB_good 172 (15, zi172) := fun μ h => by
  cases Option.some.inj ((show zML[172]? = some zm172 from rfl).symm.trans h)
  exact ⟨rfl, zi172_g, Nat.le_of_ble_eq_true rfl⟩
theorem zB173_g : zB_good 173 (0, zi173) := fun μ h => by
  cases Option.some.inj ((show zML[173]? = some zm173 from rfl).symm.trans h)
  exact ⟨rfl, zi173_g, Nat.le_of_ble_eq_true rfl⟩
theorem zB174_g : zB_good 174 (15, zi174) := fun μ h => by
  cases Option.some.inj ((show zML[174]? = some zm174 from rfl).symm.trans h)
  exact ⟨rfl, zi174_g, Nat.le_of_ble_eq_true rfl⟩
theorem zB175_g : zB_good 175 (0, zi175) := fun μ h => by
  cases Option.some.inj ((show zML[175]? = some zm175 from rfl).symm.trans h)
  exact ⟨rfl, zi175_g, Nat.le_of_ble_eq_true rfl⟩
theorem zB176_g : zB_good 176 (15, zi176) := fun μ h => by
  cases Option.some.inj ((show zML[176]? = some zm176 from rfl).symm.trans h)
  exact ⟨rfl, zi176_g, Nat.le_of_ble_eq_true rfl⟩
theorem zB177_g : zB_good 177 (0, zi177) := fun μ h => by
  cases Option.some.inj ((show zML[177]? = some zm177 from rfl).symm.trans h)
  exact ⟨rfl, zi177_g, Nat.le_of_ble_eq_true rfl⟩
theorem zB178_g : zB_good 178 (15, zi178) := fun μ h => by
  cases Option.some.inj ((show zML[178]? = some zm178 from rfl).symm.trans h)
  exact ⟨rfl, zi178_g, Nat.le_of_ble_eq_true rfl⟩
theorem zB179_g : zB_good 179 (0, zi179) := fun μ h => by
  cases Option.some.inj ((show zML[179]? = some zm179 from rfl).symm.trans h)
  exact ⟨rfl, zi179_g, Nat.le_of_ble_eq_true rfl⟩
theorem zB180_g : zB_good 180 (15, zi180) := fun μ h => by
  cases Option.some.inj ((show zML[180]? = some zm180 from rfl).symm.trans h)
  exact ⟨rfl, zi180_g, Nat.le_of_ble_eq_true rfl⟩
theorem zB181_g : zB_good 181 (0, zi181) := fun μ h => by
  cases Option.some.inj ((show zML[181]? = some zm181 from rfl).symm.trans h)
  exact ⟨rfl, zi181_g, Nat.le_of_ble_eq_true rfl⟩
theorem zB182_g : zB_good 182 (15, zi182) := fun μ h => by
  cases Option.some.inj ((show zML[182]? = some zm182 from rfl).symm.trans h)
  exact ⟨rfl, zi182_g, Nat.le_of_ble_eq_true rfl⟩
theorem zB183_g : zB_good 183 (15, zi183) := fun μ h => by
  cases Option.some.inj ((show zML[183]? = some zm183 from rfl).symm.trans h)
  exact ⟨rfl, zi183_g, Nat.le_of_ble_eq_true rfl⟩
theorem zB184_g : zB_good 184 (0, zi184) := fun μ h => by
  cases Option.some.inj ((show zML[184]? = some zm184 from rfl).symm.trans h)
  exact ⟨rfl, zi184_g, Nat.le_of_ble_eq_true rfl⟩
theorem zB185_g : zB_good 185 (15, zi185) := fun μ h => by
  cases Option.some.inj ((show zML[185]? = some zm185 from rfl).symm.trans h)
  exact ⟨rfl, zi185_g, Nat.le_of_ble_eq_true rfl⟩
theorem zB186_g : zB_good 186 (0, zi186) := fun μ h => by
  cases Option.some.inj ((show zML[186]? = some zm186 from rfl).symm.trans h)
  exact ⟨rfl, zi186_g, Nat.le_of_ble_eq_true rfl⟩
theorem zB187_g : zB_good 187 (15, zi187) := fun μ h => by
  cases Option.some.inj ((show zML[187]? = some zm187 from rfl).symm.trans h)
  exact ⟨rfl, zi187_g, Nat.le_of_ble_eq_true rfl⟩
theorem zB188_g : zB_good 188 (40, zi188) := fun μ h => by
  cases Option.some.inj ((show zML[188]? = some zm188 from rfl).symm.trans h)
  exact ⟨rfl, zi188_g, Nat.le_of_ble_eq_true rfl⟩
theorem zB189_g : zB_good 189 (0, zi189) := fun μ h => by
  cases Option.some.inj ((show zML[189]? = some zm189 from rfl).symm.trans h)
  exact ⟨rfl, zi189_g, Nat.le_of_ble_eq_true rfl⟩
theorem zB190_g : zB_good 190 (40, zi190) := fun μ h => by
  cases Option.some.inj ((show zML[190]? = some zm190 from rfl).symm.trans h)
  exact ⟨rfl, zi190_g, Nat.le_of_ble_eq_true rfl⟩
theorem zB191_g : zB_good 191 (15, zi191) := fun μ h => by
  cases Option.some.inj ((show zML[191]? = some zm191 from rfl).symm.trans h)
  exact ⟨rfl, zi191_g, Nat.le_of_ble_eq_true rfl⟩
theorem zB192_g : zB_good 192 (0, zi192) := fun μ h => by
  cases Option.some.inj ((show zML[192]? = some zm192 from rfl).symm.trans h)
  exact ⟨rfl, zi192_g, Nat.le_of_ble_eq_true rfl⟩
theorem zB193_g : zB_good 193 (1, zi193) := fun μ h => by
  cases Option.some.inj ((show zML[193]? = some zm193 from rfl).symm.trans h)
  exact ⟨rfl, zi193_g, Nat.le_of_ble_eq_true rfl⟩
theorem zB194_g : zB_good 194 (41, zi194) := fun μ h => by
  cases Option.some.inj ((show zML[194]? = some zm194 from rfl).symm.trans h)
  exact ⟨rfl, zi194_g, Nat.le_of_ble_eq_true rfl⟩
theorem zB195_g : zB_good 195 (41, zi195) := fun μ h => by
  cases Option.some.inj ((show zML[195]? = some zm195 from rfl).symm.trans h)
  exact ⟨rfl, zi195_g, Nat.le_of_ble_eq_true rfl⟩
theorem zB196_g : zB_good 196 (41, zi196) := fun μ h => by
  cases Option.some.inj ((show zML[196]? = some zm196 from rfl).symm.trans h)
  exact ⟨rfl, zi196_g, Nat.le_of_ble_eq_true rfl⟩
theorem zB197_g : zB_good 197 (41, zi197) := fun μ h => by
  cases Option.some.inj ((show zML[197]? = some zm197 from rfl).symm.trans h)
  exact ⟨rfl, zi197_g, Nat.le_of_ble_eq_true rfl⟩
theorem zB198_g : zB_good 198 (41, zi198) := fun μ h => by
  cases Option.some.inj ((show zML[198]? = some zm198 from rfl).symm.trans h)
  exact ⟨rfl, zi198_g, Nat.le_of_ble_eq_true rfl⟩
theorem zB199_g : zB_good 199 (42, zi199) := fun μ h => by
  cases Option.some.inj ((show zML[199]? = some zm199 from rfl).symm.trans h)
  exact ⟨rfl, zi199_g, Nat.le_of_ble_eq_true rfl⟩
theorem zB200_g : zB_good 200 (41, zi200) := fun μ h => by
  cases Option.some.inj ((show zML[200]? = some zm200 from rfl).symm.trans h)
  exact ⟨rfl, zi200_g, Nat.le_of_ble_eq_true rfl⟩
theorem zB201_g : zB_good 201 (43, zi201) := fun μ h => by
  cases Option.some.inj ((show zML[201]? = some zm201 from rfl).symm.trans h)
  exact ⟨rfl, zi201_g, Nat.le_of_ble_eq_true rfl⟩
theorem zB202_g : zB_good 202 (41, zi202) := fun μ h => by
  cases Option.some.inj ((show zML[202]? = some zm202 from rfl).symm.trans h)
  exact ⟨rfl, zi202_g, Nat.le_of_ble_eq_true rfl⟩
theorem zB203_g : zB_good 203 (41, zi203) := fun μ h => by
  cases Option.some.inj ((show zML[203]? = some zm203 from rfl).symm.trans h)
  exact ⟨rfl, zi203_g, Nat.le_of_ble_eq_true rfl⟩
theorem zB204_g : zB_good 204 (41, zi204) := fun μ h => by
  cases Option.some.inj ((show zML[204]? = some zm204 from rfl).symm.trans h)
  exact ⟨rfl, zi204_g, Nat.le_of_ble_eq_true rfl⟩
theorem zB205_g : zB_good 205 (41, zi205) := fun μ h => by
  cases Option.some.inj ((show zML[205]? = some zm205 from rfl).symm.trans h)
  exact ⟨rfl, zi205_g, Nat.le_of_ble_eq_true rfl⟩
theorem zB206_g : zB_good 206 (41, zi206) := fun μ h => by
  cases Option.some.inj ((show zML[206]? = some zm206 from rfl).symm.trans h)
  exact ⟨rfl, zi206_g, Nat.le_of_ble_eq_true rfl⟩
theorem zB207_g : zB_good 207 (41, zi207) := fun μ h => by
  cases Option.some.inj ((show zML[207]? = some zm207 from rfl).symm.trans h)
  exact ⟨rfl, zi207_g, Nat.le_of_ble_eq_true rfl⟩
theorem zB208_g : zB_good 208 (44, zi208) := fun μ h => by
  cases Option.some.inj ((show zML[208]? = some zm208 from rfl).symm.trans h)
  exact ⟨rfl, zi208_g, Nat.le_of_ble_eq_true rfl⟩
theorem zB209_g : zB_good 209 (41, zi209) := fun μ h => by
  cases Option.some.inj ((show zML[209]? = some zm209 from rfl).symm.trans h)
  exact ⟨rfl, zi209_g, Nat.le_of_ble_eq_true rfl⟩
theorem zB210_g : zB_good 210 (41, zi210) := fun μ h => by
  cases Option.some.inj ((show zML[210]? = some zm210 from rfl).symm.trans h)
  exact ⟨rfl, zi210_g, Nat.le_of_ble_eq_true rfl⟩
theorem zB211_g : zB_good 211 (41, zi211) := fun μ h => by
  cases Option.some.inj ((show zML[211]? = some zm211 from rfl).symm.trans h)
  exact ⟨rfl, zi211_g, Nat.le_of_ble_eq_true rfl⟩
theorem zB212_g : zB_good 212 (41, zi212) := fun μ h => by
  cases Option.some.inj ((show zML[212]? = some zm212 from rfl).symm.trans h)
  exact ⟨rfl, zi212_g, Nat.le_of_ble_eq_true rfl⟩
theorem zB213_g : zB_good 213 (41, zi213) := fun μ h => by
  cases Option.some.inj ((show zML[213]? = some zm213 from rfl).symm.trans h)
  exact ⟨rfl, zi213_g, Nat.le_of_ble_eq_true rfl⟩
theorem zB214_g : zB_good 214 (44, zi214) := fun μ h => by
  cases Option.some.inj ((show zML[214]? = some zm214 from rfl).symm.trans h)
  exact ⟨rfl, zi214_g, Nat.le_of_ble_eq_true rfl⟩
theorem zB215_g : zB_good 215 (41, zi215) := fun μ h => by
  cases Option.some.inj ((show zML[215]? = some zm215 from rfl).symm.trans h)
  exact ⟨rfl, zi215_g, Nat.le_of_ble_eq_true rfl⟩
theorem zB216_g : zB_good 216 (38, zi216) := fun μ h => by
  cases Option.some.inj ((show zML[216]? = some zm216 from rfl).symm.trans h)
  exact ⟨rfl, zi216_g, Nat.le_of_ble_eq_true rfl⟩
theorem zB217_g : zB_good 217 (41, zi217) := fun μ h => by
  cases Option.some.inj ((show zML[217]? = some zm217 from rfl).symm.trans h)
  exact ⟨rfl, zi217_g, Nat.le_of_ble_eq_true rfl⟩
theorem zB218_g : zB_good 218 (41, zi218) := fun μ h => by
  cases Option.some.inj ((show zML[218]? = some zm218 from rfl).symm.trans h)
  exact ⟨rfl, zi218_g, Nat.le_of_ble_eq_true rfl⟩
theorem zB219_g : zB_good 219 (41, zi219) := fun μ h => by
  cases Option.some.inj ((show zML[219]? = some zm219 from rfl).symm.trans h)
  exact ⟨rfl, zi219_g, Nat.le_of_ble_eq_true rfl⟩
theorem zB220_g : zB_good 220 (41, zi220) := fun μ h => by
  cases Option.some.inj ((show zML[220]? = some zm220 from rfl).symm.trans h)
  exact ⟨rfl, zi220_g, Nat.le_of_ble_eq_true rfl⟩
theorem zB221_g : zB_good 221 (41, zi221) := fun μ h => by
  cases Option.some.inj ((show zML[221]? = some zm221 from rfl).symm.trans h)
  exact ⟨rfl, zi221_g, Nat.le_of_ble_eq_true rfl⟩
theorem zB222_g : zB_good 222 (41, zi222) := fun μ h => by
  cases Option.some.inj ((show zML[222]? = some zm222 from rfl).symm.trans h)
  exact ⟨rfl, zi222_g, Nat.le_of_ble_eq_true rfl⟩
theorem zB223_g : zB_good 223 (41, zi223) := fun μ h => by
  cases Option.some.inj ((show zML[223]? = some zm223 from rfl).symm.trans h)
  exact ⟨rfl, zi223_g, Nat.le_of_ble_eq_true rfl⟩
theorem zB224_g : zB_good 224 (41, zi224) := fun μ h => by
  cases Option.some.inj ((show zML[224]? = some zm224 from rfl).symm.trans h)
  exact ⟨rfl, zi224_g, Nat.le_of_ble_eq_true rfl⟩
theorem zB225_g : zB_good 225 (41, zi225) := fun μ h => by
  cases Option.some.inj ((show zML[225]? = some zm225 from rfl).symm.trans h)
  exact ⟨rfl, zi225_g, Nat.le_of_ble_eq_true rfl⟩
theorem zB226_g : zB_good 226 (45, zi226) := fun μ h => by
  cases Option.some.inj ((show zML[226]? = some zm226 from rfl).symm.trans h)
  exact ⟨rfl, zi226_g, Nat.le_of_ble_eq_true rfl⟩
theorem zB227_g : zB_good 227 (41, zi227) := fun μ h => by
  cases Option.some.inj ((show zML[227]? = some zm227 from rfl).symm.trans h)
  exact ⟨rfl, zi227_g, Nat.le_of_ble_eq_true rfl⟩
theorem zB228_g : zB_good 228 (41, zi228) := fun μ h => by
  cases Option.some.inj ((show zML[228]? = some zm228 from rfl).symm.trans h)
  exact ⟨rfl, zi228_g, Nat.le_of_ble_eq_true rfl⟩
theorem zB229_g : zB_good 229 (41, zi229) := fun μ h => by
  cases Option.some.inj ((show zML[229]? = some zm229 from rfl).symm.trans h)
  exact ⟨rfl, zi229_g, Nat.le_of_ble_eq_true rfl⟩
theorem zB230_g : zB_good 230 (38, zi230) := fun μ h => by
  cases Option.some.inj ((show zML[230]? = some zm230 from rfl).symm.trans h)
  exact ⟨rfl, zi230_g, Nat.le_of_ble_eq_true rfl⟩
theorem zB231_g : zB_good 231 (38, zi231) := fun μ h => by
  cases Option.some.inj ((show zML[231]? = some zm231 from rfl).symm.trans h)
  exact ⟨rfl, zi231_g, Nat.le_of_ble_eq_true rfl⟩
theorem zB232_g : zB_good 232 (46, zi232) := fun μ h => by
  cases Option.some.inj ((show zML[232]? = some zm232 from rfl).symm.trans h)
  exact ⟨rfl, zi232_g, Nat.le_of_ble_eq_true rfl⟩
theorem zB233_g : zB_good 233 (41, zi233) := fun μ h => by
  cases Option.some.inj ((show zML[233]? = some zm233 from rfl).symm.trans h)
  exact ⟨rfl, zi233_g, Nat.le_of_ble_eq_true rfl⟩
theorem zB234_g : zB_good 234 (41, zi234) := fun μ h => by
  cases Option.some.inj ((show zML[234]? = some zm234 from rfl).symm.trans h)
  exact ⟨rfl, zi234_g, Nat.le_of_ble_eq_true rfl⟩
theorem zB235_g : zB_good 235 (45, zi235) := fun μ h => by
  cases Option.some.inj ((show zML[235]? = some zm235 from rfl).symm.trans h)
  exact ⟨rfl, zi235_g, Nat.le_of_ble_eq_true rfl⟩
theorem zB236_g : zB_good 236 (41, zi236) := fun μ h => by
  cases Option.some.inj ((show zML[236]? = some zm236 from rfl).symm.trans h)
  exact ⟨rfl, zi236_g, Nat.le_of_ble_eq_true rfl⟩
theorem zB237_g : zB_good 237 (41, zi237) := fun μ h => by
  cases Option.some.inj ((show zML[237]? = some zm237 from rfl).symm.trans h)
  exact ⟨rfl, zi237_g, Nat.le_of_ble_eq_true rfl⟩
theorem zB238_g : zB_good 238 (41, zi238) := fun μ h => by
  cases Option.some.inj ((show zML[238]? = some zm238 from rfl).symm.trans h)
  exact ⟨rfl, zi238_g, Nat.le_of_ble_eq_true rfl⟩
theorem zB239_g : zB_good 239 (41, zi239) := fun μ h => by
  cases Option.some.inj ((show zML[239]? = some zm239 from rfl).symm.trans h)
  exact ⟨rfl, zi239_g, Nat.le_of_ble_eq_true rfl⟩
theorem zB240_g : zB_good 240 (41, zi240) := fun μ h => by
  cases Option.some.inj ((show zML[240]? = some zm240 from rfl).symm.trans h)
  exact ⟨rfl, zi240_g, Nat.le_of_ble_eq_true rfl⟩
theorem zB241_g : zB_good 241 (41, zi241) := fun μ h => by
  cases Option.some.inj ((show zML[241]? = some zm241 from rfl).symm.trans h)
  exact ⟨rfl, zi241_g, Nat.le_of_ble_eq_true rfl⟩
theorem zB242_g : zB_good 242 (41, zi242) := fun μ h => by
  cases Option.some.inj ((show zML[242]? = some zm242 from rfl).symm.trans h)
  exact ⟨rfl, zi242_g, Nat.le_of_ble_eq_true rfl⟩
theorem zB243_g : zB_good 243 (41, zi243) := fun μ h => by
  cases Option.some.inj ((show zML[243]? = some zm243 from rfl).symm.trans h)
  exact ⟨rfl, zi243_g, Nat.le_of_ble_eq_true rfl⟩
theorem zB244_g : zB_good 244 (41, zi244) := fun μ h => by
  cases Option.some.inj ((show zML[244]? = some zm244 from rfl).symm.trans h)
  exact ⟨rfl, zi244_g, Nat.le_of_ble_eq_true rfl⟩
theorem zB245_g : zB_good 245 (41, zi245) := fun μ h => by
  cases Option.some.inj ((show zML[245]? = some zm245 from rfl).symm.trans h)
  exact ⟨rfl, zi245_g, Nat.le_of_ble_eq_true rfl⟩
theorem zB246_g : zB_good 246 (41, zi246) := fun μ h => by
  cases Option.some.inj ((show zML[246]? = some zm246 from rfl).symm.trans h)
  exact ⟨rfl, zi246_g, Nat.le_of_ble_eq_true rfl⟩
theorem zB247_g : zB_good 247 (41, zi247) := fun μ h => by
  cases Option.some.inj ((show zML[247]? = some zm247 from rfl).symm.trans h)
  exact ⟨rfl, zi247_g, Nat.le_of_ble_eq_true rfl⟩
theorem zB248_g : zB_good 248 (41, zi248) := fun μ h => by
  cases Option.some.inj ((show zML[248]? = some zm248 from rfl).symm.trans h)
  exact ⟨rfl, zi248_g, Nat.le_of_ble_eq_true rfl⟩
theorem zB249_g : zB_good 249 (41, zi249) := fun μ h => by
  cases Option.some.inj ((show zML[249]? = some zm249 from rfl).symm.trans h)
  exact ⟨rfl, zi249_g, Nat.le_of_ble_eq_true rfl⟩
theorem zB250_g : zB_good 250 (41, zi250) := fun μ h => by
  cases Option.some.inj ((show zML[250]? = some zm250 from rfl).symm.trans h)
  exact ⟨rfl, zi250_g, Nat.le_of_ble_eq_true rfl⟩
theorem zB251_g : zB_good 251 (41, zi251) := fun μ h => by
  cases Option.some.inj ((show zML[251]? = some zm251 from rfl).symm.trans h)
  exact ⟨rfl, zi251_g, Nat.le_of_ble_eq_true rfl⟩
theorem zB252_g : zB_good 252 (41, zi252) := fun μ h => by
  cases Option.some.inj ((show zML[252]? = some zm252 from rfl).symm.trans h)
  exact ⟨rfl, zi252_g, Nat.le_of_ble_eq_true rfl⟩
theorem zB253_g : zB_good 253 (41, zi253) := fun μ h => by
  cases Option.some.inj ((show zML[253]? = some zm253 from rfl).symm.trans h)
  exact ⟨rfl, zi253_g, Nat.le_of_ble_eq_true rfl⟩
theorem zB254_g : zB_good 254 (44, zi254) := fun μ h => by
  cases Option.some.inj ((show zML[254]? = some zm254 from rfl).symm.trans h)
  exact ⟨rfl, zi254_g, Nat.le_of_ble_eq_true rfl⟩
theorem zB255_g : zB_good 255 (41, zi255) := fun μ h => by
  cases Option.some.inj ((show zML[255]? = some zm255 from rfl).symm.trans h)
  exact ⟨rfl, zi255_g, Nat.le_of_ble_eq_true rfl⟩
theorem zB256_g : zB_good 256 (41, zi256) := fun μ h => by
  cases Option.some.inj ((show zML[256]? = some zm256 from rfl).symm.trans h)
  exact ⟨rfl, zi256_g, Nat.le_of_ble_eq_true rfl⟩
theorem zB257_g : zB_good 257 (41, zi257) := fun μ h => by
  cases Option.some.inj ((show zML[257]? = some zm257 from rfl).symm.trans h)
  exact ⟨rfl, zi257_g, Nat.le_of_ble_eq_true rfl⟩
theorem zB258_g : zB_good 258 (41, zi258) := fun μ h => by
  cases Option.some.inj ((show zML[258]? = some zm258 from rfl).symm.trans h)
  exact ⟨rfl, zi258_g, Nat.le_of_ble_eq_true rfl⟩
theorem zB259_g : zB_good 259 (41, zi259) := fun μ h => by
  cases Option.some.inj ((show zML[259]? = some zm259 from rfl).symm.trans h)
  exact ⟨rfl, zi259_g, Nat.le_of_ble_eq_true rfl⟩
theorem zB260_g : zB_good 260 (41, zi260) := fun μ h => by
  cases Option.some.inj ((show zML[260]? = some zm260 from rfl).symm.trans h)
  exact ⟨rfl, zi260_g, Nat.le_of_ble_eq_true rfl⟩
theorem zB261_g : zB_good 261 (41, zi261) := fun μ h => by
  cases Option.some.inj ((show zML[261]? = some zm261 from rfl).symm.trans h)
  exact ⟨rfl, zi261_g, Nat.le_of_ble_eq_true rfl⟩
def zBL : List (Nat × List zIt) := [(0, zi0), (1, zi1), (2, zi2), (3, zi3), (4, zi4), (0, zi5), (1, zi6), (0, zi7), (1, zi8), (5, zi9), (5, zi10), (5, zi11), (5, zi12), (6, zi13), (7, zi14), (8, zi15), (9, zi16), (0, zi17), (0, zi18), (0, zi19), (0, zi20), (0, zi21), (0, zi22), (10, zi23), (1, zi24), (11, zi25), (12, zi26), (1, zi27), (0, zi28), (13, zi29), (0, zi30), (13, zi31), (0, zi32), (14, zi33), (0, zi34), (15, zi35), (0, zi36), (0, zi37), (16, zi38), (0, zi39), (17, zi40), (18, zi41), (19, zi42), (19, zi43), (20, zi44), (1, zi45), (1, zi46), (1, zi47), (1, zi48), (21, zi49), (21, zi50), (22, zi51), (22, zi52), (15, zi53), (0, zi54), (23, zi55), (24, zi56), (25, zi57), (15, zi58), (26, zi59), (10, zi60), (8, zi61), (9, zi62), (6, zi63), (0, zi64), (0, zi65), (0, zi66), (27, zi67), (28, zi68), (15, zi69), (0, zi70), (0, zi71), (29, zi72), (15, zi73), (0, zi74), (0, zi75), (13, zi76), (4, zi77), (30, zi78), (31, zi79), (30, zi80), (32, zi81), (33, zi82), (34, zi83), (1, zi84), (15, zi85), (0, zi86), (15, zi87), (0, zi88), (0, zi89), (0, zi90), (15, zi91), (0, zi92), (15, zi93), (0, zi94), (15, zi95), (0, zi96), (24, zi97), (15, zi98), (0, zi99), (15, zi100), (0, zi101), (15, zi102), (0, zi103), (15, zi104), (0, zi105), (15, zi106), (0, zi107), (35, zi108), (15, zi109), (0, zi110), (0, zi111), (0, zi112), (28, zi113), (0, zi114), (36, zi115), (37, zi116), (9, zi117), (6, zi118), (15, zi119), (0, zi120), (15, zi121), (0, zi122), (0, zi123), (13, zi124), (17, zi125), (8, zi126), (0, zi127), (0, zi128), (18, zi129), (19, zi130), (19, zi131), (19, zi132), (19, zi133), (19, zi134), (19, zi135), (19, zi136), (35, zi137), (35, zi138), (38, zi139), (39, zi140), (39, zi141), (39, zi142), (30, zi143), (30, zi144), (30, zi145), (38, zi146), (38, zi147), (0, zi148), (18, zi149), (3, zi150), (0, zi151), (19, zi152), (19, zi153), (19, zi154), (15, zi155), (0, zi156), (15, zi157), (0, zi158), (18, zi159), (0, zi160), (15, zi161), (0, zi162), (0, zi163), (1, zi164), (1, zi165), (19, zi166), (15, zi167), (0, zi168), (15, zi169), (0, zi170), (0, zi171), (15, zi172), (0, zi173), (15, zi174), (0, zi175), (15, zi176), (0, zi177), (15, zi178), (0, zi179), (15, zi180), (0, zi181), (15, zi182), (15, zi183), (0, zi184), (15, zi185), (0, zi186), (15, zi187), (40, zi188), (0, zi189), (40, zi190), (15, zi191), (0, zi192), (1, zi193), (41, zi194), (41, zi195), (41, zi196), (41, zi197), (41, zi198), (42, zi199), (41, zi200), (43, zi201), (41, zi202), (41, zi203), (41, zi204), (41, zi205), (41, zi206), (41, zi207), (44, zi208), (41, zi209), (41, zi210), (41, zi211), (41, zi212), (41, zi213), (44, zi214), (41, zi215), (38, zi216), (41, zi217), (41, zi218), (41, zi219), (41, zi220), (41, zi221), (41, zi222), (41, zi223), (41, zi224), (41, zi225), (45, zi226), (41, zi227), (41, zi228), (41, zi229), (38, zi230), (38, zi231), (46, zi232), (41, zi233), (41, zi234), (45, zi235), (41, zi236), (41, zi237), (41, zi238), (41, zi239), (41, zi240), (41, zi241), (41, zi242), (41, zi243), (41, zi244), (41, zi245), (41, zi246), (41, zi247), (41, zi248), (41, zi249), (41, zi250), (41, zi251), (41, zi252), (41, zi253), (44, zi254), (41, zi255), (41, zi256), (41, zi257), (41, zi258), (41, zi259), (41, zi260), (41, zi261)]
theorem zBL_good : ∀ (k : Nat) (b : Nat × List zIt), zBL[k]? = some b → zB_good k b := by
  intro k b h
  match k, h with
  | 0, h => exact (Option.some.inj h) ▸ zB0_g
  | 1, h => exact (Option.some.inj h) ▸ zB1_g
  | 2, h => exact (Option.some.inj h) ▸ zB2_g
  | 3, h => exact (Option.some.inj h) ▸ zB3_g
  | 4, h => exact (Option.some.inj h) ▸ zB4_g
  | 5, h => exact (Option.some.inj h) ▸ zB5_g
  | 6, h => exact (Option.some.inj h) ▸ zB6_g
  | 7, h => exact (Option.some.inj h) ▸ zB7_g
  | 8, h => exact (Option.some.inj h) ▸ zB8_g
  | 9, h => exact (Option.some.inj h) ▸ zB9_g
  | 10, h => exact (Option.some.inj h) ▸ zB10_g
  | 11, h => exact (Option.some.inj h) ▸ zB11_g
  | 12, h => exact (Option.some.inj h) ▸ zB12_g
  | 13, h => exact (Option.some.inj h) ▸ zB13_g
  | 14, h => exact (Option.some.inj h) ▸ zB14_g
  | 15, h => exact (Option.some.inj h) ▸ zB15_g
  | 16, h => exact (Option.some.inj h) ▸ zB16_g
  | 17, h => exact (Option.some.inj h) ▸ zB17_g
  | 18, h => exact (Option.some.inj h) ▸ zB18_g
  | 19, h => exact (Option.some.inj h) ▸ zB19_g
  | 20, h => exact (Option.some.inj h) ▸ zB20_g
  | 21, h => exact (Option.some.inj h) ▸ zB21_g
  | 22, h => exact (Option.some.inj h) ▸ zB22_g
  | 23, h => exact (Option.some.inj h) ▸ zB23_g
  | 24, h => exact (Option.some.inj h) ▸ zB24_g
  | 25, h => exact (Option.some.inj h) ▸ zB25_g
  | 26, h => exact (Option.some.inj h) ▸ zB26_g
  | 27, h => exact (Option.some.inj h) ▸ zB27_g
  | 28, h => exact (Option.some.inj h) ▸ zB28_g
  | 29, h => exact (Option.some.inj h) ▸ zB29_g
  | 30, h => exact (Option.some.inj h) ▸ zB30_g
  | 31, h => exact (Option.some.inj h) ▸ zB31_g
  | 32, h => exact (Option.some.inj h) ▸ zB32_g
  | 33, h => exact (Option.some.inj h) ▸ zB33_g
  | 34, h => exact (Option.some.inj h) ▸ zB34_g
  | 35, h => exact (Option.some.inj h) ▸ zB35_g
  | 36, h => exact (Option.some.inj h) ▸ zB36_g
  | 37, h => exact (Option.some.inj h) ▸ zB37_g
  | 38, h => exact (Option.some.inj h) ▸ zB38_g
  | 39, h => exact (Option.some.inj h) ▸ zB39_g
  | 40, h => exact (Option.some.inj h) ▸ zB40_g
  | 41, h => exact (Option.some.inj h) ▸ zB41_g
  | 42, h => exact (Option.some.inj h) ▸ zB42_g
  | 43, h => exact (Option.some.inj h) ▸ zB43_g
  | 44, h => exact (Option.some.inj h) ▸ zB44_g
  | 45, h => exact (Option.some.inj h) ▸ zB45_g
  | 46, h => exact (Option.some.inj h) ▸ zB46_g
  | 47, h => exact (Option.some.inj h) ▸ zB47_g
  | 48, h => exact (Option.some.inj h) ▸ zB48_g
  | 49, h => exact (Option.some.inj h) ▸ zB49_g
  | 50, h => exact (Option.some.inj h) ▸ zB50_g
  | 51, h => exact (Option.some.inj h) ▸ zB51_g
  | 52, h => exact (Option.some.inj h) ▸ zB52_g
  | 53, h => exact (Option.some.inj h) ▸ zB53_g
  | 54, h => exact (Option.some.inj h) ▸ zB54_g
  | 55, h => exact (Option.some.inj h) ▸ zB55_g
  | 56, h => exact (Option.some.inj h) ▸ zB56_g
  | 57, h => exact (Option.some.inj h) ▸ zB57_g
  | 58, h => exact (Option.some.inj h) ▸ zB58_g
  | 59, h => exact (Option.some.inj h) ▸ zB59_g
  | 60, h => exact (Option.some.inj h) ▸ zB60_g
  | 61, h => exact (Option.some.inj h) ▸ zB61_g
  | 62, h => exact (Option.some.inj h) ▸ zB62_g
  | 63, h => exact (Option.some.inj h) ▸ zB63_g
  | 64, h => exact (Option.some.inj h) ▸ zB64_g
  | 65, h => exact (Option.some.inj h) ▸ zB65_g
  | 66, h => exact (Option.some.inj h) ▸ zB66_g
  | 67, h => exact (Option.some.inj h) ▸ zB67_g
  | 68, h => exact (Option.some.inj h) ▸ zB68_g
  | 69, h => exact (Option.some.inj h) ▸ zB69_g
  | 70, h => exact (Option.some.inj h) ▸ zB70_g
  | 71, h => exact (Option.some.inj h) ▸ zB71_g
  | 72, h => exact (Option.some.inj h) ▸ zB72_g
  | 73, h => exact (Option.some.inj h) ▸ zB73_g
  | 74, h => exact (Option.some.inj h) ▸ zB74_g
  | 75, h => exact (Option.some.inj h) ▸ zB75_g
  | 76, h => exact (Option.some.inj h) ▸ zB76_g
  | 77, h => exact (Option.some.inj h) ▸ zB77_g
  | 78, h => exact (Option.some.inj h) ▸ zB78_g
  | 79, h => exact (Option.some.inj h) ▸ zB79_g
  | 80, h => exact (Option.some.inj h) ▸ zB80_g
  | 81, h => exact (Option.some.inj h) ▸ zB81_g
  | 82, h => exact (Option.some.inj h) ▸ zB82_g
  | 83, h => exact (Option.some.inj h) ▸ zB83_g
  | 84, h => exact (Option.some.inj h) ▸ zB84_g
  | 85, h => exact (Option.some.inj h) ▸ zB85_g
  | 86, h => exact (Option.some.inj h) ▸ zB86_g
  | 87, h => exact (Option.some.inj h) ▸ zB87_g
  | 88, h => exact (Option.some.inj h) ▸ zB88_g
  | 89, h => exact (Option.some.inj h) ▸ zB89_g
  | 90, h => exact (Option.some.inj h) ▸ zB90_g
  | 91, h => exact (Option.some.inj h) ▸ zB91_g
  | 92, h => exact (Option.some.inj h) ▸ zB92_g
  | 93, h => exact (Option.some.inj h) ▸ zB93_g
  | 94, h => exact (Option.some.inj h) ▸ zB94_g
  | 95, h => exact (Option.some.inj h) ▸ zB95_g
  | 96, h => exact (Option.some.inj h) ▸ zB96_g
  | 97, h => exact (Option.some.inj h) ▸ zB97_g
  | 98, h => exact (Option.some.inj h) ▸ zB98_g
  | 99, h => exact (Option.some.inj h) ▸ zB99_g
  | 100, h => exact (Option.some.inj h) ▸ zB100_g
  | 101, h => exact (Option.some.inj h) ▸ zB101_g
  | 102, h => exact (Option.some.inj h) ▸ zB102_g
  | 103, h => exact (Option.some.inj h) ▸ zB103_g
  | 104, h => exact (Option.some.inj h) ▸ zB104_g
  | 105, h => exact (Option.some.inj h) ▸ zB105_g
  | 106, h => exact (Option.some.inj h) ▸ zB106_g
  | 107, h => exact (Option.some.inj h) ▸ zB107_g
  | 108, h => exact (Option.some.inj h) ▸ zB108_g
  | 109, h => exact (Option.some.inj h) ▸ zB109_g
  | 110, h => exact (Option.some.inj h) ▸ zB110_g
  | 111, h => exact (Option.some.inj h) ▸ zB111_g
  | 112, h => exact (Option.some.inj h) ▸ zB112_g
  | 113, h => exact (Option.some.inj h) ▸ zB113_g
  | 114, h => exact (Option.some.inj h) ▸ zB114_g
  | 115, h => exact (Option.some.inj h) ▸ zB115_g
  | 116, h => exact (Option.some.inj h) ▸ zB116_g
  | 117, h => exact (Option.some.inj h) ▸ zB117_g
  | 118, h => exact (Option.some.inj h) ▸ zB118_g
  | 119, h => exact (Option.some.inj h) ▸ zB119_g
  | 120, h => exact (Option.some.inj h) ▸ zB120_g
  | 121, h => exact (Option.some.inj h) ▸ zB121_g
  | 122, h => exact (Option.some.inj h) ▸ zB122_g
  | 123, h => exact (Option.some.inj h) ▸ zB123_g
  | 124, h => exact (Option.some.inj h) ▸ zB124_g
  | 125, h => exact (Option.some.inj h) ▸ zB125_g
  | 126, h => exact (Option.some.inj h) ▸ zB126_g
  | 127, h => exact (Option.some.inj h) ▸ zB127_g
  | 128, h => exact (Option.some.inj h) ▸ zB128_g
  | 129, h => exact (Option.some.inj h) ▸ zB129_g
  | 130, h => exact (Option.some.inj h) ▸ zB130_g
  | 131, h => exact (Option.some.inj h) ▸ zB131_g
  | 132, h => exact (Option.some.inj h) ▸ zB132_g
  | 133, h => exact (Option.some.inj h) ▸ zB133_g
  | 134, h => exact (Option.some.inj h) ▸ zB134_g
  | 135, h => exact (Option.some.inj h) ▸ zB135_g
  | 136, h => exact (Option.some.inj h) ▸ zB136_g
  | 137, h => exact (Option.some.inj h) ▸ zB137_g
  | 138, h => exact (Option.some.inj h) ▸ zB138_g
  | 139, h => exact (Option.some.inj h) ▸ zB139_g
  | 140, h => exact (Option.some.inj h) ▸ zB140_g
  | 141, h => exact (Option.some.inj h) ▸ zB141_g
  | 142, h => exact (Option.some.inj h) ▸ zB142_g
  | 143, h => exact (Option.some.inj h) ▸ zB143_g
  | 144, h => exact (Option.some.inj h) ▸ zB144_g
  | 145, h => exact (Option.some.inj h) ▸ zB145_g
  | 146, h => exact (Option.some.inj h) ▸ zB146_g
  | 147, h => exact (Option.some.inj h) ▸ zB147_g
  | 148, h => exact (Option.some.inj h) ▸ zB148_g
  | 149, h => exact (Option.some.inj h) ▸ zB149_g
  | 150, h => exact (Option.some.inj h) ▸ zB150_g
  | 151, h => exact (Option.some.inj h) ▸ zB151_g
  | 152, h => exact (Option.some.inj h) ▸ zB152_g
  | 153, h => exact (Option.some.inj h) ▸ zB153_g
  | 154, h => exact (Option.some.inj h) ▸ zB154_g
  | 155, h => exact (Option.some.inj h) ▸ zB155_g
  | 156, h => exact (Option.some.inj h) ▸ zB156_g
  | 157, h => exact (Option.some.inj h) ▸ zB157_g
  | 158, h => exact (Option.some.inj h) ▸ zB158_g
  | 159, h => exact (Option.some.inj h) ▸ zB159_g
  | 160, h => exact (Option.some.inj h) ▸ zB160_g
  | 161, h => exact (Option.some.inj h) ▸ zB161_g
  | 162, h => exact (Option.some.inj h) ▸ zB162_g
  | 163, h => exact (Option.some.inj h) ▸ zB163_g
  | 164, h => exact (Option.some.inj h) ▸ zB164_g
  | 165, h => exact (Option.some.inj h) ▸ zB165_g
  | 166, h => exact (Option.some.inj h) ▸ zB166_g
  | 167, h => exact (Option.some.inj h) ▸ zB167_g
  | 168, h => exact (Option.some.inj h) ▸ zB168_g
  | 169, h => exact (Option.some.inj h) ▸ zB169_g
  | 170, h => exact (Option.some.inj h) ▸ zB170_g
  | 171, h => exact (Option.some.inj h) ▸ zB171_g
  | 172, h => exact (Option.some.inj h) ▸ zB172_g
  | 173, h => exact (Option.some.inj h) ▸ zB173_g
  | 174, h => exact (Option.some.inj h) ▸ zB174_g
  | 175, h => exact (Option.some.inj h) ▸ zB175_g
  | 176, h => exact (Option.some.inj h) ▸ zB176_g
  | 177, h => exact (Option.some.inj h) ▸ zB177_g
  | 178, h => exact (Option.some.inj h) ▸ zB178_g
  | 179, h => exact (Option.some.inj h) ▸ zB179_g
  | 180, h => exact (Option.some.inj h) ▸ zB180_g
  | 181, h => exact (Option.some.inj h) ▸ zB181_g
  | 182, h => exact (Option.some.inj h) ▸ zB182_g
  | 183, h => exact (Option.some.inj h) ▸ zB183_g
  | 184, h => exact (Option.some.inj h) ▸ zB184_g
  | 185, h => exact (Option.some.inj h) ▸ zB185_g
  | 186, h => exact (Option.some.inj h) ▸ zB186_g
  | 187, h => exact (Option.some.inj h) ▸ zB187_g
  | 188, h => exact (Option.some.inj h) ▸ zB188_g
  | 189, h => exact (Option.some.inj h) ▸ zB189_g
  | 190, h => exact (Option.some.inj h) ▸ zB190_g
  | 191, h => exact (Option.some.inj h) ▸ zB191_g
  | 192, h => exact (Option.some.inj h) ▸ zB192_g
  | 193, h => exact (Option.some.inj h) ▸ zB193_g
  | 194, h => exact (Option.some.inj h) ▸ zB194_g
  | 195, h => exact (Option.some.inj h) ▸ zB195_g
  | 196, h => exact (Option.some.inj h) ▸ zB196_g
  | 197, h => exact (Option.some.inj h) ▸ zB197_g
  | 198, h => exact (Option.some.inj h) ▸ zB198_g
  | 199, h => exact (Option.some.inj h) ▸ zB199_g
  | 200, h => exact (Option.some.inj h) ▸ zB200_g
  | 201, h => exact (Option.some.inj h) ▸ zB201_g
  | 202, h => exact (Option.some.inj h) ▸ zB202_g
  | 203, h => exact (Option.some.inj h) ▸ zB203_g
  | 204, h => exact (Option.some.inj h) ▸ zB204_g
  | 205, h => exact (Option.some.inj h) ▸ zB205_g
  | 206, h => exact (Option.some.inj h) ▸ zB206_g
  | 207, h => exact (Option.some.inj h) ▸ zB207_g
  | 208, h => exact (Option.some.inj h) ▸ zB208_g
  | 209, h => exact (Option.some.inj h) ▸ zB209_g
  | 210, h => exact (Option.some.inj h) ▸ zB210_g
  | 211, h => exact (Option.some.inj h) ▸ zB211_g
  | 212, h => exact (Option.some.inj h) ▸ zB212_g
  | 213, h => exact (Option.some.inj h) ▸ zB213_g
  | 214, h => exact (Option.some.inj h) ▸ zB214_g
  | 215, h => exact (Option.some.inj h) ▸ zB215_g
  | 216, h => exact (Option.some.inj h) ▸ zB216_g
  | 217, h => exact (Option.some.inj h) ▸ zB217_g
  | 218, h => exact (Option.some.inj h) ▸ zB218_g
  | 219, h => exact (Option.some.inj h) ▸ zB219_g
  | 220, h => exact (Option.some.inj h) ▸ zB220_g
  | 221, h => exact (Option.some.inj h) ▸ zB221_g
  | 222, h => exact (Option.some.inj h) ▸ zB222_g
  | 223, h => exact (Option.some.inj h) ▸ zB223_g
  | 224, h => exact (Option.some.inj h) ▸ zB224_g
  | 225, h => exact (Option.some.inj h) ▸ zB225_g
  | 226, h => exact (Option.some.inj h) ▸ zB226_g
  | 227, h => exact (Option.some.inj h) ▸ zB227_g
  | 228, h => exact (Option.some.inj h) ▸ zB228_g
  | 229, h => exact (Option.some.inj h) ▸ zB229_g
  | 230, h => exact (Option.some.inj h) ▸ zB230_g
  | 231, h => exact (Option.some.inj h) ▸ zB231_g
  | 232, h => exact (Option.some.inj h) ▸ zB232_g
  | 233, h => exact (Option.some.inj h) ▸ zB233_g
  | 234, h => exact (Option.some.inj h) ▸ zB234_g
  | 235, h => exact (Option.some.inj h) ▸ zB235_g
  | 236, h => exact (Option.some.inj h) ▸ zB236_g
  | 237, h => exact (Option.some.inj h) ▸ zB237_g
  | 238, h => exact (Option.some.inj h) ▸ zB238_g
  | 239, h => exact (Option.some.inj h) ▸ zB239_g
  | 240, h => exact (Option.some.inj h) ▸ zB240_g
  | 241, h => exact (Option.some.inj h) ▸ zB241_g
  | 242, h => exact (Option.some.inj h) ▸ zB242_g
  | 243, h => exact (Option.some.inj h) ▸ zB243_g
  | 244, h => exact (Option.some.inj h) ▸ zB244_g
  | 245, h => exact (Option.some.inj h) ▸ zB245_g
  | 246, h => exact (Option.some.inj h) ▸ zB246_g
  | 247, h => exact (Option.some.inj h) ▸ zB247_g
  | 248, h => exact (Option.some.inj h) ▸ zB248_g
  | 249, h => exact (Option.some.inj h) ▸ zB249_g
  | 250, h => exact (Option.some.inj h) ▸ zB250_g
  | 251, h => exact (Option.some.inj h) ▸ zB251_g
  | 252, h => exact (Option.some.inj h) ▸ zB252_g
  | 253, h => exact (Option.some.inj h) ▸ zB253_g
  | 254, h => exact (Option.some.inj h) ▸ zB254_g
  | 255, h => exact (Option.some.inj h) ▸ zB255_g
  | 256, h => exact (Option.some.inj h) ▸ zB256_g
  | 257, h => exact (Option.some.inj h) ▸ zB257_g
  | 258, h => exact (Option.some.inj h) ▸ zB258_g
  | 259, h => exact (Option.some.inj h) ▸ zB259_g
  | 260, h => exact (Option.some.inj h) ▸ zB260_g
  | 261, h => exact (Option.some.inj h) ▸ zB261_g
  | n + 262, h => exact absurd h (by simp [zBL])
def zat (L : List zIt) (pc : Nat) : Option (Instr × Nat) := (L.find? (fun r => r.1 == pc)).map (·.2)
theorem zat_ok {cc : ByteArray} {L : List zIt} (hL : zI_good cc L) {pc : Nat} {i : Instr} {len : Nat} (h : zat L pc = some (i, len)) : decode cc pc = .ok (i, len) := by
  unfold zat at h
  cases hf : L.find? (fun r => r.1 == pc) with
  | none => rw [hf] at h; cases h
  | some r =>
    rw [hf] at h
    have h1 := List.find?_some hf
    have h2 := hL r (List.mem_of_find?_eq_some hf)
    simp only [beq_iff_eq] at h1
    rw [h1] at h2
    have h3 : r.2 = (i, len) := Option.some.inj h
    rw [h3] at h2
    exact h2
