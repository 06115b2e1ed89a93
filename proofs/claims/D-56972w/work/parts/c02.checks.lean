/-! THE ROOM: the tables are checked -/
set_option maxRecDepth 100000
theorem ckR_0_1_0 : allN 63 (ckR 0 1 0 tJ01) = true := by decide +kernel
theorem ckS_0_1_0 : allN 63 (ckS 0 1 0 tJ01 tM1) = true := by decide +kernel
theorem ckG_0_1 : allN 62 (ckG 0 tJ01) = true := by decide +kernel
theorem ckR_0_1_1 : allN 63 (ckR 0 1 tJ01 tJ02) = true := by decide +kernel
theorem ckS_0_1_1 : allN 63 (ckS 0 1 tJ01 tJ02 tM1) = true := by decide +kernel
theorem ckR_0_2_0 : allN 63 (ckR 0 2 0 tJ02) = true := by decide +kernel
theorem ckS_0_2_0 : allN 63 (ckS 0 2 0 tJ02 tM2) = true := by decide +kernel
theorem ckG_0_2 : allN 62 (ckG tJ01 tJ02) = true := by decide +kernel
theorem ckR_0_1_2 : allN 63 (ckR 0 1 tJ02 tJ03) = true := by decide +kernel
theorem ckS_0_1_2 : allN 63 (ckS 0 1 tJ02 tJ03 tM1) = true := by decide +kernel
theorem ckR_0_2_1 : allN 63 (ckR 0 2 tJ01 tJ03) = true := by decide +kernel
theorem ckS_0_2_1 : allN 63 (ckS 0 2 tJ01 tJ03 tM2) = true := by decide +kernel
theorem ckR_0_3_0 : allN 63 (ckR 0 3 0 tJ03) = true := by decide +kernel
theorem ckS_0_3_0 : allN 63 (ckS 0 3 0 tJ03 tM3) = true := by decide +kernel
theorem ckG_0_3 : allN 62 (ckG tJ02 tJ03) = true := by decide +kernel
theorem ckR_0_1_3 : allN 63 (ckR 0 1 tJ03 tJ04) = true := by decide +kernel
theorem ckS_0_1_3 : allN 63 (ckS 0 1 tJ03 tJ04 tM1) = true := by decide +kernel
theorem ckR_0_2_2 : allN 63 (ckR 0 2 tJ02 tJ04) = true := by decide +kernel
theorem ckS_0_2_2 : allN 63 (ckS 0 2 tJ02 tJ04 tM2) = true := by decide +kernel
theorem ckR_0_3_1 : allN 63 (ckR 0 3 tJ01 tJ04) = true := by decide +kernel
theorem ckS_0_3_1 : allN 63 (ckS 0 3 tJ01 tJ04 tM3) = true := by decide +kernel
theorem ckR_0_4_0 : allN 63 (ckR 0 4 0 tJ04) = true := by decide +kernel
theorem ckS_0_4_0 : allN 63 (ckS 0 4 0 tJ04 tM4) = true := by decide +kernel
theorem ckG_0_4 : allN 62 (ckG tJ03 tJ04) = true := by decide +kernel
theorem ckR_1_1_0 : allN 63 (ckR 2 1 0 tJ11) = true := by decide +kernel
theorem ckS_1_1_0 : allN 63 (ckS 2 1 0 tJ11 tM1) = true := by decide +kernel
theorem ckG_1_1 : allN 62 (ckG 0 tJ11) = true := by decide +kernel
theorem ckR_1_1_1 : allN 63 (ckR 2 1 tJ11 tJ12) = true := by decide +kernel
theorem ckS_1_1_1 : allN 63 (ckS 2 1 tJ11 tJ12 tM1) = true := by decide +kernel
theorem ckR_1_2_0 : allN 63 (ckR 2 2 0 tJ12) = true := by decide +kernel
theorem ckS_1_2_0 : allN 63 (ckS 2 2 0 tJ12 tM2) = true := by decide +kernel
theorem ckG_1_2 : allN 62 (ckG tJ11 tJ12) = true := by decide +kernel
theorem ckR_1_1_2 : allN 63 (ckR 2 1 tJ12 tJ13) = true := by decide +kernel
theorem ckS_1_1_2 : allN 63 (ckS 2 1 tJ12 tJ13 tM1) = true := by decide +kernel
theorem ckR_1_2_1 : allN 63 (ckR 2 2 tJ11 tJ13) = true := by decide +kernel
theorem ckS_1_2_1 : allN 63 (ckS 2 2 tJ11 tJ13 tM2) = true := by decide +kernel
theorem ckR_1_3_0 : allN 63 (ckR 2 3 0 tJ13) = true := by decide +kernel
theorem ckS_1_3_0 : allN 63 (ckS 2 3 0 tJ13 tM3) = true := by decide +kernel
theorem ckG_1_3 : allN 62 (ckG tJ12 tJ13) = true := by decide +kernel
theorem ckR_1_1_3 : allN 63 (ckR 2 1 tJ13 tJ14) = true := by decide +kernel
theorem ckS_1_1_3 : allN 63 (ckS 2 1 tJ13 tJ14 tM1) = true := by decide +kernel
theorem ckR_1_2_2 : allN 63 (ckR 2 2 tJ12 tJ14) = true := by decide +kernel
theorem ckS_1_2_2 : allN 63 (ckS 2 2 tJ12 tJ14 tM2) = true := by decide +kernel
theorem ckR_1_3_1 : allN 63 (ckR 2 3 tJ11 tJ14) = true := by decide +kernel
theorem ckS_1_3_1 : allN 63 (ckS 2 3 tJ11 tJ14 tM3) = true := by decide +kernel
theorem ckR_1_4_0 : allN 63 (ckR 2 4 0 tJ14) = true := by decide +kernel
theorem ckS_1_4_0 : allN 63 (ckS 2 4 0 tJ14 tM4) = true := by decide +kernel
theorem ckG_1_4 : allN 62 (ckG tJ13 tJ14) = true := by decide +kernel
theorem ckL_1_0 : allN 63 (ckL 1 0 tL1) = true := by decide +kernel
theorem ckL2_1_0 : allN 63 (ckL2 1 0 tL1) = true := by decide +kernel
theorem ckM_1 : allN 63 (ckM 1 tM1) = true := by decide +kernel
theorem ckLm_1 : allN 62 (fun K => Bool.rec false (Nat.ble (tat 0 K) (tat tL1 K)) (Nat.ble (tat tL1 K) (tat tL1 (Nat.succ K)))) = true := by decide +kernel
theorem ckL_1_1 : allN 63 (ckL 1 tL1 tL2) = true := by decide +kernel
theorem ckL2_1_1 : allN 63 (ckL2 1 tL1 tL2) = true := by decide +kernel
theorem ckL_2_0 : allN 63 (ckL 2 0 tL2) = true := by decide +kernel
theorem ckL2_2_0 : allN 63 (ckL2 2 0 tL2) = true := by decide +kernel
theorem ckM_2 : allN 63 (ckM 2 tM2) = true := by decide +kernel
theorem ckLm_2 : allN 62 (fun K => Bool.rec false (Nat.ble (tat tL1 K) (tat tL2 K)) (Nat.ble (tat tL2 K) (tat tL2 (Nat.succ K)))) = true := by decide +kernel
theorem ckL_1_2 : allN 63 (ckL 1 tL2 tL3) = true := by decide +kernel
theorem ckL2_1_2 : allN 63 (ckL2 1 tL2 tL3) = true := by decide +kernel
theorem ckL_2_1 : allN 63 (ckL 2 tL1 tL3) = true := by decide +kernel
theorem ckL2_2_1 : allN 63 (ckL2 2 tL1 tL3) = true := by decide +kernel
theorem ckL_3_0 : allN 63 (ckL 3 0 tL3) = true := by decide +kernel
theorem ckL2_3_0 : allN 63 (ckL2 3 0 tL3) = true := by decide +kernel
theorem ckM_3 : allN 63 (ckM 3 tM3) = true := by decide +kernel
theorem ckLm_3 : allN 62 (fun K => Bool.rec false (Nat.ble (tat tL2 K) (tat tL3 K)) (Nat.ble (tat tL3 K) (tat tL3 (Nat.succ K)))) = true := by decide +kernel
theorem ckL_1_3 : allN 63 (ckL 1 tL3 tL4) = true := by decide +kernel
theorem ckL2_1_3 : allN 63 (ckL2 1 tL3 tL4) = true := by decide +kernel
theorem ckL_2_2 : allN 63 (ckL 2 tL2 tL4) = true := by decide +kernel
theorem ckL2_2_2 : allN 63 (ckL2 2 tL2 tL4) = true := by decide +kernel
theorem ckL_3_1 : allN 63 (ckL 3 tL1 tL4) = true := by decide +kernel
theorem ckL2_3_1 : allN 63 (ckL2 3 tL1 tL4) = true := by decide +kernel
theorem ckL_4_0 : allN 63 (ckL 4 0 tL4) = true := by decide +kernel
theorem ckL2_4_0 : allN 63 (ckL2 4 0 tL4) = true := by decide +kernel
theorem ckM_4 : allN 63 (ckM 4 tM4) = true := by decide +kernel
theorem ckLm_4 : allN 62 (fun K => Bool.rec false (Nat.ble (tat tL3 K) (tat tL4 K)) (Nat.ble (tat tL4 K) (tat tL4 (Nat.succ K)))) = true := by decide +kernel
theorem ckU : allN 5 (fun c1 => allN 8 (fun b => allN 32 (fun r => Bool.rec false (Nat.blt (tu (Nat.add (Nat.mul 32 (Nat.add (Nat.mul 8 c1) b)) r)) 32) (Nat.ble (Nat.min (Nat.mul c1 (tat tG r)) (Nat.mul 100 b)) (tat tG (tu (Nat.add (Nat.mul 32 (Nat.add (Nat.mul 8 c1) b)) r))))))) = true := by decide +kernel
theorem ckG0 : allN 32 (fun r => Nat.ble 1 (tat tG r)) = true := by decide +kernel
