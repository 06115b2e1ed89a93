/-! THE ROOM: the tables of searches: steps at a part with 2 components (tools/room/t4/mkck.py) -/
set_option maxRecDepth 100000
theorem ckSt2_1_0 : ckSt 2 1 tPC2 0 0 0 0 tPF1 = true := by decide +kernel
theorem ckSt2_1_1 : ckSt 2 1 tPC2 0 0 0 tPF1 tPF2 = true := by decide +kernel
theorem ckSt2_1_2 : ckSt 2 1 tPC2 0 0 0 tPF2 tPF3 = true := by decide +kernel
theorem ckSt2_1_3 : ckSt 2 1 tPC2 0 0 0 tPF3 tPF4 = true := by decide +kernel
theorem ckSt2_2_0 : ckSt 2 2 tPC2 tPX22 0 tPX22 0 tPF2 = true := by decide +kernel
theorem ckSt2_2_1 : ckSt 2 2 tPC2 tPX22 0 tPX22 tPF1 tPF3 = true := by decide +kernel
theorem ckSt2_2_2 : ckSt 2 2 tPC2 tPX22 0 tPX22 tPF2 tPF4 = true := by decide +kernel
theorem ckSt2_3_0 : ckSt 2 3 tPC2 tPX32 tPX22 tPX22 0 tPF3 = true := by decide +kernel
theorem ckSt2_3_1 : ckSt 2 3 tPC2 tPX32 tPX22 tPX22 tPF1 tPF4 = true := by decide +kernel
theorem ckSt2_4_0 : ckSt 2 4 tPC2 tPX42 tPX32 tPX22 0 tPF4 = true := by decide +kernel
