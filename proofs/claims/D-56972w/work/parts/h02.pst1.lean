/-! THE ROOM: the tables of searches: steps at a part with 1 components (tools/room/t4/mkck.py) -/
set_option maxRecDepth 100000
theorem ckSt1_1_0 : ckSt 1 1 tPC1 0 0 0 0 tPF1 = true := by decide +kernel
theorem ckSt1_1_1 : ckSt 1 1 tPC1 0 0 0 tPF1 tPF2 = true := by decide +kernel
theorem ckSt1_1_2 : ckSt 1 1 tPC1 0 0 0 tPF2 tPF3 = true := by decide +kernel
theorem ckSt1_1_3 : ckSt 1 1 tPC1 0 0 0 tPF3 tPF4 = true := by decide +kernel
theorem ckSt1_2_0 : ckSt 1 2 tPC1 tPX21 0 tPX21 0 tPF2 = true := by decide +kernel
theorem ckSt1_2_1 : ckSt 1 2 tPC1 tPX21 0 tPX21 tPF1 tPF3 = true := by decide +kernel
theorem ckSt1_2_2 : ckSt 1 2 tPC1 tPX21 0 tPX21 tPF2 tPF4 = true := by decide +kernel
theorem ckSt1_3_0 : ckSt 1 3 tPC1 tPX31 tPX21 tPX21 0 tPF3 = true := by decide +kernel
theorem ckSt1_3_1 : ckSt 1 3 tPC1 tPX31 tPX21 tPX21 tPF1 tPF4 = true := by decide +kernel
theorem ckSt1_4_0 : ckSt 1 4 tPC1 tPX41 tPX31 tPX21 0 tPF4 = true := by decide +kernel
