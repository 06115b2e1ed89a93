/-! THE ROOM: the tables of searches: steps at a part with 3 components (tools/room/t4/mkck.py) -/
set_option maxRecDepth 100000
theorem ckSt3_1_0 : ckSt 3 1 tPC3 0 0 0 0 tPF1 = true := by decide +kernel
theorem ckSt3_1_1 : ckSt 3 1 tPC3 0 0 0 tPF1 tPF2 = true := by decide +kernel
theorem ckSt3_1_2 : ckSt 3 1 tPC3 0 0 0 tPF2 tPF3 = true := by decide +kernel
theorem ckSt3_1_3 : ckSt 3 1 tPC3 0 0 0 tPF3 tPF4 = true := by decide +kernel
theorem ckSt3_2_0 : ckSt 3 2 tPC3 tPX23 0 tPX23 0 tPF2 = true := by decide +kernel
theorem ckSt3_2_1 : ckSt 3 2 tPC3 tPX23 0 tPX23 tPF1 tPF3 = true := by decide +kernel
theorem ckSt3_2_2 : ckSt 3 2 tPC3 tPX23 0 tPX23 tPF2 tPF4 = true := by decide +kernel
theorem ckSt3_3_0 : ckSt 3 3 tPC3 tPX33 tPX23 tPX23 0 tPF3 = true := by decide +kernel
theorem ckSt3_3_1 : ckSt 3 3 tPC3 tPX33 tPX23 tPX23 tPF1 tPF4 = true := by decide +kernel
theorem ckSt3_4_0 : ckSt 3 4 tPC3 tPX43 tPX33 tPX23 0 tPF4 = true := by decide +kernel
