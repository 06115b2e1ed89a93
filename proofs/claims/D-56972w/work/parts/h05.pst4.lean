/-! THE ROOM: the tables of searches: steps at a part with 4 components (tools/room/t4/mkck.py) -/
set_option maxRecDepth 100000
theorem ckSt4_1_0 : ckSt 4 1 tPC4 0 0 0 0 tPF1 = true := by decide +kernel
theorem ckSt4_1_1 : ckSt 4 1 tPC4 0 0 0 tPF1 tPF2 = true := by decide +kernel
theorem ckSt4_1_2 : ckSt 4 1 tPC4 0 0 0 tPF2 tPF3 = true := by decide +kernel
theorem ckSt4_1_3 : ckSt 4 1 tPC4 0 0 0 tPF3 tPF4 = true := by decide +kernel
theorem ckSt4_2_0 : ckSt 4 2 tPC4 tPX24 0 tPX24 0 tPF2 = true := by decide +kernel
theorem ckSt4_2_1 : ckSt 4 2 tPC4 tPX24 0 tPX24 tPF1 tPF3 = true := by decide +kernel
theorem ckSt4_2_2 : ckSt 4 2 tPC4 tPX24 0 tPX24 tPF2 tPF4 = true := by decide +kernel
theorem ckSt4_3_0 : ckSt 4 3 tPC4 tPX34 tPX24 tPX24 0 tPF3 = true := by decide +kernel
theorem ckSt4_3_1 : ckSt 4 3 tPC4 tPX34 tPX24 tPX24 tPF1 tPF4 = true := by decide +kernel
theorem ckSt4_4_0 : ckSt 4 4 tPC4 tPX44 tPX34 tPX24 0 tPF4 = true := by decide +kernel
