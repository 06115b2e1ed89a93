/-! THE ROOM: the tables of searches: steps at a part without components (tools/room/t4/mkck.py) -/
set_option maxRecDepth 100000
theorem ckBt_1_0 : ckBt 1 0 tPF1 = true := by decide +kernel
theorem ckBt_1_1 : ckBt 1 tPF1 tPF2 = true := by decide +kernel
theorem ckBt_1_2 : ckBt 1 tPF2 tPF3 = true := by decide +kernel
theorem ckBt_1_3 : ckBt 1 tPF3 tPF4 = true := by decide +kernel
theorem ckBt_2_0 : ckBt 2 0 tPF2 = true := by decide +kernel
theorem ckBt_2_1 : ckBt 2 tPF1 tPF3 = true := by decide +kernel
theorem ckBt_2_2 : ckBt 2 tPF2 tPF4 = true := by decide +kernel
theorem ckBt_3_0 : ckBt 3 0 tPF3 = true := by decide +kernel
theorem ckBt_3_1 : ckBt 3 tPF1 tPF4 = true := by decide +kernel
theorem ckBt_4_0 : ckBt 4 0 tPF4 = true := by decide +kernel
