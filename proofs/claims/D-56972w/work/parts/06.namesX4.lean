/-! FoundrymarkModel -/
set_option maxRecDepth 100000
def RX4 : String := "FoundrymarkModel"
def TX4 : u_T := fun k => match k with
  | 0 => ("FoundrymarkModel", "thrown", "I", false)
  | 1 => ("FoundrymarkModel", "machines", "Ljava/util/ArrayList;", true)
  | 2 => ("FoundrymarkModel", "parts", "Ljava/util/ArrayList;", true)
  | 3 => ("FoundrymarkModel", "lots", "Ljava/util/ArrayList;", true)
  | 4 => ("FoundrymarkModel", "orders", "Ljava/util/ArrayList;", true)
  | 5 => ("FoundrymarkModel", "bought", "I", false)
  | 6 => ("FoundrymarkModel", "rules", "[C", true)
  | 7 => ("FoundrymarkModel", "refused", "Ljava/util/ArrayList;", true)
  | _ => ("FoundrymarkModel", "time", "I", false)
def tyX4 : Nat → FieldType := fun k => match k with
  | 0 => .int
  | 1 => .object "java/util/ArrayList"
  | 2 => .object "java/util/ArrayList"
  | 3 => .object "java/util/ArrayList"
  | 4 => .object "java/util/ArrayList"
  | 5 => .int
  | 6 => .array .char
  | 7 => .object "java/util/ArrayList"
  | _ => .int
abbrev wsX40 : List Cond := u_ws RX4 TX4 9
theorem nmX4 : ∀ a, a < 9 → ∀ b, b < 9 → a ≠ b → (TX4 a).2.1 ≠ (TX4 b).2.1 := by decide +kernel
theorem tyX4_ok : ∀ k, k < 9 → parseFieldDescriptor (TX4 k).2.2.1 = some (tyX4 k) := by decide +kernel
abbrev cX4_init : ByteArray := prog_19_method_1_code
def yX4_init : MethodName := ⟨RX4, "<init>", "()V"⟩
def dkwX4_init_4 : List UInt8 := [42, 180, 0, 29, 187, 0, 7, 89, 183, 0, 9, 182, 0, 32, 61, 132, 1, 1, 167, 255, 233, 177]
abbrev dktX4_init_4 : List UInt8 := dkwX4_init_4 ++ []
def dkwX4_init_3 : List UInt8 := [16, 110, 85, 181, 0, 25, 42, 187, 0, 7, 89, 183, 0, 9, 181, 0, 29, 3, 60, 27, 7, 162, 0, 24]
abbrev dktX4_init_3 : List UInt8 := dkwX4_init_3 ++ dktX4_init_4
def dkwX4_init_2 : List UInt8 := [181, 0, 22, 42, 7, 188, 5, 89, 3, 16, 110, 85, 89, 4, 16, 110, 85, 89, 5, 16, 110, 85, 89, 6]
abbrev dktX4_init_2 : List UInt8 := dkwX4_init_2 ++ dktX4_init_3
def dkwX4_init_1 : List UInt8 := [181, 0, 16, 42, 187, 0, 7, 89, 183, 0, 9, 181, 0, 19, 42, 187, 0, 7, 89, 183, 0, 9]
abbrev dktX4_init_1 : List UInt8 := dkwX4_init_1 ++ dktX4_init_2
def dkwX4_init_0 : List UInt8 := [42, 183, 0, 1, 42, 187, 0, 7, 89, 183, 0, 9, 181, 0, 10, 42, 187, 0, 7, 89, 183, 0, 9]
abbrev dktX4_init_0 : List UInt8 := dkwX4_init_0 ++ dktX4_init_1
theorem dksX4_init_0 : cX4_init.data.toList.drop 0 = dktX4_init_0 := by decide +kernel
theorem dksX4_init_1 : cX4_init.data.toList.drop 23 = dktX4_init_1 := dk_seg dksX4_init_0 23 rfl rfl
theorem dksX4_init_2 : cX4_init.data.toList.drop 45 = dktX4_init_2 := dk_seg dksX4_init_1 22 rfl rfl
theorem dksX4_init_3 : cX4_init.data.toList.drop 69 = dktX4_init_3 := dk_seg dksX4_init_2 24 rfl rfl
theorem dksX4_init_4 : cX4_init.data.toList.drop 93 = dktX4_init_4 := dk_seg dksX4_init_3 24 rfl rfl
theorem dX4_init_0 : decode cX4_init 0 = .ok (.aload_n 0, 1) := dk_42 (dk_at dksX4_init_0 0 rfl rfl)
theorem dX4_init_1 : decode cX4_init 1 = .ok (.invokespecial 1, 3) := dk_183 0 1 (dk_at dksX4_init_0 1 rfl rfl)
theorem dX4_init_4 : decode cX4_init 4 = .ok (.aload_n 0, 1) := dk_42 (dk_at dksX4_init_0 4 rfl rfl)
theorem dX4_init_5 : decode cX4_init 5 = .ok (.new 7, 3) := dk_187 0 7 (dk_at dksX4_init_0 5 rfl rfl)
theorem dX4_init_8 : decode cX4_init 8 = .ok (.dup, 1) := dk_89 (dk_at dksX4_init_0 8 rfl rfl)
theorem dX4_init_9 : decode cX4_init 9 = .ok (.invokespecial 9, 3) := dk_183 0 9 (dk_at dksX4_init_0 9 rfl rfl)
theorem dX4_init_12 : decode cX4_init 12 = .ok (.putfield 10, 3) := dk_181 0 10 (dk_at dksX4_init_0 12 rfl rfl)
theorem dX4_init_15 : decode cX4_init 15 = .ok (.aload_n 0, 1) := dk_42 (dk_at dksX4_init_0 15 rfl rfl)
theorem dX4_init_16 : decode cX4_init 16 = .ok (.new 7, 3) := dk_187 0 7 (dk_at dksX4_init_0 16 rfl rfl)
theorem dX4_init_19 : decode cX4_init 19 = .ok (.dup, 1) := dk_89 (dk_at dksX4_init_0 19 rfl rfl)
theorem dX4_init_20 : decode cX4_init 20 = .ok (.invokespecial 9, 3) := dk_183 0 9 (dk_at dksX4_init_0 20 rfl rfl)
theorem dX4_init_23 : decode cX4_init 23 = .ok (.putfield 16, 3) := dk_181 0 16 (dk_at dksX4_init_1 0 rfl rfl)
theorem dX4_init_26 : decode cX4_init 26 = .ok (.aload_n 0, 1) := dk_42 (dk_at dksX4_init_1 3 rfl rfl)
theorem dX4_init_27 : decode cX4_init 27 = .ok (.new 7, 3) := dk_187 0 7 (dk_at dksX4_init_1 4 rfl rfl)
theorem dX4_init_30 : decode cX4_init 30 = .ok (.dup, 1) := dk_89 (dk_at dksX4_init_1 7 rfl rfl)
theorem dX4_init_31 : decode cX4_init 31 = .ok (.invokespecial 9, 3) := dk_183 0 9 (dk_at dksX4_init_1 8 rfl rfl)
theorem dX4_init_34 : decode cX4_init 34 = .ok (.putfield 19, 3) := dk_181 0 19 (dk_at dksX4_init_1 11 rfl rfl)
theorem dX4_init_37 : decode cX4_init 37 = .ok (.aload_n 0, 1) := dk_42 (dk_at dksX4_init_1 14 rfl rfl)
theorem dX4_init_38 : decode cX4_init 38 = .ok (.new 7, 3) := dk_187 0 7 (dk_at dksX4_init_1 15 rfl rfl)
theorem dX4_init_41 : decode cX4_init 41 = .ok (.dup, 1) := dk_89 (dk_at dksX4_init_1 18 rfl rfl)
theorem dX4_init_42 : decode cX4_init 42 = .ok (.invokespecial 9, 3) := dk_183 0 9 (dk_at dksX4_init_1 19 rfl rfl)
theorem dX4_init_45 : decode cX4_init 45 = .ok (.putfield 22, 3) := dk_181 0 22 (dk_at dksX4_init_2 0 rfl rfl)
theorem dX4_init_48 : decode cX4_init 48 = .ok (.aload_n 0, 1) := dk_42 (dk_at dksX4_init_2 3 rfl rfl)
theorem dX4_init_49 : decode cX4_init 49 = .ok (.iconst 4, 1) := dk_7 (dk_at dksX4_init_2 4 rfl rfl)
theorem dX4_init_50 : decode cX4_init 50 = .ok (.newarray .char, 2) := dk_188_5 (dk_at dksX4_init_2 5 rfl rfl)
theorem dX4_init_52 : decode cX4_init 52 = .ok (.dup, 1) := dk_89 (dk_at dksX4_init_2 7 rfl rfl)
theorem dX4_init_53 : decode cX4_init 53 = .ok (.iconst 0, 1) := dk_3 (dk_at dksX4_init_2 8 rfl rfl)
theorem dX4_init_54 : decode cX4_init 54 = .ok (.bipush 110, 2) := dk_16 110 (dk_at dksX4_init_2 9 rfl rfl)
theorem dX4_init_56 : decode cX4_init 56 = .ok (.castore, 1) := dk_85 (dk_at dksX4_init_2 11 rfl rfl)
theorem dX4_init_57 : decode cX4_init 57 = .ok (.dup, 1) := dk_89 (dk_at dksX4_init_2 12 rfl rfl)
theorem dX4_init_58 : decode cX4_init 58 = .ok (.iconst 1, 1) := dk_4 (dk_at dksX4_init_2 13 rfl rfl)
theorem dX4_init_59 : decode cX4_init 59 = .ok (.bipush 110, 2) := dk_16 110 (dk_at dksX4_init_2 14 rfl rfl)
theorem dX4_init_61 : decode cX4_init 61 = .ok (.castore, 1) := dk_85 (dk_at dksX4_init_2 16 rfl rfl)
theorem dX4_init_62 : decode cX4_init 62 = .ok (.dup, 1) := dk_89 (dk_at dksX4_init_2 17 rfl rfl)
theorem dX4_init_63 : decode cX4_init 63 = .ok (.iconst 2, 1) := dk_5 (dk_at dksX4_init_2 18 rfl rfl)
theorem dX4_init_64 : decode cX4_init 64 = .ok (.bipush 110, 2) := dk_16 110 (dk_at dksX4_init_2 19 rfl rfl)
theorem dX4_init_66 : decode cX4_init 66 = .ok (.castore, 1) := dk_85 (dk_at dksX4_init_2 21 rfl rfl)
theorem dX4_init_67 : decode cX4_init 67 = .ok (.dup, 1) := dk_89 (dk_at dksX4_init_2 22 rfl rfl)
theorem dX4_init_68 : decode cX4_init 68 = .ok (.iconst 3, 1) := dk_6 (dk_at dksX4_init_2 23 rfl rfl)
theorem dX4_init_69 : decode cX4_init 69 = .ok (.bipush 110, 2) := dk_16 110 (dk_at dksX4_init_3 0 rfl rfl)
theorem dX4_init_71 : decode cX4_init 71 = .ok (.castore, 1) := dk_85 (dk_at dksX4_init_3 2 rfl rfl)
theorem dX4_init_72 : decode cX4_init 72 = .ok (.putfield 25, 3) := dk_181 0 25 (dk_at dksX4_init_3 3 rfl rfl)
theorem dX4_init_75 : decode cX4_init 75 = .ok (.aload_n 0, 1) := dk_42 (dk_at dksX4_init_3 6 rfl rfl)
theorem dX4_init_76 : decode cX4_init 76 = .ok (.new 7, 3) := dk_187 0 7 (dk_at dksX4_init_3 7 rfl rfl)
theorem dX4_init_79 : decode cX4_init 79 = .ok (.dup, 1) := dk_89 (dk_at dksX4_init_3 10 rfl rfl)
theorem dX4_init_80 : decode cX4_init 80 = .ok (.invokespecial 9, 3) := dk_183 0 9 (dk_at dksX4_init_3 11 rfl rfl)
theorem dX4_init_83 : decode cX4_init 83 = .ok (.putfield 29, 3) := dk_181 0 29 (dk_at dksX4_init_3 14 rfl rfl)
theorem dX4_init_86 : decode cX4_init 86 = .ok (.iconst 0, 1) := dk_3 (dk_at dksX4_init_3 17 rfl rfl)
theorem dX4_init_87 : decode cX4_init 87 = .ok (.istore_n 1, 1) := dk_60 (dk_at dksX4_init_3 18 rfl rfl)
theorem dX4_init_88 : decode cX4_init 88 = .ok (.iload_n 1, 1) := dk_27 (dk_at dksX4_init_3 19 rfl rfl)
theorem dX4_init_89 : decode cX4_init 89 = .ok (.iconst 4, 1) := dk_7 (dk_at dksX4_init_3 20 rfl rfl)
theorem dX4_init_90 : decode cX4_init 90 = .ok (.if_icmp .ge 24, 3) := dk_162 0 24 (dk_at dksX4_init_3 21 rfl rfl)
theorem dX4_init_93 : decode cX4_init 93 = .ok (.aload_n 0, 1) := dk_42 (dk_at dksX4_init_4 0 rfl rfl)
theorem dX4_init_94 : decode cX4_init 94 = .ok (.getfield 29, 3) := dk_180 0 29 (dk_at dksX4_init_4 1 rfl rfl)
theorem dX4_init_97 : decode cX4_init 97 = .ok (.new 7, 3) := dk_187 0 7 (dk_at dksX4_init_4 4 rfl rfl)
theorem dX4_init_100 : decode cX4_init 100 = .ok (.dup, 1) := dk_89 (dk_at dksX4_init_4 7 rfl rfl)
theorem dX4_init_101 : decode cX4_init 101 = .ok (.invokespecial 9, 3) := dk_183 0 9 (dk_at dksX4_init_4 8 rfl rfl)
theorem dX4_init_104 : decode cX4_init 104 = .ok (.invokevirtual 32, 3) := dk_182 0 32 (dk_at dksX4_init_4 11 rfl rfl)
theorem dX4_init_107 : decode cX4_init 107 = .ok (.istore_n 2, 1) := dk_61 (dk_at dksX4_init_4 14 rfl rfl)
theorem dX4_init_108 : decode cX4_init 108 = .ok (.iinc 1 1, 3) := dk_132 1 1 (dk_at dksX4_init_4 15 rfl rfl)
theorem dX4_init_111 : decode cX4_init 111 = .ok (.goto (-23), 3) := dk_167 255 233 (dk_at dksX4_init_4 18 rfl rfl)
theorem dX4_init_114 : decode cX4_init 114 = .ok (.return_, 1) := dk_177 (dk_at dksX4_init_4 21 rfl rfl)
abbrev cX4_thrown : ByteArray := prog_19_method_2_code
def yX4_thrown : MethodName := ⟨RX4, "thrown", "()I"⟩
theorem dX4_thrown_0 : decode cX4_thrown 0 = .ok (.aload_n 0, 1) := by decide +kernel
theorem dX4_thrown_1 : decode cX4_thrown 1 = .ok (.getfield 36, 3) := by decide +kernel
theorem dX4_thrown_4 : decode cX4_thrown 4 = .ok (.ireturn, 1) := by decide +kernel
abbrev cX4_addMachine : ByteArray := prog_19_method_5_code
def yX4_addMachine : MethodName := ⟨RX4, "addMachine", "(IIII)I"⟩
def dkwX4_addMachine_4 : List UInt8 := [21, 4, 183, 0, 54, 182, 0, 32, 54, 6, 42, 180, 0, 10, 182, 0, 44, 4, 100, 172]
abbrev dktX4_addMachine_4 : List UInt8 := dkwX4_addMachine_4 ++ []
def dkwX4_addMachine_3 : List UInt8 := [5, 167, 0, 4, 3, 182, 0, 48, 153, 0, 5, 3, 172, 42, 180, 0, 10, 187, 0, 52, 89, 27, 28, 29]
abbrev dktX4_addMachine_3 : List UInt8 := dkwX4_addMachine_3 ++ dktX4_addMachine_4
def dkwX4_addMachine_2 : List UInt8 := [3, 54, 5, 42, 21, 5, 154, 0, 7, 4, 167, 0, 19, 42, 180, 0, 10, 182, 0, 44, 8, 160, 0, 7]
abbrev dktX4_addMachine_2 : List UInt8 := dkwX4_addMachine_2 ++ dktX4_addMachine_3
def dkwX4_addMachine_1 : List UInt8 := [17, 1, 244, 184, 0, 40, 153, 0, 18, 21, 4, 4, 16, 99, 184, 0, 40, 153, 0, 7, 4, 167, 0, 4]
abbrev dktX4_addMachine_1 : List UInt8 := dkwX4_addMachine_1 ++ dktX4_addMachine_2
def dkwX4_addMachine_0 : List UInt8 := [27, 3, 16, 20, 184, 0, 40, 153, 0, 39, 28, 3, 16, 50, 184, 0, 40, 153, 0, 29, 29, 8]
abbrev dktX4_addMachine_0 : List UInt8 := dkwX4_addMachine_0 ++ dktX4_addMachine_1
theorem dksX4_addMachine_0 : cX4_addMachine.data.toList.drop 0 = dktX4_addMachine_0 := by decide +kernel
theorem dksX4_addMachine_1 : cX4_addMachine.data.toList.drop 22 = dktX4_addMachine_1 := dk_seg dksX4_addMachine_0 22 rfl rfl
theorem dksX4_addMachine_2 : cX4_addMachine.data.toList.drop 46 = dktX4_addMachine_2 := dk_seg dksX4_addMachine_1 24 rfl rfl
theorem dksX4_addMachine_3 : cX4_addMachine.data.toList.drop 70 = dktX4_addMachine_3 := dk_seg dksX4_addMachine_2 24 rfl rfl
theorem dksX4_addMachine_4 : cX4_addMachine.data.toList.drop 94 = dktX4_addMachine_4 := dk_seg dksX4_addMachine_3 24 rfl rfl
theorem dX4_addMachine_0 : decode cX4_addMachine 0 = .ok (.iload_n 1, 1) := dk_27 (dk_at dksX4_addMachine_0 0 rfl rfl)
theorem dX4_addMachine_1 : decode cX4_addMachine 1 = .ok (.iconst 0, 1) := dk_3 (dk_at dksX4_addMachine_0 1 rfl rfl)
theorem dX4_addMachine_2 : decode cX4_addMachine 2 = .ok (.bipush 20, 2) := dk_16 20 (dk_at dksX4_addMachine_0 2 rfl rfl)
theorem dX4_addMachine_4 : decode cX4_addMachine 4 = .ok (.invokestatic 40, 3) := dk_184 0 40 (dk_at dksX4_addMachine_0 4 rfl rfl)
theorem dX4_addMachine_7 : decode cX4_addMachine 7 = .ok (.ifCond .eq 39, 3) := dk_153 0 39 (dk_at dksX4_addMachine_0 7 rfl rfl)
theorem dX4_addMachine_10 : decode cX4_addMachine 10 = .ok (.iload_n 2, 1) := dk_28 (dk_at dksX4_addMachine_0 10 rfl rfl)
theorem dX4_addMachine_11 : decode cX4_addMachine 11 = .ok (.iconst 0, 1) := dk_3 (dk_at dksX4_addMachine_0 11 rfl rfl)
theorem dX4_addMachine_12 : decode cX4_addMachine 12 = .ok (.bipush 50, 2) := dk_16 50 (dk_at dksX4_addMachine_0 12 rfl rfl)
theorem dX4_addMachine_14 : decode cX4_addMachine 14 = .ok (.invokestatic 40, 3) := dk_184 0 40 (dk_at dksX4_addMachine_0 14 rfl rfl)
theorem dX4_addMachine_17 : decode cX4_addMachine 17 = .ok (.ifCond .eq 29, 3) := dk_153 0 29 (dk_at dksX4_addMachine_0 17 rfl rfl)
theorem dX4_addMachine_20 : decode cX4_addMachine 20 = .ok (.iload_n 3, 1) := dk_29 (dk_at dksX4_addMachine_0 20 rfl rfl)
theorem dX4_addMachine_21 : decode cX4_addMachine 21 = .ok (.iconst 5, 1) := dk_8 (dk_at dksX4_addMachine_0 21 rfl rfl)
theorem dX4_addMachine_22 : decode cX4_addMachine 22 = .ok (.sipush 500, 3) := dk_17 1 244 (dk_at dksX4_addMachine_1 0 rfl rfl)
theorem dX4_addMachine_25 : decode cX4_addMachine 25 = .ok (.invokestatic 40, 3) := dk_184 0 40 (dk_at dksX4_addMachine_1 3 rfl rfl)
theorem dX4_addMachine_28 : decode cX4_addMachine 28 = .ok (.ifCond .eq 18, 3) := dk_153 0 18 (dk_at dksX4_addMachine_1 6 rfl rfl)
theorem dX4_addMachine_31 : decode cX4_addMachine 31 = .ok (.iload 4, 2) := dk_21 4 (dk_at dksX4_addMachine_1 9 rfl rfl)
theorem dX4_addMachine_33 : decode cX4_addMachine 33 = .ok (.iconst 1, 1) := dk_4 (dk_at dksX4_addMachine_1 11 rfl rfl)
theorem dX4_addMachine_34 : decode cX4_addMachine 34 = .ok (.bipush 99, 2) := dk_16 99 (dk_at dksX4_addMachine_1 12 rfl rfl)
theorem dX4_addMachine_36 : decode cX4_addMachine 36 = .ok (.invokestatic 40, 3) := dk_184 0 40 (dk_at dksX4_addMachine_1 14 rfl rfl)
theorem dX4_addMachine_39 : decode cX4_addMachine 39 = .ok (.ifCond .eq 7, 3) := dk_153 0 7 (dk_at dksX4_addMachine_1 17 rfl rfl)
theorem dX4_addMachine_42 : decode cX4_addMachine 42 = .ok (.iconst 1, 1) := dk_4 (dk_at dksX4_addMachine_1 20 rfl rfl)
theorem dX4_addMachine_43 : decode cX4_addMachine 43 = .ok (.goto 4, 3) := dk_167 0 4 (dk_at dksX4_addMachine_1 21 rfl rfl)
theorem dX4_addMachine_46 : decode cX4_addMachine 46 = .ok (.iconst 0, 1) := dk_3 (dk_at dksX4_addMachine_2 0 rfl rfl)
theorem dX4_addMachine_47 : decode cX4_addMachine 47 = .ok (.istore 5, 2) := dk_54 5 (dk_at dksX4_addMachine_2 1 rfl rfl)
theorem dX4_addMachine_49 : decode cX4_addMachine 49 = .ok (.aload_n 0, 1) := dk_42 (dk_at dksX4_addMachine_2 3 rfl rfl)
theorem dX4_addMachine_50 : decode cX4_addMachine 50 = .ok (.iload 5, 2) := dk_21 5 (dk_at dksX4_addMachine_2 4 rfl rfl)
theorem dX4_addMachine_52 : decode cX4_addMachine 52 = .ok (.ifCond .ne 7, 3) := dk_154 0 7 (dk_at dksX4_addMachine_2 6 rfl rfl)
theorem dX4_addMachine_55 : decode cX4_addMachine 55 = .ok (.iconst 1, 1) := dk_4 (dk_at dksX4_addMachine_2 9 rfl rfl)
theorem dX4_addMachine_56 : decode cX4_addMachine 56 = .ok (.goto 19, 3) := dk_167 0 19 (dk_at dksX4_addMachine_2 10 rfl rfl)
theorem dX4_addMachine_59 : decode cX4_addMachine 59 = .ok (.aload_n 0, 1) := dk_42 (dk_at dksX4_addMachine_2 13 rfl rfl)
theorem dX4_addMachine_60 : decode cX4_addMachine 60 = .ok (.getfield 10, 3) := dk_180 0 10 (dk_at dksX4_addMachine_2 14 rfl rfl)
theorem dX4_addMachine_63 : decode cX4_addMachine 63 = .ok (.invokevirtual 44, 3) := dk_182 0 44 (dk_at dksX4_addMachine_2 17 rfl rfl)
theorem dX4_addMachine_66 : decode cX4_addMachine 66 = .ok (.iconst 5, 1) := dk_8 (dk_at dksX4_addMachine_2 20 rfl rfl)
theorem dX4_addMachine_67 : decode cX4_addMachine 67 = .ok (.if_icmp .ne 7, 3) := dk_160 0 7 (dk_at dksX4_addMachine_2 21 rfl rfl)
theorem dX4_addMachine_70 : decode cX4_addMachine 70 = .ok (.iconst 2, 1) := dk_5 (dk_at dksX4_addMachine_3 0 rfl rfl)
theorem dX4_addMachine_71 : decode cX4_addMachine 71 = .ok (.goto 4, 3) := dk_167 0 4 (dk_at dksX4_addMachine_3 1 rfl rfl)
theorem dX4_addMachine_74 : decode cX4_addMachine 74 = .ok (.iconst 0, 1) := dk_3 (dk_at dksX4_addMachine_3 4 rfl rfl)
theorem dX4_addMachine_75 : decode cX4_addMachine 75 = .ok (.invokevirtual 48, 3) := dk_182 0 48 (dk_at dksX4_addMachine_3 5 rfl rfl)
theorem dX4_addMachine_78 : decode cX4_addMachine 78 = .ok (.ifCond .eq 5, 3) := dk_153 0 5 (dk_at dksX4_addMachine_3 8 rfl rfl)
theorem dX4_addMachine_81 : decode cX4_addMachine 81 = .ok (.iconst 0, 1) := dk_3 (dk_at dksX4_addMachine_3 11 rfl rfl)
theorem dX4_addMachine_82 : decode cX4_addMachine 82 = .ok (.ireturn, 1) := dk_172 (dk_at dksX4_addMachine_3 12 rfl rfl)
theorem dX4_addMachine_83 : decode cX4_addMachine 83 = .ok (.aload_n 0, 1) := dk_42 (dk_at dksX4_addMachine_3 13 rfl rfl)
theorem dX4_addMachine_84 : decode cX4_addMachine 84 = .ok (.getfield 10, 3) := dk_180 0 10 (dk_at dksX4_addMachine_3 14 rfl rfl)
theorem dX4_addMachine_87 : decode cX4_addMachine 87 = .ok (.new 52, 3) := dk_187 0 52 (dk_at dksX4_addMachine_3 17 rfl rfl)
theorem dX4_addMachine_90 : decode cX4_addMachine 90 = .ok (.dup, 1) := dk_89 (dk_at dksX4_addMachine_3 20 rfl rfl)
theorem dX4_addMachine_91 : decode cX4_addMachine 91 = .ok (.iload_n 1, 1) := dk_27 (dk_at dksX4_addMachine_3 21 rfl rfl)
theorem dX4_addMachine_92 : decode cX4_addMachine 92 = .ok (.iload_n 2, 1) := dk_28 (dk_at dksX4_addMachine_3 22 rfl rfl)
theorem dX4_addMachine_93 : decode cX4_addMachine 93 = .ok (.iload_n 3, 1) := dk_29 (dk_at dksX4_addMachine_3 23 rfl rfl)
theorem dX4_addMachine_94 : decode cX4_addMachine 94 = .ok (.iload 4, 2) := dk_21 4 (dk_at dksX4_addMachine_4 0 rfl rfl)
theorem dX4_addMachine_96 : decode cX4_addMachine 96 = .ok (.invokespecial 54, 3) := dk_183 0 54 (dk_at dksX4_addMachine_4 2 rfl rfl)
theorem dX4_addMachine_99 : decode cX4_addMachine 99 = .ok (.invokevirtual 32, 3) := dk_182 0 32 (dk_at dksX4_addMachine_4 5 rfl rfl)
theorem dX4_addMachine_102 : decode cX4_addMachine 102 = .ok (.istore 6, 2) := dk_54 6 (dk_at dksX4_addMachine_4 8 rfl rfl)
theorem dX4_addMachine_104 : decode cX4_addMachine 104 = .ok (.aload_n 0, 1) := dk_42 (dk_at dksX4_addMachine_4 10 rfl rfl)
theorem dX4_addMachine_105 : decode cX4_addMachine 105 = .ok (.getfield 10, 3) := dk_180 0 10 (dk_at dksX4_addMachine_4 11 rfl rfl)
theorem dX4_addMachine_108 : decode cX4_addMachine 108 = .ok (.invokevirtual 44, 3) := dk_182 0 44 (dk_at dksX4_addMachine_4 14 rfl rfl)
theorem dX4_addMachine_111 : decode cX4_addMachine 111 = .ok (.iconst 1, 1) := dk_4 (dk_at dksX4_addMachine_4 17 rfl rfl)
theorem dX4_addMachine_112 : decode cX4_addMachine 112 = .ok (.isub, 1) := dk_100 (dk_at dksX4_addMachine_4 18 rfl rfl)
theorem dX4_addMachine_113 : decode cX4_addMachine 113 = .ok (.ireturn, 1) := dk_172 (dk_at dksX4_addMachine_4 19 rfl rfl)
abbrev cX4_in : ByteArray := prog_19_method_4_code
def yX4_in : MethodName := ⟨RX4, "in", "(III)Z"⟩
def dkwX4_in_0 : List UInt8 := [26, 27, 161, 0, 12, 26, 28, 163, 0, 7, 4, 167, 0, 4, 3, 172]
abbrev dktX4_in_0 : List UInt8 := dkwX4_in_0 ++ []
theorem dksX4_in_0 : cX4_in.data.toList.drop 0 = dktX4_in_0 := by decide +kernel
theorem dX4_in_0 : decode cX4_in 0 = .ok (.iload_n 0, 1) := dk_26 (dk_at dksX4_in_0 0 rfl rfl)
theorem dX4_in_1 : decode cX4_in 1 = .ok (.iload_n 1, 1) := dk_27 (dk_at dksX4_in_0 1 rfl rfl)
theorem dX4_in_2 : decode cX4_in 2 = .ok (.if_icmp .lt 12, 3) := dk_161 0 12 (dk_at dksX4_in_0 2 rfl rfl)
theorem dX4_in_5 : decode cX4_in 5 = .ok (.iload_n 0, 1) := dk_26 (dk_at dksX4_in_0 5 rfl rfl)
theorem dX4_in_6 : decode cX4_in 6 = .ok (.iload_n 2, 1) := dk_28 (dk_at dksX4_in_0 6 rfl rfl)
theorem dX4_in_7 : decode cX4_in 7 = .ok (.if_icmp .gt 7, 3) := dk_163 0 7 (dk_at dksX4_in_0 7 rfl rfl)
theorem dX4_in_10 : decode cX4_in 10 = .ok (.iconst 1, 1) := dk_4 (dk_at dksX4_in_0 10 rfl rfl)
theorem dX4_in_11 : decode cX4_in 11 = .ok (.goto 4, 3) := dk_167 0 4 (dk_at dksX4_in_0 11 rfl rfl)
theorem dX4_in_14 : decode cX4_in 14 = .ok (.iconst 0, 1) := dk_3 (dk_at dksX4_in_0 14 rfl rfl)
theorem dX4_in_15 : decode cX4_in 15 = .ok (.ireturn, 1) := dk_172 (dk_at dksX4_in_0 15 rfl rfl)
abbrev cX4_fails : ByteArray := prog_19_method_3_code
def yX4_fails : MethodName := ⟨RX4, "fails", "(I)Z"⟩
def dkwX4_fails_0 : List UInt8 := [42, 27, 181, 0, 36, 27, 158, 0, 7, 4, 167, 0, 4, 3, 172]
abbrev dktX4_fails_0 : List UInt8 := dkwX4_fails_0 ++ []
theorem dksX4_fails_0 : cX4_fails.data.toList.drop 0 = dktX4_fails_0 := by decide +kernel
theorem dX4_fails_0 : decode cX4_fails 0 = .ok (.aload_n 0, 1) := dk_42 (dk_at dksX4_fails_0 0 rfl rfl)
theorem dX4_fails_1 : decode cX4_fails 1 = .ok (.iload_n 1, 1) := dk_27 (dk_at dksX4_fails_0 1 rfl rfl)
theorem dX4_fails_2 : decode cX4_fails 2 = .ok (.putfield 36, 3) := dk_181 0 36 (dk_at dksX4_fails_0 2 rfl rfl)
theorem dX4_fails_5 : decode cX4_fails 5 = .ok (.iload_n 1, 1) := dk_27 (dk_at dksX4_fails_0 5 rfl rfl)
theorem dX4_fails_6 : decode cX4_fails 6 = .ok (.ifCond .le 7, 3) := dk_158 0 7 (dk_at dksX4_fails_0 6 rfl rfl)
theorem dX4_fails_9 : decode cX4_fails 9 = .ok (.iconst 1, 1) := dk_4 (dk_at dksX4_fails_0 9 rfl rfl)
theorem dX4_fails_10 : decode cX4_fails 10 = .ok (.goto 4, 3) := dk_167 0 4 (dk_at dksX4_fails_0 10 rfl rfl)
theorem dX4_fails_13 : decode cX4_fails 13 = .ok (.iconst 0, 1) := dk_3 (dk_at dksX4_fails_0 13 rfl rfl)
theorem dX4_fails_14 : decode cX4_fails 14 = .ok (.ireturn, 1) := dk_172 (dk_at dksX4_fails_0 14 rfl rfl)
abbrev cX4_addPart : ByteArray := prog_19_method_6_code
def yX4_addPart : MethodName := ⟨RX4, "addPart", "(ZI)I"⟩
def dkwX4_addPart_2 : List UInt8 := [27, 28, 183, 0, 59, 182, 0, 32, 62, 42, 180, 0, 16, 182, 0, 44, 4, 100, 172]
abbrev dktX4_addPart_2 : List UInt8 := dkwX4_addPart_2 ++ []
def dkwX4_addPart_1 : List UInt8 := [160, 0, 7, 5, 167, 0, 4, 3, 182, 0, 48, 153, 0, 5, 3, 172, 42, 180, 0, 16, 187, 0, 57, 89]
abbrev dktX4_addPart_1 : List UInt8 := dkwX4_addPart_1 ++ dktX4_addPart_2
def dkwX4_addPart_0 : List UInt8 := [42, 28, 3, 6, 184, 0, 40, 154, 0, 7, 4, 167, 0, 20, 42, 180, 0, 16, 182, 0, 44, 16, 12]
abbrev dktX4_addPart_0 : List UInt8 := dkwX4_addPart_0 ++ dktX4_addPart_1
theorem dksX4_addPart_0 : cX4_addPart.data.toList.drop 0 = dktX4_addPart_0 := by decide +kernel
theorem dksX4_addPart_1 : cX4_addPart.data.toList.drop 23 = dktX4_addPart_1 := dk_seg dksX4_addPart_0 23 rfl rfl
theorem dksX4_addPart_2 : cX4_addPart.data.toList.drop 47 = dktX4_addPart_2 := dk_seg dksX4_addPart_1 24 rfl rfl
theorem dX4_addPart_0 : decode cX4_addPart 0 = .ok (.aload_n 0, 1) := dk_42 (dk_at dksX4_addPart_0 0 rfl rfl)
theorem dX4_addPart_1 : decode cX4_addPart 1 = .ok (.iload_n 2, 1) := dk_28 (dk_at dksX4_addPart_0 1 rfl rfl)
theorem dX4_addPart_2 : decode cX4_addPart 2 = .ok (.iconst 0, 1) := dk_3 (dk_at dksX4_addPart_0 2 rfl rfl)
theorem dX4_addPart_3 : decode cX4_addPart 3 = .ok (.iconst 3, 1) := dk_6 (dk_at dksX4_addPart_0 3 rfl rfl)
theorem dX4_addPart_4 : decode cX4_addPart 4 = .ok (.invokestatic 40, 3) := dk_184 0 40 (dk_at dksX4_addPart_0 4 rfl rfl)
theorem dX4_addPart_7 : decode cX4_addPart 7 = .ok (.ifCond .ne 7, 3) := dk_154 0 7 (dk_at dksX4_addPart_0 7 rfl rfl)
theorem dX4_addPart_10 : decode cX4_addPart 10 = .ok (.iconst 1, 1) := dk_4 (dk_at dksX4_addPart_0 10 rfl rfl)
theorem dX4_addPart_11 : decode cX4_addPart 11 = .ok (.goto 20, 3) := dk_167 0 20 (dk_at dksX4_addPart_0 11 rfl rfl)
theorem dX4_addPart_14 : decode cX4_addPart 14 = .ok (.aload_n 0, 1) := dk_42 (dk_at dksX4_addPart_0 14 rfl rfl)
theorem dX4_addPart_15 : decode cX4_addPart 15 = .ok (.getfield 16, 3) := dk_180 0 16 (dk_at dksX4_addPart_0 15 rfl rfl)
theorem dX4_addPart_18 : decode cX4_addPart 18 = .ok (.invokevirtual 44, 3) := dk_182 0 44 (dk_at dksX4_addPart_0 18 rfl rfl)
theorem dX4_addPart_21 : decode cX4_addPart 21 = .ok (.bipush 12, 2) := dk_16 12 (dk_at dksX4_addPart_0 21 rfl rfl)
theorem dX4_addPart_23 : decode cX4_addPart 23 = .ok (.if_icmp .ne 7, 3) := dk_160 0 7 (dk_at dksX4_addPart_1 0 rfl rfl)
theorem dX4_addPart_26 : decode cX4_addPart 26 = .ok (.iconst 2, 1) := dk_5 (dk_at dksX4_addPart_1 3 rfl rfl)
theorem dX4_addPart_27 : decode cX4_addPart 27 = .ok (.goto 4, 3) := dk_167 0 4 (dk_at dksX4_addPart_1 4 rfl rfl)
theorem dX4_addPart_30 : decode cX4_addPart 30 = .ok (.iconst 0, 1) := dk_3 (dk_at dksX4_addPart_1 7 rfl rfl)
theorem dX4_addPart_31 : decode cX4_addPart 31 = .ok (.invokevirtual 48, 3) := dk_182 0 48 (dk_at dksX4_addPart_1 8 rfl rfl)
theorem dX4_addPart_34 : decode cX4_addPart 34 = .ok (.ifCond .eq 5, 3) := dk_153 0 5 (dk_at dksX4_addPart_1 11 rfl rfl)
theorem dX4_addPart_37 : decode cX4_addPart 37 = .ok (.iconst 0, 1) := dk_3 (dk_at dksX4_addPart_1 14 rfl rfl)
theorem dX4_addPart_38 : decode cX4_addPart 38 = .ok (.ireturn, 1) := dk_172 (dk_at dksX4_addPart_1 15 rfl rfl)
theorem dX4_addPart_39 : decode cX4_addPart 39 = .ok (.aload_n 0, 1) := dk_42 (dk_at dksX4_addPart_1 16 rfl rfl)
theorem dX4_addPart_40 : decode cX4_addPart 40 = .ok (.getfield 16, 3) := dk_180 0 16 (dk_at dksX4_addPart_1 17 rfl rfl)
theorem dX4_addPart_43 : decode cX4_addPart 43 = .ok (.new 57, 3) := dk_187 0 57 (dk_at dksX4_addPart_1 20 rfl rfl)
theorem dX4_addPart_46 : decode cX4_addPart 46 = .ok (.dup, 1) := dk_89 (dk_at dksX4_addPart_1 23 rfl rfl)
theorem dX4_addPart_47 : decode cX4_addPart 47 = .ok (.iload_n 1, 1) := dk_27 (dk_at dksX4_addPart_2 0 rfl rfl)
theorem dX4_addPart_48 : decode cX4_addPart 48 = .ok (.iload_n 2, 1) := dk_28 (dk_at dksX4_addPart_2 1 rfl rfl)
theorem dX4_addPart_49 : decode cX4_addPart 49 = .ok (.invokespecial 59, 3) := dk_183 0 59 (dk_at dksX4_addPart_2 2 rfl rfl)
theorem dX4_addPart_52 : decode cX4_addPart 52 = .ok (.invokevirtual 32, 3) := dk_182 0 32 (dk_at dksX4_addPart_2 5 rfl rfl)
theorem dX4_addPart_55 : decode cX4_addPart 55 = .ok (.istore_n 3, 1) := dk_62 (dk_at dksX4_addPart_2 8 rfl rfl)
theorem dX4_addPart_56 : decode cX4_addPart 56 = .ok (.aload_n 0, 1) := dk_42 (dk_at dksX4_addPart_2 9 rfl rfl)
theorem dX4_addPart_57 : decode cX4_addPart 57 = .ok (.getfield 16, 3) := dk_180 0 16 (dk_at dksX4_addPart_2 10 rfl rfl)
theorem dX4_addPart_60 : decode cX4_addPart 60 = .ok (.invokevirtual 44, 3) := dk_182 0 44 (dk_at dksX4_addPart_2 13 rfl rfl)
theorem dX4_addPart_63 : decode cX4_addPart 63 = .ok (.iconst 1, 1) := dk_4 (dk_at dksX4_addPart_2 16 rfl rfl)
theorem dX4_addPart_64 : decode cX4_addPart 64 = .ok (.isub, 1) := dk_100 (dk_at dksX4_addPart_2 17 rfl rfl)
theorem dX4_addPart_65 : decode cX4_addPart 65 = .ok (.ireturn, 1) := dk_172 (dk_at dksX4_addPart_2 18 rfl rfl)
abbrev cX4_addComponent : ByteArray := prog_19_method_8_code
def yX4_addComponent : MethodName := ⟨RX4, "addComponent", "(IIII)I"⟩
def dkwX4_addComponent_6 : List UInt8 := [25, 5, 180, 0, 73, 182, 0, 44, 172]
abbrev dktX4_addComponent_6 : List UInt8 := dkwX4_addComponent_6 ++ []
def dkwX4_addComponent_5 : List UInt8 := [180, 0, 73, 6, 188, 10, 89, 3, 28, 79, 89, 4, 29, 79, 89, 5, 21, 4, 79, 182, 0, 32, 54, 6]
abbrev dktX4_addComponent_5 : List UInt8 := dkwX4_addComponent_5 ++ dktX4_addComponent_6
def dkwX4_addComponent_4 : List UInt8 := [182, 0, 44, 7, 160, 0, 7, 7, 167, 0, 4, 3, 182, 0, 48, 153, 0, 5, 3, 172, 25, 5]
abbrev dktX4_addComponent_4 : List UInt8 := dkwX4_addComponent_4 ++ dktX4_addComponent_5
def dkwX4_addComponent_3 : List UInt8 := [153, 0, 13, 21, 4, 2, 5, 184, 0, 40, 154, 0, 7, 6, 167, 0, 20, 25, 5, 180, 0, 73]
abbrev dktX4_addComponent_3 : List UInt8 := dkwX4_addComponent_3 ++ dktX4_addComponent_4
def dkwX4_addComponent_2 : List UInt8 := [180, 0, 69, 153, 0, 8, 28, 27, 161, 0, 7, 5, 167, 0, 44, 29, 4, 16, 9, 184, 0, 40]
abbrev dktX4_addComponent_2 : List UInt8 := dkwX4_addComponent_2 ++ dktX4_addComponent_3
def dkwX4_addComponent_1 : List UInt8 := [182, 0, 48, 153, 0, 5, 3, 172, 42, 180, 0, 16, 27, 182, 0, 65, 192, 0, 57, 58, 5, 42, 25, 5]
abbrev dktX4_addComponent_1 : List UInt8 := dkwX4_addComponent_1 ++ dktX4_addComponent_2
def dkwX4_addComponent_0 : List UInt8 := [42, 42, 27, 182, 0, 62, 153, 0, 15, 42, 28, 182, 0, 62, 153, 0, 7, 3, 167, 0, 4, 4]
abbrev dktX4_addComponent_0 : List UInt8 := dkwX4_addComponent_0 ++ dktX4_addComponent_1
theorem dksX4_addComponent_0 : cX4_addComponent.data.toList.drop 0 = dktX4_addComponent_0 := by decide +kernel
theorem dksX4_addComponent_1 : cX4_addComponent.data.toList.drop 22 = dktX4_addComponent_1 := dk_seg dksX4_addComponent_0 22 rfl rfl
theorem dksX4_addComponent_2 : cX4_addComponent.data.toList.drop 46 = dktX4_addComponent_2 := dk_seg dksX4_addComponent_1 24 rfl rfl
theorem dksX4_addComponent_3 : cX4_addComponent.data.toList.drop 68 = dktX4_addComponent_3 := dk_seg dksX4_addComponent_2 22 rfl rfl
theorem dksX4_addComponent_4 : cX4_addComponent.data.toList.drop 90 = dktX4_addComponent_4 := dk_seg dksX4_addComponent_3 22 rfl rfl
theorem dksX4_addComponent_5 : cX4_addComponent.data.toList.drop 112 = dktX4_addComponent_5 := dk_seg dksX4_addComponent_4 22 rfl rfl
theorem dksX4_addComponent_6 : cX4_addComponent.data.toList.drop 136 = dktX4_addComponent_6 := dk_seg dksX4_addComponent_5 24 rfl rfl
theorem dX4_addComponent_0 : decode cX4_addComponent 0 = .ok (.aload_n 0, 1) := dk_42 (dk_at dksX4_addComponent_0 0 rfl rfl)
theorem dX4_addComponent_1 : decode cX4_addComponent 1 = .ok (.aload_n 0, 1) := dk_42 (dk_at dksX4_addComponent_0 1 rfl rfl)
theorem dX4_addComponent_2 : decode cX4_addComponent 2 = .ok (.iload_n 1, 1) := dk_27 (dk_at dksX4_addComponent_0 2 rfl rfl)
theorem dX4_addComponent_3 : decode cX4_addComponent 3 = .ok (.invokevirtual 62, 3) := dk_182 0 62 (dk_at dksX4_addComponent_0 3 rfl rfl)
theorem dX4_addComponent_6 : decode cX4_addComponent 6 = .ok (.ifCond .eq 15, 3) := dk_153 0 15 (dk_at dksX4_addComponent_0 6 rfl rfl)
theorem dX4_addComponent_9 : decode cX4_addComponent 9 = .ok (.aload_n 0, 1) := dk_42 (dk_at dksX4_addComponent_0 9 rfl rfl)
theorem dX4_addComponent_10 : decode cX4_addComponent 10 = .ok (.iload_n 2, 1) := dk_28 (dk_at dksX4_addComponent_0 10 rfl rfl)
theorem dX4_addComponent_11 : decode cX4_addComponent 11 = .ok (.invokevirtual 62, 3) := dk_182 0 62 (dk_at dksX4_addComponent_0 11 rfl rfl)
theorem dX4_addComponent_14 : decode cX4_addComponent 14 = .ok (.ifCond .eq 7, 3) := dk_153 0 7 (dk_at dksX4_addComponent_0 14 rfl rfl)
theorem dX4_addComponent_17 : decode cX4_addComponent 17 = .ok (.iconst 0, 1) := dk_3 (dk_at dksX4_addComponent_0 17 rfl rfl)
theorem dX4_addComponent_18 : decode cX4_addComponent 18 = .ok (.goto 4, 3) := dk_167 0 4 (dk_at dksX4_addComponent_0 18 rfl rfl)
theorem dX4_addComponent_21 : decode cX4_addComponent 21 = .ok (.iconst 1, 1) := dk_4 (dk_at dksX4_addComponent_0 21 rfl rfl)
theorem dX4_addComponent_22 : decode cX4_addComponent 22 = .ok (.invokevirtual 48, 3) := dk_182 0 48 (dk_at dksX4_addComponent_1 0 rfl rfl)
theorem dX4_addComponent_25 : decode cX4_addComponent 25 = .ok (.ifCond .eq 5, 3) := dk_153 0 5 (dk_at dksX4_addComponent_1 3 rfl rfl)
theorem dX4_addComponent_28 : decode cX4_addComponent 28 = .ok (.iconst 0, 1) := dk_3 (dk_at dksX4_addComponent_1 6 rfl rfl)
theorem dX4_addComponent_29 : decode cX4_addComponent 29 = .ok (.ireturn, 1) := dk_172 (dk_at dksX4_addComponent_1 7 rfl rfl)
theorem dX4_addComponent_30 : decode cX4_addComponent 30 = .ok (.aload_n 0, 1) := dk_42 (dk_at dksX4_addComponent_1 8 rfl rfl)
theorem dX4_addComponent_31 : decode cX4_addComponent 31 = .ok (.getfield 16, 3) := dk_180 0 16 (dk_at dksX4_addComponent_1 9 rfl rfl)
theorem dX4_addComponent_34 : decode cX4_addComponent 34 = .ok (.iload_n 1, 1) := dk_27 (dk_at dksX4_addComponent_1 12 rfl rfl)
theorem dX4_addComponent_35 : decode cX4_addComponent 35 = .ok (.invokevirtual 65, 3) := dk_182 0 65 (dk_at dksX4_addComponent_1 13 rfl rfl)
theorem dX4_addComponent_38 : decode cX4_addComponent 38 = .ok (.checkcast 57, 3) := dk_192 0 57 (dk_at dksX4_addComponent_1 16 rfl rfl)
theorem dX4_addComponent_41 : decode cX4_addComponent 41 = .ok (.astore 5, 2) := dk_58 5 (dk_at dksX4_addComponent_1 19 rfl rfl)
theorem dX4_addComponent_43 : decode cX4_addComponent 43 = .ok (.aload_n 0, 1) := dk_42 (dk_at dksX4_addComponent_1 21 rfl rfl)
theorem dX4_addComponent_44 : decode cX4_addComponent 44 = .ok (.aload 5, 2) := dk_25 5 (dk_at dksX4_addComponent_1 22 rfl rfl)
theorem dX4_addComponent_46 : decode cX4_addComponent 46 = .ok (.getfield 69, 3) := dk_180 0 69 (dk_at dksX4_addComponent_2 0 rfl rfl)
theorem dX4_addComponent_49 : decode cX4_addComponent 49 = .ok (.ifCond .eq 8, 3) := dk_153 0 8 (dk_at dksX4_addComponent_2 3 rfl rfl)
theorem dX4_addComponent_52 : decode cX4_addComponent 52 = .ok (.iload_n 2, 1) := dk_28 (dk_at dksX4_addComponent_2 6 rfl rfl)
theorem dX4_addComponent_53 : decode cX4_addComponent 53 = .ok (.iload_n 1, 1) := dk_27 (dk_at dksX4_addComponent_2 7 rfl rfl)
theorem dX4_addComponent_54 : decode cX4_addComponent 54 = .ok (.if_icmp .lt 7, 3) := dk_161 0 7 (dk_at dksX4_addComponent_2 8 rfl rfl)
theorem dX4_addComponent_57 : decode cX4_addComponent 57 = .ok (.iconst 2, 1) := dk_5 (dk_at dksX4_addComponent_2 11 rfl rfl)
theorem dX4_addComponent_58 : decode cX4_addComponent 58 = .ok (.goto 44, 3) := dk_167 0 44 (dk_at dksX4_addComponent_2 12 rfl rfl)
theorem dX4_addComponent_61 : decode cX4_addComponent 61 = .ok (.iload_n 3, 1) := dk_29 (dk_at dksX4_addComponent_2 15 rfl rfl)
theorem dX4_addComponent_62 : decode cX4_addComponent 62 = .ok (.iconst 1, 1) := dk_4 (dk_at dksX4_addComponent_2 16 rfl rfl)
theorem dX4_addComponent_63 : decode cX4_addComponent 63 = .ok (.bipush 9, 2) := dk_16 9 (dk_at dksX4_addComponent_2 17 rfl rfl)
theorem dX4_addComponent_65 : decode cX4_addComponent 65 = .ok (.invokestatic 40, 3) := dk_184 0 40 (dk_at dksX4_addComponent_2 19 rfl rfl)
theorem dX4_addComponent_68 : decode cX4_addComponent 68 = .ok (.ifCond .eq 13, 3) := dk_153 0 13 (dk_at dksX4_addComponent_3 0 rfl rfl)
theorem dX4_addComponent_71 : decode cX4_addComponent 71 = .ok (.iload 4, 2) := dk_21 4 (dk_at dksX4_addComponent_3 3 rfl rfl)
theorem dX4_addComponent_73 : decode cX4_addComponent 73 = .ok (.iconst (-1), 1) := dk_2 (dk_at dksX4_addComponent_3 5 rfl rfl)
theorem dX4_addComponent_74 : decode cX4_addComponent 74 = .ok (.iconst 2, 1) := dk_5 (dk_at dksX4_addComponent_3 6 rfl rfl)
theorem dX4_addComponent_75 : decode cX4_addComponent 75 = .ok (.invokestatic 40, 3) := dk_184 0 40 (dk_at dksX4_addComponent_3 7 rfl rfl)
theorem dX4_addComponent_78 : decode cX4_addComponent 78 = .ok (.ifCond .ne 7, 3) := dk_154 0 7 (dk_at dksX4_addComponent_3 10 rfl rfl)
theorem dX4_addComponent_81 : decode cX4_addComponent 81 = .ok (.iconst 3, 1) := dk_6 (dk_at dksX4_addComponent_3 13 rfl rfl)
theorem dX4_addComponent_82 : decode cX4_addComponent 82 = .ok (.goto 20, 3) := dk_167 0 20 (dk_at dksX4_addComponent_3 14 rfl rfl)
theorem dX4_addComponent_85 : decode cX4_addComponent 85 = .ok (.aload 5, 2) := dk_25 5 (dk_at dksX4_addComponent_3 17 rfl rfl)
theorem dX4_addComponent_87 : decode cX4_addComponent 87 = .ok (.getfield 73, 3) := dk_180 0 73 (dk_at dksX4_addComponent_3 19 rfl rfl)
theorem dX4_addComponent_90 : decode cX4_addComponent 90 = .ok (.invokevirtual 44, 3) := dk_182 0 44 (dk_at dksX4_addComponent_4 0 rfl rfl)
theorem dX4_addComponent_93 : decode cX4_addComponent 93 = .ok (.iconst 4, 1) := dk_7 (dk_at dksX4_addComponent_4 3 rfl rfl)
theorem dX4_addComponent_94 : decode cX4_addComponent 94 = .ok (.if_icmp .ne 7, 3) := dk_160 0 7 (dk_at dksX4_addComponent_4 4 rfl rfl)
theorem dX4_addComponent_97 : decode cX4_addComponent 97 = .ok (.iconst 4, 1) := dk_7 (dk_at dksX4_addComponent_4 7 rfl rfl)
theorem dX4_addComponent_98 : decode cX4_addComponent 98 = .ok (.goto 4, 3) := dk_167 0 4 (dk_at dksX4_addComponent_4 8 rfl rfl)
theorem dX4_addComponent_101 : decode cX4_addComponent 101 = .ok (.iconst 0, 1) := dk_3 (dk_at dksX4_addComponent_4 11 rfl rfl)
theorem dX4_addComponent_102 : decode cX4_addComponent 102 = .ok (.invokevirtual 48, 3) := dk_182 0 48 (dk_at dksX4_addComponent_4 12 rfl rfl)
theorem dX4_addComponent_105 : decode cX4_addComponent 105 = .ok (.ifCond .eq 5, 3) := dk_153 0 5 (dk_at dksX4_addComponent_4 15 rfl rfl)
theorem dX4_addComponent_108 : decode cX4_addComponent 108 = .ok (.iconst 0, 1) := dk_3 (dk_at dksX4_addComponent_4 18 rfl rfl)
theorem dX4_addComponent_109 : decode cX4_addComponent 109 = .ok (.ireturn, 1) := dk_172 (dk_at dksX4_addComponent_4 19 rfl rfl)
theorem dX4_addComponent_110 : decode cX4_addComponent 110 = .ok (.aload 5, 2) := dk_25 5 (dk_at dksX4_addComponent_4 20 rfl rfl)
theorem dX4_addComponent_112 : decode cX4_addComponent 112 = .ok (.getfield 73, 3) := dk_180 0 73 (dk_at dksX4_addComponent_5 0 rfl rfl)
theorem dX4_addComponent_115 : decode cX4_addComponent 115 = .ok (.iconst 3, 1) := dk_6 (dk_at dksX4_addComponent_5 3 rfl rfl)
theorem dX4_addComponent_116 : decode cX4_addComponent 116 = .ok (.newarray .int, 2) := dk_188_10 (dk_at dksX4_addComponent_5 4 rfl rfl)
theorem dX4_addComponent_118 : decode cX4_addComponent 118 = .ok (.dup, 1) := dk_89 (dk_at dksX4_addComponent_5 6 rfl rfl)
theorem dX4_addComponent_119 : decode cX4_addComponent 119 = .ok (.iconst 0, 1) := dk_3 (dk_at dksX4_addComponent_5 7 rfl rfl)
theorem dX4_addComponent_120 : decode cX4_addComponent 120 = .ok (.iload_n 2, 1) := dk_28 (dk_at dksX4_addComponent_5 8 rfl rfl)
theorem dX4_addComponent_121 : decode cX4_addComponent 121 = .ok (.iastore, 1) := dk_79 (dk_at dksX4_addComponent_5 9 rfl rfl)
theorem dX4_addComponent_122 : decode cX4_addComponent 122 = .ok (.dup, 1) := dk_89 (dk_at dksX4_addComponent_5 10 rfl rfl)
theorem dX4_addComponent_123 : decode cX4_addComponent 123 = .ok (.iconst 1, 1) := dk_4 (dk_at dksX4_addComponent_5 11 rfl rfl)
theorem dX4_addComponent_124 : decode cX4_addComponent 124 = .ok (.iload_n 3, 1) := dk_29 (dk_at dksX4_addComponent_5 12 rfl rfl)
theorem dX4_addComponent_125 : decode cX4_addComponent 125 = .ok (.iastore, 1) := dk_79 (dk_at dksX4_addComponent_5 13 rfl rfl)
theorem dX4_addComponent_126 : decode cX4_addComponent 126 = .ok (.dup, 1) := dk_89 (dk_at dksX4_addComponent_5 14 rfl rfl)
theorem dX4_addComponent_127 : decode cX4_addComponent 127 = .ok (.iconst 2, 1) := dk_5 (dk_at dksX4_addComponent_5 15 rfl rfl)
theorem dX4_addComponent_128 : decode cX4_addComponent 128 = .ok (.iload 4, 2) := dk_21 4 (dk_at dksX4_addComponent_5 16 rfl rfl)
theorem dX4_addComponent_130 : decode cX4_addComponent 130 = .ok (.iastore, 1) := dk_79 (dk_at dksX4_addComponent_5 18 rfl rfl)
theorem dX4_addComponent_131 : decode cX4_addComponent 131 = .ok (.invokevirtual 32, 3) := dk_182 0 32 (dk_at dksX4_addComponent_5 19 rfl rfl)
theorem dX4_addComponent_134 : decode cX4_addComponent 134 = .ok (.istore 6, 2) := dk_54 6 (dk_at dksX4_addComponent_5 22 rfl rfl)
theorem dX4_addComponent_136 : decode cX4_addComponent 136 = .ok (.aload 5, 2) := dk_25 5 (dk_at dksX4_addComponent_6 0 rfl rfl)
theorem dX4_addComponent_138 : decode cX4_addComponent 138 = .ok (.getfield 73, 3) := dk_180 0 73 (dk_at dksX4_addComponent_6 2 rfl rfl)
theorem dX4_addComponent_141 : decode cX4_addComponent 141 = .ok (.invokevirtual 44, 3) := dk_182 0 44 (dk_at dksX4_addComponent_6 5 rfl rfl)
theorem dX4_addComponent_144 : decode cX4_addComponent 144 = .ok (.ireturn, 1) := dk_172 (dk_at dksX4_addComponent_6 8 rfl rfl)
abbrev cX4_isPart : ByteArray := prog_19_method_7_code
def yX4_isPart : MethodName := ⟨RX4, "isPart", "(I)Z"⟩
def dkwX4_isPart_0 : List UInt8 := [27, 3, 42, 180, 0, 16, 182, 0, 44, 4, 100, 184, 0, 40, 172]
abbrev dktX4_isPart_0 : List UInt8 := dkwX4_isPart_0 ++ []
theorem dksX4_isPart_0 : cX4_isPart.data.toList.drop 0 = dktX4_isPart_0 := by decide +kernel
theorem dX4_isPart_0 : decode cX4_isPart 0 = .ok (.iload_n 1, 1) := dk_27 (dk_at dksX4_isPart_0 0 rfl rfl)
theorem dX4_isPart_1 : decode cX4_isPart 1 = .ok (.iconst 0, 1) := dk_3 (dk_at dksX4_isPart_0 1 rfl rfl)
theorem dX4_isPart_2 : decode cX4_isPart 2 = .ok (.aload_n 0, 1) := dk_42 (dk_at dksX4_isPart_0 2 rfl rfl)
theorem dX4_isPart_3 : decode cX4_isPart 3 = .ok (.getfield 16, 3) := dk_180 0 16 (dk_at dksX4_isPart_0 3 rfl rfl)
theorem dX4_isPart_6 : decode cX4_isPart 6 = .ok (.invokevirtual 44, 3) := dk_182 0 44 (dk_at dksX4_isPart_0 6 rfl rfl)
theorem dX4_isPart_9 : decode cX4_isPart 9 = .ok (.iconst 1, 1) := dk_4 (dk_at dksX4_isPart_0 9 rfl rfl)
theorem dX4_isPart_10 : decode cX4_isPart 10 = .ok (.isub, 1) := dk_100 (dk_at dksX4_isPart_0 10 rfl rfl)
theorem dX4_isPart_11 : decode cX4_isPart 11 = .ok (.invokestatic 40, 3) := dk_184 0 40 (dk_at dksX4_isPart_0 11 rfl rfl)
theorem dX4_isPart_14 : decode cX4_isPart 14 = .ok (.ireturn, 1) := dk_172 (dk_at dksX4_isPart_0 14 rfl rfl)
abbrev cX4_addOperation : ByteArray := prog_19_method_10_code
def yX4_addOperation : MethodName := ⟨RX4, "addOperation", "(IIII)I"⟩
def dkwX4_addOperation_5 : List UInt8 := [79, 89, 4, 29, 79, 89, 5, 21, 4, 79, 182, 0, 32, 54, 6, 25, 5, 180, 0, 79, 182, 0, 44, 172]
abbrev dktX4_addOperation_5 : List UInt8 := dkwX4_addOperation_5 ++ []
def dkwX4_addOperation_4 : List UInt8 := [7, 167, 0, 4, 3, 182, 0, 48, 153, 0, 5, 3, 172, 25, 5, 180, 0, 79, 6, 188, 10, 89, 3, 28]
abbrev dktX4_addOperation_4 : List UInt8 := dkwX4_addOperation_4 ++ dktX4_addOperation_5
def dkwX4_addOperation_3 : List UInt8 := [16, 20, 184, 0, 40, 154, 0, 7, 6, 167, 0, 20, 25, 5, 180, 0, 79, 182, 0, 44, 6, 160, 0, 7]
abbrev dktX4_addOperation_3 : List UInt8 := dkwX4_addOperation_3 ++ dktX4_addOperation_4
def dkwX4_addOperation_2 : List UInt8 := [182, 0, 65, 192, 0, 57, 58, 5, 42, 25, 5, 180, 0, 69, 154, 0, 7, 5, 167, 0, 35, 21, 4, 4]
abbrev dktX4_addOperation_2 : List UInt8 := dkwX4_addOperation_2 ++ dktX4_addOperation_3
def dkwX4_addOperation_1 : List UInt8 := [182, 0, 76, 153, 0, 7, 3, 167, 0, 4, 4, 182, 0, 48, 153, 0, 5, 3, 172, 42, 180, 0, 16, 27]
abbrev dktX4_addOperation_1 : List UInt8 := dkwX4_addOperation_1 ++ dktX4_addOperation_2
def dkwX4_addOperation_0 : List UInt8 := [42, 42, 27, 182, 0, 62, 153, 0, 28, 42, 28, 182, 0, 76, 153, 0, 20, 29, 2, 159, 0, 11, 42, 29]
abbrev dktX4_addOperation_0 : List UInt8 := dkwX4_addOperation_0 ++ dktX4_addOperation_1
theorem dksX4_addOperation_0 : cX4_addOperation.data.toList.drop 0 = dktX4_addOperation_0 := by decide +kernel
theorem dksX4_addOperation_1 : cX4_addOperation.data.toList.drop 24 = dktX4_addOperation_1 := dk_seg dksX4_addOperation_0 24 rfl rfl
theorem dksX4_addOperation_2 : cX4_addOperation.data.toList.drop 48 = dktX4_addOperation_2 := dk_seg dksX4_addOperation_1 24 rfl rfl
theorem dksX4_addOperation_3 : cX4_addOperation.data.toList.drop 72 = dktX4_addOperation_3 := dk_seg dksX4_addOperation_2 24 rfl rfl
theorem dksX4_addOperation_4 : cX4_addOperation.data.toList.drop 96 = dktX4_addOperation_4 := dk_seg dksX4_addOperation_3 24 rfl rfl
theorem dksX4_addOperation_5 : cX4_addOperation.data.toList.drop 120 = dktX4_addOperation_5 := dk_seg dksX4_addOperation_4 24 rfl rfl
theorem dX4_addOperation_0 : decode cX4_addOperation 0 = .ok (.aload_n 0, 1) := dk_42 (dk_at dksX4_addOperation_0 0 rfl rfl)
theorem dX4_addOperation_1 : decode cX4_addOperation 1 = .ok (.aload_n 0, 1) := dk_42 (dk_at dksX4_addOperation_0 1 rfl rfl)
theorem dX4_addOperation_2 : decode cX4_addOperation 2 = .ok (.iload_n 1, 1) := dk_27 (dk_at dksX4_addOperation_0 2 rfl rfl)
theorem dX4_addOperation_3 : decode cX4_addOperation 3 = .ok (.invokevirtual 62, 3) := dk_182 0 62 (dk_at dksX4_addOperation_0 3 rfl rfl)
theorem dX4_addOperation_6 : decode cX4_addOperation 6 = .ok (.ifCond .eq 28, 3) := dk_153 0 28 (dk_at dksX4_addOperation_0 6 rfl rfl)
theorem dX4_addOperation_9 : decode cX4_addOperation 9 = .ok (.aload_n 0, 1) := dk_42 (dk_at dksX4_addOperation_0 9 rfl rfl)
theorem dX4_addOperation_10 : decode cX4_addOperation 10 = .ok (.iload_n 2, 1) := dk_28 (dk_at dksX4_addOperation_0 10 rfl rfl)
theorem dX4_addOperation_11 : decode cX4_addOperation 11 = .ok (.invokevirtual 76, 3) := dk_182 0 76 (dk_at dksX4_addOperation_0 11 rfl rfl)
theorem dX4_addOperation_14 : decode cX4_addOperation 14 = .ok (.ifCond .eq 20, 3) := dk_153 0 20 (dk_at dksX4_addOperation_0 14 rfl rfl)
theorem dX4_addOperation_17 : decode cX4_addOperation 17 = .ok (.iload_n 3, 1) := dk_29 (dk_at dksX4_addOperation_0 17 rfl rfl)
theorem dX4_addOperation_18 : decode cX4_addOperation 18 = .ok (.iconst (-1), 1) := dk_2 (dk_at dksX4_addOperation_0 18 rfl rfl)
theorem dX4_addOperation_19 : decode cX4_addOperation 19 = .ok (.if_icmp .eq 11, 3) := dk_159 0 11 (dk_at dksX4_addOperation_0 19 rfl rfl)
theorem dX4_addOperation_22 : decode cX4_addOperation 22 = .ok (.aload_n 0, 1) := dk_42 (dk_at dksX4_addOperation_0 22 rfl rfl)
theorem dX4_addOperation_23 : decode cX4_addOperation 23 = .ok (.iload_n 3, 1) := dk_29 (dk_at dksX4_addOperation_0 23 rfl rfl)
theorem dX4_addOperation_24 : decode cX4_addOperation 24 = .ok (.invokevirtual 76, 3) := dk_182 0 76 (dk_at dksX4_addOperation_1 0 rfl rfl)
theorem dX4_addOperation_27 : decode cX4_addOperation 27 = .ok (.ifCond .eq 7, 3) := dk_153 0 7 (dk_at dksX4_addOperation_1 3 rfl rfl)
theorem dX4_addOperation_30 : decode cX4_addOperation 30 = .ok (.iconst 0, 1) := dk_3 (dk_at dksX4_addOperation_1 6 rfl rfl)
theorem dX4_addOperation_31 : decode cX4_addOperation 31 = .ok (.goto 4, 3) := dk_167 0 4 (dk_at dksX4_addOperation_1 7 rfl rfl)
theorem dX4_addOperation_34 : decode cX4_addOperation 34 = .ok (.iconst 1, 1) := dk_4 (dk_at dksX4_addOperation_1 10 rfl rfl)
theorem dX4_addOperation_35 : decode cX4_addOperation 35 = .ok (.invokevirtual 48, 3) := dk_182 0 48 (dk_at dksX4_addOperation_1 11 rfl rfl)
theorem dX4_addOperation_38 : decode cX4_addOperation 38 = .ok (.ifCond .eq 5, 3) := dk_153 0 5 (dk_at dksX4_addOperation_1 14 rfl rfl)
theorem dX4_addOperation_41 : decode cX4_addOperation 41 = .ok (.iconst 0, 1) := dk_3 (dk_at dksX4_addOperation_1 17 rfl rfl)
theorem dX4_addOperation_42 : decode cX4_addOperation 42 = .ok (.ireturn, 1) := dk_172 (dk_at dksX4_addOperation_1 18 rfl rfl)
theorem dX4_addOperation_43 : decode cX4_addOperation 43 = .ok (.aload_n 0, 1) := dk_42 (dk_at dksX4_addOperation_1 19 rfl rfl)
theorem dX4_addOperation_44 : decode cX4_addOperation 44 = .ok (.getfield 16, 3) := dk_180 0 16 (dk_at dksX4_addOperation_1 20 rfl rfl)
theorem dX4_addOperation_47 : decode cX4_addOperation 47 = .ok (.iload_n 1, 1) := dk_27 (dk_at dksX4_addOperation_1 23 rfl rfl)
theorem dX4_addOperation_48 : decode cX4_addOperation 48 = .ok (.invokevirtual 65, 3) := dk_182 0 65 (dk_at dksX4_addOperation_2 0 rfl rfl)
theorem dX4_addOperation_51 : decode cX4_addOperation 51 = .ok (.checkcast 57, 3) := dk_192 0 57 (dk_at dksX4_addOperation_2 3 rfl rfl)
theorem dX4_addOperation_54 : decode cX4_addOperation 54 = .ok (.astore 5, 2) := dk_58 5 (dk_at dksX4_addOperation_2 6 rfl rfl)
theorem dX4_addOperation_56 : decode cX4_addOperation 56 = .ok (.aload_n 0, 1) := dk_42 (dk_at dksX4_addOperation_2 8 rfl rfl)
theorem dX4_addOperation_57 : decode cX4_addOperation 57 = .ok (.aload 5, 2) := dk_25 5 (dk_at dksX4_addOperation_2 9 rfl rfl)
theorem dX4_addOperation_59 : decode cX4_addOperation 59 = .ok (.getfield 69, 3) := dk_180 0 69 (dk_at dksX4_addOperation_2 11 rfl rfl)
theorem dX4_addOperation_62 : decode cX4_addOperation 62 = .ok (.ifCond .ne 7, 3) := dk_154 0 7 (dk_at dksX4_addOperation_2 14 rfl rfl)
theorem dX4_addOperation_65 : decode cX4_addOperation 65 = .ok (.iconst 2, 1) := dk_5 (dk_at dksX4_addOperation_2 17 rfl rfl)
theorem dX4_addOperation_66 : decode cX4_addOperation 66 = .ok (.goto 35, 3) := dk_167 0 35 (dk_at dksX4_addOperation_2 18 rfl rfl)
theorem dX4_addOperation_69 : decode cX4_addOperation 69 = .ok (.iload 4, 2) := dk_21 4 (dk_at dksX4_addOperation_2 21 rfl rfl)
theorem dX4_addOperation_71 : decode cX4_addOperation 71 = .ok (.iconst 1, 1) := dk_4 (dk_at dksX4_addOperation_2 23 rfl rfl)
theorem dX4_addOperation_72 : decode cX4_addOperation 72 = .ok (.bipush 20, 2) := dk_16 20 (dk_at dksX4_addOperation_3 0 rfl rfl)
theorem dX4_addOperation_74 : decode cX4_addOperation 74 = .ok (.invokestatic 40, 3) := dk_184 0 40 (dk_at dksX4_addOperation_3 2 rfl rfl)
theorem dX4_addOperation_77 : decode cX4_addOperation 77 = .ok (.ifCond .ne 7, 3) := dk_154 0 7 (dk_at dksX4_addOperation_3 5 rfl rfl)
theorem dX4_addOperation_80 : decode cX4_addOperation 80 = .ok (.iconst 3, 1) := dk_6 (dk_at dksX4_addOperation_3 8 rfl rfl)
theorem dX4_addOperation_81 : decode cX4_addOperation 81 = .ok (.goto 20, 3) := dk_167 0 20 (dk_at dksX4_addOperation_3 9 rfl rfl)
theorem dX4_addOperation_84 : decode cX4_addOperation 84 = .ok (.aload 5, 2) := dk_25 5 (dk_at dksX4_addOperation_3 12 rfl rfl)
theorem dX4_addOperation_86 : decode cX4_addOperation 86 = .ok (.getfield 79, 3) := dk_180 0 79 (dk_at dksX4_addOperation_3 14 rfl rfl)
theorem dX4_addOperation_89 : decode cX4_addOperation 89 = .ok (.invokevirtual 44, 3) := dk_182 0 44 (dk_at dksX4_addOperation_3 17 rfl rfl)
theorem dX4_addOperation_92 : decode cX4_addOperation 92 = .ok (.iconst 3, 1) := dk_6 (dk_at dksX4_addOperation_3 20 rfl rfl)
theorem dX4_addOperation_93 : decode cX4_addOperation 93 = .ok (.if_icmp .ne 7, 3) := dk_160 0 7 (dk_at dksX4_addOperation_3 21 rfl rfl)
theorem dX4_addOperation_96 : decode cX4_addOperation 96 = .ok (.iconst 4, 1) := dk_7 (dk_at dksX4_addOperation_4 0 rfl rfl)
theorem dX4_addOperation_97 : decode cX4_addOperation 97 = .ok (.goto 4, 3) := dk_167 0 4 (dk_at dksX4_addOperation_4 1 rfl rfl)
theorem dX4_addOperation_100 : decode cX4_addOperation 100 = .ok (.iconst 0, 1) := dk_3 (dk_at dksX4_addOperation_4 4 rfl rfl)
theorem dX4_addOperation_101 : decode cX4_addOperation 101 = .ok (.invokevirtual 48, 3) := dk_182 0 48 (dk_at dksX4_addOperation_4 5 rfl rfl)
theorem dX4_addOperation_104 : decode cX4_addOperation 104 = .ok (.ifCond .eq 5, 3) := dk_153 0 5 (dk_at dksX4_addOperation_4 8 rfl rfl)
theorem dX4_addOperation_107 : decode cX4_addOperation 107 = .ok (.iconst 0, 1) := dk_3 (dk_at dksX4_addOperation_4 11 rfl rfl)
theorem dX4_addOperation_108 : decode cX4_addOperation 108 = .ok (.ireturn, 1) := dk_172 (dk_at dksX4_addOperation_4 12 rfl rfl)
theorem dX4_addOperation_109 : decode cX4_addOperation 109 = .ok (.aload 5, 2) := dk_25 5 (dk_at dksX4_addOperation_4 13 rfl rfl)
theorem dX4_addOperation_111 : decode cX4_addOperation 111 = .ok (.getfield 79, 3) := dk_180 0 79 (dk_at dksX4_addOperation_4 15 rfl rfl)
theorem dX4_addOperation_114 : decode cX4_addOperation 114 = .ok (.iconst 3, 1) := dk_6 (dk_at dksX4_addOperation_4 18 rfl rfl)
theorem dX4_addOperation_115 : decode cX4_addOperation 115 = .ok (.newarray .int, 2) := dk_188_10 (dk_at dksX4_addOperation_4 19 rfl rfl)
theorem dX4_addOperation_117 : decode cX4_addOperation 117 = .ok (.dup, 1) := dk_89 (dk_at dksX4_addOperation_4 21 rfl rfl)
theorem dX4_addOperation_118 : decode cX4_addOperation 118 = .ok (.iconst 0, 1) := dk_3 (dk_at dksX4_addOperation_4 22 rfl rfl)
theorem dX4_addOperation_119 : decode cX4_addOperation 119 = .ok (.iload_n 2, 1) := dk_28 (dk_at dksX4_addOperation_4 23 rfl rfl)
theorem dX4_addOperation_120 : decode cX4_addOperation 120 = .ok (.iastore, 1) := dk_79 (dk_at dksX4_addOperation_5 0 rfl rfl)
theorem dX4_addOperation_121 : decode cX4_addOperation 121 = .ok (.dup, 1) := dk_89 (dk_at dksX4_addOperation_5 1 rfl rfl)
theorem dX4_addOperation_122 : decode cX4_addOperation 122 = .ok (.iconst 1, 1) := dk_4 (dk_at dksX4_addOperation_5 2 rfl rfl)
theorem dX4_addOperation_123 : decode cX4_addOperation 123 = .ok (.iload_n 3, 1) := dk_29 (dk_at dksX4_addOperation_5 3 rfl rfl)
theorem dX4_addOperation_124 : decode cX4_addOperation 124 = .ok (.iastore, 1) := dk_79 (dk_at dksX4_addOperation_5 4 rfl rfl)
theorem dX4_addOperation_125 : decode cX4_addOperation 125 = .ok (.dup, 1) := dk_89 (dk_at dksX4_addOperation_5 5 rfl rfl)
theorem dX4_addOperation_126 : decode cX4_addOperation 126 = .ok (.iconst 2, 1) := dk_5 (dk_at dksX4_addOperation_5 6 rfl rfl)
theorem dX4_addOperation_127 : decode cX4_addOperation 127 = .ok (.iload 4, 2) := dk_21 4 (dk_at dksX4_addOperation_5 7 rfl rfl)
theorem dX4_addOperation_129 : decode cX4_addOperation 129 = .ok (.iastore, 1) := dk_79 (dk_at dksX4_addOperation_5 9 rfl rfl)
theorem dX4_addOperation_130 : decode cX4_addOperation 130 = .ok (.invokevirtual 32, 3) := dk_182 0 32 (dk_at dksX4_addOperation_5 10 rfl rfl)
theorem dX4_addOperation_133 : decode cX4_addOperation 133 = .ok (.istore 6, 2) := dk_54 6 (dk_at dksX4_addOperation_5 13 rfl rfl)
theorem dX4_addOperation_135 : decode cX4_addOperation 135 = .ok (.aload 5, 2) := dk_25 5 (dk_at dksX4_addOperation_5 15 rfl rfl)
theorem dX4_addOperation_137 : decode cX4_addOperation 137 = .ok (.getfield 79, 3) := dk_180 0 79 (dk_at dksX4_addOperation_5 17 rfl rfl)
theorem dX4_addOperation_140 : decode cX4_addOperation 140 = .ok (.invokevirtual 44, 3) := dk_182 0 44 (dk_at dksX4_addOperation_5 20 rfl rfl)
theorem dX4_addOperation_143 : decode cX4_addOperation 143 = .ok (.ireturn, 1) := dk_172 (dk_at dksX4_addOperation_5 23 rfl rfl)
abbrev cX4_isMachine : ByteArray := prog_19_method_9_code
def yX4_isMachine : MethodName := ⟨RX4, "isMachine", "(I)Z"⟩
def dkwX4_isMachine_0 : List UInt8 := [27, 3, 42, 180, 0, 10, 182, 0, 44, 4, 100, 184, 0, 40, 172]
abbrev dktX4_isMachine_0 : List UInt8 := dkwX4_isMachine_0 ++ []
theorem dksX4_isMachine_0 : cX4_isMachine.data.toList.drop 0 = dktX4_isMachine_0 := by decide +kernel
theorem dX4_isMachine_0 : decode cX4_isMachine 0 = .ok (.iload_n 1, 1) := dk_27 (dk_at dksX4_isMachine_0 0 rfl rfl)
theorem dX4_isMachine_1 : decode cX4_isMachine 1 = .ok (.iconst 0, 1) := dk_3 (dk_at dksX4_isMachine_0 1 rfl rfl)
theorem dX4_isMachine_2 : decode cX4_isMachine 2 = .ok (.aload_n 0, 1) := dk_42 (dk_at dksX4_isMachine_0 2 rfl rfl)
theorem dX4_isMachine_3 : decode cX4_isMachine 3 = .ok (.getfield 10, 3) := dk_180 0 10 (dk_at dksX4_isMachine_0 3 rfl rfl)
theorem dX4_isMachine_6 : decode cX4_isMachine 6 = .ok (.invokevirtual 44, 3) := dk_182 0 44 (dk_at dksX4_isMachine_0 6 rfl rfl)
theorem dX4_isMachine_9 : decode cX4_isMachine 9 = .ok (.iconst 1, 1) := dk_4 (dk_at dksX4_isMachine_0 9 rfl rfl)
theorem dX4_isMachine_10 : decode cX4_isMachine 10 = .ok (.isub, 1) := dk_100 (dk_at dksX4_isMachine_0 10 rfl rfl)
theorem dX4_isMachine_11 : decode cX4_isMachine 11 = .ok (.invokestatic 40, 3) := dk_184 0 40 (dk_at dksX4_isMachine_0 11 rfl rfl)
theorem dX4_isMachine_14 : decode cX4_isMachine 14 = .ok (.ireturn, 1) := dk_172 (dk_at dksX4_isMachine_0 14 rfl rfl)
abbrev cX4_receive : ByteArray := prog_19_method_12_code
def yX4_receive : MethodName := ⟨RX4, "receive", "(IIIII)I"⟩
def dkwX4_receive_15 : List UInt8 := [180, 0, 25, 21, 4, 21, 11, 85, 25, 9, 182, 0, 107, 25, 7, 180, 0, 110, 172]
abbrev dktX4_receive_15 : List UInt8 := dkwX4_receive_15 ++ []
def dkwX4_receive_14 : List UInt8 := [167, 0, 15, 25, 7, 180, 0, 94, 153, 0, 7, 16, 110, 54, 11, 21, 11, 21, 8, 159, 0, 17, 42]
abbrev dktX4_receive_14 : List UInt8 := dkwX4_receive_14 ++ dktX4_receive_15
def dkwX4_receive_13 : List UInt8 := [6, 161, 0, 19, 25, 9, 6, 3, 184, 0, 103, 6, 160, 0, 8, 16, 110, 167, 0, 5, 16, 116, 54, 11]
abbrev dktX4_receive_13 : List UInt8 := dkwX4_receive_13 ++ dktX4_receive_14
def dkwX4_receive_12 : List UInt8 := [16, 114, 167, 0, 5, 16, 110, 54, 11, 167, 0, 54, 21, 8, 16, 116, 160, 0, 35, 25, 9, 182, 0, 44]
abbrev dktX4_receive_12 : List UInt8 := dkwX4_receive_12 ++ dktX4_receive_13
def dkwX4_receive_11 : List UInt8 := [167, 0, 30, 25, 9, 182, 0, 44, 7, 161, 0, 19, 25, 9, 7, 3, 184, 0, 103, 7, 160, 0, 8]
abbrev dktX4_receive_11 : List UInt8 := dkwX4_receive_11 ++ dktX4_receive_12
def dkwX4_receive_10 : List UInt8 := [21, 8, 54, 11, 21, 8, 16, 110, 160, 0, 51, 25, 9, 8, 4, 184, 0, 103, 5, 161, 0, 8, 16, 116]
abbrev dktX4_receive_10 : List UInt8 := dkwX4_receive_10 ++ dktX4_receive_11
def dkwX4_receive_9 : List UInt8 := [182, 0, 65, 192, 0, 7, 58, 9, 25, 9, 25, 7, 180, 0, 94, 184, 0, 97, 182, 0, 32, 54, 10]
abbrev dktX4_receive_9 : List UInt8 := dkwX4_receive_9 ++ dktX4_receive_10
def dkwX4_receive_8 : List UInt8 := [4, 167, 0, 4, 7, 164, 0, 7, 4, 167, 0, 4, 3, 181, 0, 94, 42, 180, 0, 29, 21, 4]
abbrev dktX4_receive_8 : List UInt8 := dkwX4_receive_8 ++ dktX4_receive_9
def dkwX4_receive_7 : List UInt8 := [54, 8, 25, 7, 21, 5, 21, 8, 16, 110, 160, 0, 7, 5, 167, 0, 15, 21, 8, 16, 116, 160, 0, 7]
abbrev dktX4_receive_7 : List UInt8 := dkwX4_receive_7 ++ dktX4_receive_8
def dkwX4_receive_6 : List UInt8 := [181, 0, 87, 42, 27, 28, 28, 133, 29, 133, 105, 182, 0, 90, 58, 7, 42, 180, 0, 25, 21, 4, 52]
abbrev dktX4_receive_6 : List UInt8 := dkwX4_receive_6 ++ dktX4_receive_7
def dkwX4_receive_5 : List UInt8 := [160, 0, 7, 7, 167, 0, 4, 3, 182, 0, 48, 153, 0, 5, 3, 172, 42, 89, 180, 0, 87, 4, 96]
abbrev dktX4_receive_5 : List UInt8 := dkwX4_receive_5 ++ dktX4_receive_6
def dkwX4_receive_4 : List UInt8 := [4, 167, 0, 4, 3, 54, 6, 42, 21, 6, 154, 0, 7, 6, 167, 0, 17, 42, 180, 0, 87, 16, 60]
abbrev dktX4_receive_4 : List UInt8 := dkwX4_receive_4 ++ dktX4_receive_5
def dkwX4_receive_3 : List UInt8 := [153, 0, 28, 21, 4, 3, 6, 184, 0, 40, 153, 0, 18, 21, 5, 3, 16, 20, 184, 0, 40, 153, 0, 7]
abbrev dktX4_receive_3 : List UInt8 := dkwX4_receive_3 ++ dktX4_receive_4
def dkwX4_receive_2 : List UInt8 := [153, 0, 5, 3, 172, 28, 4, 17, 1, 244, 184, 0, 40, 153, 0, 39, 29, 3, 17, 3, 231, 184, 0, 40]
abbrev dktX4_receive_2 : List UInt8 := dkwX4_receive_2 ++ dktX4_receive_3
def dkwX4_receive_1 : List UInt8 := [180, 0, 16, 27, 182, 0, 65, 192, 0, 57, 180, 0, 69, 153, 0, 7, 5, 167, 0, 4, 3, 182, 0, 48]
abbrev dktX4_receive_1 : List UInt8 := dkwX4_receive_1 ++ dktX4_receive_2
def dkwX4_receive_0 : List UInt8 := [42, 42, 27, 182, 0, 62, 153, 0, 7, 3, 167, 0, 4, 4, 182, 0, 48, 154, 0, 32, 42, 42]
abbrev dktX4_receive_0 : List UInt8 := dkwX4_receive_0 ++ dktX4_receive_1
theorem dksX4_receive_0 : cX4_receive.data.toList.drop 0 = dktX4_receive_0 := by decide +kernel
theorem dksX4_receive_1 : cX4_receive.data.toList.drop 22 = dktX4_receive_1 := dk_seg dksX4_receive_0 22 rfl rfl
theorem dksX4_receive_2 : cX4_receive.data.toList.drop 46 = dktX4_receive_2 := dk_seg dksX4_receive_1 24 rfl rfl
theorem dksX4_receive_3 : cX4_receive.data.toList.drop 70 = dktX4_receive_3 := dk_seg dksX4_receive_2 24 rfl rfl
theorem dksX4_receive_4 : cX4_receive.data.toList.drop 94 = dktX4_receive_4 := dk_seg dksX4_receive_3 24 rfl rfl
theorem dksX4_receive_5 : cX4_receive.data.toList.drop 117 = dktX4_receive_5 := dk_seg dksX4_receive_4 23 rfl rfl
theorem dksX4_receive_6 : cX4_receive.data.toList.drop 140 = dktX4_receive_6 := dk_seg dksX4_receive_5 23 rfl rfl
theorem dksX4_receive_7 : cX4_receive.data.toList.drop 163 = dktX4_receive_7 := dk_seg dksX4_receive_6 23 rfl rfl
theorem dksX4_receive_8 : cX4_receive.data.toList.drop 187 = dktX4_receive_8 := dk_seg dksX4_receive_7 24 rfl rfl
theorem dksX4_receive_9 : cX4_receive.data.toList.drop 209 = dktX4_receive_9 := dk_seg dksX4_receive_8 22 rfl rfl
theorem dksX4_receive_10 : cX4_receive.data.toList.drop 232 = dktX4_receive_10 := dk_seg dksX4_receive_9 23 rfl rfl
theorem dksX4_receive_11 : cX4_receive.data.toList.drop 256 = dktX4_receive_11 := dk_seg dksX4_receive_10 24 rfl rfl
theorem dksX4_receive_12 : cX4_receive.data.toList.drop 279 = dktX4_receive_12 := dk_seg dksX4_receive_11 23 rfl rfl
theorem dksX4_receive_13 : cX4_receive.data.toList.drop 303 = dktX4_receive_13 := dk_seg dksX4_receive_12 24 rfl rfl
theorem dksX4_receive_14 : cX4_receive.data.toList.drop 327 = dktX4_receive_14 := dk_seg dksX4_receive_13 24 rfl rfl
theorem dksX4_receive_15 : cX4_receive.data.toList.drop 350 = dktX4_receive_15 := dk_seg dksX4_receive_14 23 rfl rfl
theorem dX4_receive_0 : decode cX4_receive 0 = .ok (.aload_n 0, 1) := dk_42 (dk_at dksX4_receive_0 0 rfl rfl)
theorem dX4_receive_1 : decode cX4_receive 1 = .ok (.aload_n 0, 1) := dk_42 (dk_at dksX4_receive_0 1 rfl rfl)
theorem dX4_receive_2 : decode cX4_receive 2 = .ok (.iload_n 1, 1) := dk_27 (dk_at dksX4_receive_0 2 rfl rfl)
theorem dX4_receive_3 : decode cX4_receive 3 = .ok (.invokevirtual 62, 3) := dk_182 0 62 (dk_at dksX4_receive_0 3 rfl rfl)
theorem dX4_receive_6 : decode cX4_receive 6 = .ok (.ifCond .eq 7, 3) := dk_153 0 7 (dk_at dksX4_receive_0 6 rfl rfl)
theorem dX4_receive_9 : decode cX4_receive 9 = .ok (.iconst 0, 1) := dk_3 (dk_at dksX4_receive_0 9 rfl rfl)
theorem dX4_receive_10 : decode cX4_receive 10 = .ok (.goto 4, 3) := dk_167 0 4 (dk_at dksX4_receive_0 10 rfl rfl)
theorem dX4_receive_13 : decode cX4_receive 13 = .ok (.iconst 1, 1) := dk_4 (dk_at dksX4_receive_0 13 rfl rfl)
theorem dX4_receive_14 : decode cX4_receive 14 = .ok (.invokevirtual 48, 3) := dk_182 0 48 (dk_at dksX4_receive_0 14 rfl rfl)
theorem dX4_receive_17 : decode cX4_receive 17 = .ok (.ifCond .ne 32, 3) := dk_154 0 32 (dk_at dksX4_receive_0 17 rfl rfl)
theorem dX4_receive_20 : decode cX4_receive 20 = .ok (.aload_n 0, 1) := dk_42 (dk_at dksX4_receive_0 20 rfl rfl)
theorem dX4_receive_21 : decode cX4_receive 21 = .ok (.aload_n 0, 1) := dk_42 (dk_at dksX4_receive_0 21 rfl rfl)
theorem dX4_receive_22 : decode cX4_receive 22 = .ok (.getfield 16, 3) := dk_180 0 16 (dk_at dksX4_receive_1 0 rfl rfl)
theorem dX4_receive_25 : decode cX4_receive 25 = .ok (.iload_n 1, 1) := dk_27 (dk_at dksX4_receive_1 3 rfl rfl)
theorem dX4_receive_26 : decode cX4_receive 26 = .ok (.invokevirtual 65, 3) := dk_182 0 65 (dk_at dksX4_receive_1 4 rfl rfl)
theorem dX4_receive_29 : decode cX4_receive 29 = .ok (.checkcast 57, 3) := dk_192 0 57 (dk_at dksX4_receive_1 7 rfl rfl)
theorem dX4_receive_32 : decode cX4_receive 32 = .ok (.getfield 69, 3) := dk_180 0 69 (dk_at dksX4_receive_1 10 rfl rfl)
theorem dX4_receive_35 : decode cX4_receive 35 = .ok (.ifCond .eq 7, 3) := dk_153 0 7 (dk_at dksX4_receive_1 13 rfl rfl)
theorem dX4_receive_38 : decode cX4_receive 38 = .ok (.iconst 2, 1) := dk_5 (dk_at dksX4_receive_1 16 rfl rfl)
theorem dX4_receive_39 : decode cX4_receive 39 = .ok (.goto 4, 3) := dk_167 0 4 (dk_at dksX4_receive_1 17 rfl rfl)
theorem dX4_receive_42 : decode cX4_receive 42 = .ok (.iconst 0, 1) := dk_3 (dk_at dksX4_receive_1 20 rfl rfl)
theorem dX4_receive_43 : decode cX4_receive 43 = .ok (.invokevirtual 48, 3) := dk_182 0 48 (dk_at dksX4_receive_1 21 rfl rfl)
theorem dX4_receive_46 : decode cX4_receive 46 = .ok (.ifCond .eq 5, 3) := dk_153 0 5 (dk_at dksX4_receive_2 0 rfl rfl)
theorem dX4_receive_49 : decode cX4_receive 49 = .ok (.iconst 0, 1) := dk_3 (dk_at dksX4_receive_2 3 rfl rfl)
theorem dX4_receive_50 : decode cX4_receive 50 = .ok (.ireturn, 1) := dk_172 (dk_at dksX4_receive_2 4 rfl rfl)
theorem dX4_receive_51 : decode cX4_receive 51 = .ok (.iload_n 2, 1) := dk_28 (dk_at dksX4_receive_2 5 rfl rfl)
theorem dX4_receive_52 : decode cX4_receive 52 = .ok (.iconst 1, 1) := dk_4 (dk_at dksX4_receive_2 6 rfl rfl)
theorem dX4_receive_53 : decode cX4_receive 53 = .ok (.sipush 500, 3) := dk_17 1 244 (dk_at dksX4_receive_2 7 rfl rfl)
theorem dX4_receive_56 : decode cX4_receive 56 = .ok (.invokestatic 40, 3) := dk_184 0 40 (dk_at dksX4_receive_2 10 rfl rfl)
theorem dX4_receive_59 : decode cX4_receive 59 = .ok (.ifCond .eq 39, 3) := dk_153 0 39 (dk_at dksX4_receive_2 13 rfl rfl)
theorem dX4_receive_62 : decode cX4_receive 62 = .ok (.iload_n 3, 1) := dk_29 (dk_at dksX4_receive_2 16 rfl rfl)
theorem dX4_receive_63 : decode cX4_receive 63 = .ok (.iconst 0, 1) := dk_3 (dk_at dksX4_receive_2 17 rfl rfl)
theorem dX4_receive_64 : decode cX4_receive 64 = .ok (.sipush 999, 3) := dk_17 3 231 (dk_at dksX4_receive_2 18 rfl rfl)
theorem dX4_receive_67 : decode cX4_receive 67 = .ok (.invokestatic 40, 3) := dk_184 0 40 (dk_at dksX4_receive_2 21 rfl rfl)
theorem dX4_receive_70 : decode cX4_receive 70 = .ok (.ifCond .eq 28, 3) := dk_153 0 28 (dk_at dksX4_receive_3 0 rfl rfl)
theorem dX4_receive_73 : decode cX4_receive 73 = .ok (.iload 4, 2) := dk_21 4 (dk_at dksX4_receive_3 3 rfl rfl)
theorem dX4_receive_75 : decode cX4_receive 75 = .ok (.iconst 0, 1) := dk_3 (dk_at dksX4_receive_3 5 rfl rfl)
theorem dX4_receive_76 : decode cX4_receive 76 = .ok (.iconst 3, 1) := dk_6 (dk_at dksX4_receive_3 6 rfl rfl)
theorem dX4_receive_77 : decode cX4_receive 77 = .ok (.invokestatic 40, 3) := dk_184 0 40 (dk_at dksX4_receive_3 7 rfl rfl)
theorem dX4_receive_80 : decode cX4_receive 80 = .ok (.ifCond .eq 18, 3) := dk_153 0 18 (dk_at dksX4_receive_3 10 rfl rfl)
theorem dX4_receive_83 : decode cX4_receive 83 = .ok (.iload 5, 2) := dk_21 5 (dk_at dksX4_receive_3 13 rfl rfl)
theorem dX4_receive_85 : decode cX4_receive 85 = .ok (.iconst 0, 1) := dk_3 (dk_at dksX4_receive_3 15 rfl rfl)
theorem dX4_receive_86 : decode cX4_receive 86 = .ok (.bipush 20, 2) := dk_16 20 (dk_at dksX4_receive_3 16 rfl rfl)
theorem dX4_receive_88 : decode cX4_receive 88 = .ok (.invokestatic 40, 3) := dk_184 0 40 (dk_at dksX4_receive_3 18 rfl rfl)
theorem dX4_receive_91 : decode cX4_receive 91 = .ok (.ifCond .eq 7, 3) := dk_153 0 7 (dk_at dksX4_receive_3 21 rfl rfl)
theorem dX4_receive_94 : decode cX4_receive 94 = .ok (.iconst 1, 1) := dk_4 (dk_at dksX4_receive_4 0 rfl rfl)
theorem dX4_receive_95 : decode cX4_receive 95 = .ok (.goto 4, 3) := dk_167 0 4 (dk_at dksX4_receive_4 1 rfl rfl)
theorem dX4_receive_98 : decode cX4_receive 98 = .ok (.iconst 0, 1) := dk_3 (dk_at dksX4_receive_4 4 rfl rfl)
theorem dX4_receive_99 : decode cX4_receive 99 = .ok (.istore 6, 2) := dk_54 6 (dk_at dksX4_receive_4 5 rfl rfl)
theorem dX4_receive_101 : decode cX4_receive 101 = .ok (.aload_n 0, 1) := dk_42 (dk_at dksX4_receive_4 7 rfl rfl)
theorem dX4_receive_102 : decode cX4_receive 102 = .ok (.iload 6, 2) := dk_21 6 (dk_at dksX4_receive_4 8 rfl rfl)
theorem dX4_receive_104 : decode cX4_receive 104 = .ok (.ifCond .ne 7, 3) := dk_154 0 7 (dk_at dksX4_receive_4 10 rfl rfl)
theorem dX4_receive_107 : decode cX4_receive 107 = .ok (.iconst 3, 1) := dk_6 (dk_at dksX4_receive_4 13 rfl rfl)
theorem dX4_receive_108 : decode cX4_receive 108 = .ok (.goto 17, 3) := dk_167 0 17 (dk_at dksX4_receive_4 14 rfl rfl)
theorem dX4_receive_111 : decode cX4_receive 111 = .ok (.aload_n 0, 1) := dk_42 (dk_at dksX4_receive_4 17 rfl rfl)
theorem dX4_receive_112 : decode cX4_receive 112 = .ok (.getfield 87, 3) := dk_180 0 87 (dk_at dksX4_receive_4 18 rfl rfl)
theorem dX4_receive_115 : decode cX4_receive 115 = .ok (.bipush 60, 2) := dk_16 60 (dk_at dksX4_receive_4 21 rfl rfl)
theorem dX4_receive_117 : decode cX4_receive 117 = .ok (.if_icmp .ne 7, 3) := dk_160 0 7 (dk_at dksX4_receive_5 0 rfl rfl)
theorem dX4_receive_120 : decode cX4_receive 120 = .ok (.iconst 4, 1) := dk_7 (dk_at dksX4_receive_5 3 rfl rfl)
theorem dX4_receive_121 : decode cX4_receive 121 = .ok (.goto 4, 3) := dk_167 0 4 (dk_at dksX4_receive_5 4 rfl rfl)
theorem dX4_receive_124 : decode cX4_receive 124 = .ok (.iconst 0, 1) := dk_3 (dk_at dksX4_receive_5 7 rfl rfl)
theorem dX4_receive_125 : decode cX4_receive 125 = .ok (.invokevirtual 48, 3) := dk_182 0 48 (dk_at dksX4_receive_5 8 rfl rfl)
theorem dX4_receive_128 : decode cX4_receive 128 = .ok (.ifCond .eq 5, 3) := dk_153 0 5 (dk_at dksX4_receive_5 11 rfl rfl)
theorem dX4_receive_131 : decode cX4_receive 131 = .ok (.iconst 0, 1) := dk_3 (dk_at dksX4_receive_5 14 rfl rfl)
theorem dX4_receive_132 : decode cX4_receive 132 = .ok (.ireturn, 1) := dk_172 (dk_at dksX4_receive_5 15 rfl rfl)
theorem dX4_receive_133 : decode cX4_receive 133 = .ok (.aload_n 0, 1) := dk_42 (dk_at dksX4_receive_5 16 rfl rfl)
theorem dX4_receive_134 : decode cX4_receive 134 = .ok (.dup, 1) := dk_89 (dk_at dksX4_receive_5 17 rfl rfl)
theorem dX4_receive_135 : decode cX4_receive 135 = .ok (.getfield 87, 3) := dk_180 0 87 (dk_at dksX4_receive_5 18 rfl rfl)
theorem dX4_receive_138 : decode cX4_receive 138 = .ok (.iconst 1, 1) := dk_4 (dk_at dksX4_receive_5 21 rfl rfl)
theorem dX4_receive_139 : decode cX4_receive 139 = .ok (.iadd, 1) := dk_96 (dk_at dksX4_receive_5 22 rfl rfl)
theorem dX4_receive_140 : decode cX4_receive 140 = .ok (.putfield 87, 3) := dk_181 0 87 (dk_at dksX4_receive_6 0 rfl rfl)
theorem dX4_receive_143 : decode cX4_receive 143 = .ok (.aload_n 0, 1) := dk_42 (dk_at dksX4_receive_6 3 rfl rfl)
theorem dX4_receive_144 : decode cX4_receive 144 = .ok (.iload_n 1, 1) := dk_27 (dk_at dksX4_receive_6 4 rfl rfl)
theorem dX4_receive_145 : decode cX4_receive 145 = .ok (.iload_n 2, 1) := dk_28 (dk_at dksX4_receive_6 5 rfl rfl)
theorem dX4_receive_146 : decode cX4_receive 146 = .ok (.iload_n 2, 1) := dk_28 (dk_at dksX4_receive_6 6 rfl rfl)
theorem dX4_receive_147 : decode cX4_receive 147 = .ok (.i2l, 1) := dk_133 (dk_at dksX4_receive_6 7 rfl rfl)
theorem dX4_receive_148 : decode cX4_receive 148 = .ok (.iload_n 3, 1) := dk_29 (dk_at dksX4_receive_6 8 rfl rfl)
theorem dX4_receive_149 : decode cX4_receive 149 = .ok (.i2l, 1) := dk_133 (dk_at dksX4_receive_6 9 rfl rfl)
theorem dX4_receive_150 : decode cX4_receive 150 = .ok (.lmul, 1) := dk_105 (dk_at dksX4_receive_6 10 rfl rfl)
theorem dX4_receive_151 : decode cX4_receive 151 = .ok (.invokevirtual 90, 3) := dk_182 0 90 (dk_at dksX4_receive_6 11 rfl rfl)
theorem dX4_receive_154 : decode cX4_receive 154 = .ok (.astore 7, 2) := dk_58 7 (dk_at dksX4_receive_6 14 rfl rfl)
theorem dX4_receive_156 : decode cX4_receive 156 = .ok (.aload_n 0, 1) := dk_42 (dk_at dksX4_receive_6 16 rfl rfl)
theorem dX4_receive_157 : decode cX4_receive 157 = .ok (.getfield 25, 3) := dk_180 0 25 (dk_at dksX4_receive_6 17 rfl rfl)
theorem dX4_receive_160 : decode cX4_receive 160 = .ok (.iload 4, 2) := dk_21 4 (dk_at dksX4_receive_6 20 rfl rfl)
theorem dX4_receive_162 : decode cX4_receive 162 = .ok (.caload, 1) := dk_52 (dk_at dksX4_receive_6 22 rfl rfl)
theorem dX4_receive_163 : decode cX4_receive 163 = .ok (.istore 8, 2) := dk_54 8 (dk_at dksX4_receive_7 0 rfl rfl)
theorem dX4_receive_165 : decode cX4_receive 165 = .ok (.aload 7, 2) := dk_25 7 (dk_at dksX4_receive_7 2 rfl rfl)
theorem dX4_receive_167 : decode cX4_receive 167 = .ok (.iload 5, 2) := dk_21 5 (dk_at dksX4_receive_7 4 rfl rfl)
theorem dX4_receive_169 : decode cX4_receive 169 = .ok (.iload 8, 2) := dk_21 8 (dk_at dksX4_receive_7 6 rfl rfl)
theorem dX4_receive_171 : decode cX4_receive 171 = .ok (.bipush 110, 2) := dk_16 110 (dk_at dksX4_receive_7 8 rfl rfl)
theorem dX4_receive_173 : decode cX4_receive 173 = .ok (.if_icmp .ne 7, 3) := dk_160 0 7 (dk_at dksX4_receive_7 10 rfl rfl)
theorem dX4_receive_176 : decode cX4_receive 176 = .ok (.iconst 2, 1) := dk_5 (dk_at dksX4_receive_7 13 rfl rfl)
theorem dX4_receive_177 : decode cX4_receive 177 = .ok (.goto 15, 3) := dk_167 0 15 (dk_at dksX4_receive_7 14 rfl rfl)
theorem dX4_receive_180 : decode cX4_receive 180 = .ok (.iload 8, 2) := dk_21 8 (dk_at dksX4_receive_7 17 rfl rfl)
theorem dX4_receive_182 : decode cX4_receive 182 = .ok (.bipush 116, 2) := dk_16 116 (dk_at dksX4_receive_7 19 rfl rfl)
theorem dX4_receive_184 : decode cX4_receive 184 = .ok (.if_icmp .ne 7, 3) := dk_160 0 7 (dk_at dksX4_receive_7 21 rfl rfl)
theorem dX4_receive_187 : decode cX4_receive 187 = .ok (.iconst 1, 1) := dk_4 (dk_at dksX4_receive_8 0 rfl rfl)
theorem dX4_receive_188 : decode cX4_receive 188 = .ok (.goto 4, 3) := dk_167 0 4 (dk_at dksX4_receive_8 1 rfl rfl)
theorem dX4_receive_191 : decode cX4_receive 191 = .ok (.iconst 4, 1) := dk_7 (dk_at dksX4_receive_8 4 rfl rfl)
theorem dX4_receive_192 : decode cX4_receive 192 = .ok (.if_icmp .le 7, 3) := dk_164 0 7 (dk_at dksX4_receive_8 5 rfl rfl)
theorem dX4_receive_195 : decode cX4_receive 195 = .ok (.iconst 1, 1) := dk_4 (dk_at dksX4_receive_8 8 rfl rfl)
theorem dX4_receive_196 : decode cX4_receive 196 = .ok (.goto 4, 3) := dk_167 0 4 (dk_at dksX4_receive_8 9 rfl rfl)
theorem dX4_receive_199 : decode cX4_receive 199 = .ok (.iconst 0, 1) := dk_3 (dk_at dksX4_receive_8 12 rfl rfl)
theorem dX4_receive_200 : decode cX4_receive 200 = .ok (.putfield 94, 3) := dk_181 0 94 (dk_at dksX4_receive_8 13 rfl rfl)
theorem dX4_receive_203 : decode cX4_receive 203 = .ok (.aload_n 0, 1) := dk_42 (dk_at dksX4_receive_8 16 rfl rfl)
theorem dX4_receive_204 : decode cX4_receive 204 = .ok (.getfield 29, 3) := dk_180 0 29 (dk_at dksX4_receive_8 17 rfl rfl)
theorem dX4_receive_207 : decode cX4_receive 207 = .ok (.iload 4, 2) := dk_21 4 (dk_at dksX4_receive_8 20 rfl rfl)
theorem dX4_receive_209 : decode cX4_receive 209 = .ok (.invokevirtual 65, 3) := dk_182 0 65 (dk_at dksX4_receive_9 0 rfl rfl)
theorem dX4_receive_212 : decode cX4_receive 212 = .ok (.checkcast 7, 3) := dk_192 0 7 (dk_at dksX4_receive_9 3 rfl rfl)
theorem dX4_receive_215 : decode cX4_receive 215 = .ok (.astore 9, 2) := dk_58 9 (dk_at dksX4_receive_9 6 rfl rfl)
theorem dX4_receive_217 : decode cX4_receive 217 = .ok (.aload 9, 2) := dk_25 9 (dk_at dksX4_receive_9 8 rfl rfl)
theorem dX4_receive_219 : decode cX4_receive 219 = .ok (.aload 7, 2) := dk_25 7 (dk_at dksX4_receive_9 10 rfl rfl)
theorem dX4_receive_221 : decode cX4_receive 221 = .ok (.getfield 94, 3) := dk_180 0 94 (dk_at dksX4_receive_9 12 rfl rfl)
theorem dX4_receive_224 : decode cX4_receive 224 = .ok (.invokestatic 97, 3) := dk_184 0 97 (dk_at dksX4_receive_9 15 rfl rfl)
theorem dX4_receive_227 : decode cX4_receive 227 = .ok (.invokevirtual 32, 3) := dk_182 0 32 (dk_at dksX4_receive_9 18 rfl rfl)
theorem dX4_receive_230 : decode cX4_receive 230 = .ok (.istore 10, 2) := dk_54 10 (dk_at dksX4_receive_9 21 rfl rfl)
theorem dX4_receive_232 : decode cX4_receive 232 = .ok (.iload 8, 2) := dk_21 8 (dk_at dksX4_receive_10 0 rfl rfl)
theorem dX4_receive_234 : decode cX4_receive 234 = .ok (.istore 11, 2) := dk_54 11 (dk_at dksX4_receive_10 2 rfl rfl)
theorem dX4_receive_236 : decode cX4_receive 236 = .ok (.iload 8, 2) := dk_21 8 (dk_at dksX4_receive_10 4 rfl rfl)
theorem dX4_receive_238 : decode cX4_receive 238 = .ok (.bipush 110, 2) := dk_16 110 (dk_at dksX4_receive_10 6 rfl rfl)
theorem dX4_receive_240 : decode cX4_receive 240 = .ok (.if_icmp .ne 51, 3) := dk_160 0 51 (dk_at dksX4_receive_10 8 rfl rfl)
theorem dX4_receive_243 : decode cX4_receive 243 = .ok (.aload 9, 2) := dk_25 9 (dk_at dksX4_receive_10 11 rfl rfl)
theorem dX4_receive_245 : decode cX4_receive 245 = .ok (.iconst 5, 1) := dk_8 (dk_at dksX4_receive_10 13 rfl rfl)
theorem dX4_receive_246 : decode cX4_receive 246 = .ok (.iconst 1, 1) := dk_4 (dk_at dksX4_receive_10 14 rfl rfl)
theorem dX4_receive_247 : decode cX4_receive 247 = .ok (.invokestatic 103, 3) := dk_184 0 103 (dk_at dksX4_receive_10 15 rfl rfl)
theorem dX4_receive_250 : decode cX4_receive 250 = .ok (.iconst 2, 1) := dk_5 (dk_at dksX4_receive_10 18 rfl rfl)
theorem dX4_receive_251 : decode cX4_receive 251 = .ok (.if_icmp .lt 8, 3) := dk_161 0 8 (dk_at dksX4_receive_10 19 rfl rfl)
theorem dX4_receive_254 : decode cX4_receive 254 = .ok (.bipush 116, 2) := dk_16 116 (dk_at dksX4_receive_10 22 rfl rfl)
theorem dX4_receive_256 : decode cX4_receive 256 = .ok (.goto 30, 3) := dk_167 0 30 (dk_at dksX4_receive_11 0 rfl rfl)
theorem dX4_receive_259 : decode cX4_receive 259 = .ok (.aload 9, 2) := dk_25 9 (dk_at dksX4_receive_11 3 rfl rfl)
theorem dX4_receive_261 : decode cX4_receive 261 = .ok (.invokevirtual 44, 3) := dk_182 0 44 (dk_at dksX4_receive_11 5 rfl rfl)
theorem dX4_receive_264 : decode cX4_receive 264 = .ok (.iconst 4, 1) := dk_7 (dk_at dksX4_receive_11 8 rfl rfl)
theorem dX4_receive_265 : decode cX4_receive 265 = .ok (.if_icmp .lt 19, 3) := dk_161 0 19 (dk_at dksX4_receive_11 9 rfl rfl)
theorem dX4_receive_268 : decode cX4_receive 268 = .ok (.aload 9, 2) := dk_25 9 (dk_at dksX4_receive_11 12 rfl rfl)
theorem dX4_receive_270 : decode cX4_receive 270 = .ok (.iconst 4, 1) := dk_7 (dk_at dksX4_receive_11 14 rfl rfl)
theorem dX4_receive_271 : decode cX4_receive 271 = .ok (.iconst 0, 1) := dk_3 (dk_at dksX4_receive_11 15 rfl rfl)
theorem dX4_receive_272 : decode cX4_receive 272 = .ok (.invokestatic 103, 3) := dk_184 0 103 (dk_at dksX4_receive_11 16 rfl rfl)
theorem dX4_receive_275 : decode cX4_receive 275 = .ok (.iconst 4, 1) := dk_7 (dk_at dksX4_receive_11 19 rfl rfl)
theorem dX4_receive_276 : decode cX4_receive 276 = .ok (.if_icmp .ne 8, 3) := dk_160 0 8 (dk_at dksX4_receive_11 20 rfl rfl)
theorem dX4_receive_279 : decode cX4_receive 279 = .ok (.bipush 114, 2) := dk_16 114 (dk_at dksX4_receive_12 0 rfl rfl)
theorem dX4_receive_281 : decode cX4_receive 281 = .ok (.goto 5, 3) := dk_167 0 5 (dk_at dksX4_receive_12 2 rfl rfl)
theorem dX4_receive_284 : decode cX4_receive 284 = .ok (.bipush 110, 2) := dk_16 110 (dk_at dksX4_receive_12 5 rfl rfl)
theorem dX4_receive_286 : decode cX4_receive 286 = .ok (.istore 11, 2) := dk_54 11 (dk_at dksX4_receive_12 7 rfl rfl)
theorem dX4_receive_288 : decode cX4_receive 288 = .ok (.goto 54, 3) := dk_167 0 54 (dk_at dksX4_receive_12 9 rfl rfl)
theorem dX4_receive_291 : decode cX4_receive 291 = .ok (.iload 8, 2) := dk_21 8 (dk_at dksX4_receive_12 12 rfl rfl)
theorem dX4_receive_293 : decode cX4_receive 293 = .ok (.bipush 116, 2) := dk_16 116 (dk_at dksX4_receive_12 14 rfl rfl)
theorem dX4_receive_295 : decode cX4_receive 295 = .ok (.if_icmp .ne 35, 3) := dk_160 0 35 (dk_at dksX4_receive_12 16 rfl rfl)
theorem dX4_receive_298 : decode cX4_receive 298 = .ok (.aload 9, 2) := dk_25 9 (dk_at dksX4_receive_12 19 rfl rfl)
theorem dX4_receive_300 : decode cX4_receive 300 = .ok (.invokevirtual 44, 3) := dk_182 0 44 (dk_at dksX4_receive_12 21 rfl rfl)
theorem dX4_receive_303 : decode cX4_receive 303 = .ok (.iconst 3, 1) := dk_6 (dk_at dksX4_receive_13 0 rfl rfl)
theorem dX4_receive_304 : decode cX4_receive 304 = .ok (.if_icmp .lt 19, 3) := dk_161 0 19 (dk_at dksX4_receive_13 1 rfl rfl)
theorem dX4_receive_307 : decode cX4_receive 307 = .ok (.aload 9, 2) := dk_25 9 (dk_at dksX4_receive_13 4 rfl rfl)
theorem dX4_receive_309 : decode cX4_receive 309 = .ok (.iconst 3, 1) := dk_6 (dk_at dksX4_receive_13 6 rfl rfl)
theorem dX4_receive_310 : decode cX4_receive 310 = .ok (.iconst 0, 1) := dk_3 (dk_at dksX4_receive_13 7 rfl rfl)
theorem dX4_receive_311 : decode cX4_receive 311 = .ok (.invokestatic 103, 3) := dk_184 0 103 (dk_at dksX4_receive_13 8 rfl rfl)
theorem dX4_receive_314 : decode cX4_receive 314 = .ok (.iconst 3, 1) := dk_6 (dk_at dksX4_receive_13 11 rfl rfl)
theorem dX4_receive_315 : decode cX4_receive 315 = .ok (.if_icmp .ne 8, 3) := dk_160 0 8 (dk_at dksX4_receive_13 12 rfl rfl)
theorem dX4_receive_318 : decode cX4_receive 318 = .ok (.bipush 110, 2) := dk_16 110 (dk_at dksX4_receive_13 15 rfl rfl)
theorem dX4_receive_320 : decode cX4_receive 320 = .ok (.goto 5, 3) := dk_167 0 5 (dk_at dksX4_receive_13 17 rfl rfl)
theorem dX4_receive_323 : decode cX4_receive 323 = .ok (.bipush 116, 2) := dk_16 116 (dk_at dksX4_receive_13 20 rfl rfl)
theorem dX4_receive_325 : decode cX4_receive 325 = .ok (.istore 11, 2) := dk_54 11 (dk_at dksX4_receive_13 22 rfl rfl)
theorem dX4_receive_327 : decode cX4_receive 327 = .ok (.goto 15, 3) := dk_167 0 15 (dk_at dksX4_receive_14 0 rfl rfl)
theorem dX4_receive_330 : decode cX4_receive 330 = .ok (.aload 7, 2) := dk_25 7 (dk_at dksX4_receive_14 3 rfl rfl)
theorem dX4_receive_332 : decode cX4_receive 332 = .ok (.getfield 94, 3) := dk_180 0 94 (dk_at dksX4_receive_14 5 rfl rfl)
theorem dX4_receive_335 : decode cX4_receive 335 = .ok (.ifCond .eq 7, 3) := dk_153 0 7 (dk_at dksX4_receive_14 8 rfl rfl)
theorem dX4_receive_338 : decode cX4_receive 338 = .ok (.bipush 110, 2) := dk_16 110 (dk_at dksX4_receive_14 11 rfl rfl)
theorem dX4_receive_340 : decode cX4_receive 340 = .ok (.istore 11, 2) := dk_54 11 (dk_at dksX4_receive_14 13 rfl rfl)
theorem dX4_receive_342 : decode cX4_receive 342 = .ok (.iload 11, 2) := dk_21 11 (dk_at dksX4_receive_14 15 rfl rfl)
theorem dX4_receive_344 : decode cX4_receive 344 = .ok (.iload 8, 2) := dk_21 8 (dk_at dksX4_receive_14 17 rfl rfl)
theorem dX4_receive_346 : decode cX4_receive 346 = .ok (.if_icmp .eq 17, 3) := dk_159 0 17 (dk_at dksX4_receive_14 19 rfl rfl)
theorem dX4_receive_349 : decode cX4_receive 349 = .ok (.aload_n 0, 1) := dk_42 (dk_at dksX4_receive_14 22 rfl rfl)
theorem dX4_receive_350 : decode cX4_receive 350 = .ok (.getfield 25, 3) := dk_180 0 25 (dk_at dksX4_receive_15 0 rfl rfl)
theorem dX4_receive_353 : decode cX4_receive 353 = .ok (.iload 4, 2) := dk_21 4 (dk_at dksX4_receive_15 3 rfl rfl)
theorem dX4_receive_355 : decode cX4_receive 355 = .ok (.iload 11, 2) := dk_21 11 (dk_at dksX4_receive_15 5 rfl rfl)
theorem dX4_receive_357 : decode cX4_receive 357 = .ok (.castore, 1) := dk_85 (dk_at dksX4_receive_15 7 rfl rfl)
theorem dX4_receive_358 : decode cX4_receive 358 = .ok (.aload 9, 2) := dk_25 9 (dk_at dksX4_receive_15 8 rfl rfl)
theorem dX4_receive_360 : decode cX4_receive 360 = .ok (.invokevirtual 107, 3) := dk_182 0 107 (dk_at dksX4_receive_15 10 rfl rfl)
theorem dX4_receive_363 : decode cX4_receive 363 = .ok (.aload 7, 2) := dk_25 7 (dk_at dksX4_receive_15 13 rfl rfl)
theorem dX4_receive_365 : decode cX4_receive 365 = .ok (.getfield 110, 3) := dk_180 0 110 (dk_at dksX4_receive_15 15 rfl rfl)
theorem dX4_receive_368 : decode cX4_receive 368 = .ok (.ireturn, 1) := dk_172 (dk_at dksX4_receive_15 18 rfl rfl)
abbrev cX4_lot : ByteArray := prog_19_method_11_code
def yX4_lot : MethodName := ⟨RX4, "lot", "(IIJ)LFoundrymarkModel$Lot;"⟩
def dkwX4_lot_1 : List UInt8 := [25, 5, 182, 0, 32, 54, 6, 25, 5, 176]
abbrev dktX4_lot_1 : List UInt8 := dkwX4_lot_1 ++ []
def dkwX4_lot_0 : List UInt8 := [187, 0, 82, 89, 42, 180, 0, 19, 182, 0, 44, 27, 28, 33, 183, 0, 84, 58, 5, 42, 180, 0, 19]
abbrev dktX4_lot_0 : List UInt8 := dkwX4_lot_0 ++ dktX4_lot_1
theorem dksX4_lot_0 : cX4_lot.data.toList.drop 0 = dktX4_lot_0 := by decide +kernel
theorem dksX4_lot_1 : cX4_lot.data.toList.drop 23 = dktX4_lot_1 := dk_seg dksX4_lot_0 23 rfl rfl
theorem dX4_lot_0 : decode cX4_lot 0 = .ok (.new 82, 3) := dk_187 0 82 (dk_at dksX4_lot_0 0 rfl rfl)
theorem dX4_lot_3 : decode cX4_lot 3 = .ok (.dup, 1) := dk_89 (dk_at dksX4_lot_0 3 rfl rfl)
theorem dX4_lot_4 : decode cX4_lot 4 = .ok (.aload_n 0, 1) := dk_42 (dk_at dksX4_lot_0 4 rfl rfl)
theorem dX4_lot_5 : decode cX4_lot 5 = .ok (.getfield 19, 3) := dk_180 0 19 (dk_at dksX4_lot_0 5 rfl rfl)
theorem dX4_lot_8 : decode cX4_lot 8 = .ok (.invokevirtual 44, 3) := dk_182 0 44 (dk_at dksX4_lot_0 8 rfl rfl)
theorem dX4_lot_11 : decode cX4_lot 11 = .ok (.iload_n 1, 1) := dk_27 (dk_at dksX4_lot_0 11 rfl rfl)
theorem dX4_lot_12 : decode cX4_lot 12 = .ok (.iload_n 2, 1) := dk_28 (dk_at dksX4_lot_0 12 rfl rfl)
theorem dX4_lot_13 : decode cX4_lot 13 = .ok (.lload_n 3, 1) := dk_33 (dk_at dksX4_lot_0 13 rfl rfl)
theorem dX4_lot_14 : decode cX4_lot 14 = .ok (.invokespecial 84, 3) := dk_183 0 84 (dk_at dksX4_lot_0 14 rfl rfl)
theorem dX4_lot_17 : decode cX4_lot 17 = .ok (.astore 5, 2) := dk_58 5 (dk_at dksX4_lot_0 17 rfl rfl)
theorem dX4_lot_19 : decode cX4_lot 19 = .ok (.aload_n 0, 1) := dk_42 (dk_at dksX4_lot_0 19 rfl rfl)
theorem dX4_lot_20 : decode cX4_lot 20 = .ok (.getfield 19, 3) := dk_180 0 19 (dk_at dksX4_lot_0 20 rfl rfl)
theorem dX4_lot_23 : decode cX4_lot 23 = .ok (.aload 5, 2) := dk_25 5 (dk_at dksX4_lot_1 0 rfl rfl)
theorem dX4_lot_25 : decode cX4_lot 25 = .ok (.invokevirtual 32, 3) := dk_182 0 32 (dk_at dksX4_lot_1 2 rfl rfl)
theorem dX4_lot_28 : decode cX4_lot 28 = .ok (.istore 6, 2) := dk_54 6 (dk_at dksX4_lot_1 5 rfl rfl)
theorem dX4_lot_30 : decode cX4_lot 30 = .ok (.aload 5, 2) := dk_25 5 (dk_at dksX4_lot_1 7 rfl rfl)
theorem dX4_lot_32 : decode cX4_lot 32 = .ok (.areturn, 1) := dk_176 (dk_at dksX4_lot_1 9 rfl rfl)
abbrev cX4_among : ByteArray := prog_19_method_13_code
def yX4_among : MethodName := ⟨RX4, "among", "(Ljava/util/ArrayList;IZ)I"⟩
def dkwX4_among_2 : List UInt8 := [132, 4, 1, 167, 255, 220, 29, 172]
abbrev dktX4_among_2 : List UInt8 := dkwX4_among_2 ++ []
def dkwX4_among_1 : List UInt8 := [42, 21, 4, 182, 0, 65, 192, 0, 98, 182, 0, 119, 28, 160, 0, 7, 4, 167, 0, 4, 3, 96, 62]
abbrev dktX4_among_1 : List UInt8 := dkwX4_among_1 ++ dktX4_among_2
def dkwX4_among_0 : List UInt8 := [3, 62, 3, 42, 182, 0, 44, 27, 100, 184, 0, 113, 54, 4, 21, 4, 42, 182, 0, 44, 162, 0, 33, 29]
abbrev dktX4_among_0 : List UInt8 := dkwX4_among_0 ++ dktX4_among_1
theorem dksX4_among_0 : cX4_among.data.toList.drop 0 = dktX4_among_0 := by decide +kernel
theorem dksX4_among_1 : cX4_among.data.toList.drop 24 = dktX4_among_1 := dk_seg dksX4_among_0 24 rfl rfl
theorem dksX4_among_2 : cX4_among.data.toList.drop 47 = dktX4_among_2 := dk_seg dksX4_among_1 23 rfl rfl
theorem dX4_among_0 : decode cX4_among 0 = .ok (.iconst 0, 1) := dk_3 (dk_at dksX4_among_0 0 rfl rfl)
theorem dX4_among_1 : decode cX4_among 1 = .ok (.istore_n 3, 1) := dk_62 (dk_at dksX4_among_0 1 rfl rfl)
theorem dX4_among_2 : decode cX4_among 2 = .ok (.iconst 0, 1) := dk_3 (dk_at dksX4_among_0 2 rfl rfl)
theorem dX4_among_3 : decode cX4_among 3 = .ok (.aload_n 0, 1) := dk_42 (dk_at dksX4_among_0 3 rfl rfl)
theorem dX4_among_4 : decode cX4_among 4 = .ok (.invokevirtual 44, 3) := dk_182 0 44 (dk_at dksX4_among_0 4 rfl rfl)
theorem dX4_among_7 : decode cX4_among 7 = .ok (.iload_n 1, 1) := dk_27 (dk_at dksX4_among_0 7 rfl rfl)
theorem dX4_among_8 : decode cX4_among 8 = .ok (.isub, 1) := dk_100 (dk_at dksX4_among_0 8 rfl rfl)
theorem dX4_among_9 : decode cX4_among 9 = .ok (.invokestatic 113, 3) := dk_184 0 113 (dk_at dksX4_among_0 9 rfl rfl)
theorem dX4_among_12 : decode cX4_among 12 = .ok (.istore 4, 2) := dk_54 4 (dk_at dksX4_among_0 12 rfl rfl)
theorem dX4_among_14 : decode cX4_among 14 = .ok (.iload 4, 2) := dk_21 4 (dk_at dksX4_among_0 14 rfl rfl)
theorem dX4_among_16 : decode cX4_among 16 = .ok (.aload_n 0, 1) := dk_42 (dk_at dksX4_among_0 16 rfl rfl)
theorem dX4_among_17 : decode cX4_among 17 = .ok (.invokevirtual 44, 3) := dk_182 0 44 (dk_at dksX4_among_0 17 rfl rfl)
theorem dX4_among_20 : decode cX4_among 20 = .ok (.if_icmp .ge 33, 3) := dk_162 0 33 (dk_at dksX4_among_0 20 rfl rfl)
theorem dX4_among_23 : decode cX4_among 23 = .ok (.iload_n 3, 1) := dk_29 (dk_at dksX4_among_0 23 rfl rfl)
theorem dX4_among_24 : decode cX4_among 24 = .ok (.aload_n 0, 1) := dk_42 (dk_at dksX4_among_1 0 rfl rfl)
theorem dX4_among_25 : decode cX4_among 25 = .ok (.iload 4, 2) := dk_21 4 (dk_at dksX4_among_1 1 rfl rfl)
theorem dX4_among_27 : decode cX4_among 27 = .ok (.invokevirtual 65, 3) := dk_182 0 65 (dk_at dksX4_among_1 3 rfl rfl)
theorem dX4_among_30 : decode cX4_among 30 = .ok (.checkcast 98, 3) := dk_192 0 98 (dk_at dksX4_among_1 6 rfl rfl)
theorem dX4_among_33 : decode cX4_among 33 = .ok (.invokevirtual 119, 3) := dk_182 0 119 (dk_at dksX4_among_1 9 rfl rfl)
theorem dX4_among_36 : decode cX4_among 36 = .ok (.iload_n 2, 1) := dk_28 (dk_at dksX4_among_1 12 rfl rfl)
theorem dX4_among_37 : decode cX4_among 37 = .ok (.if_icmp .ne 7, 3) := dk_160 0 7 (dk_at dksX4_among_1 13 rfl rfl)
theorem dX4_among_40 : decode cX4_among 40 = .ok (.iconst 1, 1) := dk_4 (dk_at dksX4_among_1 16 rfl rfl)
theorem dX4_among_41 : decode cX4_among 41 = .ok (.goto 4, 3) := dk_167 0 4 (dk_at dksX4_among_1 17 rfl rfl)
theorem dX4_among_44 : decode cX4_among 44 = .ok (.iconst 0, 1) := dk_3 (dk_at dksX4_among_1 20 rfl rfl)
theorem dX4_among_45 : decode cX4_among 45 = .ok (.iadd, 1) := dk_96 (dk_at dksX4_among_1 21 rfl rfl)
theorem dX4_among_46 : decode cX4_among 46 = .ok (.istore_n 3, 1) := dk_62 (dk_at dksX4_among_1 22 rfl rfl)
theorem dX4_among_47 : decode cX4_among 47 = .ok (.iinc 4 1, 3) := dk_132 4 1 (dk_at dksX4_among_2 0 rfl rfl)
theorem dX4_among_50 : decode cX4_among 50 = .ok (.goto (-36), 3) := dk_167 255 220 (dk_at dksX4_among_2 3 rfl rfl)
theorem dX4_among_53 : decode cX4_among 53 = .ok (.iload_n 3, 1) := dk_29 (dk_at dksX4_among_2 6 rfl rfl)
theorem dX4_among_54 : decode cX4_among 54 = .ok (.ireturn, 1) := dk_172 (dk_at dksX4_among_2 7 rfl rfl)
abbrev cX4_rule : ByteArray := prog_19_method_14_code
def yX4_rule : MethodName := ⟨RX4, "rule", "(I)C"⟩
def dkwX4_rule_1 : List UInt8 := [167, 0, 9, 42, 180, 0, 25, 27, 52, 172]
abbrev dktX4_rule_1 : List UInt8 := dkwX4_rule_1 ++ []
def dkwX4_rule_0 : List UInt8 := [42, 27, 3, 6, 184, 0, 40, 153, 0, 7, 3, 167, 0, 4, 4, 182, 0, 48, 153, 0, 7, 3]
abbrev dktX4_rule_0 : List UInt8 := dkwX4_rule_0 ++ dktX4_rule_1
theorem dksX4_rule_0 : cX4_rule.data.toList.drop 0 = dktX4_rule_0 := by decide +kernel
theorem dksX4_rule_1 : cX4_rule.data.toList.drop 22 = dktX4_rule_1 := dk_seg dksX4_rule_0 22 rfl rfl
theorem dX4_rule_0 : decode cX4_rule 0 = .ok (.aload_n 0, 1) := dk_42 (dk_at dksX4_rule_0 0 rfl rfl)
theorem dX4_rule_1 : decode cX4_rule 1 = .ok (.iload_n 1, 1) := dk_27 (dk_at dksX4_rule_0 1 rfl rfl)
theorem dX4_rule_2 : decode cX4_rule 2 = .ok (.iconst 0, 1) := dk_3 (dk_at dksX4_rule_0 2 rfl rfl)
theorem dX4_rule_3 : decode cX4_rule 3 = .ok (.iconst 3, 1) := dk_6 (dk_at dksX4_rule_0 3 rfl rfl)
theorem dX4_rule_4 : decode cX4_rule 4 = .ok (.invokestatic 40, 3) := dk_184 0 40 (dk_at dksX4_rule_0 4 rfl rfl)
theorem dX4_rule_7 : decode cX4_rule 7 = .ok (.ifCond .eq 7, 3) := dk_153 0 7 (dk_at dksX4_rule_0 7 rfl rfl)
theorem dX4_rule_10 : decode cX4_rule 10 = .ok (.iconst 0, 1) := dk_3 (dk_at dksX4_rule_0 10 rfl rfl)
theorem dX4_rule_11 : decode cX4_rule 11 = .ok (.goto 4, 3) := dk_167 0 4 (dk_at dksX4_rule_0 11 rfl rfl)
theorem dX4_rule_14 : decode cX4_rule 14 = .ok (.iconst 1, 1) := dk_4 (dk_at dksX4_rule_0 14 rfl rfl)
theorem dX4_rule_15 : decode cX4_rule 15 = .ok (.invokevirtual 48, 3) := dk_182 0 48 (dk_at dksX4_rule_0 15 rfl rfl)
theorem dX4_rule_18 : decode cX4_rule 18 = .ok (.ifCond .eq 7, 3) := dk_153 0 7 (dk_at dksX4_rule_0 18 rfl rfl)
theorem dX4_rule_21 : decode cX4_rule 21 = .ok (.iconst 0, 1) := dk_3 (dk_at dksX4_rule_0 21 rfl rfl)
theorem dX4_rule_22 : decode cX4_rule 22 = .ok (.goto 9, 3) := dk_167 0 9 (dk_at dksX4_rule_1 0 rfl rfl)
theorem dX4_rule_25 : decode cX4_rule 25 = .ok (.aload_n 0, 1) := dk_42 (dk_at dksX4_rule_1 3 rfl rfl)
theorem dX4_rule_26 : decode cX4_rule 26 = .ok (.getfield 25, 3) := dk_180 0 25 (dk_at dksX4_rule_1 4 rfl rfl)
theorem dX4_rule_29 : decode cX4_rule 29 = .ok (.iload_n 1, 1) := dk_27 (dk_at dksX4_rule_1 7 rfl rfl)
theorem dX4_rule_30 : decode cX4_rule 30 = .ok (.caload, 1) := dk_52 (dk_at dksX4_rule_1 8 rfl rfl)
theorem dX4_rule_31 : decode cX4_rule 31 = .ok (.ireturn, 1) := dk_172 (dk_at dksX4_rule_1 9 rfl rfl)
abbrev cX4_hold : ByteArray := prog_19_method_18_code
def yX4_hold : MethodName := ⟨RX4, "hold", "(IZ)I"⟩
def dkwX4_hold_1 : List UInt8 := [181, 0, 94, 28, 153, 0, 10, 42, 182, 0, 164, 167, 0, 4, 3, 172]
abbrev dktX4_hold_1 : List UInt8 := dkwX4_hold_1 ++ []
def dkwX4_hold_0 : List UInt8 := [42, 27, 182, 0, 161, 153, 0, 5, 3, 172, 42, 180, 0, 19, 27, 182, 0, 65, 192, 0, 82, 28]
abbrev dktX4_hold_0 : List UInt8 := dkwX4_hold_0 ++ dktX4_hold_1
theorem dksX4_hold_0 : cX4_hold.data.toList.drop 0 = dktX4_hold_0 := by decide +kernel
theorem dksX4_hold_1 : cX4_hold.data.toList.drop 22 = dktX4_hold_1 := dk_seg dksX4_hold_0 22 rfl rfl
theorem dX4_hold_0 : decode cX4_hold 0 = .ok (.aload_n 0, 1) := dk_42 (dk_at dksX4_hold_0 0 rfl rfl)
theorem dX4_hold_1 : decode cX4_hold 1 = .ok (.iload_n 1, 1) := dk_27 (dk_at dksX4_hold_0 1 rfl rfl)
theorem dX4_hold_2 : decode cX4_hold 2 = .ok (.invokevirtual 161, 3) := dk_182 0 161 (dk_at dksX4_hold_0 2 rfl rfl)
theorem dX4_hold_5 : decode cX4_hold 5 = .ok (.ifCond .eq 5, 3) := dk_153 0 5 (dk_at dksX4_hold_0 5 rfl rfl)
theorem dX4_hold_8 : decode cX4_hold 8 = .ok (.iconst 0, 1) := dk_3 (dk_at dksX4_hold_0 8 rfl rfl)
theorem dX4_hold_9 : decode cX4_hold 9 = .ok (.ireturn, 1) := dk_172 (dk_at dksX4_hold_0 9 rfl rfl)
theorem dX4_hold_10 : decode cX4_hold 10 = .ok (.aload_n 0, 1) := dk_42 (dk_at dksX4_hold_0 10 rfl rfl)
theorem dX4_hold_11 : decode cX4_hold 11 = .ok (.getfield 19, 3) := dk_180 0 19 (dk_at dksX4_hold_0 11 rfl rfl)
theorem dX4_hold_14 : decode cX4_hold 14 = .ok (.iload_n 1, 1) := dk_27 (dk_at dksX4_hold_0 14 rfl rfl)
theorem dX4_hold_15 : decode cX4_hold 15 = .ok (.invokevirtual 65, 3) := dk_182 0 65 (dk_at dksX4_hold_0 15 rfl rfl)
theorem dX4_hold_18 : decode cX4_hold 18 = .ok (.checkcast 82, 3) := dk_192 0 82 (dk_at dksX4_hold_0 18 rfl rfl)
theorem dX4_hold_21 : decode cX4_hold 21 = .ok (.iload_n 2, 1) := dk_28 (dk_at dksX4_hold_0 21 rfl rfl)
theorem dX4_hold_22 : decode cX4_hold 22 = .ok (.putfield 94, 3) := dk_181 0 94 (dk_at dksX4_hold_1 0 rfl rfl)
theorem dX4_hold_25 : decode cX4_hold 25 = .ok (.iload_n 2, 1) := dk_28 (dk_at dksX4_hold_1 3 rfl rfl)
theorem dX4_hold_26 : decode cX4_hold 26 = .ok (.ifCond .eq 10, 3) := dk_153 0 10 (dk_at dksX4_hold_1 4 rfl rfl)
theorem dX4_hold_29 : decode cX4_hold 29 = .ok (.aload_n 0, 1) := dk_42 (dk_at dksX4_hold_1 7 rfl rfl)
theorem dX4_hold_30 : decode cX4_hold 30 = .ok (.invokevirtual 164, 3) := dk_182 0 164 (dk_at dksX4_hold_1 8 rfl rfl)
theorem dX4_hold_33 : decode cX4_hold 33 = .ok (.goto 4, 3) := dk_167 0 4 (dk_at dksX4_hold_1 11 rfl rfl)
theorem dX4_hold_36 : decode cX4_hold 36 = .ok (.iconst 0, 1) := dk_3 (dk_at dksX4_hold_1 14 rfl rfl)
theorem dX4_hold_37 : decode cX4_hold 37 = .ok (.ireturn, 1) := dk_172 (dk_at dksX4_hold_1 15 rfl rfl)
abbrev cX4_failsLot : ByteArray := prog_19_method_15_code
def yX4_failsLot : MethodName := ⟨RX4, "failsLot", "(I)Z"⟩
def dkwX4_failsLot_1 : List UInt8 := [182, 0, 48, 172]
abbrev dktX4_failsLot_1 : List UInt8 := dkwX4_failsLot_1 ++ []
def dkwX4_failsLot_0 : List UInt8 := [42, 27, 3, 42, 180, 0, 19, 182, 0, 44, 4, 100, 184, 0, 40, 153, 0, 7, 3, 167, 0, 4, 4]
abbrev dktX4_failsLot_0 : List UInt8 := dkwX4_failsLot_0 ++ dktX4_failsLot_1
theorem dksX4_failsLot_0 : cX4_failsLot.data.toList.drop 0 = dktX4_failsLot_0 := by decide +kernel
theorem dksX4_failsLot_1 : cX4_failsLot.data.toList.drop 23 = dktX4_failsLot_1 := dk_seg dksX4_failsLot_0 23 rfl rfl
theorem dX4_failsLot_0 : decode cX4_failsLot 0 = .ok (.aload_n 0, 1) := dk_42 (dk_at dksX4_failsLot_0 0 rfl rfl)
theorem dX4_failsLot_1 : decode cX4_failsLot 1 = .ok (.iload_n 1, 1) := dk_27 (dk_at dksX4_failsLot_0 1 rfl rfl)
theorem dX4_failsLot_2 : decode cX4_failsLot 2 = .ok (.iconst 0, 1) := dk_3 (dk_at dksX4_failsLot_0 2 rfl rfl)
theorem dX4_failsLot_3 : decode cX4_failsLot 3 = .ok (.aload_n 0, 1) := dk_42 (dk_at dksX4_failsLot_0 3 rfl rfl)
theorem dX4_failsLot_4 : decode cX4_failsLot 4 = .ok (.getfield 19, 3) := dk_180 0 19 (dk_at dksX4_failsLot_0 4 rfl rfl)
theorem dX4_failsLot_7 : decode cX4_failsLot 7 = .ok (.invokevirtual 44, 3) := dk_182 0 44 (dk_at dksX4_failsLot_0 7 rfl rfl)
theorem dX4_failsLot_10 : decode cX4_failsLot 10 = .ok (.iconst 1, 1) := dk_4 (dk_at dksX4_failsLot_0 10 rfl rfl)
theorem dX4_failsLot_11 : decode cX4_failsLot 11 = .ok (.isub, 1) := dk_100 (dk_at dksX4_failsLot_0 11 rfl rfl)
theorem dX4_failsLot_12 : decode cX4_failsLot 12 = .ok (.invokestatic 40, 3) := dk_184 0 40 (dk_at dksX4_failsLot_0 12 rfl rfl)
theorem dX4_failsLot_15 : decode cX4_failsLot 15 = .ok (.ifCond .eq 7, 3) := dk_153 0 7 (dk_at dksX4_failsLot_0 15 rfl rfl)
theorem dX4_failsLot_18 : decode cX4_failsLot 18 = .ok (.iconst 0, 1) := dk_3 (dk_at dksX4_failsLot_0 18 rfl rfl)
theorem dX4_failsLot_19 : decode cX4_failsLot 19 = .ok (.goto 4, 3) := dk_167 0 4 (dk_at dksX4_failsLot_0 19 rfl rfl)
theorem dX4_failsLot_22 : decode cX4_failsLot 22 = .ok (.iconst 1, 1) := dk_4 (dk_at dksX4_failsLot_0 22 rfl rfl)
theorem dX4_failsLot_23 : decode cX4_failsLot 23 = .ok (.invokevirtual 48, 3) := dk_182 0 48 (dk_at dksX4_failsLot_1 0 rfl rfl)
theorem dX4_failsLot_26 : decode cX4_failsLot 26 = .ok (.ireturn, 1) := dk_172 (dk_at dksX4_failsLot_1 3 rfl rfl)
abbrev cX4_lose : ByteArray := prog_19_method_16_code
def yX4_lose : MethodName := ⟨RX4, "lose", "()I"⟩
def dkwX4_lose_5 : List UInt8 := [27, 172]
abbrev dktX4_lose_5 : List UInt8 := dkwX4_lose_5 ++ []
def dkwX4_lose_4 : List UInt8 := [3, 54, 4, 167, 255, 205, 21, 4, 153, 0, 13, 42, 45, 182, 0, 146, 54, 5, 132, 1, 1, 167, 255, 156]
abbrev dktX4_lose_4 : List UInt8 := dkwX4_lose_4 ++ dktX4_lose_5
def dkwX4_lose_3 : List UInt8 := [154, 0, 20, 45, 180, 0, 139, 16, 112, 160, 0, 15, 25, 6, 182, 0, 143, 153, 0, 7, 4, 167, 0, 4]
abbrev dktX4_lose_3 : List UInt8 := dkwX4_lose_3 ++ dktX4_lose_4
def dkwX4_lose_2 : List UInt8 := [185, 0, 127, 1, 0, 153, 0, 47, 25, 5, 185, 0, 132, 1, 0, 192, 0, 82, 58, 6, 21, 4]
abbrev dktX4_lose_2 : List UInt8 := dkwX4_lose_2 ++ dktX4_lose_3
def dkwX4_lose_1 : List UInt8 := [185, 0, 132, 1, 0, 192, 0, 136, 78, 3, 54, 4, 45, 180, 0, 138, 182, 0, 123, 58, 5, 25, 5]
abbrev dktX4_lose_1 : List UInt8 := dkwX4_lose_1 ++ dktX4_lose_2
def dkwX4_lose_0 : List UInt8 := [3, 60, 42, 180, 0, 22, 182, 0, 123, 77, 44, 185, 0, 127, 1, 0, 153, 0, 97, 44]
abbrev dktX4_lose_0 : List UInt8 := dkwX4_lose_0 ++ dktX4_lose_1
theorem dksX4_lose_0 : cX4_lose.data.toList.drop 0 = dktX4_lose_0 := by decide +kernel
theorem dksX4_lose_1 : cX4_lose.data.toList.drop 20 = dktX4_lose_1 := dk_seg dksX4_lose_0 20 rfl rfl
theorem dksX4_lose_2 : cX4_lose.data.toList.drop 43 = dktX4_lose_2 := dk_seg dksX4_lose_1 23 rfl rfl
theorem dksX4_lose_3 : cX4_lose.data.toList.drop 65 = dktX4_lose_3 := dk_seg dksX4_lose_2 22 rfl rfl
theorem dksX4_lose_4 : cX4_lose.data.toList.drop 89 = dktX4_lose_4 := dk_seg dksX4_lose_3 24 rfl rfl
theorem dksX4_lose_5 : cX4_lose.data.toList.drop 113 = dktX4_lose_5 := dk_seg dksX4_lose_4 24 rfl rfl
theorem dX4_lose_0 : decode cX4_lose 0 = .ok (.iconst 0, 1) := dk_3 (dk_at dksX4_lose_0 0 rfl rfl)
theorem dX4_lose_1 : decode cX4_lose 1 = .ok (.istore_n 1, 1) := dk_60 (dk_at dksX4_lose_0 1 rfl rfl)
theorem dX4_lose_2 : decode cX4_lose 2 = .ok (.aload_n 0, 1) := dk_42 (dk_at dksX4_lose_0 2 rfl rfl)
theorem dX4_lose_3 : decode cX4_lose 3 = .ok (.getfield 22, 3) := dk_180 0 22 (dk_at dksX4_lose_0 3 rfl rfl)
theorem dX4_lose_6 : decode cX4_lose 6 = .ok (.invokevirtual 123, 3) := dk_182 0 123 (dk_at dksX4_lose_0 6 rfl rfl)
theorem dX4_lose_9 : decode cX4_lose 9 = .ok (.astore_n 2, 1) := dk_77 (dk_at dksX4_lose_0 9 rfl rfl)
theorem dX4_lose_10 : decode cX4_lose 10 = .ok (.aload_n 2, 1) := dk_44 (dk_at dksX4_lose_0 10 rfl rfl)
theorem dX4_lose_11 : decode cX4_lose 11 = .ok (.invokeinterface 127 1, 5) := by decide +kernel
theorem dX4_lose_16 : decode cX4_lose 16 = .ok (.ifCond .eq 97, 3) := dk_153 0 97 (dk_at dksX4_lose_0 16 rfl rfl)
theorem dX4_lose_19 : decode cX4_lose 19 = .ok (.aload_n 2, 1) := dk_44 (dk_at dksX4_lose_0 19 rfl rfl)
theorem dX4_lose_20 : decode cX4_lose 20 = .ok (.invokeinterface 132 1, 5) := by decide +kernel
theorem dX4_lose_25 : decode cX4_lose 25 = .ok (.checkcast 136, 3) := dk_192 0 136 (dk_at dksX4_lose_1 5 rfl rfl)
theorem dX4_lose_28 : decode cX4_lose 28 = .ok (.astore_n 3, 1) := dk_78 (dk_at dksX4_lose_1 8 rfl rfl)
theorem dX4_lose_29 : decode cX4_lose 29 = .ok (.iconst 0, 1) := dk_3 (dk_at dksX4_lose_1 9 rfl rfl)
theorem dX4_lose_30 : decode cX4_lose 30 = .ok (.istore 4, 2) := dk_54 4 (dk_at dksX4_lose_1 10 rfl rfl)
theorem dX4_lose_32 : decode cX4_lose 32 = .ok (.aload_n 3, 1) := dk_45 (dk_at dksX4_lose_1 12 rfl rfl)
theorem dX4_lose_33 : decode cX4_lose 33 = .ok (.getfield 138, 3) := dk_180 0 138 (dk_at dksX4_lose_1 13 rfl rfl)
theorem dX4_lose_36 : decode cX4_lose 36 = .ok (.invokevirtual 123, 3) := dk_182 0 123 (dk_at dksX4_lose_1 16 rfl rfl)
theorem dX4_lose_39 : decode cX4_lose 39 = .ok (.astore 5, 2) := dk_58 5 (dk_at dksX4_lose_1 19 rfl rfl)
theorem dX4_lose_41 : decode cX4_lose 41 = .ok (.aload 5, 2) := dk_25 5 (dk_at dksX4_lose_1 21 rfl rfl)
theorem dX4_lose_43 : decode cX4_lose 43 = .ok (.invokeinterface 127 1, 5) := by decide +kernel
theorem dX4_lose_48 : decode cX4_lose 48 = .ok (.ifCond .eq 47, 3) := dk_153 0 47 (dk_at dksX4_lose_2 5 rfl rfl)
theorem dX4_lose_51 : decode cX4_lose 51 = .ok (.aload 5, 2) := dk_25 5 (dk_at dksX4_lose_2 8 rfl rfl)
theorem dX4_lose_53 : decode cX4_lose 53 = .ok (.invokeinterface 132 1, 5) := by decide +kernel
theorem dX4_lose_58 : decode cX4_lose 58 = .ok (.checkcast 82, 3) := dk_192 0 82 (dk_at dksX4_lose_2 15 rfl rfl)
theorem dX4_lose_61 : decode cX4_lose 61 = .ok (.astore 6, 2) := dk_58 6 (dk_at dksX4_lose_2 18 rfl rfl)
theorem dX4_lose_63 : decode cX4_lose 63 = .ok (.iload 4, 2) := dk_21 4 (dk_at dksX4_lose_2 20 rfl rfl)
theorem dX4_lose_65 : decode cX4_lose 65 = .ok (.ifCond .ne 20, 3) := dk_154 0 20 (dk_at dksX4_lose_3 0 rfl rfl)
theorem dX4_lose_68 : decode cX4_lose 68 = .ok (.aload_n 3, 1) := dk_45 (dk_at dksX4_lose_3 3 rfl rfl)
theorem dX4_lose_69 : decode cX4_lose 69 = .ok (.getfield 139, 3) := dk_180 0 139 (dk_at dksX4_lose_3 4 rfl rfl)
theorem dX4_lose_72 : decode cX4_lose 72 = .ok (.bipush 112, 2) := dk_16 112 (dk_at dksX4_lose_3 7 rfl rfl)
theorem dX4_lose_74 : decode cX4_lose 74 = .ok (.if_icmp .ne 15, 3) := dk_160 0 15 (dk_at dksX4_lose_3 9 rfl rfl)
theorem dX4_lose_77 : decode cX4_lose 77 = .ok (.aload 6, 2) := dk_25 6 (dk_at dksX4_lose_3 12 rfl rfl)
theorem dX4_lose_79 : decode cX4_lose 79 = .ok (.invokevirtual 143, 3) := dk_182 0 143 (dk_at dksX4_lose_3 14 rfl rfl)
theorem dX4_lose_82 : decode cX4_lose 82 = .ok (.ifCond .eq 7, 3) := dk_153 0 7 (dk_at dksX4_lose_3 17 rfl rfl)
theorem dX4_lose_85 : decode cX4_lose 85 = .ok (.iconst 1, 1) := dk_4 (dk_at dksX4_lose_3 20 rfl rfl)
theorem dX4_lose_86 : decode cX4_lose 86 = .ok (.goto 4, 3) := dk_167 0 4 (dk_at dksX4_lose_3 21 rfl rfl)
theorem dX4_lose_89 : decode cX4_lose 89 = .ok (.iconst 0, 1) := dk_3 (dk_at dksX4_lose_4 0 rfl rfl)
theorem dX4_lose_90 : decode cX4_lose 90 = .ok (.istore 4, 2) := dk_54 4 (dk_at dksX4_lose_4 1 rfl rfl)
theorem dX4_lose_92 : decode cX4_lose 92 = .ok (.goto (-51), 3) := dk_167 255 205 (dk_at dksX4_lose_4 3 rfl rfl)
theorem dX4_lose_95 : decode cX4_lose 95 = .ok (.iload 4, 2) := dk_21 4 (dk_at dksX4_lose_4 6 rfl rfl)
theorem dX4_lose_97 : decode cX4_lose 97 = .ok (.ifCond .eq 13, 3) := dk_153 0 13 (dk_at dksX4_lose_4 8 rfl rfl)
theorem dX4_lose_100 : decode cX4_lose 100 = .ok (.aload_n 0, 1) := dk_42 (dk_at dksX4_lose_4 11 rfl rfl)
theorem dX4_lose_101 : decode cX4_lose 101 = .ok (.aload_n 3, 1) := dk_45 (dk_at dksX4_lose_4 12 rfl rfl)
theorem dX4_lose_102 : decode cX4_lose 102 = .ok (.invokevirtual 146, 3) := dk_182 0 146 (dk_at dksX4_lose_4 13 rfl rfl)
theorem dX4_lose_105 : decode cX4_lose 105 = .ok (.istore 5, 2) := dk_54 5 (dk_at dksX4_lose_4 16 rfl rfl)
theorem dX4_lose_107 : decode cX4_lose 107 = .ok (.iinc 1 1, 3) := dk_132 1 1 (dk_at dksX4_lose_4 18 rfl rfl)
theorem dX4_lose_110 : decode cX4_lose 110 = .ok (.goto (-100), 3) := dk_167 255 156 (dk_at dksX4_lose_4 21 rfl rfl)
theorem dX4_lose_113 : decode cX4_lose 113 = .ok (.iload_n 1, 1) := dk_27 (dk_at dksX4_lose_5 0 rfl rfl)
theorem dX4_lose_114 : decode cX4_lose 114 = .ok (.ireturn, 1) := dk_172 (dk_at dksX4_lose_5 1 rfl rfl)
abbrev cX4_free : ByteArray := prog_19_method_17_code
def yX4_free : MethodName := ⟨RX4, "free", "(LFoundrymarkModel$Order;)I"⟩
def dkwX4_free_4 : List UInt8 := [172]
abbrev dktX4_free_4 : List UInt8 := dkwX4_free_4 ++ []
def dkwX4_free_3 : List UInt8 := [167, 255, 192, 43, 180, 0, 138, 182, 0, 107, 43, 180, 0, 153, 182, 0, 107, 43, 16, 45, 181, 0, 139, 28]
abbrev dktX4_free_3 : List UInt8 := dkwX4_free_3 ++ dktX4_free_4
def dkwX4_free_2 : List UInt8 := [181, 0, 150, 28, 43, 180, 0, 153, 29, 182, 0, 65, 192, 0, 156, 182, 0, 158, 96, 61, 132, 3, 1]
abbrev dktX4_free_2 : List UInt8 := dkwX4_free_2 ++ dktX4_free_3
def dkwX4_free_1 : List UInt8 := [192, 0, 82, 89, 180, 0, 150, 43, 180, 0, 153, 29, 182, 0, 65, 192, 0, 156, 182, 0, 158, 100]
abbrev dktX4_free_1 : List UInt8 := dkwX4_free_1 ++ dktX4_free_2
def dkwX4_free_0 : List UInt8 := [3, 61, 3, 62, 29, 43, 180, 0, 138, 182, 0, 44, 162, 0, 59, 43, 180, 0, 138, 29, 182, 0, 65]
abbrev dktX4_free_0 : List UInt8 := dkwX4_free_0 ++ dktX4_free_1
theorem dksX4_free_0 : cX4_free.data.toList.drop 0 = dktX4_free_0 := by decide +kernel
theorem dksX4_free_1 : cX4_free.data.toList.drop 23 = dktX4_free_1 := dk_seg dksX4_free_0 23 rfl rfl
theorem dksX4_free_2 : cX4_free.data.toList.drop 45 = dktX4_free_2 := dk_seg dksX4_free_1 22 rfl rfl
theorem dksX4_free_3 : cX4_free.data.toList.drop 68 = dktX4_free_3 := dk_seg dksX4_free_2 23 rfl rfl
theorem dksX4_free_4 : cX4_free.data.toList.drop 92 = dktX4_free_4 := dk_seg dksX4_free_3 24 rfl rfl
theorem dX4_free_0 : decode cX4_free 0 = .ok (.iconst 0, 1) := dk_3 (dk_at dksX4_free_0 0 rfl rfl)
theorem dX4_free_1 : decode cX4_free 1 = .ok (.istore_n 2, 1) := dk_61 (dk_at dksX4_free_0 1 rfl rfl)
theorem dX4_free_2 : decode cX4_free 2 = .ok (.iconst 0, 1) := dk_3 (dk_at dksX4_free_0 2 rfl rfl)
theorem dX4_free_3 : decode cX4_free 3 = .ok (.istore_n 3, 1) := dk_62 (dk_at dksX4_free_0 3 rfl rfl)
theorem dX4_free_4 : decode cX4_free 4 = .ok (.iload_n 3, 1) := dk_29 (dk_at dksX4_free_0 4 rfl rfl)
theorem dX4_free_5 : decode cX4_free 5 = .ok (.aload_n 1, 1) := dk_43 (dk_at dksX4_free_0 5 rfl rfl)
theorem dX4_free_6 : decode cX4_free 6 = .ok (.getfield 138, 3) := dk_180 0 138 (dk_at dksX4_free_0 6 rfl rfl)
theorem dX4_free_9 : decode cX4_free 9 = .ok (.invokevirtual 44, 3) := dk_182 0 44 (dk_at dksX4_free_0 9 rfl rfl)
theorem dX4_free_12 : decode cX4_free 12 = .ok (.if_icmp .ge 59, 3) := dk_162 0 59 (dk_at dksX4_free_0 12 rfl rfl)
theorem dX4_free_15 : decode cX4_free 15 = .ok (.aload_n 1, 1) := dk_43 (dk_at dksX4_free_0 15 rfl rfl)
theorem dX4_free_16 : decode cX4_free 16 = .ok (.getfield 138, 3) := dk_180 0 138 (dk_at dksX4_free_0 16 rfl rfl)
theorem dX4_free_19 : decode cX4_free 19 = .ok (.iload_n 3, 1) := dk_29 (dk_at dksX4_free_0 19 rfl rfl)
theorem dX4_free_20 : decode cX4_free 20 = .ok (.invokevirtual 65, 3) := dk_182 0 65 (dk_at dksX4_free_0 20 rfl rfl)
theorem dX4_free_23 : decode cX4_free 23 = .ok (.checkcast 82, 3) := dk_192 0 82 (dk_at dksX4_free_1 0 rfl rfl)
theorem dX4_free_26 : decode cX4_free 26 = .ok (.dup, 1) := dk_89 (dk_at dksX4_free_1 3 rfl rfl)
theorem dX4_free_27 : decode cX4_free 27 = .ok (.getfield 150, 3) := dk_180 0 150 (dk_at dksX4_free_1 4 rfl rfl)
theorem dX4_free_30 : decode cX4_free 30 = .ok (.aload_n 1, 1) := dk_43 (dk_at dksX4_free_1 7 rfl rfl)
theorem dX4_free_31 : decode cX4_free 31 = .ok (.getfield 153, 3) := dk_180 0 153 (dk_at dksX4_free_1 8 rfl rfl)
theorem dX4_free_34 : decode cX4_free 34 = .ok (.iload_n 3, 1) := dk_29 (dk_at dksX4_free_1 11 rfl rfl)
theorem dX4_free_35 : decode cX4_free 35 = .ok (.invokevirtual 65, 3) := dk_182 0 65 (dk_at dksX4_free_1 12 rfl rfl)
theorem dX4_free_38 : decode cX4_free 38 = .ok (.checkcast 156, 3) := dk_192 0 156 (dk_at dksX4_free_1 15 rfl rfl)
theorem dX4_free_41 : decode cX4_free 41 = .ok (.invokevirtual 158, 3) := dk_182 0 158 (dk_at dksX4_free_1 18 rfl rfl)
theorem dX4_free_44 : decode cX4_free 44 = .ok (.isub, 1) := dk_100 (dk_at dksX4_free_1 21 rfl rfl)
theorem dX4_free_45 : decode cX4_free 45 = .ok (.putfield 150, 3) := dk_181 0 150 (dk_at dksX4_free_2 0 rfl rfl)
theorem dX4_free_48 : decode cX4_free 48 = .ok (.iload_n 2, 1) := dk_28 (dk_at dksX4_free_2 3 rfl rfl)
theorem dX4_free_49 : decode cX4_free 49 = .ok (.aload_n 1, 1) := dk_43 (dk_at dksX4_free_2 4 rfl rfl)
theorem dX4_free_50 : decode cX4_free 50 = .ok (.getfield 153, 3) := dk_180 0 153 (dk_at dksX4_free_2 5 rfl rfl)
theorem dX4_free_53 : decode cX4_free 53 = .ok (.iload_n 3, 1) := dk_29 (dk_at dksX4_free_2 8 rfl rfl)
theorem dX4_free_54 : decode cX4_free 54 = .ok (.invokevirtual 65, 3) := dk_182 0 65 (dk_at dksX4_free_2 9 rfl rfl)
theorem dX4_free_57 : decode cX4_free 57 = .ok (.checkcast 156, 3) := dk_192 0 156 (dk_at dksX4_free_2 12 rfl rfl)
theorem dX4_free_60 : decode cX4_free 60 = .ok (.invokevirtual 158, 3) := dk_182 0 158 (dk_at dksX4_free_2 15 rfl rfl)
theorem dX4_free_63 : decode cX4_free 63 = .ok (.iadd, 1) := dk_96 (dk_at dksX4_free_2 18 rfl rfl)
theorem dX4_free_64 : decode cX4_free 64 = .ok (.istore_n 2, 1) := dk_61 (dk_at dksX4_free_2 19 rfl rfl)
theorem dX4_free_65 : decode cX4_free 65 = .ok (.iinc 3 1, 3) := dk_132 3 1 (dk_at dksX4_free_2 20 rfl rfl)
theorem dX4_free_68 : decode cX4_free 68 = .ok (.goto (-64), 3) := dk_167 255 192 (dk_at dksX4_free_3 0 rfl rfl)
theorem dX4_free_71 : decode cX4_free 71 = .ok (.aload_n 1, 1) := dk_43 (dk_at dksX4_free_3 3 rfl rfl)
theorem dX4_free_72 : decode cX4_free 72 = .ok (.getfield 138, 3) := dk_180 0 138 (dk_at dksX4_free_3 4 rfl rfl)
theorem dX4_free_75 : decode cX4_free 75 = .ok (.invokevirtual 107, 3) := dk_182 0 107 (dk_at dksX4_free_3 7 rfl rfl)
theorem dX4_free_78 : decode cX4_free 78 = .ok (.aload_n 1, 1) := dk_43 (dk_at dksX4_free_3 10 rfl rfl)
theorem dX4_free_79 : decode cX4_free 79 = .ok (.getfield 153, 3) := dk_180 0 153 (dk_at dksX4_free_3 11 rfl rfl)
theorem dX4_free_82 : decode cX4_free 82 = .ok (.invokevirtual 107, 3) := dk_182 0 107 (dk_at dksX4_free_3 14 rfl rfl)
theorem dX4_free_85 : decode cX4_free 85 = .ok (.aload_n 1, 1) := dk_43 (dk_at dksX4_free_3 17 rfl rfl)
theorem dX4_free_86 : decode cX4_free 86 = .ok (.bipush 45, 2) := dk_16 45 (dk_at dksX4_free_3 18 rfl rfl)
theorem dX4_free_88 : decode cX4_free 88 = .ok (.putfield 139, 3) := dk_181 0 139 (dk_at dksX4_free_3 20 rfl rfl)
theorem dX4_free_91 : decode cX4_free 91 = .ok (.iload_n 2, 1) := dk_28 (dk_at dksX4_free_3 23 rfl rfl)
theorem dX4_free_92 : decode cX4_free 92 = .ok (.ireturn, 1) := dk_172 (dk_at dksX4_free_4 0 rfl rfl)
abbrev cX4_isHeld : ByteArray := prog_19_method_19_code
def yX4_isHeld : MethodName := ⟨RX4, "isHeld", "(I)Z"⟩
def dkwX4_isHeld_1 : List UInt8 := [153, 0, 7, 4, 167, 0, 4, 3, 172]
abbrev dktX4_isHeld_1 : List UInt8 := dkwX4_isHeld_1 ++ []
def dkwX4_isHeld_0 : List UInt8 := [42, 27, 182, 0, 161, 154, 0, 24, 42, 180, 0, 19, 27, 182, 0, 65, 192, 0, 82, 182, 0, 143]
abbrev dktX4_isHeld_0 : List UInt8 := dkwX4_isHeld_0 ++ dktX4_isHeld_1
theorem dksX4_isHeld_0 : cX4_isHeld.data.toList.drop 0 = dktX4_isHeld_0 := by decide +kernel
theorem dksX4_isHeld_1 : cX4_isHeld.data.toList.drop 22 = dktX4_isHeld_1 := dk_seg dksX4_isHeld_0 22 rfl rfl
theorem dX4_isHeld_0 : decode cX4_isHeld 0 = .ok (.aload_n 0, 1) := dk_42 (dk_at dksX4_isHeld_0 0 rfl rfl)
theorem dX4_isHeld_1 : decode cX4_isHeld 1 = .ok (.iload_n 1, 1) := dk_27 (dk_at dksX4_isHeld_0 1 rfl rfl)
theorem dX4_isHeld_2 : decode cX4_isHeld 2 = .ok (.invokevirtual 161, 3) := dk_182 0 161 (dk_at dksX4_isHeld_0 2 rfl rfl)
theorem dX4_isHeld_5 : decode cX4_isHeld 5 = .ok (.ifCond .ne 24, 3) := dk_154 0 24 (dk_at dksX4_isHeld_0 5 rfl rfl)
theorem dX4_isHeld_8 : decode cX4_isHeld 8 = .ok (.aload_n 0, 1) := dk_42 (dk_at dksX4_isHeld_0 8 rfl rfl)
theorem dX4_isHeld_9 : decode cX4_isHeld 9 = .ok (.getfield 19, 3) := dk_180 0 19 (dk_at dksX4_isHeld_0 9 rfl rfl)
theorem dX4_isHeld_12 : decode cX4_isHeld 12 = .ok (.iload_n 1, 1) := dk_27 (dk_at dksX4_isHeld_0 12 rfl rfl)
theorem dX4_isHeld_13 : decode cX4_isHeld 13 = .ok (.invokevirtual 65, 3) := dk_182 0 65 (dk_at dksX4_isHeld_0 13 rfl rfl)
theorem dX4_isHeld_16 : decode cX4_isHeld 16 = .ok (.checkcast 82, 3) := dk_192 0 82 (dk_at dksX4_isHeld_0 16 rfl rfl)
theorem dX4_isHeld_19 : decode cX4_isHeld 19 = .ok (.invokevirtual 143, 3) := dk_182 0 143 (dk_at dksX4_isHeld_0 19 rfl rfl)
theorem dX4_isHeld_22 : decode cX4_isHeld 22 = .ok (.ifCond .eq 7, 3) := dk_153 0 7 (dk_at dksX4_isHeld_1 0 rfl rfl)
theorem dX4_isHeld_25 : decode cX4_isHeld 25 = .ok (.iconst 1, 1) := dk_4 (dk_at dksX4_isHeld_1 3 rfl rfl)
theorem dX4_isHeld_26 : decode cX4_isHeld 26 = .ok (.goto 4, 3) := dk_167 0 4 (dk_at dksX4_isHeld_1 4 rfl rfl)
theorem dX4_isHeld_29 : decode cX4_isHeld 29 = .ok (.iconst 0, 1) := dk_3 (dk_at dksX4_isHeld_1 7 rfl rfl)
theorem dX4_isHeld_30 : decode cX4_isHeld 30 = .ok (.ireturn, 1) := dk_172 (dk_at dksX4_isHeld_1 8 rfl rfl)
abbrev cX4_setChart : ByteArray := prog_19_method_20_code
def yX4_setChart : MethodName := ⟨RX4, "setChart", "(III)I"⟩
def dkwX4_setChart_3 : List UInt8 := [181, 0, 170, 25, 4, 3, 181, 0, 173, 25, 4, 3, 181, 0, 176, 25, 4, 180, 0, 179, 172]
abbrev dktX4_setChart_3 : List UInt8 := dkwX4_setChart_3 ++ []
def dkwX4_setChart_2 : List UInt8 := [42, 180, 0, 16, 27, 182, 0, 65, 192, 0, 57, 58, 4, 25, 4, 28, 181, 0, 167, 25, 4, 29]
abbrev dktX4_setChart_2 : List UInt8 := dkwX4_setChart_2 ++ dktX4_setChart_3
def dkwX4_setChart_1 : List UInt8 := [29, 3, 17, 1, 244, 184, 0, 40, 154, 0, 7, 5, 167, 0, 4, 3, 182, 0, 48, 153, 0, 5, 3, 172]
abbrev dktX4_setChart_1 : List UInt8 := dkwX4_setChart_1 ++ dktX4_setChart_2
def dkwX4_setChart_0 : List UInt8 := [42, 42, 27, 182, 0, 62, 154, 0, 7, 4, 167, 0, 30, 28, 3, 17, 3, 232, 184, 0, 40, 153, 0, 14]
abbrev dktX4_setChart_0 : List UInt8 := dkwX4_setChart_0 ++ dktX4_setChart_1
theorem dksX4_setChart_0 : cX4_setChart.data.toList.drop 0 = dktX4_setChart_0 := by decide +kernel
theorem dksX4_setChart_1 : cX4_setChart.data.toList.drop 24 = dktX4_setChart_1 := dk_seg dksX4_setChart_0 24 rfl rfl
theorem dksX4_setChart_2 : cX4_setChart.data.toList.drop 48 = dktX4_setChart_2 := dk_seg dksX4_setChart_1 24 rfl rfl
theorem dksX4_setChart_3 : cX4_setChart.data.toList.drop 70 = dktX4_setChart_3 := dk_seg dksX4_setChart_2 22 rfl rfl
theorem dX4_setChart_0 : decode cX4_setChart 0 = .ok (.aload_n 0, 1) := dk_42 (dk_at dksX4_setChart_0 0 rfl rfl)
theorem dX4_setChart_1 : decode cX4_setChart 1 = .ok (.aload_n 0, 1) := dk_42 (dk_at dksX4_setChart_0 1 rfl rfl)
theorem dX4_setChart_2 : decode cX4_setChart 2 = .ok (.iload_n 1, 1) := dk_27 (dk_at dksX4_setChart_0 2 rfl rfl)
theorem dX4_setChart_3 : decode cX4_setChart 3 = .ok (.invokevirtual 62, 3) := dk_182 0 62 (dk_at dksX4_setChart_0 3 rfl rfl)
theorem dX4_setChart_6 : decode cX4_setChart 6 = .ok (.ifCond .ne 7, 3) := dk_154 0 7 (dk_at dksX4_setChart_0 6 rfl rfl)
theorem dX4_setChart_9 : decode cX4_setChart 9 = .ok (.iconst 1, 1) := dk_4 (dk_at dksX4_setChart_0 9 rfl rfl)
theorem dX4_setChart_10 : decode cX4_setChart 10 = .ok (.goto 30, 3) := dk_167 0 30 (dk_at dksX4_setChart_0 10 rfl rfl)
theorem dX4_setChart_13 : decode cX4_setChart 13 = .ok (.iload_n 2, 1) := dk_28 (dk_at dksX4_setChart_0 13 rfl rfl)
theorem dX4_setChart_14 : decode cX4_setChart 14 = .ok (.iconst 0, 1) := dk_3 (dk_at dksX4_setChart_0 14 rfl rfl)
theorem dX4_setChart_15 : decode cX4_setChart 15 = .ok (.sipush 1000, 3) := dk_17 3 232 (dk_at dksX4_setChart_0 15 rfl rfl)
theorem dX4_setChart_18 : decode cX4_setChart 18 = .ok (.invokestatic 40, 3) := dk_184 0 40 (dk_at dksX4_setChart_0 18 rfl rfl)
theorem dX4_setChart_21 : decode cX4_setChart 21 = .ok (.ifCond .eq 14, 3) := dk_153 0 14 (dk_at dksX4_setChart_0 21 rfl rfl)
theorem dX4_setChart_24 : decode cX4_setChart 24 = .ok (.iload_n 3, 1) := dk_29 (dk_at dksX4_setChart_1 0 rfl rfl)
theorem dX4_setChart_25 : decode cX4_setChart 25 = .ok (.iconst 0, 1) := dk_3 (dk_at dksX4_setChart_1 1 rfl rfl)
theorem dX4_setChart_26 : decode cX4_setChart 26 = .ok (.sipush 500, 3) := dk_17 1 244 (dk_at dksX4_setChart_1 2 rfl rfl)
theorem dX4_setChart_29 : decode cX4_setChart 29 = .ok (.invokestatic 40, 3) := dk_184 0 40 (dk_at dksX4_setChart_1 5 rfl rfl)
theorem dX4_setChart_32 : decode cX4_setChart 32 = .ok (.ifCond .ne 7, 3) := dk_154 0 7 (dk_at dksX4_setChart_1 8 rfl rfl)
theorem dX4_setChart_35 : decode cX4_setChart 35 = .ok (.iconst 2, 1) := dk_5 (dk_at dksX4_setChart_1 11 rfl rfl)
theorem dX4_setChart_36 : decode cX4_setChart 36 = .ok (.goto 4, 3) := dk_167 0 4 (dk_at dksX4_setChart_1 12 rfl rfl)
theorem dX4_setChart_39 : decode cX4_setChart 39 = .ok (.iconst 0, 1) := dk_3 (dk_at dksX4_setChart_1 15 rfl rfl)
theorem dX4_setChart_40 : decode cX4_setChart 40 = .ok (.invokevirtual 48, 3) := dk_182 0 48 (dk_at dksX4_setChart_1 16 rfl rfl)
theorem dX4_setChart_43 : decode cX4_setChart 43 = .ok (.ifCond .eq 5, 3) := dk_153 0 5 (dk_at dksX4_setChart_1 19 rfl rfl)
theorem dX4_setChart_46 : decode cX4_setChart 46 = .ok (.iconst 0, 1) := dk_3 (dk_at dksX4_setChart_1 22 rfl rfl)
theorem dX4_setChart_47 : decode cX4_setChart 47 = .ok (.ireturn, 1) := dk_172 (dk_at dksX4_setChart_1 23 rfl rfl)
theorem dX4_setChart_48 : decode cX4_setChart 48 = .ok (.aload_n 0, 1) := dk_42 (dk_at dksX4_setChart_2 0 rfl rfl)
theorem dX4_setChart_49 : decode cX4_setChart 49 = .ok (.getfield 16, 3) := dk_180 0 16 (dk_at dksX4_setChart_2 1 rfl rfl)
theorem dX4_setChart_52 : decode cX4_setChart 52 = .ok (.iload_n 1, 1) := dk_27 (dk_at dksX4_setChart_2 4 rfl rfl)
theorem dX4_setChart_53 : decode cX4_setChart 53 = .ok (.invokevirtual 65, 3) := dk_182 0 65 (dk_at dksX4_setChart_2 5 rfl rfl)
theorem dX4_setChart_56 : decode cX4_setChart 56 = .ok (.checkcast 57, 3) := dk_192 0 57 (dk_at dksX4_setChart_2 8 rfl rfl)
theorem dX4_setChart_59 : decode cX4_setChart 59 = .ok (.astore 4, 2) := dk_58 4 (dk_at dksX4_setChart_2 11 rfl rfl)
theorem dX4_setChart_61 : decode cX4_setChart 61 = .ok (.aload 4, 2) := dk_25 4 (dk_at dksX4_setChart_2 13 rfl rfl)
theorem dX4_setChart_63 : decode cX4_setChart 63 = .ok (.iload_n 2, 1) := dk_28 (dk_at dksX4_setChart_2 15 rfl rfl)
theorem dX4_setChart_64 : decode cX4_setChart 64 = .ok (.putfield 167, 3) := dk_181 0 167 (dk_at dksX4_setChart_2 16 rfl rfl)
theorem dX4_setChart_67 : decode cX4_setChart 67 = .ok (.aload 4, 2) := dk_25 4 (dk_at dksX4_setChart_2 19 rfl rfl)
theorem dX4_setChart_69 : decode cX4_setChart 69 = .ok (.iload_n 3, 1) := dk_29 (dk_at dksX4_setChart_2 21 rfl rfl)
theorem dX4_setChart_70 : decode cX4_setChart 70 = .ok (.putfield 170, 3) := dk_181 0 170 (dk_at dksX4_setChart_3 0 rfl rfl)
theorem dX4_setChart_73 : decode cX4_setChart 73 = .ok (.aload 4, 2) := dk_25 4 (dk_at dksX4_setChart_3 3 rfl rfl)
theorem dX4_setChart_75 : decode cX4_setChart 75 = .ok (.iconst 0, 1) := dk_3 (dk_at dksX4_setChart_3 5 rfl rfl)
theorem dX4_setChart_76 : decode cX4_setChart 76 = .ok (.putfield 173, 3) := dk_181 0 173 (dk_at dksX4_setChart_3 6 rfl rfl)
theorem dX4_setChart_79 : decode cX4_setChart 79 = .ok (.aload 4, 2) := dk_25 4 (dk_at dksX4_setChart_3 9 rfl rfl)
theorem dX4_setChart_81 : decode cX4_setChart 81 = .ok (.iconst 0, 1) := dk_3 (dk_at dksX4_setChart_3 11 rfl rfl)
theorem dX4_setChart_82 : decode cX4_setChart 82 = .ok (.putfield 176, 3) := dk_181 0 176 (dk_at dksX4_setChart_3 12 rfl rfl)
theorem dX4_setChart_85 : decode cX4_setChart 85 = .ok (.aload 4, 2) := dk_25 4 (dk_at dksX4_setChart_3 15 rfl rfl)
theorem dX4_setChart_87 : decode cX4_setChart 87 = .ok (.getfield 179, 3) := dk_180 0 179 (dk_at dksX4_setChart_3 17 rfl rfl)
theorem dX4_setChart_90 : decode cX4_setChart 90 = .ok (.ireturn, 1) := dk_172 (dk_at dksX4_setChart_3 20 rfl rfl)
abbrev cX4_measure : ByteArray := prog_19_method_21_code
def yX4_measure : MethodName := ⟨RX4, "measure", "(II)Z"⟩
def dkwX4_measure_8 : List UInt8 := [54, 6, 21, 6, 153, 0, 14, 45, 4, 181, 0, 94, 42, 182, 0, 164, 54, 7, 21, 6, 172]
abbrev dktX4_measure_8 : List UInt8 := dkwX4_measure_8 ++ []
def dkwX4_measure_7 : List UInt8 := [167, 0, 4, 3, 54, 5, 21, 5, 153, 0, 14, 45, 180, 0, 94, 154, 0, 7, 4, 167, 0, 4, 3]
abbrev dktX4_measure_7 : List UInt8 := dkwX4_measure_7 ++ dktX4_measure_8
def dkwX4_measure_6 : List UInt8 := [163, 0, 21, 25, 4, 180, 0, 173, 7, 162, 0, 12, 25, 4, 180, 0, 176, 7, 161, 0, 7, 4]
abbrev dktX4_measure_6 : List UInt8 := dkwX4_measure_6 ++ dktX4_measure_7
def dkwX4_measure_5 : List UInt8 := [167, 0, 4, 3, 181, 0, 176, 28, 25, 4, 180, 0, 167, 100, 184, 0, 185, 25, 4, 180, 0, 170]
abbrev dktX4_measure_5 : List UInt8 := dkwX4_measure_5 ++ dktX4_measure_6
def dkwX4_measure_4 : List UInt8 := [3, 181, 0, 173, 25, 4, 28, 25, 4, 180, 0, 167, 162, 0, 13, 25, 4, 180, 0, 176, 4, 96]
abbrev dktX4_measure_4 : List UInt8 := dkwX4_measure_4 ++ dktX4_measure_5
def dkwX4_measure_3 : List UInt8 := [181, 0, 179, 25, 4, 28, 25, 4, 180, 0, 167, 164, 0, 13, 25, 4, 180, 0, 173, 4, 96, 167, 0, 4]
abbrev dktX4_measure_3 : List UInt8 := dkwX4_measure_3 ++ dktX4_measure_4
def dkwX4_measure_2 : List UInt8 := [180, 0, 16, 45, 180, 0, 182, 182, 0, 65, 192, 0, 57, 58, 4, 25, 4, 89, 180, 0, 179, 4, 96]
abbrev dktX4_measure_2 : List UInt8 := dkwX4_measure_2 ++ dktX4_measure_3
def dkwX4_measure_1 : List UInt8 := [5, 182, 0, 48, 153, 0, 5, 3, 172, 42, 180, 0, 19, 27, 182, 0, 65, 192, 0, 82, 78, 42]
abbrev dktX4_measure_1 : List UInt8 := dkwX4_measure_1 ++ dktX4_measure_2
def dkwX4_measure_0 : List UInt8 := [42, 27, 182, 0, 161, 154, 0, 26, 42, 28, 3, 17, 7, 208, 184, 0, 40, 153, 0, 7, 3, 167, 0, 4]
abbrev dktX4_measure_0 : List UInt8 := dkwX4_measure_0 ++ dktX4_measure_1
theorem dksX4_measure_0 : cX4_measure.data.toList.drop 0 = dktX4_measure_0 := by decide +kernel
theorem dksX4_measure_1 : cX4_measure.data.toList.drop 24 = dktX4_measure_1 := dk_seg dksX4_measure_0 24 rfl rfl
theorem dksX4_measure_2 : cX4_measure.data.toList.drop 46 = dktX4_measure_2 := dk_seg dksX4_measure_1 22 rfl rfl
theorem dksX4_measure_3 : cX4_measure.data.toList.drop 69 = dktX4_measure_3 := dk_seg dksX4_measure_2 23 rfl rfl
theorem dksX4_measure_4 : cX4_measure.data.toList.drop 93 = dktX4_measure_4 := dk_seg dksX4_measure_3 24 rfl rfl
theorem dksX4_measure_5 : cX4_measure.data.toList.drop 115 = dktX4_measure_5 := dk_seg dksX4_measure_4 22 rfl rfl
theorem dksX4_measure_6 : cX4_measure.data.toList.drop 137 = dktX4_measure_6 := dk_seg dksX4_measure_5 22 rfl rfl
theorem dksX4_measure_7 : cX4_measure.data.toList.drop 159 = dktX4_measure_7 := dk_seg dksX4_measure_6 22 rfl rfl
theorem dksX4_measure_8 : cX4_measure.data.toList.drop 182 = dktX4_measure_8 := dk_seg dksX4_measure_7 23 rfl rfl
theorem dX4_measure_0 : decode cX4_measure 0 = .ok (.aload_n 0, 1) := dk_42 (dk_at dksX4_measure_0 0 rfl rfl)
theorem dX4_measure_1 : decode cX4_measure 1 = .ok (.iload_n 1, 1) := dk_27 (dk_at dksX4_measure_0 1 rfl rfl)
theorem dX4_measure_2 : decode cX4_measure 2 = .ok (.invokevirtual 161, 3) := dk_182 0 161 (dk_at dksX4_measure_0 2 rfl rfl)
theorem dX4_measure_5 : decode cX4_measure 5 = .ok (.ifCond .ne 26, 3) := dk_154 0 26 (dk_at dksX4_measure_0 5 rfl rfl)
theorem dX4_measure_8 : decode cX4_measure 8 = .ok (.aload_n 0, 1) := dk_42 (dk_at dksX4_measure_0 8 rfl rfl)
theorem dX4_measure_9 : decode cX4_measure 9 = .ok (.iload_n 2, 1) := dk_28 (dk_at dksX4_measure_0 9 rfl rfl)
theorem dX4_measure_10 : decode cX4_measure 10 = .ok (.iconst 0, 1) := dk_3 (dk_at dksX4_measure_0 10 rfl rfl)
theorem dX4_measure_11 : decode cX4_measure 11 = .ok (.sipush 2000, 3) := dk_17 7 208 (dk_at dksX4_measure_0 11 rfl rfl)
theorem dX4_measure_14 : decode cX4_measure 14 = .ok (.invokestatic 40, 3) := dk_184 0 40 (dk_at dksX4_measure_0 14 rfl rfl)
theorem dX4_measure_17 : decode cX4_measure 17 = .ok (.ifCond .eq 7, 3) := dk_153 0 7 (dk_at dksX4_measure_0 17 rfl rfl)
theorem dX4_measure_20 : decode cX4_measure 20 = .ok (.iconst 0, 1) := dk_3 (dk_at dksX4_measure_0 20 rfl rfl)
theorem dX4_measure_21 : decode cX4_measure 21 = .ok (.goto 4, 3) := dk_167 0 4 (dk_at dksX4_measure_0 21 rfl rfl)
theorem dX4_measure_24 : decode cX4_measure 24 = .ok (.iconst 2, 1) := dk_5 (dk_at dksX4_measure_1 0 rfl rfl)
theorem dX4_measure_25 : decode cX4_measure 25 = .ok (.invokevirtual 48, 3) := dk_182 0 48 (dk_at dksX4_measure_1 1 rfl rfl)
theorem dX4_measure_28 : decode cX4_measure 28 = .ok (.ifCond .eq 5, 3) := dk_153 0 5 (dk_at dksX4_measure_1 4 rfl rfl)
theorem dX4_measure_31 : decode cX4_measure 31 = .ok (.iconst 0, 1) := dk_3 (dk_at dksX4_measure_1 7 rfl rfl)
theorem dX4_measure_32 : decode cX4_measure 32 = .ok (.ireturn, 1) := dk_172 (dk_at dksX4_measure_1 8 rfl rfl)
theorem dX4_measure_33 : decode cX4_measure 33 = .ok (.aload_n 0, 1) := dk_42 (dk_at dksX4_measure_1 9 rfl rfl)
theorem dX4_measure_34 : decode cX4_measure 34 = .ok (.getfield 19, 3) := dk_180 0 19 (dk_at dksX4_measure_1 10 rfl rfl)
theorem dX4_measure_37 : decode cX4_measure 37 = .ok (.iload_n 1, 1) := dk_27 (dk_at dksX4_measure_1 13 rfl rfl)
theorem dX4_measure_38 : decode cX4_measure 38 = .ok (.invokevirtual 65, 3) := dk_182 0 65 (dk_at dksX4_measure_1 14 rfl rfl)
theorem dX4_measure_41 : decode cX4_measure 41 = .ok (.checkcast 82, 3) := dk_192 0 82 (dk_at dksX4_measure_1 17 rfl rfl)
theorem dX4_measure_44 : decode cX4_measure 44 = .ok (.astore_n 3, 1) := dk_78 (dk_at dksX4_measure_1 20 rfl rfl)
theorem dX4_measure_45 : decode cX4_measure 45 = .ok (.aload_n 0, 1) := dk_42 (dk_at dksX4_measure_1 21 rfl rfl)
theorem dX4_measure_46 : decode cX4_measure 46 = .ok (.getfield 16, 3) := dk_180 0 16 (dk_at dksX4_measure_2 0 rfl rfl)
theorem dX4_measure_49 : decode cX4_measure 49 = .ok (.aload_n 3, 1) := dk_45 (dk_at dksX4_measure_2 3 rfl rfl)
theorem dX4_measure_50 : decode cX4_measure 50 = .ok (.getfield 182, 3) := dk_180 0 182 (dk_at dksX4_measure_2 4 rfl rfl)
theorem dX4_measure_53 : decode cX4_measure 53 = .ok (.invokevirtual 65, 3) := dk_182 0 65 (dk_at dksX4_measure_2 7 rfl rfl)
theorem dX4_measure_56 : decode cX4_measure 56 = .ok (.checkcast 57, 3) := dk_192 0 57 (dk_at dksX4_measure_2 10 rfl rfl)
theorem dX4_measure_59 : decode cX4_measure 59 = .ok (.astore 4, 2) := dk_58 4 (dk_at dksX4_measure_2 13 rfl rfl)
theorem dX4_measure_61 : decode cX4_measure 61 = .ok (.aload 4, 2) := dk_25 4 (dk_at dksX4_measure_2 15 rfl rfl)
theorem dX4_measure_63 : decode cX4_measure 63 = .ok (.dup, 1) := dk_89 (dk_at dksX4_measure_2 17 rfl rfl)
theorem dX4_measure_64 : decode cX4_measure 64 = .ok (.getfield 179, 3) := dk_180 0 179 (dk_at dksX4_measure_2 18 rfl rfl)
theorem dX4_measure_67 : decode cX4_measure 67 = .ok (.iconst 1, 1) := dk_4 (dk_at dksX4_measure_2 21 rfl rfl)
theorem dX4_measure_68 : decode cX4_measure 68 = .ok (.iadd, 1) := dk_96 (dk_at dksX4_measure_2 22 rfl rfl)
theorem dX4_measure_69 : decode cX4_measure 69 = .ok (.putfield 179, 3) := dk_181 0 179 (dk_at dksX4_measure_3 0 rfl rfl)
theorem dX4_measure_72 : decode cX4_measure 72 = .ok (.aload 4, 2) := dk_25 4 (dk_at dksX4_measure_3 3 rfl rfl)
theorem dX4_measure_74 : decode cX4_measure 74 = .ok (.iload_n 2, 1) := dk_28 (dk_at dksX4_measure_3 5 rfl rfl)
theorem dX4_measure_75 : decode cX4_measure 75 = .ok (.aload 4, 2) := dk_25 4 (dk_at dksX4_measure_3 6 rfl rfl)
theorem dX4_measure_77 : decode cX4_measure 77 = .ok (.getfield 167, 3) := dk_180 0 167 (dk_at dksX4_measure_3 8 rfl rfl)
theorem dX4_measure_80 : decode cX4_measure 80 = .ok (.if_icmp .le 13, 3) := dk_164 0 13 (dk_at dksX4_measure_3 11 rfl rfl)
theorem dX4_measure_83 : decode cX4_measure 83 = .ok (.aload 4, 2) := dk_25 4 (dk_at dksX4_measure_3 14 rfl rfl)
theorem dX4_measure_85 : decode cX4_measure 85 = .ok (.getfield 173, 3) := dk_180 0 173 (dk_at dksX4_measure_3 16 rfl rfl)
theorem dX4_measure_88 : decode cX4_measure 88 = .ok (.iconst 1, 1) := dk_4 (dk_at dksX4_measure_3 19 rfl rfl)
theorem dX4_measure_89 : decode cX4_measure 89 = .ok (.iadd, 1) := dk_96 (dk_at dksX4_measure_3 20 rfl rfl)
theorem dX4_measure_90 : decode cX4_measure 90 = .ok (.goto 4, 3) := dk_167 0 4 (dk_at dksX4_measure_3 21 rfl rfl)
theorem dX4_measure_93 : decode cX4_measure 93 = .ok (.iconst 0, 1) := dk_3 (dk_at dksX4_measure_4 0 rfl rfl)
theorem dX4_measure_94 : decode cX4_measure 94 = .ok (.putfield 173, 3) := dk_181 0 173 (dk_at dksX4_measure_4 1 rfl rfl)
theorem dX4_measure_97 : decode cX4_measure 97 = .ok (.aload 4, 2) := dk_25 4 (dk_at dksX4_measure_4 4 rfl rfl)
theorem dX4_measure_99 : decode cX4_measure 99 = .ok (.iload_n 2, 1) := dk_28 (dk_at dksX4_measure_4 6 rfl rfl)
theorem dX4_measure_100 : decode cX4_measure 100 = .ok (.aload 4, 2) := dk_25 4 (dk_at dksX4_measure_4 7 rfl rfl)
theorem dX4_measure_102 : decode cX4_measure 102 = .ok (.getfield 167, 3) := dk_180 0 167 (dk_at dksX4_measure_4 9 rfl rfl)
theorem dX4_measure_105 : decode cX4_measure 105 = .ok (.if_icmp .ge 13, 3) := dk_162 0 13 (dk_at dksX4_measure_4 12 rfl rfl)
theorem dX4_measure_108 : decode cX4_measure 108 = .ok (.aload 4, 2) := dk_25 4 (dk_at dksX4_measure_4 15 rfl rfl)
theorem dX4_measure_110 : decode cX4_measure 110 = .ok (.getfield 176, 3) := dk_180 0 176 (dk_at dksX4_measure_4 17 rfl rfl)
theorem dX4_measure_113 : decode cX4_measure 113 = .ok (.iconst 1, 1) := dk_4 (dk_at dksX4_measure_4 20 rfl rfl)
theorem dX4_measure_114 : decode cX4_measure 114 = .ok (.iadd, 1) := dk_96 (dk_at dksX4_measure_4 21 rfl rfl)
theorem dX4_measure_115 : decode cX4_measure 115 = .ok (.goto 4, 3) := dk_167 0 4 (dk_at dksX4_measure_5 0 rfl rfl)
theorem dX4_measure_118 : decode cX4_measure 118 = .ok (.iconst 0, 1) := dk_3 (dk_at dksX4_measure_5 3 rfl rfl)
theorem dX4_measure_119 : decode cX4_measure 119 = .ok (.putfield 176, 3) := dk_181 0 176 (dk_at dksX4_measure_5 4 rfl rfl)
theorem dX4_measure_122 : decode cX4_measure 122 = .ok (.iload_n 2, 1) := dk_28 (dk_at dksX4_measure_5 7 rfl rfl)
theorem dX4_measure_123 : decode cX4_measure 123 = .ok (.aload 4, 2) := dk_25 4 (dk_at dksX4_measure_5 8 rfl rfl)
theorem dX4_measure_125 : decode cX4_measure 125 = .ok (.getfield 167, 3) := dk_180 0 167 (dk_at dksX4_measure_5 10 rfl rfl)
theorem dX4_measure_128 : decode cX4_measure 128 = .ok (.isub, 1) := dk_100 (dk_at dksX4_measure_5 13 rfl rfl)
theorem dX4_measure_129 : decode cX4_measure 129 = .ok (.invokestatic 185, 3) := dk_184 0 185 (dk_at dksX4_measure_5 14 rfl rfl)
theorem dX4_measure_132 : decode cX4_measure 132 = .ok (.aload 4, 2) := dk_25 4 (dk_at dksX4_measure_5 17 rfl rfl)
theorem dX4_measure_134 : decode cX4_measure 134 = .ok (.getfield 170, 3) := dk_180 0 170 (dk_at dksX4_measure_5 19 rfl rfl)
theorem dX4_measure_137 : decode cX4_measure 137 = .ok (.if_icmp .gt 21, 3) := dk_163 0 21 (dk_at dksX4_measure_6 0 rfl rfl)
theorem dX4_measure_140 : decode cX4_measure 140 = .ok (.aload 4, 2) := dk_25 4 (dk_at dksX4_measure_6 3 rfl rfl)
theorem dX4_measure_142 : decode cX4_measure 142 = .ok (.getfield 173, 3) := dk_180 0 173 (dk_at dksX4_measure_6 5 rfl rfl)
theorem dX4_measure_145 : decode cX4_measure 145 = .ok (.iconst 4, 1) := dk_7 (dk_at dksX4_measure_6 8 rfl rfl)
theorem dX4_measure_146 : decode cX4_measure 146 = .ok (.if_icmp .ge 12, 3) := dk_162 0 12 (dk_at dksX4_measure_6 9 rfl rfl)
theorem dX4_measure_149 : decode cX4_measure 149 = .ok (.aload 4, 2) := dk_25 4 (dk_at dksX4_measure_6 12 rfl rfl)
theorem dX4_measure_151 : decode cX4_measure 151 = .ok (.getfield 176, 3) := dk_180 0 176 (dk_at dksX4_measure_6 14 rfl rfl)
theorem dX4_measure_154 : decode cX4_measure 154 = .ok (.iconst 4, 1) := dk_7 (dk_at dksX4_measure_6 17 rfl rfl)
theorem dX4_measure_155 : decode cX4_measure 155 = .ok (.if_icmp .lt 7, 3) := dk_161 0 7 (dk_at dksX4_measure_6 18 rfl rfl)
theorem dX4_measure_158 : decode cX4_measure 158 = .ok (.iconst 1, 1) := dk_4 (dk_at dksX4_measure_6 21 rfl rfl)
theorem dX4_measure_159 : decode cX4_measure 159 = .ok (.goto 4, 3) := dk_167 0 4 (dk_at dksX4_measure_7 0 rfl rfl)
theorem dX4_measure_162 : decode cX4_measure 162 = .ok (.iconst 0, 1) := dk_3 (dk_at dksX4_measure_7 3 rfl rfl)
theorem dX4_measure_163 : decode cX4_measure 163 = .ok (.istore 5, 2) := dk_54 5 (dk_at dksX4_measure_7 4 rfl rfl)
theorem dX4_measure_165 : decode cX4_measure 165 = .ok (.iload 5, 2) := dk_21 5 (dk_at dksX4_measure_7 6 rfl rfl)
theorem dX4_measure_167 : decode cX4_measure 167 = .ok (.ifCond .eq 14, 3) := dk_153 0 14 (dk_at dksX4_measure_7 8 rfl rfl)
theorem dX4_measure_170 : decode cX4_measure 170 = .ok (.aload_n 3, 1) := dk_45 (dk_at dksX4_measure_7 11 rfl rfl)
theorem dX4_measure_171 : decode cX4_measure 171 = .ok (.getfield 94, 3) := dk_180 0 94 (dk_at dksX4_measure_7 12 rfl rfl)
theorem dX4_measure_174 : decode cX4_measure 174 = .ok (.ifCond .ne 7, 3) := dk_154 0 7 (dk_at dksX4_measure_7 15 rfl rfl)
theorem dX4_measure_177 : decode cX4_measure 177 = .ok (.iconst 1, 1) := dk_4 (dk_at dksX4_measure_7 18 rfl rfl)
theorem dX4_measure_178 : decode cX4_measure 178 = .ok (.goto 4, 3) := dk_167 0 4 (dk_at dksX4_measure_7 19 rfl rfl)
theorem dX4_measure_181 : decode cX4_measure 181 = .ok (.iconst 0, 1) := dk_3 (dk_at dksX4_measure_7 22 rfl rfl)
theorem dX4_measure_182 : decode cX4_measure 182 = .ok (.istore 6, 2) := dk_54 6 (dk_at dksX4_measure_8 0 rfl rfl)
theorem dX4_measure_184 : decode cX4_measure 184 = .ok (.iload 6, 2) := dk_21 6 (dk_at dksX4_measure_8 2 rfl rfl)
theorem dX4_measure_186 : decode cX4_measure 186 = .ok (.ifCond .eq 14, 3) := dk_153 0 14 (dk_at dksX4_measure_8 4 rfl rfl)
theorem dX4_measure_189 : decode cX4_measure 189 = .ok (.aload_n 3, 1) := dk_45 (dk_at dksX4_measure_8 7 rfl rfl)
theorem dX4_measure_190 : decode cX4_measure 190 = .ok (.iconst 1, 1) := dk_4 (dk_at dksX4_measure_8 8 rfl rfl)
theorem dX4_measure_191 : decode cX4_measure 191 = .ok (.putfield 94, 3) := dk_181 0 94 (dk_at dksX4_measure_8 9 rfl rfl)
theorem dX4_measure_194 : decode cX4_measure 194 = .ok (.aload_n 0, 1) := dk_42 (dk_at dksX4_measure_8 12 rfl rfl)
theorem dX4_measure_195 : decode cX4_measure 195 = .ok (.invokevirtual 164, 3) := dk_182 0 164 (dk_at dksX4_measure_8 13 rfl rfl)
theorem dX4_measure_198 : decode cX4_measure 198 = .ok (.istore 7, 2) := dk_54 7 (dk_at dksX4_measure_8 16 rfl rfl)
theorem dX4_measure_200 : decode cX4_measure 200 = .ok (.iload 6, 2) := dk_21 6 (dk_at dksX4_measure_8 18 rfl rfl)
theorem dX4_measure_202 : decode cX4_measure 202 = .ok (.ireturn, 1) := dk_172 (dk_at dksX4_measure_8 20 rfl rfl)
abbrev cX4_lots : ByteArray := prog_19_method_22_code
def yX4_lots : MethodName := ⟨RX4, "lots", "()I"⟩
def dkwX4_lots_0 : List UInt8 := [42, 3, 181, 0, 36, 42, 180, 0, 19, 182, 0, 44, 172]
abbrev dktX4_lots_0 : List UInt8 := dkwX4_lots_0 ++ []
theorem dksX4_lots_0 : cX4_lots.data.toList.drop 0 = dktX4_lots_0 := by decide +kernel
theorem dX4_lots_0 : decode cX4_lots 0 = .ok (.aload_n 0, 1) := dk_42 (dk_at dksX4_lots_0 0 rfl rfl)
theorem dX4_lots_1 : decode cX4_lots 1 = .ok (.iconst 0, 1) := dk_3 (dk_at dksX4_lots_0 1 rfl rfl)
theorem dX4_lots_2 : decode cX4_lots 2 = .ok (.putfield 36, 3) := dk_181 0 36 (dk_at dksX4_lots_0 2 rfl rfl)
theorem dX4_lots_5 : decode cX4_lots 5 = .ok (.aload_n 0, 1) := dk_42 (dk_at dksX4_lots_0 5 rfl rfl)
theorem dX4_lots_6 : decode cX4_lots 6 = .ok (.getfield 19, 3) := dk_180 0 19 (dk_at dksX4_lots_0 6 rfl rfl)
theorem dX4_lots_9 : decode cX4_lots 9 = .ok (.invokevirtual 44, 3) := dk_182 0 44 (dk_at dksX4_lots_0 9 rfl rfl)
theorem dX4_lots_12 : decode cX4_lots 12 = .ok (.ireturn, 1) := dk_172 (dk_at dksX4_lots_0 12 rfl rfl)
abbrev cX4_partOf : ByteArray := prog_19_method_23_code
def yX4_partOf : MethodName := ⟨RX4, "partOf", "(I)I"⟩
def dkwX4_partOf_1 : List UInt8 := [180, 0, 182, 172]
abbrev dktX4_partOf_1 : List UInt8 := dkwX4_partOf_1 ++ []
def dkwX4_partOf_0 : List UInt8 := [42, 27, 182, 0, 161, 153, 0, 7, 3, 167, 0, 17, 42, 180, 0, 19, 27, 182, 0, 65, 192, 0, 82]
abbrev dktX4_partOf_0 : List UInt8 := dkwX4_partOf_0 ++ dktX4_partOf_1
theorem dksX4_partOf_0 : cX4_partOf.data.toList.drop 0 = dktX4_partOf_0 := by decide +kernel
theorem dksX4_partOf_1 : cX4_partOf.data.toList.drop 23 = dktX4_partOf_1 := dk_seg dksX4_partOf_0 23 rfl rfl
theorem dX4_partOf_0 : decode cX4_partOf 0 = .ok (.aload_n 0, 1) := dk_42 (dk_at dksX4_partOf_0 0 rfl rfl)
theorem dX4_partOf_1 : decode cX4_partOf 1 = .ok (.iload_n 1, 1) := dk_27 (dk_at dksX4_partOf_0 1 rfl rfl)
theorem dX4_partOf_2 : decode cX4_partOf 2 = .ok (.invokevirtual 161, 3) := dk_182 0 161 (dk_at dksX4_partOf_0 2 rfl rfl)
theorem dX4_partOf_5 : decode cX4_partOf 5 = .ok (.ifCond .eq 7, 3) := dk_153 0 7 (dk_at dksX4_partOf_0 5 rfl rfl)
theorem dX4_partOf_8 : decode cX4_partOf 8 = .ok (.iconst 0, 1) := dk_3 (dk_at dksX4_partOf_0 8 rfl rfl)
theorem dX4_partOf_9 : decode cX4_partOf 9 = .ok (.goto 17, 3) := dk_167 0 17 (dk_at dksX4_partOf_0 9 rfl rfl)
theorem dX4_partOf_12 : decode cX4_partOf 12 = .ok (.aload_n 0, 1) := dk_42 (dk_at dksX4_partOf_0 12 rfl rfl)
theorem dX4_partOf_13 : decode cX4_partOf 13 = .ok (.getfield 19, 3) := dk_180 0 19 (dk_at dksX4_partOf_0 13 rfl rfl)
theorem dX4_partOf_16 : decode cX4_partOf 16 = .ok (.iload_n 1, 1) := dk_27 (dk_at dksX4_partOf_0 16 rfl rfl)
theorem dX4_partOf_17 : decode cX4_partOf 17 = .ok (.invokevirtual 65, 3) := dk_182 0 65 (dk_at dksX4_partOf_0 17 rfl rfl)
theorem dX4_partOf_20 : decode cX4_partOf 20 = .ok (.checkcast 82, 3) := dk_192 0 82 (dk_at dksX4_partOf_0 20 rfl rfl)
theorem dX4_partOf_23 : decode cX4_partOf 23 = .ok (.getfield 182, 3) := dk_180 0 182 (dk_at dksX4_partOf_1 0 rfl rfl)
theorem dX4_partOf_26 : decode cX4_partOf 26 = .ok (.ireturn, 1) := dk_172 (dk_at dksX4_partOf_1 3 rfl rfl)
abbrev cX4_rest : ByteArray := prog_19_method_24_code
def yX4_rest : MethodName := ⟨RX4, "rest", "(I)I"⟩
def dkwX4_rest_1 : List UInt8 := [180, 0, 189, 172]
abbrev dktX4_rest_1 : List UInt8 := dkwX4_rest_1 ++ []
def dkwX4_rest_0 : List UInt8 := [42, 27, 182, 0, 161, 153, 0, 7, 3, 167, 0, 17, 42, 180, 0, 19, 27, 182, 0, 65, 192, 0, 82]
abbrev dktX4_rest_0 : List UInt8 := dkwX4_rest_0 ++ dktX4_rest_1
theorem dksX4_rest_0 : cX4_rest.data.toList.drop 0 = dktX4_rest_0 := by decide +kernel
theorem dksX4_rest_1 : cX4_rest.data.toList.drop 23 = dktX4_rest_1 := dk_seg dksX4_rest_0 23 rfl rfl
theorem dX4_rest_0 : decode cX4_rest 0 = .ok (.aload_n 0, 1) := dk_42 (dk_at dksX4_rest_0 0 rfl rfl)
theorem dX4_rest_1 : decode cX4_rest 1 = .ok (.iload_n 1, 1) := dk_27 (dk_at dksX4_rest_0 1 rfl rfl)
theorem dX4_rest_2 : decode cX4_rest 2 = .ok (.invokevirtual 161, 3) := dk_182 0 161 (dk_at dksX4_rest_0 2 rfl rfl)
theorem dX4_rest_5 : decode cX4_rest 5 = .ok (.ifCond .eq 7, 3) := dk_153 0 7 (dk_at dksX4_rest_0 5 rfl rfl)
theorem dX4_rest_8 : decode cX4_rest 8 = .ok (.iconst 0, 1) := dk_3 (dk_at dksX4_rest_0 8 rfl rfl)
theorem dX4_rest_9 : decode cX4_rest 9 = .ok (.goto 17, 3) := dk_167 0 17 (dk_at dksX4_rest_0 9 rfl rfl)
theorem dX4_rest_12 : decode cX4_rest 12 = .ok (.aload_n 0, 1) := dk_42 (dk_at dksX4_rest_0 12 rfl rfl)
theorem dX4_rest_13 : decode cX4_rest 13 = .ok (.getfield 19, 3) := dk_180 0 19 (dk_at dksX4_rest_0 13 rfl rfl)
theorem dX4_rest_16 : decode cX4_rest 16 = .ok (.iload_n 1, 1) := dk_27 (dk_at dksX4_rest_0 16 rfl rfl)
theorem dX4_rest_17 : decode cX4_rest 17 = .ok (.invokevirtual 65, 3) := dk_182 0 65 (dk_at dksX4_rest_0 17 rfl rfl)
theorem dX4_rest_20 : decode cX4_rest 20 = .ok (.checkcast 82, 3) := dk_192 0 82 (dk_at dksX4_rest_0 20 rfl rfl)
theorem dX4_rest_23 : decode cX4_rest 23 = .ok (.getfield 189, 3) := dk_180 0 189 (dk_at dksX4_rest_1 0 rfl rfl)
theorem dX4_rest_26 : decode cX4_rest 26 = .ok (.ireturn, 1) := dk_172 (dk_at dksX4_rest_1 3 rfl rfl)
abbrev cX4_reserved : ByteArray := prog_19_method_25_code
def yX4_reserved : MethodName := ⟨RX4, "reserved", "(I)I"⟩
def dkwX4_reserved_1 : List UInt8 := [180, 0, 150, 172]
abbrev dktX4_reserved_1 : List UInt8 := dkwX4_reserved_1 ++ []
def dkwX4_reserved_0 : List UInt8 := [42, 27, 182, 0, 161, 153, 0, 7, 3, 167, 0, 17, 42, 180, 0, 19, 27, 182, 0, 65, 192, 0, 82]
abbrev dktX4_reserved_0 : List UInt8 := dkwX4_reserved_0 ++ dktX4_reserved_1
theorem dksX4_reserved_0 : cX4_reserved.data.toList.drop 0 = dktX4_reserved_0 := by decide +kernel
theorem dksX4_reserved_1 : cX4_reserved.data.toList.drop 23 = dktX4_reserved_1 := dk_seg dksX4_reserved_0 23 rfl rfl
theorem dX4_reserved_0 : decode cX4_reserved 0 = .ok (.aload_n 0, 1) := dk_42 (dk_at dksX4_reserved_0 0 rfl rfl)
theorem dX4_reserved_1 : decode cX4_reserved 1 = .ok (.iload_n 1, 1) := dk_27 (dk_at dksX4_reserved_0 1 rfl rfl)
theorem dX4_reserved_2 : decode cX4_reserved 2 = .ok (.invokevirtual 161, 3) := dk_182 0 161 (dk_at dksX4_reserved_0 2 rfl rfl)
theorem dX4_reserved_5 : decode cX4_reserved 5 = .ok (.ifCond .eq 7, 3) := dk_153 0 7 (dk_at dksX4_reserved_0 5 rfl rfl)
theorem dX4_reserved_8 : decode cX4_reserved 8 = .ok (.iconst 0, 1) := dk_3 (dk_at dksX4_reserved_0 8 rfl rfl)
theorem dX4_reserved_9 : decode cX4_reserved 9 = .ok (.goto 17, 3) := dk_167 0 17 (dk_at dksX4_reserved_0 9 rfl rfl)
theorem dX4_reserved_12 : decode cX4_reserved 12 = .ok (.aload_n 0, 1) := dk_42 (dk_at dksX4_reserved_0 12 rfl rfl)
theorem dX4_reserved_13 : decode cX4_reserved 13 = .ok (.getfield 19, 3) := dk_180 0 19 (dk_at dksX4_reserved_0 13 rfl rfl)
theorem dX4_reserved_16 : decode cX4_reserved 16 = .ok (.iload_n 1, 1) := dk_27 (dk_at dksX4_reserved_0 16 rfl rfl)
theorem dX4_reserved_17 : decode cX4_reserved 17 = .ok (.invokevirtual 65, 3) := dk_182 0 65 (dk_at dksX4_reserved_0 17 rfl rfl)
theorem dX4_reserved_20 : decode cX4_reserved 20 = .ok (.checkcast 82, 3) := dk_192 0 82 (dk_at dksX4_reserved_0 20 rfl rfl)
theorem dX4_reserved_23 : decode cX4_reserved 23 = .ok (.getfield 150, 3) := dk_180 0 150 (dk_at dksX4_reserved_1 0 rfl rfl)
theorem dX4_reserved_26 : decode cX4_reserved 26 = .ok (.ireturn, 1) := dk_172 (dk_at dksX4_reserved_1 3 rfl rfl)
abbrev cX4_costOf : ByteArray := prog_19_method_26_code
def yX4_costOf : MethodName := ⟨RX4, "costOf", "(I)J"⟩
def dkwX4_costOf_1 : List UInt8 := [180, 0, 192, 173]
abbrev dktX4_costOf_1 : List UInt8 := dkwX4_costOf_1 ++ []
def dkwX4_costOf_0 : List UInt8 := [42, 27, 182, 0, 161, 153, 0, 7, 9, 167, 0, 17, 42, 180, 0, 19, 27, 182, 0, 65, 192, 0, 82]
abbrev dktX4_costOf_0 : List UInt8 := dkwX4_costOf_0 ++ dktX4_costOf_1
theorem dksX4_costOf_0 : cX4_costOf.data.toList.drop 0 = dktX4_costOf_0 := by decide +kernel
theorem dksX4_costOf_1 : cX4_costOf.data.toList.drop 23 = dktX4_costOf_1 := dk_seg dksX4_costOf_0 23 rfl rfl
theorem dX4_costOf_0 : decode cX4_costOf 0 = .ok (.aload_n 0, 1) := dk_42 (dk_at dksX4_costOf_0 0 rfl rfl)
theorem dX4_costOf_1 : decode cX4_costOf 1 = .ok (.iload_n 1, 1) := dk_27 (dk_at dksX4_costOf_0 1 rfl rfl)
theorem dX4_costOf_2 : decode cX4_costOf 2 = .ok (.invokevirtual 161, 3) := dk_182 0 161 (dk_at dksX4_costOf_0 2 rfl rfl)
theorem dX4_costOf_5 : decode cX4_costOf 5 = .ok (.ifCond .eq 7, 3) := dk_153 0 7 (dk_at dksX4_costOf_0 5 rfl rfl)
theorem dX4_costOf_8 : decode cX4_costOf 8 = .ok (.lconst 0, 1) := dk_9 (dk_at dksX4_costOf_0 8 rfl rfl)
theorem dX4_costOf_9 : decode cX4_costOf 9 = .ok (.goto 17, 3) := dk_167 0 17 (dk_at dksX4_costOf_0 9 rfl rfl)
theorem dX4_costOf_12 : decode cX4_costOf 12 = .ok (.aload_n 0, 1) := dk_42 (dk_at dksX4_costOf_0 12 rfl rfl)
theorem dX4_costOf_13 : decode cX4_costOf 13 = .ok (.getfield 19, 3) := dk_180 0 19 (dk_at dksX4_costOf_0 13 rfl rfl)
theorem dX4_costOf_16 : decode cX4_costOf 16 = .ok (.iload_n 1, 1) := dk_27 (dk_at dksX4_costOf_0 16 rfl rfl)
theorem dX4_costOf_17 : decode cX4_costOf 17 = .ok (.invokevirtual 65, 3) := dk_182 0 65 (dk_at dksX4_costOf_0 17 rfl rfl)
theorem dX4_costOf_20 : decode cX4_costOf 20 = .ok (.checkcast 82, 3) := dk_192 0 82 (dk_at dksX4_costOf_0 20 rfl rfl)
theorem dX4_costOf_23 : decode cX4_costOf 23 = .ok (.getfield 192, 3) := dk_180 0 192 (dk_at dksX4_costOf_1 0 rfl rfl)
theorem dX4_costOf_26 : decode cX4_costOf 26 = .ok (.lreturn, 1) := dk_173 (dk_at dksX4_costOf_1 3 rfl rfl)
abbrev cX4_order : ByteArray := prog_19_method_27_code
def yX4_order : MethodName := ⟨RX4, "order", "(IIII)I"⟩
def dkwX4_order_5 : List UInt8 := [42, 180, 0, 22, 182, 0, 44, 4, 100, 172]
abbrev dktX4_order_5 : List UInt8 := dkwX4_order_5 ++ []
def dkwX4_order_4 : List UInt8 := [187, 0, 136, 89, 42, 180, 0, 22, 182, 0, 44, 27, 28, 29, 21, 4, 183, 0, 196, 182, 0, 32, 54, 6]
abbrev dktX4_order_4 : List UInt8 := dkwX4_order_4 ++ dktX4_order_5
def dkwX4_order_3 : List UInt8 := [16, 30, 160, 0, 7, 6, 167, 0, 4, 3, 182, 0, 48, 153, 0, 5, 3, 172, 42, 180, 0, 22]
abbrev dktX4_order_3 : List UInt8 := dkwX4_order_3 ++ dktX4_order_4
def dkwX4_order_2 : List UInt8 := [154, 0, 7, 4, 167, 0, 29, 21, 5, 154, 0, 7, 5, 167, 0, 20, 42, 180, 0, 22, 182, 0, 44]
abbrev dktX4_order_2 : List UInt8 := dkwX4_order_2 ++ dktX4_order_3
def dkwX4_order_1 : List UInt8 := [17, 39, 15, 184, 0, 40, 153, 0, 7, 4, 167, 0, 4, 3, 54, 5, 42, 42, 27, 182, 0, 62]
abbrev dktX4_order_1 : List UInt8 := dkwX4_order_1 ++ dktX4_order_2
def dkwX4_order_0 : List UInt8 := [28, 4, 16, 100, 184, 0, 40, 153, 0, 28, 29, 3, 5, 184, 0, 40, 153, 0, 19, 21, 4, 3]
abbrev dktX4_order_0 : List UInt8 := dkwX4_order_0 ++ dktX4_order_1
theorem dksX4_order_0 : cX4_order.data.toList.drop 0 = dktX4_order_0 := by decide +kernel
theorem dksX4_order_1 : cX4_order.data.toList.drop 22 = dktX4_order_1 := dk_seg dksX4_order_0 22 rfl rfl
theorem dksX4_order_2 : cX4_order.data.toList.drop 44 = dktX4_order_2 := dk_seg dksX4_order_1 22 rfl rfl
theorem dksX4_order_3 : cX4_order.data.toList.drop 67 = dktX4_order_3 := dk_seg dksX4_order_2 23 rfl rfl
theorem dksX4_order_4 : cX4_order.data.toList.drop 89 = dktX4_order_4 := dk_seg dksX4_order_3 22 rfl rfl
theorem dksX4_order_5 : cX4_order.data.toList.drop 113 = dktX4_order_5 := dk_seg dksX4_order_4 24 rfl rfl
theorem dX4_order_0 : decode cX4_order 0 = .ok (.iload_n 2, 1) := dk_28 (dk_at dksX4_order_0 0 rfl rfl)
theorem dX4_order_1 : decode cX4_order 1 = .ok (.iconst 1, 1) := dk_4 (dk_at dksX4_order_0 1 rfl rfl)
theorem dX4_order_2 : decode cX4_order 2 = .ok (.bipush 100, 2) := dk_16 100 (dk_at dksX4_order_0 2 rfl rfl)
theorem dX4_order_4 : decode cX4_order 4 = .ok (.invokestatic 40, 3) := dk_184 0 40 (dk_at dksX4_order_0 4 rfl rfl)
theorem dX4_order_7 : decode cX4_order 7 = .ok (.ifCond .eq 28, 3) := dk_153 0 28 (dk_at dksX4_order_0 7 rfl rfl)
theorem dX4_order_10 : decode cX4_order 10 = .ok (.iload_n 3, 1) := dk_29 (dk_at dksX4_order_0 10 rfl rfl)
theorem dX4_order_11 : decode cX4_order 11 = .ok (.iconst 0, 1) := dk_3 (dk_at dksX4_order_0 11 rfl rfl)
theorem dX4_order_12 : decode cX4_order 12 = .ok (.iconst 2, 1) := dk_5 (dk_at dksX4_order_0 12 rfl rfl)
theorem dX4_order_13 : decode cX4_order 13 = .ok (.invokestatic 40, 3) := dk_184 0 40 (dk_at dksX4_order_0 13 rfl rfl)
theorem dX4_order_16 : decode cX4_order 16 = .ok (.ifCond .eq 19, 3) := dk_153 0 19 (dk_at dksX4_order_0 16 rfl rfl)
theorem dX4_order_19 : decode cX4_order 19 = .ok (.iload 4, 2) := dk_21 4 (dk_at dksX4_order_0 19 rfl rfl)
theorem dX4_order_21 : decode cX4_order 21 = .ok (.iconst 0, 1) := dk_3 (dk_at dksX4_order_0 21 rfl rfl)
theorem dX4_order_22 : decode cX4_order 22 = .ok (.sipush 9999, 3) := dk_17 39 15 (dk_at dksX4_order_1 0 rfl rfl)
theorem dX4_order_25 : decode cX4_order 25 = .ok (.invokestatic 40, 3) := dk_184 0 40 (dk_at dksX4_order_1 3 rfl rfl)
theorem dX4_order_28 : decode cX4_order 28 = .ok (.ifCond .eq 7, 3) := dk_153 0 7 (dk_at dksX4_order_1 6 rfl rfl)
theorem dX4_order_31 : decode cX4_order 31 = .ok (.iconst 1, 1) := dk_4 (dk_at dksX4_order_1 9 rfl rfl)
theorem dX4_order_32 : decode cX4_order 32 = .ok (.goto 4, 3) := dk_167 0 4 (dk_at dksX4_order_1 10 rfl rfl)
theorem dX4_order_35 : decode cX4_order 35 = .ok (.iconst 0, 1) := dk_3 (dk_at dksX4_order_1 13 rfl rfl)
theorem dX4_order_36 : decode cX4_order 36 = .ok (.istore 5, 2) := dk_54 5 (dk_at dksX4_order_1 14 rfl rfl)
theorem dX4_order_38 : decode cX4_order 38 = .ok (.aload_n 0, 1) := dk_42 (dk_at dksX4_order_1 16 rfl rfl)
theorem dX4_order_39 : decode cX4_order 39 = .ok (.aload_n 0, 1) := dk_42 (dk_at dksX4_order_1 17 rfl rfl)
theorem dX4_order_40 : decode cX4_order 40 = .ok (.iload_n 1, 1) := dk_27 (dk_at dksX4_order_1 18 rfl rfl)
theorem dX4_order_41 : decode cX4_order 41 = .ok (.invokevirtual 62, 3) := dk_182 0 62 (dk_at dksX4_order_1 19 rfl rfl)
theorem dX4_order_44 : decode cX4_order 44 = .ok (.ifCond .ne 7, 3) := dk_154 0 7 (dk_at dksX4_order_2 0 rfl rfl)
theorem dX4_order_47 : decode cX4_order 47 = .ok (.iconst 1, 1) := dk_4 (dk_at dksX4_order_2 3 rfl rfl)
theorem dX4_order_48 : decode cX4_order 48 = .ok (.goto 29, 3) := dk_167 0 29 (dk_at dksX4_order_2 4 rfl rfl)
theorem dX4_order_51 : decode cX4_order 51 = .ok (.iload 5, 2) := dk_21 5 (dk_at dksX4_order_2 7 rfl rfl)
theorem dX4_order_53 : decode cX4_order 53 = .ok (.ifCond .ne 7, 3) := dk_154 0 7 (dk_at dksX4_order_2 9 rfl rfl)
theorem dX4_order_56 : decode cX4_order 56 = .ok (.iconst 2, 1) := dk_5 (dk_at dksX4_order_2 12 rfl rfl)
theorem dX4_order_57 : decode cX4_order 57 = .ok (.goto 20, 3) := dk_167 0 20 (dk_at dksX4_order_2 13 rfl rfl)
theorem dX4_order_60 : decode cX4_order 60 = .ok (.aload_n 0, 1) := dk_42 (dk_at dksX4_order_2 16 rfl rfl)
theorem dX4_order_61 : decode cX4_order 61 = .ok (.getfield 22, 3) := dk_180 0 22 (dk_at dksX4_order_2 17 rfl rfl)
theorem dX4_order_64 : decode cX4_order 64 = .ok (.invokevirtual 44, 3) := dk_182 0 44 (dk_at dksX4_order_2 20 rfl rfl)
theorem dX4_order_67 : decode cX4_order 67 = .ok (.bipush 30, 2) := dk_16 30 (dk_at dksX4_order_3 0 rfl rfl)
theorem dX4_order_69 : decode cX4_order 69 = .ok (.if_icmp .ne 7, 3) := dk_160 0 7 (dk_at dksX4_order_3 2 rfl rfl)
theorem dX4_order_72 : decode cX4_order 72 = .ok (.iconst 3, 1) := dk_6 (dk_at dksX4_order_3 5 rfl rfl)
theorem dX4_order_73 : decode cX4_order 73 = .ok (.goto 4, 3) := dk_167 0 4 (dk_at dksX4_order_3 6 rfl rfl)
theorem dX4_order_76 : decode cX4_order 76 = .ok (.iconst 0, 1) := dk_3 (dk_at dksX4_order_3 9 rfl rfl)
theorem dX4_order_77 : decode cX4_order 77 = .ok (.invokevirtual 48, 3) := dk_182 0 48 (dk_at dksX4_order_3 10 rfl rfl)
theorem dX4_order_80 : decode cX4_order 80 = .ok (.ifCond .eq 5, 3) := dk_153 0 5 (dk_at dksX4_order_3 13 rfl rfl)
theorem dX4_order_83 : decode cX4_order 83 = .ok (.iconst 0, 1) := dk_3 (dk_at dksX4_order_3 16 rfl rfl)
theorem dX4_order_84 : decode cX4_order 84 = .ok (.ireturn, 1) := dk_172 (dk_at dksX4_order_3 17 rfl rfl)
theorem dX4_order_85 : decode cX4_order 85 = .ok (.aload_n 0, 1) := dk_42 (dk_at dksX4_order_3 18 rfl rfl)
theorem dX4_order_86 : decode cX4_order 86 = .ok (.getfield 22, 3) := dk_180 0 22 (dk_at dksX4_order_3 19 rfl rfl)
theorem dX4_order_89 : decode cX4_order 89 = .ok (.new 136, 3) := dk_187 0 136 (dk_at dksX4_order_4 0 rfl rfl)
theorem dX4_order_92 : decode cX4_order 92 = .ok (.dup, 1) := dk_89 (dk_at dksX4_order_4 3 rfl rfl)
theorem dX4_order_93 : decode cX4_order 93 = .ok (.aload_n 0, 1) := dk_42 (dk_at dksX4_order_4 4 rfl rfl)
theorem dX4_order_94 : decode cX4_order 94 = .ok (.getfield 22, 3) := dk_180 0 22 (dk_at dksX4_order_4 5 rfl rfl)
theorem dX4_order_97 : decode cX4_order 97 = .ok (.invokevirtual 44, 3) := dk_182 0 44 (dk_at dksX4_order_4 8 rfl rfl)
theorem dX4_order_100 : decode cX4_order 100 = .ok (.iload_n 1, 1) := dk_27 (dk_at dksX4_order_4 11 rfl rfl)
theorem dX4_order_101 : decode cX4_order 101 = .ok (.iload_n 2, 1) := dk_28 (dk_at dksX4_order_4 12 rfl rfl)
theorem dX4_order_102 : decode cX4_order 102 = .ok (.iload_n 3, 1) := dk_29 (dk_at dksX4_order_4 13 rfl rfl)
theorem dX4_order_103 : decode cX4_order 103 = .ok (.iload 4, 2) := dk_21 4 (dk_at dksX4_order_4 14 rfl rfl)
theorem dX4_order_105 : decode cX4_order 105 = .ok (.invokespecial 196, 3) := dk_183 0 196 (dk_at dksX4_order_4 16 rfl rfl)
theorem dX4_order_108 : decode cX4_order 108 = .ok (.invokevirtual 32, 3) := dk_182 0 32 (dk_at dksX4_order_4 19 rfl rfl)
theorem dX4_order_111 : decode cX4_order 111 = .ok (.istore 6, 2) := dk_54 6 (dk_at dksX4_order_4 22 rfl rfl)
theorem dX4_order_113 : decode cX4_order 113 = .ok (.aload_n 0, 1) := dk_42 (dk_at dksX4_order_5 0 rfl rfl)
theorem dX4_order_114 : decode cX4_order 114 = .ok (.getfield 22, 3) := dk_180 0 22 (dk_at dksX4_order_5 1 rfl rfl)
theorem dX4_order_117 : decode cX4_order 117 = .ok (.invokevirtual 44, 3) := dk_182 0 44 (dk_at dksX4_order_5 4 rfl rfl)
theorem dX4_order_120 : decode cX4_order 120 = .ok (.iconst 1, 1) := dk_4 (dk_at dksX4_order_5 7 rfl rfl)
theorem dX4_order_121 : decode cX4_order 121 = .ok (.isub, 1) := dk_100 (dk_at dksX4_order_5 8 rfl rfl)
theorem dX4_order_122 : decode cX4_order 122 = .ok (.ireturn, 1) := dk_172 (dk_at dksX4_order_5 9 rfl rfl)
abbrev cX4_promise : ByteArray := prog_19_method_30_code
def yX4_promise : MethodName := ⟨RX4, "promise", "(I)Z"⟩
def dkwX4_promise_3 : List UInt8 := [4, 167, 0, 4, 3, 172]
abbrev dktX4_promise_3 : List UInt8 := dkwX4_promise_3 ++ []
def dkwX4_promise_2 : List UInt8 := [16, 45, 159, 0, 7, 5, 167, 0, 4, 3, 182, 0, 48, 154, 0, 15, 42, 44, 182, 0, 217, 153, 0, 7]
abbrev dktX4_promise_2 : List UInt8 := dkwX4_promise_2 ++ dktX4_promise_3
def dkwX4_promise_1 : List UInt8 := [180, 0, 16, 44, 180, 0, 199, 182, 0, 65, 192, 0, 57, 180, 0, 69, 153, 0, 12, 44, 180, 0, 139]
abbrev dktX4_promise_1 : List UInt8 := dkwX4_promise_1 ++ dktX4_promise_2
def dkwX4_promise_0 : List UInt8 := [42, 27, 182, 0, 214, 153, 0, 5, 3, 172, 42, 180, 0, 22, 27, 182, 0, 65, 192, 0, 136, 77, 42, 42]
abbrev dktX4_promise_0 : List UInt8 := dkwX4_promise_0 ++ dktX4_promise_1
theorem dksX4_promise_0 : cX4_promise.data.toList.drop 0 = dktX4_promise_0 := by decide +kernel
theorem dksX4_promise_1 : cX4_promise.data.toList.drop 24 = dktX4_promise_1 := dk_seg dksX4_promise_0 24 rfl rfl
theorem dksX4_promise_2 : cX4_promise.data.toList.drop 47 = dktX4_promise_2 := dk_seg dksX4_promise_1 23 rfl rfl
theorem dksX4_promise_3 : cX4_promise.data.toList.drop 71 = dktX4_promise_3 := dk_seg dksX4_promise_2 24 rfl rfl
theorem dX4_promise_0 : decode cX4_promise 0 = .ok (.aload_n 0, 1) := dk_42 (dk_at dksX4_promise_0 0 rfl rfl)
theorem dX4_promise_1 : decode cX4_promise 1 = .ok (.iload_n 1, 1) := dk_27 (dk_at dksX4_promise_0 1 rfl rfl)
theorem dX4_promise_2 : decode cX4_promise 2 = .ok (.invokevirtual 214, 3) := dk_182 0 214 (dk_at dksX4_promise_0 2 rfl rfl)
theorem dX4_promise_5 : decode cX4_promise 5 = .ok (.ifCond .eq 5, 3) := dk_153 0 5 (dk_at dksX4_promise_0 5 rfl rfl)
theorem dX4_promise_8 : decode cX4_promise 8 = .ok (.iconst 0, 1) := dk_3 (dk_at dksX4_promise_0 8 rfl rfl)
theorem dX4_promise_9 : decode cX4_promise 9 = .ok (.ireturn, 1) := dk_172 (dk_at dksX4_promise_0 9 rfl rfl)
theorem dX4_promise_10 : decode cX4_promise 10 = .ok (.aload_n 0, 1) := dk_42 (dk_at dksX4_promise_0 10 rfl rfl)
theorem dX4_promise_11 : decode cX4_promise 11 = .ok (.getfield 22, 3) := dk_180 0 22 (dk_at dksX4_promise_0 11 rfl rfl)
theorem dX4_promise_14 : decode cX4_promise 14 = .ok (.iload_n 1, 1) := dk_27 (dk_at dksX4_promise_0 14 rfl rfl)
theorem dX4_promise_15 : decode cX4_promise 15 = .ok (.invokevirtual 65, 3) := dk_182 0 65 (dk_at dksX4_promise_0 15 rfl rfl)
theorem dX4_promise_18 : decode cX4_promise 18 = .ok (.checkcast 136, 3) := dk_192 0 136 (dk_at dksX4_promise_0 18 rfl rfl)
theorem dX4_promise_21 : decode cX4_promise 21 = .ok (.astore_n 2, 1) := dk_77 (dk_at dksX4_promise_0 21 rfl rfl)
theorem dX4_promise_22 : decode cX4_promise 22 = .ok (.aload_n 0, 1) := dk_42 (dk_at dksX4_promise_0 22 rfl rfl)
theorem dX4_promise_23 : decode cX4_promise 23 = .ok (.aload_n 0, 1) := dk_42 (dk_at dksX4_promise_0 23 rfl rfl)
theorem dX4_promise_24 : decode cX4_promise 24 = .ok (.getfield 16, 3) := dk_180 0 16 (dk_at dksX4_promise_1 0 rfl rfl)
theorem dX4_promise_27 : decode cX4_promise 27 = .ok (.aload_n 2, 1) := dk_44 (dk_at dksX4_promise_1 3 rfl rfl)
theorem dX4_promise_28 : decode cX4_promise 28 = .ok (.getfield 199, 3) := dk_180 0 199 (dk_at dksX4_promise_1 4 rfl rfl)
theorem dX4_promise_31 : decode cX4_promise 31 = .ok (.invokevirtual 65, 3) := dk_182 0 65 (dk_at dksX4_promise_1 7 rfl rfl)
theorem dX4_promise_34 : decode cX4_promise 34 = .ok (.checkcast 57, 3) := dk_192 0 57 (dk_at dksX4_promise_1 10 rfl rfl)
theorem dX4_promise_37 : decode cX4_promise 37 = .ok (.getfield 69, 3) := dk_180 0 69 (dk_at dksX4_promise_1 13 rfl rfl)
theorem dX4_promise_40 : decode cX4_promise 40 = .ok (.ifCond .eq 12, 3) := dk_153 0 12 (dk_at dksX4_promise_1 16 rfl rfl)
theorem dX4_promise_43 : decode cX4_promise 43 = .ok (.aload_n 2, 1) := dk_44 (dk_at dksX4_promise_1 19 rfl rfl)
theorem dX4_promise_44 : decode cX4_promise 44 = .ok (.getfield 139, 3) := dk_180 0 139 (dk_at dksX4_promise_1 20 rfl rfl)
theorem dX4_promise_47 : decode cX4_promise 47 = .ok (.bipush 45, 2) := dk_16 45 (dk_at dksX4_promise_2 0 rfl rfl)
theorem dX4_promise_49 : decode cX4_promise 49 = .ok (.if_icmp .eq 7, 3) := dk_159 0 7 (dk_at dksX4_promise_2 2 rfl rfl)
theorem dX4_promise_52 : decode cX4_promise 52 = .ok (.iconst 2, 1) := dk_5 (dk_at dksX4_promise_2 5 rfl rfl)
theorem dX4_promise_53 : decode cX4_promise 53 = .ok (.goto 4, 3) := dk_167 0 4 (dk_at dksX4_promise_2 6 rfl rfl)
theorem dX4_promise_56 : decode cX4_promise 56 = .ok (.iconst 0, 1) := dk_3 (dk_at dksX4_promise_2 9 rfl rfl)
theorem dX4_promise_57 : decode cX4_promise 57 = .ok (.invokevirtual 48, 3) := dk_182 0 48 (dk_at dksX4_promise_2 10 rfl rfl)
theorem dX4_promise_60 : decode cX4_promise 60 = .ok (.ifCond .ne 15, 3) := dk_154 0 15 (dk_at dksX4_promise_2 13 rfl rfl)
theorem dX4_promise_63 : decode cX4_promise 63 = .ok (.aload_n 0, 1) := dk_42 (dk_at dksX4_promise_2 16 rfl rfl)
theorem dX4_promise_64 : decode cX4_promise 64 = .ok (.aload_n 2, 1) := dk_44 (dk_at dksX4_promise_2 17 rfl rfl)
theorem dX4_promise_65 : decode cX4_promise 65 = .ok (.invokevirtual 217, 3) := dk_182 0 217 (dk_at dksX4_promise_2 18 rfl rfl)
theorem dX4_promise_68 : decode cX4_promise 68 = .ok (.ifCond .eq 7, 3) := dk_153 0 7 (dk_at dksX4_promise_2 21 rfl rfl)
theorem dX4_promise_71 : decode cX4_promise 71 = .ok (.iconst 1, 1) := dk_4 (dk_at dksX4_promise_3 0 rfl rfl)
theorem dX4_promise_72 : decode cX4_promise 72 = .ok (.goto 4, 3) := dk_167 0 4 (dk_at dksX4_promise_3 1 rfl rfl)
theorem dX4_promise_75 : decode cX4_promise 75 = .ok (.iconst 0, 1) := dk_3 (dk_at dksX4_promise_3 4 rfl rfl)
theorem dX4_promise_76 : decode cX4_promise 76 = .ok (.ireturn, 1) := dk_172 (dk_at dksX4_promise_3 5 rfl rfl)
abbrev cX4_failsOrder : ByteArray := prog_19_method_28_code
def yX4_failsOrder : MethodName := ⟨RX4, "failsOrder", "(I)Z"⟩
def dkwX4_failsOrder_1 : List UInt8 := [182, 0, 48, 172]
abbrev dktX4_failsOrder_1 : List UInt8 := dkwX4_failsOrder_1 ++ []
def dkwX4_failsOrder_0 : List UInt8 := [42, 27, 3, 42, 180, 0, 22, 182, 0, 44, 4, 100, 184, 0, 40, 153, 0, 7, 3, 167, 0, 4, 4]
abbrev dktX4_failsOrder_0 : List UInt8 := dkwX4_failsOrder_0 ++ dktX4_failsOrder_1
theorem dksX4_failsOrder_0 : cX4_failsOrder.data.toList.drop 0 = dktX4_failsOrder_0 := by decide +kernel
theorem dksX4_failsOrder_1 : cX4_failsOrder.data.toList.drop 23 = dktX4_failsOrder_1 := dk_seg dksX4_failsOrder_0 23 rfl rfl
theorem dX4_failsOrder_0 : decode cX4_failsOrder 0 = .ok (.aload_n 0, 1) := dk_42 (dk_at dksX4_failsOrder_0 0 rfl rfl)
theorem dX4_failsOrder_1 : decode cX4_failsOrder 1 = .ok (.iload_n 1, 1) := dk_27 (dk_at dksX4_failsOrder_0 1 rfl rfl)
theorem dX4_failsOrder_2 : decode cX4_failsOrder 2 = .ok (.iconst 0, 1) := dk_3 (dk_at dksX4_failsOrder_0 2 rfl rfl)
theorem dX4_failsOrder_3 : decode cX4_failsOrder 3 = .ok (.aload_n 0, 1) := dk_42 (dk_at dksX4_failsOrder_0 3 rfl rfl)
theorem dX4_failsOrder_4 : decode cX4_failsOrder 4 = .ok (.getfield 22, 3) := dk_180 0 22 (dk_at dksX4_failsOrder_0 4 rfl rfl)
theorem dX4_failsOrder_7 : decode cX4_failsOrder 7 = .ok (.invokevirtual 44, 3) := dk_182 0 44 (dk_at dksX4_failsOrder_0 7 rfl rfl)
theorem dX4_failsOrder_10 : decode cX4_failsOrder 10 = .ok (.iconst 1, 1) := dk_4 (dk_at dksX4_failsOrder_0 10 rfl rfl)
theorem dX4_failsOrder_11 : decode cX4_failsOrder 11 = .ok (.isub, 1) := dk_100 (dk_at dksX4_failsOrder_0 11 rfl rfl)
theorem dX4_failsOrder_12 : decode cX4_failsOrder 12 = .ok (.invokestatic 40, 3) := dk_184 0 40 (dk_at dksX4_failsOrder_0 12 rfl rfl)
theorem dX4_failsOrder_15 : decode cX4_failsOrder 15 = .ok (.ifCond .eq 7, 3) := dk_153 0 7 (dk_at dksX4_failsOrder_0 15 rfl rfl)
theorem dX4_failsOrder_18 : decode cX4_failsOrder 18 = .ok (.iconst 0, 1) := dk_3 (dk_at dksX4_failsOrder_0 18 rfl rfl)
theorem dX4_failsOrder_19 : decode cX4_failsOrder 19 = .ok (.goto 4, 3) := dk_167 0 4 (dk_at dksX4_failsOrder_0 19 rfl rfl)
theorem dX4_failsOrder_22 : decode cX4_failsOrder 22 = .ok (.iconst 1, 1) := dk_4 (dk_at dksX4_failsOrder_0 22 rfl rfl)
theorem dX4_failsOrder_23 : decode cX4_failsOrder 23 = .ok (.invokevirtual 48, 3) := dk_182 0 48 (dk_at dksX4_failsOrder_1 0 rfl rfl)
theorem dX4_failsOrder_26 : decode cX4_failsOrder 26 = .ok (.ireturn, 1) := dk_172 (dk_at dksX4_failsOrder_1 3 rfl rfl)
abbrev cX4_reserve : ByteArray := prog_19_method_29_code
def yX4_reserve : MethodName := ⟨RX4, "reserve", "(LFoundrymarkModel$Order;)Z"⟩
def dkwX4_reserve_10 : List UInt8 := [172]
abbrev dktX4_reserve_10 : List UInt8 := dkwX4_reserve_10 ++ []
def dkwX4_reserve_9 : List UInt8 := [21, 4, 158, 0, 12, 42, 43, 182, 0, 146, 54, 5, 3, 172, 167, 255, 53, 43, 16, 112, 181, 0, 139, 4]
abbrev dktX4_reserve_9 : List UInt8 := dkwX4_reserve_9 ++ dktX4_reserve_10
def dkwX4_reserve_8 : List UInt8 := [153, 0, 7, 4, 167, 0, 4, 3, 54, 8, 21, 4, 21, 7, 100, 54, 4, 132, 5, 1, 167, 255, 123]
abbrev dktX4_reserve_8 : List UInt8 := dkwX4_reserve_8 ++ dktX4_reserve_9
def dkwX4_reserve_7 : List UInt8 := [180, 0, 138, 25, 6, 182, 0, 32, 153, 0, 22, 43, 180, 0, 153, 21, 7, 184, 0, 211, 182, 0, 32]
abbrev dktX4_reserve_7 : List UInt8 := dkwX4_reserve_7 ++ dktX4_reserve_8
def dkwX4_reserve_6 : List UInt8 := [167, 0, 4, 3, 54, 7, 21, 7, 158, 0, 56, 25, 6, 89, 180, 0, 150, 21, 7, 96, 181, 0, 150, 43]
abbrev dktX4_reserve_6 : List UInt8 := dkwX4_reserve_6 ++ dktX4_reserve_7
def dkwX4_reserve_5 : List UInt8 := [25, 6, 182, 0, 143, 154, 0, 22, 21, 4, 25, 6, 180, 0, 189, 25, 6, 180, 0, 150, 100, 184, 0, 208]
abbrev dktX4_reserve_5 : List UInt8 := dkwX4_reserve_5 ++ dktX4_reserve_6
def dkwX4_reserve_4 : List UInt8 := [180, 0, 19, 21, 5, 182, 0, 65, 192, 0, 82, 58, 6, 25, 6, 180, 0, 182, 45, 3, 46, 160, 0, 30]
abbrev dktX4_reserve_4 : List UInt8 := dkwX4_reserve_4 ++ dktX4_reserve_5
def dkwX4_reserve_3 : List UInt8 := [3, 54, 4, 3, 54, 5, 21, 5, 42, 180, 0, 19, 182, 0, 44, 162, 0, 127, 21, 4, 158, 0, 122, 42]
abbrev dktX4_reserve_3 : List UInt8 := dkwX4_reserve_3 ++ dktX4_reserve_4
def dkwX4_reserve_2 : List UInt8 := [159, 0, 13, 45, 5, 46, 43, 180, 0, 202, 160, 0, 14, 43, 180, 0, 205, 45, 4, 46, 104, 167, 0, 4]
abbrev dktX4_reserve_2 : List UInt8 := dkwX4_reserve_2 ++ dktX4_reserve_3
def dkwX4_reserve_1 : List UInt8 := [185, 0, 127, 1, 0, 153, 0, 200, 44, 185, 0, 132, 1, 0, 192, 0, 200, 78, 45, 5, 46, 2]
abbrev dktX4_reserve_1 : List UInt8 := dkwX4_reserve_1 ++ dktX4_reserve_2
def dkwX4_reserve_0 : List UInt8 := [42, 180, 0, 16, 43, 180, 0, 199, 182, 0, 65, 192, 0, 57, 180, 0, 73, 182, 0, 123, 77, 44]
abbrev dktX4_reserve_0 : List UInt8 := dkwX4_reserve_0 ++ dktX4_reserve_1
theorem dksX4_reserve_0 : cX4_reserve.data.toList.drop 0 = dktX4_reserve_0 := by decide +kernel
theorem dksX4_reserve_1 : cX4_reserve.data.toList.drop 22 = dktX4_reserve_1 := dk_seg dksX4_reserve_0 22 rfl rfl
theorem dksX4_reserve_2 : cX4_reserve.data.toList.drop 44 = dktX4_reserve_2 := dk_seg dksX4_reserve_1 22 rfl rfl
theorem dksX4_reserve_3 : cX4_reserve.data.toList.drop 68 = dktX4_reserve_3 := dk_seg dksX4_reserve_2 24 rfl rfl
theorem dksX4_reserve_4 : cX4_reserve.data.toList.drop 92 = dktX4_reserve_4 := dk_seg dksX4_reserve_3 24 rfl rfl
theorem dksX4_reserve_5 : cX4_reserve.data.toList.drop 116 = dktX4_reserve_5 := dk_seg dksX4_reserve_4 24 rfl rfl
theorem dksX4_reserve_6 : cX4_reserve.data.toList.drop 140 = dktX4_reserve_6 := dk_seg dksX4_reserve_5 24 rfl rfl
theorem dksX4_reserve_7 : cX4_reserve.data.toList.drop 164 = dktX4_reserve_7 := dk_seg dksX4_reserve_6 24 rfl rfl
theorem dksX4_reserve_8 : cX4_reserve.data.toList.drop 187 = dktX4_reserve_8 := dk_seg dksX4_reserve_7 23 rfl rfl
theorem dksX4_reserve_9 : cX4_reserve.data.toList.drop 210 = dktX4_reserve_9 := dk_seg dksX4_reserve_8 23 rfl rfl
theorem dksX4_reserve_10 : cX4_reserve.data.toList.drop 234 = dktX4_reserve_10 := dk_seg dksX4_reserve_9 24 rfl rfl
theorem dX4_reserve_0 : decode cX4_reserve 0 = .ok (.aload_n 0, 1) := dk_42 (dk_at dksX4_reserve_0 0 rfl rfl)
theorem dX4_reserve_1 : decode cX4_reserve 1 = .ok (.getfield 16, 3) := dk_180 0 16 (dk_at dksX4_reserve_0 1 rfl rfl)
theorem dX4_reserve_4 : decode cX4_reserve 4 = .ok (.aload_n 1, 1) := dk_43 (dk_at dksX4_reserve_0 4 rfl rfl)
theorem dX4_reserve_5 : decode cX4_reserve 5 = .ok (.getfield 199, 3) := dk_180 0 199 (dk_at dksX4_reserve_0 5 rfl rfl)
theorem dX4_reserve_8 : decode cX4_reserve 8 = .ok (.invokevirtual 65, 3) := dk_182 0 65 (dk_at dksX4_reserve_0 8 rfl rfl)
theorem dX4_reserve_11 : decode cX4_reserve 11 = .ok (.checkcast 57, 3) := dk_192 0 57 (dk_at dksX4_reserve_0 11 rfl rfl)
theorem dX4_reserve_14 : decode cX4_reserve 14 = .ok (.getfield 73, 3) := dk_180 0 73 (dk_at dksX4_reserve_0 14 rfl rfl)
theorem dX4_reserve_17 : decode cX4_reserve 17 = .ok (.invokevirtual 123, 3) := dk_182 0 123 (dk_at dksX4_reserve_0 17 rfl rfl)
theorem dX4_reserve_20 : decode cX4_reserve 20 = .ok (.astore_n 2, 1) := dk_77 (dk_at dksX4_reserve_0 20 rfl rfl)
theorem dX4_reserve_21 : decode cX4_reserve 21 = .ok (.aload_n 2, 1) := dk_44 (dk_at dksX4_reserve_0 21 rfl rfl)
theorem dX4_reserve_22 : decode cX4_reserve 22 = .ok (.invokeinterface 127 1, 5) := by decide +kernel
theorem dX4_reserve_27 : decode cX4_reserve 27 = .ok (.ifCond .eq 200, 3) := dk_153 0 200 (dk_at dksX4_reserve_1 5 rfl rfl)
theorem dX4_reserve_30 : decode cX4_reserve 30 = .ok (.aload_n 2, 1) := dk_44 (dk_at dksX4_reserve_1 8 rfl rfl)
theorem dX4_reserve_31 : decode cX4_reserve 31 = .ok (.invokeinterface 132 1, 5) := by decide +kernel
theorem dX4_reserve_36 : decode cX4_reserve 36 = .ok (.checkcast 200, 3) := dk_192 0 200 (dk_at dksX4_reserve_1 14 rfl rfl)
theorem dX4_reserve_39 : decode cX4_reserve 39 = .ok (.astore_n 3, 1) := dk_78 (dk_at dksX4_reserve_1 17 rfl rfl)
theorem dX4_reserve_40 : decode cX4_reserve 40 = .ok (.aload_n 3, 1) := dk_45 (dk_at dksX4_reserve_1 18 rfl rfl)
theorem dX4_reserve_41 : decode cX4_reserve 41 = .ok (.iconst 2, 1) := dk_5 (dk_at dksX4_reserve_1 19 rfl rfl)
theorem dX4_reserve_42 : decode cX4_reserve 42 = .ok (.iaload, 1) := dk_46 (dk_at dksX4_reserve_1 20 rfl rfl)
theorem dX4_reserve_43 : decode cX4_reserve 43 = .ok (.iconst (-1), 1) := dk_2 (dk_at dksX4_reserve_1 21 rfl rfl)
theorem dX4_reserve_44 : decode cX4_reserve 44 = .ok (.if_icmp .eq 13, 3) := dk_159 0 13 (dk_at dksX4_reserve_2 0 rfl rfl)
theorem dX4_reserve_47 : decode cX4_reserve 47 = .ok (.aload_n 3, 1) := dk_45 (dk_at dksX4_reserve_2 3 rfl rfl)
theorem dX4_reserve_48 : decode cX4_reserve 48 = .ok (.iconst 2, 1) := dk_5 (dk_at dksX4_reserve_2 4 rfl rfl)
theorem dX4_reserve_49 : decode cX4_reserve 49 = .ok (.iaload, 1) := dk_46 (dk_at dksX4_reserve_2 5 rfl rfl)
theorem dX4_reserve_50 : decode cX4_reserve 50 = .ok (.aload_n 1, 1) := dk_43 (dk_at dksX4_reserve_2 6 rfl rfl)
theorem dX4_reserve_51 : decode cX4_reserve 51 = .ok (.getfield 202, 3) := dk_180 0 202 (dk_at dksX4_reserve_2 7 rfl rfl)
theorem dX4_reserve_54 : decode cX4_reserve 54 = .ok (.if_icmp .ne 14, 3) := dk_160 0 14 (dk_at dksX4_reserve_2 10 rfl rfl)
theorem dX4_reserve_57 : decode cX4_reserve 57 = .ok (.aload_n 1, 1) := dk_43 (dk_at dksX4_reserve_2 13 rfl rfl)
theorem dX4_reserve_58 : decode cX4_reserve 58 = .ok (.getfield 205, 3) := dk_180 0 205 (dk_at dksX4_reserve_2 14 rfl rfl)
theorem dX4_reserve_61 : decode cX4_reserve 61 = .ok (.aload_n 3, 1) := dk_45 (dk_at dksX4_reserve_2 17 rfl rfl)
theorem dX4_reserve_62 : decode cX4_reserve 62 = .ok (.iconst 1, 1) := dk_4 (dk_at dksX4_reserve_2 18 rfl rfl)
theorem dX4_reserve_63 : decode cX4_reserve 63 = .ok (.iaload, 1) := dk_46 (dk_at dksX4_reserve_2 19 rfl rfl)
theorem dX4_reserve_64 : decode cX4_reserve 64 = .ok (.imul, 1) := dk_104 (dk_at dksX4_reserve_2 20 rfl rfl)
theorem dX4_reserve_65 : decode cX4_reserve 65 = .ok (.goto 4, 3) := dk_167 0 4 (dk_at dksX4_reserve_2 21 rfl rfl)
theorem dX4_reserve_68 : decode cX4_reserve 68 = .ok (.iconst 0, 1) := dk_3 (dk_at dksX4_reserve_3 0 rfl rfl)
theorem dX4_reserve_69 : decode cX4_reserve 69 = .ok (.istore 4, 2) := dk_54 4 (dk_at dksX4_reserve_3 1 rfl rfl)
theorem dX4_reserve_71 : decode cX4_reserve 71 = .ok (.iconst 0, 1) := dk_3 (dk_at dksX4_reserve_3 3 rfl rfl)
theorem dX4_reserve_72 : decode cX4_reserve 72 = .ok (.istore 5, 2) := dk_54 5 (dk_at dksX4_reserve_3 4 rfl rfl)
theorem dX4_reserve_74 : decode cX4_reserve 74 = .ok (.iload 5, 2) := dk_21 5 (dk_at dksX4_reserve_3 6 rfl rfl)
theorem dX4_reserve_76 : decode cX4_reserve 76 = .ok (.aload_n 0, 1) := dk_42 (dk_at dksX4_reserve_3 8 rfl rfl)
theorem dX4_reserve_77 : decode cX4_reserve 77 = .ok (.getfield 19, 3) := dk_180 0 19 (dk_at dksX4_reserve_3 9 rfl rfl)
theorem dX4_reserve_80 : decode cX4_reserve 80 = .ok (.invokevirtual 44, 3) := dk_182 0 44 (dk_at dksX4_reserve_3 12 rfl rfl)
theorem dX4_reserve_83 : decode cX4_reserve 83 = .ok (.if_icmp .ge 127, 3) := dk_162 0 127 (dk_at dksX4_reserve_3 15 rfl rfl)
theorem dX4_reserve_86 : decode cX4_reserve 86 = .ok (.iload 4, 2) := dk_21 4 (dk_at dksX4_reserve_3 18 rfl rfl)
theorem dX4_reserve_88 : decode cX4_reserve 88 = .ok (.ifCond .le 122, 3) := dk_158 0 122 (dk_at dksX4_reserve_3 20 rfl rfl)
theorem dX4_reserve_91 : decode cX4_reserve 91 = .ok (.aload_n 0, 1) := dk_42 (dk_at dksX4_reserve_3 23 rfl rfl)
theorem dX4_reserve_92 : decode cX4_reserve 92 = .ok (.getfield 19, 3) := dk_180 0 19 (dk_at dksX4_reserve_4 0 rfl rfl)
theorem dX4_reserve_95 : decode cX4_reserve 95 = .ok (.iload 5, 2) := dk_21 5 (dk_at dksX4_reserve_4 3 rfl rfl)
theorem dX4_reserve_97 : decode cX4_reserve 97 = .ok (.invokevirtual 65, 3) := dk_182 0 65 (dk_at dksX4_reserve_4 5 rfl rfl)
theorem dX4_reserve_100 : decode cX4_reserve 100 = .ok (.checkcast 82, 3) := dk_192 0 82 (dk_at dksX4_reserve_4 8 rfl rfl)
theorem dX4_reserve_103 : decode cX4_reserve 103 = .ok (.astore 6, 2) := dk_58 6 (dk_at dksX4_reserve_4 11 rfl rfl)
theorem dX4_reserve_105 : decode cX4_reserve 105 = .ok (.aload 6, 2) := dk_25 6 (dk_at dksX4_reserve_4 13 rfl rfl)
theorem dX4_reserve_107 : decode cX4_reserve 107 = .ok (.getfield 182, 3) := dk_180 0 182 (dk_at dksX4_reserve_4 15 rfl rfl)
theorem dX4_reserve_110 : decode cX4_reserve 110 = .ok (.aload_n 3, 1) := dk_45 (dk_at dksX4_reserve_4 18 rfl rfl)
theorem dX4_reserve_111 : decode cX4_reserve 111 = .ok (.iconst 0, 1) := dk_3 (dk_at dksX4_reserve_4 19 rfl rfl)
theorem dX4_reserve_112 : decode cX4_reserve 112 = .ok (.iaload, 1) := dk_46 (dk_at dksX4_reserve_4 20 rfl rfl)
theorem dX4_reserve_113 : decode cX4_reserve 113 = .ok (.if_icmp .ne 30, 3) := dk_160 0 30 (dk_at dksX4_reserve_4 21 rfl rfl)
theorem dX4_reserve_116 : decode cX4_reserve 116 = .ok (.aload 6, 2) := dk_25 6 (dk_at dksX4_reserve_5 0 rfl rfl)
theorem dX4_reserve_118 : decode cX4_reserve 118 = .ok (.invokevirtual 143, 3) := dk_182 0 143 (dk_at dksX4_reserve_5 2 rfl rfl)
theorem dX4_reserve_121 : decode cX4_reserve 121 = .ok (.ifCond .ne 22, 3) := dk_154 0 22 (dk_at dksX4_reserve_5 5 rfl rfl)
theorem dX4_reserve_124 : decode cX4_reserve 124 = .ok (.iload 4, 2) := dk_21 4 (dk_at dksX4_reserve_5 8 rfl rfl)
theorem dX4_reserve_126 : decode cX4_reserve 126 = .ok (.aload 6, 2) := dk_25 6 (dk_at dksX4_reserve_5 10 rfl rfl)
theorem dX4_reserve_128 : decode cX4_reserve 128 = .ok (.getfield 189, 3) := dk_180 0 189 (dk_at dksX4_reserve_5 12 rfl rfl)
theorem dX4_reserve_131 : decode cX4_reserve 131 = .ok (.aload 6, 2) := dk_25 6 (dk_at dksX4_reserve_5 15 rfl rfl)
theorem dX4_reserve_133 : decode cX4_reserve 133 = .ok (.getfield 150, 3) := dk_180 0 150 (dk_at dksX4_reserve_5 17 rfl rfl)
theorem dX4_reserve_136 : decode cX4_reserve 136 = .ok (.isub, 1) := dk_100 (dk_at dksX4_reserve_5 20 rfl rfl)
theorem dX4_reserve_137 : decode cX4_reserve 137 = .ok (.invokestatic 208, 3) := dk_184 0 208 (dk_at dksX4_reserve_5 21 rfl rfl)
theorem dX4_reserve_140 : decode cX4_reserve 140 = .ok (.goto 4, 3) := dk_167 0 4 (dk_at dksX4_reserve_6 0 rfl rfl)
theorem dX4_reserve_143 : decode cX4_reserve 143 = .ok (.iconst 0, 1) := dk_3 (dk_at dksX4_reserve_6 3 rfl rfl)
theorem dX4_reserve_144 : decode cX4_reserve 144 = .ok (.istore 7, 2) := dk_54 7 (dk_at dksX4_reserve_6 4 rfl rfl)
theorem dX4_reserve_146 : decode cX4_reserve 146 = .ok (.iload 7, 2) := dk_21 7 (dk_at dksX4_reserve_6 6 rfl rfl)
theorem dX4_reserve_148 : decode cX4_reserve 148 = .ok (.ifCond .le 56, 3) := dk_158 0 56 (dk_at dksX4_reserve_6 8 rfl rfl)
theorem dX4_reserve_151 : decode cX4_reserve 151 = .ok (.aload 6, 2) := dk_25 6 (dk_at dksX4_reserve_6 11 rfl rfl)
theorem dX4_reserve_153 : decode cX4_reserve 153 = .ok (.dup, 1) := dk_89 (dk_at dksX4_reserve_6 13 rfl rfl)
theorem dX4_reserve_154 : decode cX4_reserve 154 = .ok (.getfield 150, 3) := dk_180 0 150 (dk_at dksX4_reserve_6 14 rfl rfl)
theorem dX4_reserve_157 : decode cX4_reserve 157 = .ok (.iload 7, 2) := dk_21 7 (dk_at dksX4_reserve_6 17 rfl rfl)
theorem dX4_reserve_159 : decode cX4_reserve 159 = .ok (.iadd, 1) := dk_96 (dk_at dksX4_reserve_6 19 rfl rfl)
theorem dX4_reserve_160 : decode cX4_reserve 160 = .ok (.putfield 150, 3) := dk_181 0 150 (dk_at dksX4_reserve_6 20 rfl rfl)
theorem dX4_reserve_163 : decode cX4_reserve 163 = .ok (.aload_n 1, 1) := dk_43 (dk_at dksX4_reserve_6 23 rfl rfl)
theorem dX4_reserve_164 : decode cX4_reserve 164 = .ok (.getfield 138, 3) := dk_180 0 138 (dk_at dksX4_reserve_7 0 rfl rfl)
theorem dX4_reserve_167 : decode cX4_reserve 167 = .ok (.aload 6, 2) := dk_25 6 (dk_at dksX4_reserve_7 3 rfl rfl)
theorem dX4_reserve_169 : decode cX4_reserve 169 = .ok (.invokevirtual 32, 3) := dk_182 0 32 (dk_at dksX4_reserve_7 5 rfl rfl)
theorem dX4_reserve_172 : decode cX4_reserve 172 = .ok (.ifCond .eq 22, 3) := dk_153 0 22 (dk_at dksX4_reserve_7 8 rfl rfl)
theorem dX4_reserve_175 : decode cX4_reserve 175 = .ok (.aload_n 1, 1) := dk_43 (dk_at dksX4_reserve_7 11 rfl rfl)
theorem dX4_reserve_176 : decode cX4_reserve 176 = .ok (.getfield 153, 3) := dk_180 0 153 (dk_at dksX4_reserve_7 12 rfl rfl)
theorem dX4_reserve_179 : decode cX4_reserve 179 = .ok (.iload 7, 2) := dk_21 7 (dk_at dksX4_reserve_7 15 rfl rfl)
theorem dX4_reserve_181 : decode cX4_reserve 181 = .ok (.invokestatic 211, 3) := dk_184 0 211 (dk_at dksX4_reserve_7 17 rfl rfl)
theorem dX4_reserve_184 : decode cX4_reserve 184 = .ok (.invokevirtual 32, 3) := dk_182 0 32 (dk_at dksX4_reserve_7 20 rfl rfl)
theorem dX4_reserve_187 : decode cX4_reserve 187 = .ok (.ifCond .eq 7, 3) := dk_153 0 7 (dk_at dksX4_reserve_8 0 rfl rfl)
theorem dX4_reserve_190 : decode cX4_reserve 190 = .ok (.iconst 1, 1) := dk_4 (dk_at dksX4_reserve_8 3 rfl rfl)
theorem dX4_reserve_191 : decode cX4_reserve 191 = .ok (.goto 4, 3) := dk_167 0 4 (dk_at dksX4_reserve_8 4 rfl rfl)
theorem dX4_reserve_194 : decode cX4_reserve 194 = .ok (.iconst 0, 1) := dk_3 (dk_at dksX4_reserve_8 7 rfl rfl)
theorem dX4_reserve_195 : decode cX4_reserve 195 = .ok (.istore 8, 2) := dk_54 8 (dk_at dksX4_reserve_8 8 rfl rfl)
theorem dX4_reserve_197 : decode cX4_reserve 197 = .ok (.iload 4, 2) := dk_21 4 (dk_at dksX4_reserve_8 10 rfl rfl)
theorem dX4_reserve_199 : decode cX4_reserve 199 = .ok (.iload 7, 2) := dk_21 7 (dk_at dksX4_reserve_8 12 rfl rfl)
theorem dX4_reserve_201 : decode cX4_reserve 201 = .ok (.isub, 1) := dk_100 (dk_at dksX4_reserve_8 14 rfl rfl)
theorem dX4_reserve_202 : decode cX4_reserve 202 = .ok (.istore 4, 2) := dk_54 4 (dk_at dksX4_reserve_8 15 rfl rfl)
theorem dX4_reserve_204 : decode cX4_reserve 204 = .ok (.iinc 5 1, 3) := dk_132 5 1 (dk_at dksX4_reserve_8 17 rfl rfl)
theorem dX4_reserve_207 : decode cX4_reserve 207 = .ok (.goto (-133), 3) := dk_167 255 123 (dk_at dksX4_reserve_8 20 rfl rfl)
theorem dX4_reserve_210 : decode cX4_reserve 210 = .ok (.iload 4, 2) := dk_21 4 (dk_at dksX4_reserve_9 0 rfl rfl)
theorem dX4_reserve_212 : decode cX4_reserve 212 = .ok (.ifCond .le 12, 3) := dk_158 0 12 (dk_at dksX4_reserve_9 2 rfl rfl)
theorem dX4_reserve_215 : decode cX4_reserve 215 = .ok (.aload_n 0, 1) := dk_42 (dk_at dksX4_reserve_9 5 rfl rfl)
theorem dX4_reserve_216 : decode cX4_reserve 216 = .ok (.aload_n 1, 1) := dk_43 (dk_at dksX4_reserve_9 6 rfl rfl)
theorem dX4_reserve_217 : decode cX4_reserve 217 = .ok (.invokevirtual 146, 3) := dk_182 0 146 (dk_at dksX4_reserve_9 7 rfl rfl)
theorem dX4_reserve_220 : decode cX4_reserve 220 = .ok (.istore 5, 2) := dk_54 5 (dk_at dksX4_reserve_9 10 rfl rfl)
theorem dX4_reserve_222 : decode cX4_reserve 222 = .ok (.iconst 0, 1) := dk_3 (dk_at dksX4_reserve_9 12 rfl rfl)
theorem dX4_reserve_223 : decode cX4_reserve 223 = .ok (.ireturn, 1) := dk_172 (dk_at dksX4_reserve_9 13 rfl rfl)
theorem dX4_reserve_224 : decode cX4_reserve 224 = .ok (.goto (-203), 3) := dk_167 255 53 (dk_at dksX4_reserve_9 14 rfl rfl)
theorem dX4_reserve_227 : decode cX4_reserve 227 = .ok (.aload_n 1, 1) := dk_43 (dk_at dksX4_reserve_9 17 rfl rfl)
theorem dX4_reserve_228 : decode cX4_reserve 228 = .ok (.bipush 112, 2) := dk_16 112 (dk_at dksX4_reserve_9 18 rfl rfl)
theorem dX4_reserve_230 : decode cX4_reserve 230 = .ok (.putfield 139, 3) := dk_181 0 139 (dk_at dksX4_reserve_9 20 rfl rfl)
theorem dX4_reserve_233 : decode cX4_reserve 233 = .ok (.iconst 1, 1) := dk_4 (dk_at dksX4_reserve_9 23 rfl rfl)
theorem dX4_reserve_234 : decode cX4_reserve 234 = .ok (.ireturn, 1) := dk_172 (dk_at dksX4_reserve_10 0 rfl rfl)
abbrev cX4_withdraw : ByteArray := prog_19_method_31_code
def yX4_withdraw : MethodName := ⟨RX4, "withdraw", "(I)I"⟩
def dkwX4_withdraw_2 : List UInt8 := [180, 0, 22, 27, 182, 0, 65, 192, 0, 136, 182, 0, 146, 172]
abbrev dktX4_withdraw_2 : List UInt8 := dkwX4_withdraw_2 ++ []
def dkwX4_withdraw_1 : List UInt8 := [16, 112, 160, 0, 7, 3, 167, 0, 4, 5, 182, 0, 48, 153, 0, 7, 3, 167, 0, 18, 42, 42]
abbrev dktX4_withdraw_1 : List UInt8 := dkwX4_withdraw_1 ++ dktX4_withdraw_2
def dkwX4_withdraw_0 : List UInt8 := [42, 27, 182, 0, 214, 154, 0, 34, 42, 42, 180, 0, 22, 27, 182, 0, 65, 192, 0, 136, 180, 0, 139]
abbrev dktX4_withdraw_0 : List UInt8 := dkwX4_withdraw_0 ++ dktX4_withdraw_1
theorem dksX4_withdraw_0 : cX4_withdraw.data.toList.drop 0 = dktX4_withdraw_0 := by decide +kernel
theorem dksX4_withdraw_1 : cX4_withdraw.data.toList.drop 23 = dktX4_withdraw_1 := dk_seg dksX4_withdraw_0 23 rfl rfl
theorem dksX4_withdraw_2 : cX4_withdraw.data.toList.drop 45 = dktX4_withdraw_2 := dk_seg dksX4_withdraw_1 22 rfl rfl
theorem dX4_withdraw_0 : decode cX4_withdraw 0 = .ok (.aload_n 0, 1) := dk_42 (dk_at dksX4_withdraw_0 0 rfl rfl)
theorem dX4_withdraw_1 : decode cX4_withdraw 1 = .ok (.iload_n 1, 1) := dk_27 (dk_at dksX4_withdraw_0 1 rfl rfl)
theorem dX4_withdraw_2 : decode cX4_withdraw 2 = .ok (.invokevirtual 214, 3) := dk_182 0 214 (dk_at dksX4_withdraw_0 2 rfl rfl)
theorem dX4_withdraw_5 : decode cX4_withdraw 5 = .ok (.ifCond .ne 34, 3) := dk_154 0 34 (dk_at dksX4_withdraw_0 5 rfl rfl)
theorem dX4_withdraw_8 : decode cX4_withdraw 8 = .ok (.aload_n 0, 1) := dk_42 (dk_at dksX4_withdraw_0 8 rfl rfl)
theorem dX4_withdraw_9 : decode cX4_withdraw 9 = .ok (.aload_n 0, 1) := dk_42 (dk_at dksX4_withdraw_0 9 rfl rfl)
theorem dX4_withdraw_10 : decode cX4_withdraw 10 = .ok (.getfield 22, 3) := dk_180 0 22 (dk_at dksX4_withdraw_0 10 rfl rfl)
theorem dX4_withdraw_13 : decode cX4_withdraw 13 = .ok (.iload_n 1, 1) := dk_27 (dk_at dksX4_withdraw_0 13 rfl rfl)
theorem dX4_withdraw_14 : decode cX4_withdraw 14 = .ok (.invokevirtual 65, 3) := dk_182 0 65 (dk_at dksX4_withdraw_0 14 rfl rfl)
theorem dX4_withdraw_17 : decode cX4_withdraw 17 = .ok (.checkcast 136, 3) := dk_192 0 136 (dk_at dksX4_withdraw_0 17 rfl rfl)
theorem dX4_withdraw_20 : decode cX4_withdraw 20 = .ok (.getfield 139, 3) := dk_180 0 139 (dk_at dksX4_withdraw_0 20 rfl rfl)
theorem dX4_withdraw_23 : decode cX4_withdraw 23 = .ok (.bipush 112, 2) := dk_16 112 (dk_at dksX4_withdraw_1 0 rfl rfl)
theorem dX4_withdraw_25 : decode cX4_withdraw 25 = .ok (.if_icmp .ne 7, 3) := dk_160 0 7 (dk_at dksX4_withdraw_1 2 rfl rfl)
theorem dX4_withdraw_28 : decode cX4_withdraw 28 = .ok (.iconst 0, 1) := dk_3 (dk_at dksX4_withdraw_1 5 rfl rfl)
theorem dX4_withdraw_29 : decode cX4_withdraw 29 = .ok (.goto 4, 3) := dk_167 0 4 (dk_at dksX4_withdraw_1 6 rfl rfl)
theorem dX4_withdraw_32 : decode cX4_withdraw 32 = .ok (.iconst 2, 1) := dk_5 (dk_at dksX4_withdraw_1 9 rfl rfl)
theorem dX4_withdraw_33 : decode cX4_withdraw 33 = .ok (.invokevirtual 48, 3) := dk_182 0 48 (dk_at dksX4_withdraw_1 10 rfl rfl)
theorem dX4_withdraw_36 : decode cX4_withdraw 36 = .ok (.ifCond .eq 7, 3) := dk_153 0 7 (dk_at dksX4_withdraw_1 13 rfl rfl)
theorem dX4_withdraw_39 : decode cX4_withdraw 39 = .ok (.iconst 0, 1) := dk_3 (dk_at dksX4_withdraw_1 16 rfl rfl)
theorem dX4_withdraw_40 : decode cX4_withdraw 40 = .ok (.goto 18, 3) := dk_167 0 18 (dk_at dksX4_withdraw_1 17 rfl rfl)
theorem dX4_withdraw_43 : decode cX4_withdraw 43 = .ok (.aload_n 0, 1) := dk_42 (dk_at dksX4_withdraw_1 20 rfl rfl)
theorem dX4_withdraw_44 : decode cX4_withdraw 44 = .ok (.aload_n 0, 1) := dk_42 (dk_at dksX4_withdraw_1 21 rfl rfl)
theorem dX4_withdraw_45 : decode cX4_withdraw 45 = .ok (.getfield 22, 3) := dk_180 0 22 (dk_at dksX4_withdraw_2 0 rfl rfl)
theorem dX4_withdraw_48 : decode cX4_withdraw 48 = .ok (.iload_n 1, 1) := dk_27 (dk_at dksX4_withdraw_2 3 rfl rfl)
theorem dX4_withdraw_49 : decode cX4_withdraw 49 = .ok (.invokevirtual 65, 3) := dk_182 0 65 (dk_at dksX4_withdraw_2 4 rfl rfl)
theorem dX4_withdraw_52 : decode cX4_withdraw 52 = .ok (.checkcast 136, 3) := dk_192 0 136 (dk_at dksX4_withdraw_2 7 rfl rfl)
theorem dX4_withdraw_55 : decode cX4_withdraw 55 = .ok (.invokevirtual 146, 3) := dk_182 0 146 (dk_at dksX4_withdraw_2 10 rfl rfl)
theorem dX4_withdraw_58 : decode cX4_withdraw 58 = .ok (.ireturn, 1) := dk_172 (dk_at dksX4_withdraw_2 13 rfl rfl)
abbrev cX4_release : ByteArray := prog_19_method_33_code
def yX4_release : MethodName := ⟨RX4, "release", "(I)Z"⟩
def dkwX4_release_8 : List UInt8 := [172]
abbrev dktX4_release_8 : List UInt8 := dkwX4_release_8 ++ []
def dkwX4_release_7 : List UInt8 := [132, 3, 1, 167, 255, 172, 44, 44, 180, 0, 205, 181, 0, 229, 42, 44, 182, 0, 232, 42, 182, 0, 236, 4]
abbrev dktX4_release_7 : List UInt8 := dkwX4_release_7 ++ dktX4_release_8
def dkwX4_release_6 : List UInt8 := [192, 0, 82, 44, 180, 0, 153, 29, 182, 0, 65, 192, 0, 156, 182, 0, 158, 184, 0, 225, 97, 181, 0, 224]
abbrev dktX4_release_6 : List UInt8 := dkwX4_release_6 ++ dktX4_release_7
def dkwX4_release_5 : List UInt8 := [192, 0, 156, 182, 0, 158, 100, 181, 0, 150, 44, 89, 180, 0, 224, 44, 180, 0, 138, 29, 182, 0, 65]
abbrev dktX4_release_5 : List UInt8 := dkwX4_release_5 ++ dktX4_release_6
def dkwX4_release_4 : List UInt8 := [180, 0, 138, 29, 182, 0, 65, 192, 0, 82, 89, 180, 0, 150, 44, 180, 0, 153, 29, 182, 0, 65]
abbrev dktX4_release_4 : List UInt8 := dkwX4_release_4 ++ dktX4_release_5
def dkwX4_release_3 : List UInt8 := [44, 182, 0, 217, 154, 0, 5, 3, 172, 3, 62, 29, 44, 180, 0, 138, 182, 0, 44, 162, 0, 79, 44]
abbrev dktX4_release_3 : List UInt8 := dkwX4_release_3 ++ dktX4_release_4
def dkwX4_release_2 : List UInt8 := [153, 0, 7, 5, 167, 0, 4, 3, 182, 0, 48, 154, 0, 20, 44, 180, 0, 139, 16, 45, 160, 0, 13, 42]
abbrev dktX4_release_2 : List UInt8 := dkwX4_release_2 ++ dktX4_release_3
def dkwX4_release_1 : List UInt8 := [180, 0, 16, 44, 180, 0, 199, 182, 0, 65, 192, 0, 57, 180, 0, 69, 153, 0, 10, 44, 182, 0, 221]
abbrev dktX4_release_1 : List UInt8 := dkwX4_release_1 ++ dktX4_release_2
def dkwX4_release_0 : List UInt8 := [42, 27, 182, 0, 214, 153, 0, 5, 3, 172, 42, 180, 0, 22, 27, 182, 0, 65, 192, 0, 136, 77, 42, 42]
abbrev dktX4_release_0 : List UInt8 := dkwX4_release_0 ++ dktX4_release_1
theorem dksX4_release_0 : cX4_release.data.toList.drop 0 = dktX4_release_0 := by decide +kernel
theorem dksX4_release_1 : cX4_release.data.toList.drop 24 = dktX4_release_1 := dk_seg dksX4_release_0 24 rfl rfl
theorem dksX4_release_2 : cX4_release.data.toList.drop 47 = dktX4_release_2 := dk_seg dksX4_release_1 23 rfl rfl
theorem dksX4_release_3 : cX4_release.data.toList.drop 71 = dktX4_release_3 := dk_seg dksX4_release_2 24 rfl rfl
theorem dksX4_release_4 : cX4_release.data.toList.drop 94 = dktX4_release_4 := dk_seg dksX4_release_3 23 rfl rfl
theorem dksX4_release_5 : cX4_release.data.toList.drop 116 = dktX4_release_5 := dk_seg dksX4_release_4 22 rfl rfl
theorem dksX4_release_6 : cX4_release.data.toList.drop 139 = dktX4_release_6 := dk_seg dksX4_release_5 23 rfl rfl
theorem dksX4_release_7 : cX4_release.data.toList.drop 163 = dktX4_release_7 := dk_seg dksX4_release_6 24 rfl rfl
theorem dksX4_release_8 : cX4_release.data.toList.drop 187 = dktX4_release_8 := dk_seg dksX4_release_7 24 rfl rfl
theorem dX4_release_0 : decode cX4_release 0 = .ok (.aload_n 0, 1) := dk_42 (dk_at dksX4_release_0 0 rfl rfl)
theorem dX4_release_1 : decode cX4_release 1 = .ok (.iload_n 1, 1) := dk_27 (dk_at dksX4_release_0 1 rfl rfl)
theorem dX4_release_2 : decode cX4_release 2 = .ok (.invokevirtual 214, 3) := dk_182 0 214 (dk_at dksX4_release_0 2 rfl rfl)
theorem dX4_release_5 : decode cX4_release 5 = .ok (.ifCond .eq 5, 3) := dk_153 0 5 (dk_at dksX4_release_0 5 rfl rfl)
theorem dX4_release_8 : decode cX4_release 8 = .ok (.iconst 0, 1) := dk_3 (dk_at dksX4_release_0 8 rfl rfl)
theorem dX4_release_9 : decode cX4_release 9 = .ok (.ireturn, 1) := dk_172 (dk_at dksX4_release_0 9 rfl rfl)
theorem dX4_release_10 : decode cX4_release 10 = .ok (.aload_n 0, 1) := dk_42 (dk_at dksX4_release_0 10 rfl rfl)
theorem dX4_release_11 : decode cX4_release 11 = .ok (.getfield 22, 3) := dk_180 0 22 (dk_at dksX4_release_0 11 rfl rfl)
theorem dX4_release_14 : decode cX4_release 14 = .ok (.iload_n 1, 1) := dk_27 (dk_at dksX4_release_0 14 rfl rfl)
theorem dX4_release_15 : decode cX4_release 15 = .ok (.invokevirtual 65, 3) := dk_182 0 65 (dk_at dksX4_release_0 15 rfl rfl)
theorem dX4_release_18 : decode cX4_release 18 = .ok (.checkcast 136, 3) := dk_192 0 136 (dk_at dksX4_release_0 18 rfl rfl)
theorem dX4_release_21 : decode cX4_release 21 = .ok (.astore_n 2, 1) := dk_77 (dk_at dksX4_release_0 21 rfl rfl)
theorem dX4_release_22 : decode cX4_release 22 = .ok (.aload_n 0, 1) := dk_42 (dk_at dksX4_release_0 22 rfl rfl)
theorem dX4_release_23 : decode cX4_release 23 = .ok (.aload_n 0, 1) := dk_42 (dk_at dksX4_release_0 23 rfl rfl)
theorem dX4_release_24 : decode cX4_release 24 = .ok (.getfield 16, 3) := dk_180 0 16 (dk_at dksX4_release_1 0 rfl rfl)
theorem dX4_release_27 : decode cX4_release 27 = .ok (.aload_n 2, 1) := dk_44 (dk_at dksX4_release_1 3 rfl rfl)
theorem dX4_release_28 : decode cX4_release 28 = .ok (.getfield 199, 3) := dk_180 0 199 (dk_at dksX4_release_1 4 rfl rfl)
theorem dX4_release_31 : decode cX4_release 31 = .ok (.invokevirtual 65, 3) := dk_182 0 65 (dk_at dksX4_release_1 7 rfl rfl)
theorem dX4_release_34 : decode cX4_release 34 = .ok (.checkcast 57, 3) := dk_192 0 57 (dk_at dksX4_release_1 10 rfl rfl)
theorem dX4_release_37 : decode cX4_release 37 = .ok (.getfield 69, 3) := dk_180 0 69 (dk_at dksX4_release_1 13 rfl rfl)
theorem dX4_release_40 : decode cX4_release 40 = .ok (.ifCond .eq 10, 3) := dk_153 0 10 (dk_at dksX4_release_1 16 rfl rfl)
theorem dX4_release_43 : decode cX4_release 43 = .ok (.aload_n 2, 1) := dk_44 (dk_at dksX4_release_1 19 rfl rfl)
theorem dX4_release_44 : decode cX4_release 44 = .ok (.invokevirtual 221, 3) := dk_182 0 221 (dk_at dksX4_release_1 20 rfl rfl)
theorem dX4_release_47 : decode cX4_release 47 = .ok (.ifCond .eq 7, 3) := dk_153 0 7 (dk_at dksX4_release_2 0 rfl rfl)
theorem dX4_release_50 : decode cX4_release 50 = .ok (.iconst 2, 1) := dk_5 (dk_at dksX4_release_2 3 rfl rfl)
theorem dX4_release_51 : decode cX4_release 51 = .ok (.goto 4, 3) := dk_167 0 4 (dk_at dksX4_release_2 4 rfl rfl)
theorem dX4_release_54 : decode cX4_release 54 = .ok (.iconst 0, 1) := dk_3 (dk_at dksX4_release_2 7 rfl rfl)
theorem dX4_release_55 : decode cX4_release 55 = .ok (.invokevirtual 48, 3) := dk_182 0 48 (dk_at dksX4_release_2 8 rfl rfl)
theorem dX4_release_58 : decode cX4_release 58 = .ok (.ifCond .ne 20, 3) := dk_154 0 20 (dk_at dksX4_release_2 11 rfl rfl)
theorem dX4_release_61 : decode cX4_release 61 = .ok (.aload_n 2, 1) := dk_44 (dk_at dksX4_release_2 14 rfl rfl)
theorem dX4_release_62 : decode cX4_release 62 = .ok (.getfield 139, 3) := dk_180 0 139 (dk_at dksX4_release_2 15 rfl rfl)
theorem dX4_release_65 : decode cX4_release 65 = .ok (.bipush 45, 2) := dk_16 45 (dk_at dksX4_release_2 18 rfl rfl)
theorem dX4_release_67 : decode cX4_release 67 = .ok (.if_icmp .ne 13, 3) := dk_160 0 13 (dk_at dksX4_release_2 20 rfl rfl)
theorem dX4_release_70 : decode cX4_release 70 = .ok (.aload_n 0, 1) := dk_42 (dk_at dksX4_release_2 23 rfl rfl)
theorem dX4_release_71 : decode cX4_release 71 = .ok (.aload_n 2, 1) := dk_44 (dk_at dksX4_release_3 0 rfl rfl)
theorem dX4_release_72 : decode cX4_release 72 = .ok (.invokevirtual 217, 3) := dk_182 0 217 (dk_at dksX4_release_3 1 rfl rfl)
theorem dX4_release_75 : decode cX4_release 75 = .ok (.ifCond .ne 5, 3) := dk_154 0 5 (dk_at dksX4_release_3 4 rfl rfl)
theorem dX4_release_78 : decode cX4_release 78 = .ok (.iconst 0, 1) := dk_3 (dk_at dksX4_release_3 7 rfl rfl)
theorem dX4_release_79 : decode cX4_release 79 = .ok (.ireturn, 1) := dk_172 (dk_at dksX4_release_3 8 rfl rfl)
theorem dX4_release_80 : decode cX4_release 80 = .ok (.iconst 0, 1) := dk_3 (dk_at dksX4_release_3 9 rfl rfl)
theorem dX4_release_81 : decode cX4_release 81 = .ok (.istore_n 3, 1) := dk_62 (dk_at dksX4_release_3 10 rfl rfl)
theorem dX4_release_82 : decode cX4_release 82 = .ok (.iload_n 3, 1) := dk_29 (dk_at dksX4_release_3 11 rfl rfl)
theorem dX4_release_83 : decode cX4_release 83 = .ok (.aload_n 2, 1) := dk_44 (dk_at dksX4_release_3 12 rfl rfl)
theorem dX4_release_84 : decode cX4_release 84 = .ok (.getfield 138, 3) := dk_180 0 138 (dk_at dksX4_release_3 13 rfl rfl)
theorem dX4_release_87 : decode cX4_release 87 = .ok (.invokevirtual 44, 3) := dk_182 0 44 (dk_at dksX4_release_3 16 rfl rfl)
theorem dX4_release_90 : decode cX4_release 90 = .ok (.if_icmp .ge 79, 3) := dk_162 0 79 (dk_at dksX4_release_3 19 rfl rfl)
theorem dX4_release_93 : decode cX4_release 93 = .ok (.aload_n 2, 1) := dk_44 (dk_at dksX4_release_3 22 rfl rfl)
theorem dX4_release_94 : decode cX4_release 94 = .ok (.getfield 138, 3) := dk_180 0 138 (dk_at dksX4_release_4 0 rfl rfl)
theorem dX4_release_97 : decode cX4_release 97 = .ok (.iload_n 3, 1) := dk_29 (dk_at dksX4_release_4 3 rfl rfl)
theorem dX4_release_98 : decode cX4_release 98 = .ok (.invokevirtual 65, 3) := dk_182 0 65 (dk_at dksX4_release_4 4 rfl rfl)
theorem dX4_release_101 : decode cX4_release 101 = .ok (.checkcast 82, 3) := dk_192 0 82 (dk_at dksX4_release_4 7 rfl rfl)
theorem dX4_release_104 : decode cX4_release 104 = .ok (.dup, 1) := dk_89 (dk_at dksX4_release_4 10 rfl rfl)
theorem dX4_release_105 : decode cX4_release 105 = .ok (.getfield 150, 3) := dk_180 0 150 (dk_at dksX4_release_4 11 rfl rfl)
theorem dX4_release_108 : decode cX4_release 108 = .ok (.aload_n 2, 1) := dk_44 (dk_at dksX4_release_4 14 rfl rfl)
theorem dX4_release_109 : decode cX4_release 109 = .ok (.getfield 153, 3) := dk_180 0 153 (dk_at dksX4_release_4 15 rfl rfl)
theorem dX4_release_112 : decode cX4_release 112 = .ok (.iload_n 3, 1) := dk_29 (dk_at dksX4_release_4 18 rfl rfl)
theorem dX4_release_113 : decode cX4_release 113 = .ok (.invokevirtual 65, 3) := dk_182 0 65 (dk_at dksX4_release_4 19 rfl rfl)
theorem dX4_release_116 : decode cX4_release 116 = .ok (.checkcast 156, 3) := dk_192 0 156 (dk_at dksX4_release_5 0 rfl rfl)
theorem dX4_release_119 : decode cX4_release 119 = .ok (.invokevirtual 158, 3) := dk_182 0 158 (dk_at dksX4_release_5 3 rfl rfl)
theorem dX4_release_122 : decode cX4_release 122 = .ok (.isub, 1) := dk_100 (dk_at dksX4_release_5 6 rfl rfl)
theorem dX4_release_123 : decode cX4_release 123 = .ok (.putfield 150, 3) := dk_181 0 150 (dk_at dksX4_release_5 7 rfl rfl)
theorem dX4_release_126 : decode cX4_release 126 = .ok (.aload_n 2, 1) := dk_44 (dk_at dksX4_release_5 10 rfl rfl)
theorem dX4_release_127 : decode cX4_release 127 = .ok (.dup, 1) := dk_89 (dk_at dksX4_release_5 11 rfl rfl)
theorem dX4_release_128 : decode cX4_release 128 = .ok (.getfield 224, 3) := dk_180 0 224 (dk_at dksX4_release_5 12 rfl rfl)
theorem dX4_release_131 : decode cX4_release 131 = .ok (.aload_n 2, 1) := dk_44 (dk_at dksX4_release_5 15 rfl rfl)
theorem dX4_release_132 : decode cX4_release 132 = .ok (.getfield 138, 3) := dk_180 0 138 (dk_at dksX4_release_5 16 rfl rfl)
theorem dX4_release_135 : decode cX4_release 135 = .ok (.iload_n 3, 1) := dk_29 (dk_at dksX4_release_5 19 rfl rfl)
theorem dX4_release_136 : decode cX4_release 136 = .ok (.invokevirtual 65, 3) := dk_182 0 65 (dk_at dksX4_release_5 20 rfl rfl)
theorem dX4_release_139 : decode cX4_release 139 = .ok (.checkcast 82, 3) := dk_192 0 82 (dk_at dksX4_release_6 0 rfl rfl)
theorem dX4_release_142 : decode cX4_release 142 = .ok (.aload_n 2, 1) := dk_44 (dk_at dksX4_release_6 3 rfl rfl)
theorem dX4_release_143 : decode cX4_release 143 = .ok (.getfield 153, 3) := dk_180 0 153 (dk_at dksX4_release_6 4 rfl rfl)
theorem dX4_release_146 : decode cX4_release 146 = .ok (.iload_n 3, 1) := dk_29 (dk_at dksX4_release_6 7 rfl rfl)
theorem dX4_release_147 : decode cX4_release 147 = .ok (.invokevirtual 65, 3) := dk_182 0 65 (dk_at dksX4_release_6 8 rfl rfl)
theorem dX4_release_150 : decode cX4_release 150 = .ok (.checkcast 156, 3) := dk_192 0 156 (dk_at dksX4_release_6 11 rfl rfl)
theorem dX4_release_153 : decode cX4_release 153 = .ok (.invokevirtual 158, 3) := dk_182 0 158 (dk_at dksX4_release_6 14 rfl rfl)
theorem dX4_release_156 : decode cX4_release 156 = .ok (.invokestatic 225, 3) := dk_184 0 225 (dk_at dksX4_release_6 17 rfl rfl)
theorem dX4_release_159 : decode cX4_release 159 = .ok (.ladd, 1) := dk_97 (dk_at dksX4_release_6 20 rfl rfl)
theorem dX4_release_160 : decode cX4_release 160 = .ok (.putfield 224, 3) := dk_181 0 224 (dk_at dksX4_release_6 21 rfl rfl)
theorem dX4_release_163 : decode cX4_release 163 = .ok (.iinc 3 1, 3) := dk_132 3 1 (dk_at dksX4_release_7 0 rfl rfl)
theorem dX4_release_166 : decode cX4_release 166 = .ok (.goto (-84), 3) := dk_167 255 172 (dk_at dksX4_release_7 3 rfl rfl)
theorem dX4_release_169 : decode cX4_release 169 = .ok (.aload_n 2, 1) := dk_44 (dk_at dksX4_release_7 6 rfl rfl)
theorem dX4_release_170 : decode cX4_release 170 = .ok (.aload_n 2, 1) := dk_44 (dk_at dksX4_release_7 7 rfl rfl)
theorem dX4_release_171 : decode cX4_release 171 = .ok (.getfield 205, 3) := dk_180 0 205 (dk_at dksX4_release_7 8 rfl rfl)
theorem dX4_release_174 : decode cX4_release 174 = .ok (.putfield 229, 3) := dk_181 0 229 (dk_at dksX4_release_7 11 rfl rfl)
theorem dX4_release_177 : decode cX4_release 177 = .ok (.aload_n 0, 1) := dk_42 (dk_at dksX4_release_7 14 rfl rfl)
theorem dX4_release_178 : decode cX4_release 178 = .ok (.aload_n 2, 1) := dk_44 (dk_at dksX4_release_7 15 rfl rfl)
theorem dX4_release_179 : decode cX4_release 179 = .ok (.invokevirtual 232, 3) := dk_182 0 232 (dk_at dksX4_release_7 16 rfl rfl)
theorem dX4_release_182 : decode cX4_release 182 = .ok (.aload_n 0, 1) := dk_42 (dk_at dksX4_release_7 19 rfl rfl)
theorem dX4_release_183 : decode cX4_release 183 = .ok (.invokevirtual 236, 3) := dk_182 0 236 (dk_at dksX4_release_7 20 rfl rfl)
theorem dX4_release_186 : decode cX4_release 186 = .ok (.iconst 1, 1) := dk_4 (dk_at dksX4_release_7 23 rfl rfl)
theorem dX4_release_187 : decode cX4_release 187 = .ok (.ireturn, 1) := dk_172 (dk_at dksX4_release_8 0 rfl rfl)
abbrev cX4_take : ByteArray := prog_19_method_32_code
def yX4_take : MethodName := ⟨RX4, "take", "(LFoundrymarkModel$Lot;I)J"⟩
def dkwX4_take_1 : List UInt8 := [42, 89, 180, 0, 189, 27, 100, 181, 0, 189, 32, 173]
abbrev dktX4_take_1 : List UInt8 := dkwX4_take_1 ++ []
def dkwX4_take_0 : List UInt8 := [42, 180, 0, 192, 27, 133, 105, 42, 180, 0, 189, 133, 109, 65, 42, 89, 180, 0, 192, 32, 101, 181, 0, 192]
abbrev dktX4_take_0 : List UInt8 := dkwX4_take_0 ++ dktX4_take_1
theorem dksX4_take_0 : cX4_take.data.toList.drop 0 = dktX4_take_0 := by decide +kernel
theorem dksX4_take_1 : cX4_take.data.toList.drop 24 = dktX4_take_1 := dk_seg dksX4_take_0 24 rfl rfl
theorem dX4_take_0 : decode cX4_take 0 = .ok (.aload_n 0, 1) := dk_42 (dk_at dksX4_take_0 0 rfl rfl)
theorem dX4_take_1 : decode cX4_take 1 = .ok (.getfield 192, 3) := dk_180 0 192 (dk_at dksX4_take_0 1 rfl rfl)
theorem dX4_take_4 : decode cX4_take 4 = .ok (.iload_n 1, 1) := dk_27 (dk_at dksX4_take_0 4 rfl rfl)
theorem dX4_take_5 : decode cX4_take 5 = .ok (.i2l, 1) := dk_133 (dk_at dksX4_take_0 5 rfl rfl)
theorem dX4_take_6 : decode cX4_take 6 = .ok (.lmul, 1) := dk_105 (dk_at dksX4_take_0 6 rfl rfl)
theorem dX4_take_7 : decode cX4_take 7 = .ok (.aload_n 0, 1) := dk_42 (dk_at dksX4_take_0 7 rfl rfl)
theorem dX4_take_8 : decode cX4_take 8 = .ok (.getfield 189, 3) := dk_180 0 189 (dk_at dksX4_take_0 8 rfl rfl)
theorem dX4_take_11 : decode cX4_take 11 = .ok (.i2l, 1) := dk_133 (dk_at dksX4_take_0 11 rfl rfl)
theorem dX4_take_12 : decode cX4_take 12 = .ok (.ldiv, 1) := dk_109 (dk_at dksX4_take_0 12 rfl rfl)
theorem dX4_take_13 : decode cX4_take 13 = .ok (.lstore_n 2, 1) := dk_65 (dk_at dksX4_take_0 13 rfl rfl)
theorem dX4_take_14 : decode cX4_take 14 = .ok (.aload_n 0, 1) := dk_42 (dk_at dksX4_take_0 14 rfl rfl)
theorem dX4_take_15 : decode cX4_take 15 = .ok (.dup, 1) := dk_89 (dk_at dksX4_take_0 15 rfl rfl)
theorem dX4_take_16 : decode cX4_take 16 = .ok (.getfield 192, 3) := dk_180 0 192 (dk_at dksX4_take_0 16 rfl rfl)
theorem dX4_take_19 : decode cX4_take 19 = .ok (.lload_n 2, 1) := dk_32 (dk_at dksX4_take_0 19 rfl rfl)
theorem dX4_take_20 : decode cX4_take 20 = .ok (.lsub, 1) := dk_101 (dk_at dksX4_take_0 20 rfl rfl)
theorem dX4_take_21 : decode cX4_take 21 = .ok (.putfield 192, 3) := dk_181 0 192 (dk_at dksX4_take_0 21 rfl rfl)
theorem dX4_take_24 : decode cX4_take 24 = .ok (.aload_n 0, 1) := dk_42 (dk_at dksX4_take_1 0 rfl rfl)
theorem dX4_take_25 : decode cX4_take 25 = .ok (.dup, 1) := dk_89 (dk_at dksX4_take_1 1 rfl rfl)
theorem dX4_take_26 : decode cX4_take 26 = .ok (.getfield 189, 3) := dk_180 0 189 (dk_at dksX4_take_1 2 rfl rfl)
theorem dX4_take_29 : decode cX4_take 29 = .ok (.iload_n 1, 1) := dk_27 (dk_at dksX4_take_1 5 rfl rfl)
theorem dX4_take_30 : decode cX4_take 30 = .ok (.isub, 1) := dk_100 (dk_at dksX4_take_1 6 rfl rfl)
theorem dX4_take_31 : decode cX4_take 31 = .ok (.putfield 189, 3) := dk_181 0 189 (dk_at dksX4_take_1 7 rfl rfl)
theorem dX4_take_34 : decode cX4_take 34 = .ok (.lload_n 2, 1) := dk_32 (dk_at dksX4_take_1 10 rfl rfl)
theorem dX4_take_35 : decode cX4_take 35 = .ok (.lreturn, 1) := dk_173 (dk_at dksX4_take_1 11 rfl rfl)
abbrev cX4_goOn : ByteArray := prog_19_method_36_code
def yX4_goOn : MethodName := ⟨RX4, "goOn", "(LFoundrymarkModel$Order;)V"⟩
def dkwX4_goOn_6 : List UInt8 := [62, 177]
abbrev dktX4_goOn_6 : List UInt8 := dkwX4_goOn_6 ++ []
def dkwX4_goOn_5 : List UInt8 := [43, 180, 0, 224, 182, 0, 90, 181, 1, 2, 43, 180, 1, 2, 180, 1, 6, 43, 180, 0, 138, 182, 1, 9]
abbrev dktX4_goOn_5 : List UInt8 := dkwX4_goOn_5 ++ dktX4_goOn_6
def dkwX4_goOn_4 : List UInt8 := [42, 180, 0, 252, 181, 0, 255, 43, 180, 0, 229, 158, 0, 38, 43, 42, 43, 180, 0, 199, 43, 180, 0, 229]
abbrev dktX4_goOn_4 : List UInt8 := dkwX4_goOn_4 ++ dktX4_goOn_5
def dkwX4_goOn_3 : List UInt8 := [46, 167, 0, 6, 45, 3, 46, 181, 0, 243, 43, 16, 119, 181, 0, 139, 177, 43, 16, 102, 181, 0, 139, 43]
abbrev dktX4_goOn_3 : List UInt8 := dkwX4_goOn_3 ++ dktX4_goOn_4
def dkwX4_goOn_2 : List UInt8 := [46, 2, 159, 0, 26, 42, 45, 4, 46, 182, 0, 249, 42, 45, 3, 46, 182, 0, 249, 162, 0, 9, 45, 4]
abbrev dktX4_goOn_2 : List UInt8 := dkwX4_goOn_2 ++ dktX4_goOn_3
def dkwX4_goOn_1 : List UInt8 := [182, 0, 44, 162, 0, 62, 44, 180, 0, 79, 43, 180, 0, 246, 182, 0, 65, 192, 0, 200, 78, 43, 45, 4]
abbrev dktX4_goOn_1 : List UInt8 := dkwX4_goOn_1 ++ dktX4_goOn_2
def dkwX4_goOn_0 : List UInt8 := [42, 180, 0, 16, 43, 180, 0, 199, 182, 0, 65, 192, 0, 57, 77, 43, 180, 0, 246, 44, 180, 0, 79]
abbrev dktX4_goOn_0 : List UInt8 := dkwX4_goOn_0 ++ dktX4_goOn_1
theorem dksX4_goOn_0 : cX4_goOn.data.toList.drop 0 = dktX4_goOn_0 := by decide +kernel
theorem dksX4_goOn_1 : cX4_goOn.data.toList.drop 23 = dktX4_goOn_1 := dk_seg dksX4_goOn_0 23 rfl rfl
theorem dksX4_goOn_2 : cX4_goOn.data.toList.drop 47 = dktX4_goOn_2 := dk_seg dksX4_goOn_1 24 rfl rfl
theorem dksX4_goOn_3 : cX4_goOn.data.toList.drop 71 = dktX4_goOn_3 := dk_seg dksX4_goOn_2 24 rfl rfl
theorem dksX4_goOn_4 : cX4_goOn.data.toList.drop 95 = dktX4_goOn_4 := dk_seg dksX4_goOn_3 24 rfl rfl
theorem dksX4_goOn_5 : cX4_goOn.data.toList.drop 119 = dktX4_goOn_5 := dk_seg dksX4_goOn_4 24 rfl rfl
theorem dksX4_goOn_6 : cX4_goOn.data.toList.drop 143 = dktX4_goOn_6 := dk_seg dksX4_goOn_5 24 rfl rfl
theorem dX4_goOn_0 : decode cX4_goOn 0 = .ok (.aload_n 0, 1) := dk_42 (dk_at dksX4_goOn_0 0 rfl rfl)
theorem dX4_goOn_1 : decode cX4_goOn 1 = .ok (.getfield 16, 3) := dk_180 0 16 (dk_at dksX4_goOn_0 1 rfl rfl)
theorem dX4_goOn_4 : decode cX4_goOn 4 = .ok (.aload_n 1, 1) := dk_43 (dk_at dksX4_goOn_0 4 rfl rfl)
theorem dX4_goOn_5 : decode cX4_goOn 5 = .ok (.getfield 199, 3) := dk_180 0 199 (dk_at dksX4_goOn_0 5 rfl rfl)
theorem dX4_goOn_8 : decode cX4_goOn 8 = .ok (.invokevirtual 65, 3) := dk_182 0 65 (dk_at dksX4_goOn_0 8 rfl rfl)
theorem dX4_goOn_11 : decode cX4_goOn 11 = .ok (.checkcast 57, 3) := dk_192 0 57 (dk_at dksX4_goOn_0 11 rfl rfl)
theorem dX4_goOn_14 : decode cX4_goOn 14 = .ok (.astore_n 2, 1) := dk_77 (dk_at dksX4_goOn_0 14 rfl rfl)
theorem dX4_goOn_15 : decode cX4_goOn 15 = .ok (.aload_n 1, 1) := dk_43 (dk_at dksX4_goOn_0 15 rfl rfl)
theorem dX4_goOn_16 : decode cX4_goOn 16 = .ok (.getfield 246, 3) := dk_180 0 246 (dk_at dksX4_goOn_0 16 rfl rfl)
theorem dX4_goOn_19 : decode cX4_goOn 19 = .ok (.aload_n 2, 1) := dk_44 (dk_at dksX4_goOn_0 19 rfl rfl)
theorem dX4_goOn_20 : decode cX4_goOn 20 = .ok (.getfield 79, 3) := dk_180 0 79 (dk_at dksX4_goOn_0 20 rfl rfl)
theorem dX4_goOn_23 : decode cX4_goOn 23 = .ok (.invokevirtual 44, 3) := dk_182 0 44 (dk_at dksX4_goOn_1 0 rfl rfl)
theorem dX4_goOn_26 : decode cX4_goOn 26 = .ok (.if_icmp .ge 62, 3) := dk_162 0 62 (dk_at dksX4_goOn_1 3 rfl rfl)
theorem dX4_goOn_29 : decode cX4_goOn 29 = .ok (.aload_n 2, 1) := dk_44 (dk_at dksX4_goOn_1 6 rfl rfl)
theorem dX4_goOn_30 : decode cX4_goOn 30 = .ok (.getfield 79, 3) := dk_180 0 79 (dk_at dksX4_goOn_1 7 rfl rfl)
theorem dX4_goOn_33 : decode cX4_goOn 33 = .ok (.aload_n 1, 1) := dk_43 (dk_at dksX4_goOn_1 10 rfl rfl)
theorem dX4_goOn_34 : decode cX4_goOn 34 = .ok (.getfield 246, 3) := dk_180 0 246 (dk_at dksX4_goOn_1 11 rfl rfl)
theorem dX4_goOn_37 : decode cX4_goOn 37 = .ok (.invokevirtual 65, 3) := dk_182 0 65 (dk_at dksX4_goOn_1 14 rfl rfl)
theorem dX4_goOn_40 : decode cX4_goOn 40 = .ok (.checkcast 200, 3) := dk_192 0 200 (dk_at dksX4_goOn_1 17 rfl rfl)
theorem dX4_goOn_43 : decode cX4_goOn 43 = .ok (.astore_n 3, 1) := dk_78 (dk_at dksX4_goOn_1 20 rfl rfl)
theorem dX4_goOn_44 : decode cX4_goOn 44 = .ok (.aload_n 1, 1) := dk_43 (dk_at dksX4_goOn_1 21 rfl rfl)
theorem dX4_goOn_45 : decode cX4_goOn 45 = .ok (.aload_n 3, 1) := dk_45 (dk_at dksX4_goOn_1 22 rfl rfl)
theorem dX4_goOn_46 : decode cX4_goOn 46 = .ok (.iconst 1, 1) := dk_4 (dk_at dksX4_goOn_1 23 rfl rfl)
theorem dX4_goOn_47 : decode cX4_goOn 47 = .ok (.iaload, 1) := dk_46 (dk_at dksX4_goOn_2 0 rfl rfl)
theorem dX4_goOn_48 : decode cX4_goOn 48 = .ok (.iconst (-1), 1) := dk_2 (dk_at dksX4_goOn_2 1 rfl rfl)
theorem dX4_goOn_49 : decode cX4_goOn 49 = .ok (.if_icmp .eq 26, 3) := dk_159 0 26 (dk_at dksX4_goOn_2 2 rfl rfl)
theorem dX4_goOn_52 : decode cX4_goOn 52 = .ok (.aload_n 0, 1) := dk_42 (dk_at dksX4_goOn_2 5 rfl rfl)
theorem dX4_goOn_53 : decode cX4_goOn 53 = .ok (.aload_n 3, 1) := dk_45 (dk_at dksX4_goOn_2 6 rfl rfl)
theorem dX4_goOn_54 : decode cX4_goOn 54 = .ok (.iconst 1, 1) := dk_4 (dk_at dksX4_goOn_2 7 rfl rfl)
theorem dX4_goOn_55 : decode cX4_goOn 55 = .ok (.iaload, 1) := dk_46 (dk_at dksX4_goOn_2 8 rfl rfl)
theorem dX4_goOn_56 : decode cX4_goOn 56 = .ok (.invokevirtual 249, 3) := dk_182 0 249 (dk_at dksX4_goOn_2 9 rfl rfl)
theorem dX4_goOn_59 : decode cX4_goOn 59 = .ok (.aload_n 0, 1) := dk_42 (dk_at dksX4_goOn_2 12 rfl rfl)
theorem dX4_goOn_60 : decode cX4_goOn 60 = .ok (.aload_n 3, 1) := dk_45 (dk_at dksX4_goOn_2 13 rfl rfl)
theorem dX4_goOn_61 : decode cX4_goOn 61 = .ok (.iconst 0, 1) := dk_3 (dk_at dksX4_goOn_2 14 rfl rfl)
theorem dX4_goOn_62 : decode cX4_goOn 62 = .ok (.iaload, 1) := dk_46 (dk_at dksX4_goOn_2 15 rfl rfl)
theorem dX4_goOn_63 : decode cX4_goOn 63 = .ok (.invokevirtual 249, 3) := dk_182 0 249 (dk_at dksX4_goOn_2 16 rfl rfl)
theorem dX4_goOn_66 : decode cX4_goOn 66 = .ok (.if_icmp .ge 9, 3) := dk_162 0 9 (dk_at dksX4_goOn_2 19 rfl rfl)
theorem dX4_goOn_69 : decode cX4_goOn 69 = .ok (.aload_n 3, 1) := dk_45 (dk_at dksX4_goOn_2 22 rfl rfl)
theorem dX4_goOn_70 : decode cX4_goOn 70 = .ok (.iconst 1, 1) := dk_4 (dk_at dksX4_goOn_2 23 rfl rfl)
theorem dX4_goOn_71 : decode cX4_goOn 71 = .ok (.iaload, 1) := dk_46 (dk_at dksX4_goOn_3 0 rfl rfl)
theorem dX4_goOn_72 : decode cX4_goOn 72 = .ok (.goto 6, 3) := dk_167 0 6 (dk_at dksX4_goOn_3 1 rfl rfl)
theorem dX4_goOn_75 : decode cX4_goOn 75 = .ok (.aload_n 3, 1) := dk_45 (dk_at dksX4_goOn_3 4 rfl rfl)
theorem dX4_goOn_76 : decode cX4_goOn 76 = .ok (.iconst 0, 1) := dk_3 (dk_at dksX4_goOn_3 5 rfl rfl)
theorem dX4_goOn_77 : decode cX4_goOn 77 = .ok (.iaload, 1) := dk_46 (dk_at dksX4_goOn_3 6 rfl rfl)
theorem dX4_goOn_78 : decode cX4_goOn 78 = .ok (.putfield 243, 3) := dk_181 0 243 (dk_at dksX4_goOn_3 7 rfl rfl)
theorem dX4_goOn_81 : decode cX4_goOn 81 = .ok (.aload_n 1, 1) := dk_43 (dk_at dksX4_goOn_3 10 rfl rfl)
theorem dX4_goOn_82 : decode cX4_goOn 82 = .ok (.bipush 119, 2) := dk_16 119 (dk_at dksX4_goOn_3 11 rfl rfl)
theorem dX4_goOn_84 : decode cX4_goOn 84 = .ok (.putfield 139, 3) := dk_181 0 139 (dk_at dksX4_goOn_3 13 rfl rfl)
theorem dX4_goOn_87 : decode cX4_goOn 87 = .ok (.return_, 1) := dk_177 (dk_at dksX4_goOn_3 16 rfl rfl)
theorem dX4_goOn_88 : decode cX4_goOn 88 = .ok (.aload_n 1, 1) := dk_43 (dk_at dksX4_goOn_3 17 rfl rfl)
theorem dX4_goOn_89 : decode cX4_goOn 89 = .ok (.bipush 102, 2) := dk_16 102 (dk_at dksX4_goOn_3 18 rfl rfl)
theorem dX4_goOn_91 : decode cX4_goOn 91 = .ok (.putfield 139, 3) := dk_181 0 139 (dk_at dksX4_goOn_3 20 rfl rfl)
theorem dX4_goOn_94 : decode cX4_goOn 94 = .ok (.aload_n 1, 1) := dk_43 (dk_at dksX4_goOn_3 23 rfl rfl)
theorem dX4_goOn_95 : decode cX4_goOn 95 = .ok (.aload_n 0, 1) := dk_42 (dk_at dksX4_goOn_4 0 rfl rfl)
theorem dX4_goOn_96 : decode cX4_goOn 96 = .ok (.getfield 252, 3) := dk_180 0 252 (dk_at dksX4_goOn_4 1 rfl rfl)
theorem dX4_goOn_99 : decode cX4_goOn 99 = .ok (.putfield 255, 3) := dk_181 0 255 (dk_at dksX4_goOn_4 4 rfl rfl)
theorem dX4_goOn_102 : decode cX4_goOn 102 = .ok (.aload_n 1, 1) := dk_43 (dk_at dksX4_goOn_4 7 rfl rfl)
theorem dX4_goOn_103 : decode cX4_goOn 103 = .ok (.getfield 229, 3) := dk_180 0 229 (dk_at dksX4_goOn_4 8 rfl rfl)
theorem dX4_goOn_106 : decode cX4_goOn 106 = .ok (.ifCond .le 38, 3) := dk_158 0 38 (dk_at dksX4_goOn_4 11 rfl rfl)
theorem dX4_goOn_109 : decode cX4_goOn 109 = .ok (.aload_n 1, 1) := dk_43 (dk_at dksX4_goOn_4 14 rfl rfl)
theorem dX4_goOn_110 : decode cX4_goOn 110 = .ok (.aload_n 0, 1) := dk_42 (dk_at dksX4_goOn_4 15 rfl rfl)
theorem dX4_goOn_111 : decode cX4_goOn 111 = .ok (.aload_n 1, 1) := dk_43 (dk_at dksX4_goOn_4 16 rfl rfl)
theorem dX4_goOn_112 : decode cX4_goOn 112 = .ok (.getfield 199, 3) := dk_180 0 199 (dk_at dksX4_goOn_4 17 rfl rfl)
theorem dX4_goOn_115 : decode cX4_goOn 115 = .ok (.aload_n 1, 1) := dk_43 (dk_at dksX4_goOn_4 20 rfl rfl)
theorem dX4_goOn_116 : decode cX4_goOn 116 = .ok (.getfield 229, 3) := dk_180 0 229 (dk_at dksX4_goOn_4 21 rfl rfl)
theorem dX4_goOn_119 : decode cX4_goOn 119 = .ok (.aload_n 1, 1) := dk_43 (dk_at dksX4_goOn_5 0 rfl rfl)
theorem dX4_goOn_120 : decode cX4_goOn 120 = .ok (.getfield 224, 3) := dk_180 0 224 (dk_at dksX4_goOn_5 1 rfl rfl)
theorem dX4_goOn_123 : decode cX4_goOn 123 = .ok (.invokevirtual 90, 3) := dk_182 0 90 (dk_at dksX4_goOn_5 4 rfl rfl)
theorem dX4_goOn_126 : decode cX4_goOn 126 = .ok (.putfield 258, 3) := dk_181 1 2 (dk_at dksX4_goOn_5 7 rfl rfl)
theorem dX4_goOn_129 : decode cX4_goOn 129 = .ok (.aload_n 1, 1) := dk_43 (dk_at dksX4_goOn_5 10 rfl rfl)
theorem dX4_goOn_130 : decode cX4_goOn 130 = .ok (.getfield 258, 3) := dk_180 1 2 (dk_at dksX4_goOn_5 11 rfl rfl)
theorem dX4_goOn_133 : decode cX4_goOn 133 = .ok (.getfield 262, 3) := dk_180 1 6 (dk_at dksX4_goOn_5 14 rfl rfl)
theorem dX4_goOn_136 : decode cX4_goOn 136 = .ok (.aload_n 1, 1) := dk_43 (dk_at dksX4_goOn_5 17 rfl rfl)
theorem dX4_goOn_137 : decode cX4_goOn 137 = .ok (.getfield 138, 3) := dk_180 0 138 (dk_at dksX4_goOn_5 18 rfl rfl)
theorem dX4_goOn_140 : decode cX4_goOn 140 = .ok (.invokevirtual 265, 3) := dk_182 1 9 (dk_at dksX4_goOn_5 21 rfl rfl)
theorem dX4_goOn_143 : decode cX4_goOn 143 = .ok (.istore_n 3, 1) := dk_62 (dk_at dksX4_goOn_6 0 rfl rfl)
theorem dX4_goOn_144 : decode cX4_goOn 144 = .ok (.return_, 1) := dk_177 (dk_at dksX4_goOn_6 1 rfl rfl)
abbrev cX4_jobs : ByteArray := prog_19_method_34_code
def yX4_jobs : MethodName := ⟨RX4, "jobs", "(I)I"⟩
def dkwX4_jobs_1 : List UInt8 := [4, 167, 0, 4, 3, 96, 172]
abbrev dktX4_jobs_1 : List UInt8 := dkwX4_jobs_1 ++ []
def dkwX4_jobs_0 : List UInt8 := [42, 27, 182, 0, 239, 42, 180, 0, 10, 27, 182, 0, 65, 192, 0, 52, 180, 0, 242, 16, 111, 160, 0, 7]
abbrev dktX4_jobs_0 : List UInt8 := dkwX4_jobs_0 ++ dktX4_jobs_1
theorem dksX4_jobs_0 : cX4_jobs.data.toList.drop 0 = dktX4_jobs_0 := by decide +kernel
theorem dksX4_jobs_1 : cX4_jobs.data.toList.drop 24 = dktX4_jobs_1 := dk_seg dksX4_jobs_0 24 rfl rfl
theorem dX4_jobs_0 : decode cX4_jobs 0 = .ok (.aload_n 0, 1) := dk_42 (dk_at dksX4_jobs_0 0 rfl rfl)
theorem dX4_jobs_1 : decode cX4_jobs 1 = .ok (.iload_n 1, 1) := dk_27 (dk_at dksX4_jobs_0 1 rfl rfl)
theorem dX4_jobs_2 : decode cX4_jobs 2 = .ok (.invokevirtual 239, 3) := dk_182 0 239 (dk_at dksX4_jobs_0 2 rfl rfl)
theorem dX4_jobs_5 : decode cX4_jobs 5 = .ok (.aload_n 0, 1) := dk_42 (dk_at dksX4_jobs_0 5 rfl rfl)
theorem dX4_jobs_6 : decode cX4_jobs 6 = .ok (.getfield 10, 3) := dk_180 0 10 (dk_at dksX4_jobs_0 6 rfl rfl)
theorem dX4_jobs_9 : decode cX4_jobs 9 = .ok (.iload_n 1, 1) := dk_27 (dk_at dksX4_jobs_0 9 rfl rfl)
theorem dX4_jobs_10 : decode cX4_jobs 10 = .ok (.invokevirtual 65, 3) := dk_182 0 65 (dk_at dksX4_jobs_0 10 rfl rfl)
theorem dX4_jobs_13 : decode cX4_jobs 13 = .ok (.checkcast 52, 3) := dk_192 0 52 (dk_at dksX4_jobs_0 13 rfl rfl)
theorem dX4_jobs_16 : decode cX4_jobs 16 = .ok (.getfield 242, 3) := dk_180 0 242 (dk_at dksX4_jobs_0 16 rfl rfl)
theorem dX4_jobs_19 : decode cX4_jobs 19 = .ok (.bipush 111, 2) := dk_16 111 (dk_at dksX4_jobs_0 19 rfl rfl)
theorem dX4_jobs_21 : decode cX4_jobs 21 = .ok (.if_icmp .ne 7, 3) := dk_160 0 7 (dk_at dksX4_jobs_0 21 rfl rfl)
theorem dX4_jobs_24 : decode cX4_jobs 24 = .ok (.iconst 1, 1) := dk_4 (dk_at dksX4_jobs_1 0 rfl rfl)
theorem dX4_jobs_25 : decode cX4_jobs 25 = .ok (.goto 4, 3) := dk_167 0 4 (dk_at dksX4_jobs_1 1 rfl rfl)
theorem dX4_jobs_28 : decode cX4_jobs 28 = .ok (.iconst 0, 1) := dk_3 (dk_at dksX4_jobs_1 4 rfl rfl)
theorem dX4_jobs_29 : decode cX4_jobs 29 = .ok (.iadd, 1) := dk_96 (dk_at dksX4_jobs_1 5 rfl rfl)
theorem dX4_jobs_30 : decode cX4_jobs 30 = .ok (.ireturn, 1) := dk_172 (dk_at dksX4_jobs_1 6 rfl rfl)
abbrev cX4_waits : ByteArray := prog_19_method_35_code
def yX4_waits : MethodName := ⟨RX4, "waits", "(I)I"⟩
def dkwX4_waits_2 : List UInt8 := [180, 0, 243, 27, 160, 0, 7, 4, 167, 0, 4, 3, 96, 61, 167, 255, 209, 28, 172]
abbrev dktX4_waits_2 : List UInt8 := dkwX4_waits_2 ++ []
def dkwX4_waits_1 : List UInt8 := [185, 0, 132, 1, 0, 192, 0, 136, 58, 4, 28, 25, 4, 180, 0, 139, 16, 119, 160, 0, 16, 25, 4]
abbrev dktX4_waits_1 : List UInt8 := dkwX4_waits_1 ++ dktX4_waits_2
def dkwX4_waits_0 : List UInt8 := [3, 61, 42, 180, 0, 22, 182, 0, 123, 78, 45, 185, 0, 127, 1, 0, 153, 0, 44, 45]
abbrev dktX4_waits_0 : List UInt8 := dkwX4_waits_0 ++ dktX4_waits_1
theorem dksX4_waits_0 : cX4_waits.data.toList.drop 0 = dktX4_waits_0 := by decide +kernel
theorem dksX4_waits_1 : cX4_waits.data.toList.drop 20 = dktX4_waits_1 := dk_seg dksX4_waits_0 20 rfl rfl
theorem dksX4_waits_2 : cX4_waits.data.toList.drop 43 = dktX4_waits_2 := dk_seg dksX4_waits_1 23 rfl rfl
theorem dX4_waits_0 : decode cX4_waits 0 = .ok (.iconst 0, 1) := dk_3 (dk_at dksX4_waits_0 0 rfl rfl)
theorem dX4_waits_1 : decode cX4_waits 1 = .ok (.istore_n 2, 1) := dk_61 (dk_at dksX4_waits_0 1 rfl rfl)
theorem dX4_waits_2 : decode cX4_waits 2 = .ok (.aload_n 0, 1) := dk_42 (dk_at dksX4_waits_0 2 rfl rfl)
theorem dX4_waits_3 : decode cX4_waits 3 = .ok (.getfield 22, 3) := dk_180 0 22 (dk_at dksX4_waits_0 3 rfl rfl)
theorem dX4_waits_6 : decode cX4_waits 6 = .ok (.invokevirtual 123, 3) := dk_182 0 123 (dk_at dksX4_waits_0 6 rfl rfl)
theorem dX4_waits_9 : decode cX4_waits 9 = .ok (.astore_n 3, 1) := dk_78 (dk_at dksX4_waits_0 9 rfl rfl)
theorem dX4_waits_10 : decode cX4_waits 10 = .ok (.aload_n 3, 1) := dk_45 (dk_at dksX4_waits_0 10 rfl rfl)
theorem dX4_waits_11 : decode cX4_waits 11 = .ok (.invokeinterface 127 1, 5) := by decide +kernel
theorem dX4_waits_16 : decode cX4_waits 16 = .ok (.ifCond .eq 44, 3) := dk_153 0 44 (dk_at dksX4_waits_0 16 rfl rfl)
theorem dX4_waits_19 : decode cX4_waits 19 = .ok (.aload_n 3, 1) := dk_45 (dk_at dksX4_waits_0 19 rfl rfl)
theorem dX4_waits_20 : decode cX4_waits 20 = .ok (.invokeinterface 132 1, 5) := by decide +kernel
theorem dX4_waits_25 : decode cX4_waits 25 = .ok (.checkcast 136, 3) := dk_192 0 136 (dk_at dksX4_waits_1 5 rfl rfl)
theorem dX4_waits_28 : decode cX4_waits 28 = .ok (.astore 4, 2) := dk_58 4 (dk_at dksX4_waits_1 8 rfl rfl)
theorem dX4_waits_30 : decode cX4_waits 30 = .ok (.iload_n 2, 1) := dk_28 (dk_at dksX4_waits_1 10 rfl rfl)
theorem dX4_waits_31 : decode cX4_waits 31 = .ok (.aload 4, 2) := dk_25 4 (dk_at dksX4_waits_1 11 rfl rfl)
theorem dX4_waits_33 : decode cX4_waits 33 = .ok (.getfield 139, 3) := dk_180 0 139 (dk_at dksX4_waits_1 13 rfl rfl)
theorem dX4_waits_36 : decode cX4_waits 36 = .ok (.bipush 119, 2) := dk_16 119 (dk_at dksX4_waits_1 16 rfl rfl)
theorem dX4_waits_38 : decode cX4_waits 38 = .ok (.if_icmp .ne 16, 3) := dk_160 0 16 (dk_at dksX4_waits_1 18 rfl rfl)
theorem dX4_waits_41 : decode cX4_waits 41 = .ok (.aload 4, 2) := dk_25 4 (dk_at dksX4_waits_1 21 rfl rfl)
theorem dX4_waits_43 : decode cX4_waits 43 = .ok (.getfield 243, 3) := dk_180 0 243 (dk_at dksX4_waits_2 0 rfl rfl)
theorem dX4_waits_46 : decode cX4_waits 46 = .ok (.iload_n 1, 1) := dk_27 (dk_at dksX4_waits_2 3 rfl rfl)
theorem dX4_waits_47 : decode cX4_waits 47 = .ok (.if_icmp .ne 7, 3) := dk_160 0 7 (dk_at dksX4_waits_2 4 rfl rfl)
theorem dX4_waits_50 : decode cX4_waits 50 = .ok (.iconst 1, 1) := dk_4 (dk_at dksX4_waits_2 7 rfl rfl)
theorem dX4_waits_51 : decode cX4_waits 51 = .ok (.goto 4, 3) := dk_167 0 4 (dk_at dksX4_waits_2 8 rfl rfl)
theorem dX4_waits_54 : decode cX4_waits 54 = .ok (.iconst 0, 1) := dk_3 (dk_at dksX4_waits_2 11 rfl rfl)
theorem dX4_waits_55 : decode cX4_waits 55 = .ok (.iadd, 1) := dk_96 (dk_at dksX4_waits_2 12 rfl rfl)
theorem dX4_waits_56 : decode cX4_waits 56 = .ok (.istore_n 2, 1) := dk_61 (dk_at dksX4_waits_2 13 rfl rfl)
theorem dX4_waits_57 : decode cX4_waits 57 = .ok (.goto (-47), 3) := dk_167 255 209 (dk_at dksX4_waits_2 14 rfl rfl)
theorem dX4_waits_60 : decode cX4_waits 60 = .ok (.iload_n 2, 1) := dk_28 (dk_at dksX4_waits_2 17 rfl rfl)
theorem dX4_waits_61 : decode cX4_waits 61 = .ok (.ireturn, 1) := dk_172 (dk_at dksX4_waits_2 18 rfl rfl)
abbrev cX4_begin : ByteArray := prog_19_method_37_code
def yX4_begin : MethodName := ⟨RX4, "begin", "()V"⟩
def dkwX4_begin_11 : List UInt8 := [132, 1, 1, 167, 254, 251, 177]
abbrev dktX4_begin_11 : List UInt8 := dkwX4_begin_11 ++ []
def dkwX4_begin_10 : List UInt8 := [180, 0, 224, 21, 6, 133, 44, 180, 1, 33, 133, 105, 97, 181, 0, 224, 45, 16, 111, 181, 0, 139]
abbrev dktX4_begin_10 : List UInt8 := dkwX4_begin_10 ++ dktX4_begin_11
def dkwX4_begin_9 : List UInt8 := [181, 1, 23, 44, 42, 180, 0, 252, 181, 1, 27, 44, 42, 180, 0, 252, 21, 6, 96, 181, 1, 30, 45, 89]
abbrev dktX4_begin_9 : List UInt8 := dkwX4_begin_9 ++ dktX4_begin_10
def dkwX4_begin_8 : List UInt8 := [104, 96, 184, 0, 113, 54, 6, 44, 25, 4, 180, 1, 19, 181, 1, 16, 44, 16, 111, 181, 0, 242, 44, 45]
abbrev dktX4_begin_8 : List UInt8 := dkwX4_begin_8 ++ dktX4_begin_9
def dkwX4_begin_7 : List UInt8 := [4, 21, 5, 25, 4, 180, 0, 79, 45, 180, 0, 246, 182, 0, 65, 192, 0, 200, 5, 46, 45, 180, 0, 229]
abbrev dktX4_begin_7 : List UInt8 := dkwX4_begin_7 ++ dktX4_begin_8
def dkwX4_begin_6 : List UInt8 := [58, 4, 44, 180, 1, 16, 25, 4, 180, 1, 19, 160, 0, 7, 3, 167, 0, 7, 44, 180, 1, 20, 54, 5]
abbrev dktX4_begin_6 : List UInt8 := dkwX4_begin_6 ++ dktX4_begin_7
def dkwX4_begin_5 : List UInt8 := [45, 78, 167, 255, 171, 45, 198, 0, 135, 42, 180, 0, 16, 45, 180, 0, 199, 182, 0, 65, 192, 0, 57]
abbrev dktX4_begin_5 : List UInt8 := dkwX4_begin_5 ++ dktX4_begin_6
def dkwX4_begin_4 : List UInt8 := [153, 0, 24, 45, 198, 0, 15, 25, 5, 180, 1, 13, 45, 180, 1, 13, 162, 0, 8, 25, 5, 167, 0, 4]
abbrev dktX4_begin_4 : List UInt8 := dkwX4_begin_4 ++ dktX4_begin_5
def dkwX4_begin_3 : List UInt8 := [16, 119, 160, 0, 16, 25, 5, 180, 0, 243, 27, 160, 0, 7, 4, 167, 0, 4, 3, 54, 6, 21, 6]
abbrev dktX4_begin_3 : List UInt8 := dkwX4_begin_3 ++ dktX4_begin_4
def dkwX4_begin_2 : List UInt8 := [185, 0, 132, 1, 0, 192, 0, 136, 58, 5, 44, 180, 0, 242, 16, 45, 160, 0, 26, 25, 5, 180, 0, 139]
abbrev dktX4_begin_2 : List UInt8 := dkwX4_begin_2 ++ dktX4_begin_3
def dkwX4_begin_1 : List UInt8 := [77, 1, 78, 42, 180, 0, 22, 182, 0, 123, 58, 4, 25, 4, 185, 0, 127, 1, 0, 153, 0, 81, 25, 4]
abbrev dktX4_begin_1 : List UInt8 := dkwX4_begin_1 ++ dktX4_begin_2
def dkwX4_begin_0 : List UInt8 := [3, 60, 27, 42, 180, 0, 10, 182, 0, 44, 162, 1, 0, 42, 180, 0, 10, 27, 182, 0, 65, 192, 0, 52]
abbrev dktX4_begin_0 : List UInt8 := dkwX4_begin_0 ++ dktX4_begin_1
theorem dksX4_begin_0 : cX4_begin.data.toList.drop 0 = dktX4_begin_0 := by decide +kernel
theorem dksX4_begin_1 : cX4_begin.data.toList.drop 24 = dktX4_begin_1 := dk_seg dksX4_begin_0 24 rfl rfl
theorem dksX4_begin_2 : cX4_begin.data.toList.drop 48 = dktX4_begin_2 := dk_seg dksX4_begin_1 24 rfl rfl
theorem dksX4_begin_3 : cX4_begin.data.toList.drop 72 = dktX4_begin_3 := dk_seg dksX4_begin_2 24 rfl rfl
theorem dksX4_begin_4 : cX4_begin.data.toList.drop 95 = dktX4_begin_4 := dk_seg dksX4_begin_3 23 rfl rfl
theorem dksX4_begin_5 : cX4_begin.data.toList.drop 119 = dktX4_begin_5 := dk_seg dksX4_begin_4 24 rfl rfl
theorem dksX4_begin_6 : cX4_begin.data.toList.drop 142 = dktX4_begin_6 := dk_seg dksX4_begin_5 23 rfl rfl
theorem dksX4_begin_7 : cX4_begin.data.toList.drop 166 = dktX4_begin_7 := dk_seg dksX4_begin_6 24 rfl rfl
theorem dksX4_begin_8 : cX4_begin.data.toList.drop 190 = dktX4_begin_8 := dk_seg dksX4_begin_7 24 rfl rfl
theorem dksX4_begin_9 : cX4_begin.data.toList.drop 214 = dktX4_begin_9 := dk_seg dksX4_begin_8 24 rfl rfl
theorem dksX4_begin_10 : cX4_begin.data.toList.drop 238 = dktX4_begin_10 := dk_seg dksX4_begin_9 24 rfl rfl
theorem dksX4_begin_11 : cX4_begin.data.toList.drop 260 = dktX4_begin_11 := dk_seg dksX4_begin_10 22 rfl rfl
theorem dX4_begin_0 : decode cX4_begin 0 = .ok (.iconst 0, 1) := dk_3 (dk_at dksX4_begin_0 0 rfl rfl)
theorem dX4_begin_1 : decode cX4_begin 1 = .ok (.istore_n 1, 1) := dk_60 (dk_at dksX4_begin_0 1 rfl rfl)
theorem dX4_begin_2 : decode cX4_begin 2 = .ok (.iload_n 1, 1) := dk_27 (dk_at dksX4_begin_0 2 rfl rfl)
theorem dX4_begin_3 : decode cX4_begin 3 = .ok (.aload_n 0, 1) := dk_42 (dk_at dksX4_begin_0 3 rfl rfl)
theorem dX4_begin_4 : decode cX4_begin 4 = .ok (.getfield 10, 3) := dk_180 0 10 (dk_at dksX4_begin_0 4 rfl rfl)
theorem dX4_begin_7 : decode cX4_begin 7 = .ok (.invokevirtual 44, 3) := dk_182 0 44 (dk_at dksX4_begin_0 7 rfl rfl)
theorem dX4_begin_10 : decode cX4_begin 10 = .ok (.if_icmp .ge 256, 3) := dk_162 1 0 (dk_at dksX4_begin_0 10 rfl rfl)
theorem dX4_begin_13 : decode cX4_begin 13 = .ok (.aload_n 0, 1) := dk_42 (dk_at dksX4_begin_0 13 rfl rfl)
theorem dX4_begin_14 : decode cX4_begin 14 = .ok (.getfield 10, 3) := dk_180 0 10 (dk_at dksX4_begin_0 14 rfl rfl)
theorem dX4_begin_17 : decode cX4_begin 17 = .ok (.iload_n 1, 1) := dk_27 (dk_at dksX4_begin_0 17 rfl rfl)
theorem dX4_begin_18 : decode cX4_begin 18 = .ok (.invokevirtual 65, 3) := dk_182 0 65 (dk_at dksX4_begin_0 18 rfl rfl)
theorem dX4_begin_21 : decode cX4_begin 21 = .ok (.checkcast 52, 3) := dk_192 0 52 (dk_at dksX4_begin_0 21 rfl rfl)
theorem dX4_begin_24 : decode cX4_begin 24 = .ok (.astore_n 2, 1) := dk_77 (dk_at dksX4_begin_1 0 rfl rfl)
theorem dX4_begin_25 : decode cX4_begin 25 = .ok (.aconst_null, 1) := dk_1 (dk_at dksX4_begin_1 1 rfl rfl)
theorem dX4_begin_26 : decode cX4_begin 26 = .ok (.astore_n 3, 1) := dk_78 (dk_at dksX4_begin_1 2 rfl rfl)
theorem dX4_begin_27 : decode cX4_begin 27 = .ok (.aload_n 0, 1) := dk_42 (dk_at dksX4_begin_1 3 rfl rfl)
theorem dX4_begin_28 : decode cX4_begin 28 = .ok (.getfield 22, 3) := dk_180 0 22 (dk_at dksX4_begin_1 4 rfl rfl)
theorem dX4_begin_31 : decode cX4_begin 31 = .ok (.invokevirtual 123, 3) := dk_182 0 123 (dk_at dksX4_begin_1 7 rfl rfl)
theorem dX4_begin_34 : decode cX4_begin 34 = .ok (.astore 4, 2) := dk_58 4 (dk_at dksX4_begin_1 10 rfl rfl)
theorem dX4_begin_36 : decode cX4_begin 36 = .ok (.aload 4, 2) := dk_25 4 (dk_at dksX4_begin_1 12 rfl rfl)
theorem dX4_begin_38 : decode cX4_begin 38 = .ok (.invokeinterface 127 1, 5) := by decide +kernel
theorem dX4_begin_43 : decode cX4_begin 43 = .ok (.ifCond .eq 81, 3) := dk_153 0 81 (dk_at dksX4_begin_1 19 rfl rfl)
theorem dX4_begin_46 : decode cX4_begin 46 = .ok (.aload 4, 2) := dk_25 4 (dk_at dksX4_begin_1 22 rfl rfl)
theorem dX4_begin_48 : decode cX4_begin 48 = .ok (.invokeinterface 132 1, 5) := by decide +kernel
theorem dX4_begin_53 : decode cX4_begin 53 = .ok (.checkcast 136, 3) := dk_192 0 136 (dk_at dksX4_begin_2 5 rfl rfl)
theorem dX4_begin_56 : decode cX4_begin 56 = .ok (.astore 5, 2) := dk_58 5 (dk_at dksX4_begin_2 8 rfl rfl)
theorem dX4_begin_58 : decode cX4_begin 58 = .ok (.aload_n 2, 1) := dk_44 (dk_at dksX4_begin_2 10 rfl rfl)
theorem dX4_begin_59 : decode cX4_begin 59 = .ok (.getfield 242, 3) := dk_180 0 242 (dk_at dksX4_begin_2 11 rfl rfl)
theorem dX4_begin_62 : decode cX4_begin 62 = .ok (.bipush 45, 2) := dk_16 45 (dk_at dksX4_begin_2 14 rfl rfl)
theorem dX4_begin_64 : decode cX4_begin 64 = .ok (.if_icmp .ne 26, 3) := dk_160 0 26 (dk_at dksX4_begin_2 16 rfl rfl)
theorem dX4_begin_67 : decode cX4_begin 67 = .ok (.aload 5, 2) := dk_25 5 (dk_at dksX4_begin_2 19 rfl rfl)
theorem dX4_begin_69 : decode cX4_begin 69 = .ok (.getfield 139, 3) := dk_180 0 139 (dk_at dksX4_begin_2 21 rfl rfl)
theorem dX4_begin_72 : decode cX4_begin 72 = .ok (.bipush 119, 2) := dk_16 119 (dk_at dksX4_begin_3 0 rfl rfl)
theorem dX4_begin_74 : decode cX4_begin 74 = .ok (.if_icmp .ne 16, 3) := dk_160 0 16 (dk_at dksX4_begin_3 2 rfl rfl)
theorem dX4_begin_77 : decode cX4_begin 77 = .ok (.aload 5, 2) := dk_25 5 (dk_at dksX4_begin_3 5 rfl rfl)
theorem dX4_begin_79 : decode cX4_begin 79 = .ok (.getfield 243, 3) := dk_180 0 243 (dk_at dksX4_begin_3 7 rfl rfl)
theorem dX4_begin_82 : decode cX4_begin 82 = .ok (.iload_n 1, 1) := dk_27 (dk_at dksX4_begin_3 10 rfl rfl)
theorem dX4_begin_83 : decode cX4_begin 83 = .ok (.if_icmp .ne 7, 3) := dk_160 0 7 (dk_at dksX4_begin_3 11 rfl rfl)
theorem dX4_begin_86 : decode cX4_begin 86 = .ok (.iconst 1, 1) := dk_4 (dk_at dksX4_begin_3 14 rfl rfl)
theorem dX4_begin_87 : decode cX4_begin 87 = .ok (.goto 4, 3) := dk_167 0 4 (dk_at dksX4_begin_3 15 rfl rfl)
theorem dX4_begin_90 : decode cX4_begin 90 = .ok (.iconst 0, 1) := dk_3 (dk_at dksX4_begin_3 18 rfl rfl)
theorem dX4_begin_91 : decode cX4_begin 91 = .ok (.istore 6, 2) := dk_54 6 (dk_at dksX4_begin_3 19 rfl rfl)
theorem dX4_begin_93 : decode cX4_begin 93 = .ok (.iload 6, 2) := dk_21 6 (dk_at dksX4_begin_3 21 rfl rfl)
theorem dX4_begin_95 : decode cX4_begin 95 = .ok (.ifCond .eq 24, 3) := dk_153 0 24 (dk_at dksX4_begin_4 0 rfl rfl)
theorem dX4_begin_98 : decode cX4_begin 98 = .ok (.aload_n 3, 1) := dk_45 (dk_at dksX4_begin_4 3 rfl rfl)
theorem dX4_begin_99 : decode cX4_begin 99 = .ok (.ifnull 15, 3) := dk_198 0 15 (dk_at dksX4_begin_4 4 rfl rfl)
theorem dX4_begin_102 : decode cX4_begin 102 = .ok (.aload 5, 2) := dk_25 5 (dk_at dksX4_begin_4 7 rfl rfl)
theorem dX4_begin_104 : decode cX4_begin 104 = .ok (.getfield 269, 3) := dk_180 1 13 (dk_at dksX4_begin_4 9 rfl rfl)
theorem dX4_begin_107 : decode cX4_begin 107 = .ok (.aload_n 3, 1) := dk_45 (dk_at dksX4_begin_4 12 rfl rfl)
theorem dX4_begin_108 : decode cX4_begin 108 = .ok (.getfield 269, 3) := dk_180 1 13 (dk_at dksX4_begin_4 13 rfl rfl)
theorem dX4_begin_111 : decode cX4_begin 111 = .ok (.if_icmp .ge 8, 3) := dk_162 0 8 (dk_at dksX4_begin_4 16 rfl rfl)
theorem dX4_begin_114 : decode cX4_begin 114 = .ok (.aload 5, 2) := dk_25 5 (dk_at dksX4_begin_4 19 rfl rfl)
theorem dX4_begin_116 : decode cX4_begin 116 = .ok (.goto 4, 3) := dk_167 0 4 (dk_at dksX4_begin_4 21 rfl rfl)
theorem dX4_begin_119 : decode cX4_begin 119 = .ok (.aload_n 3, 1) := dk_45 (dk_at dksX4_begin_5 0 rfl rfl)
theorem dX4_begin_120 : decode cX4_begin 120 = .ok (.astore_n 3, 1) := dk_78 (dk_at dksX4_begin_5 1 rfl rfl)
theorem dX4_begin_121 : decode cX4_begin 121 = .ok (.goto (-85), 3) := dk_167 255 171 (dk_at dksX4_begin_5 2 rfl rfl)
theorem dX4_begin_124 : decode cX4_begin 124 = .ok (.aload_n 3, 1) := dk_45 (dk_at dksX4_begin_5 5 rfl rfl)
theorem dX4_begin_125 : decode cX4_begin 125 = .ok (.ifnull 135, 3) := dk_198 0 135 (dk_at dksX4_begin_5 6 rfl rfl)
theorem dX4_begin_128 : decode cX4_begin 128 = .ok (.aload_n 0, 1) := dk_42 (dk_at dksX4_begin_5 9 rfl rfl)
theorem dX4_begin_129 : decode cX4_begin 129 = .ok (.getfield 16, 3) := dk_180 0 16 (dk_at dksX4_begin_5 10 rfl rfl)
theorem dX4_begin_132 : decode cX4_begin 132 = .ok (.aload_n 3, 1) := dk_45 (dk_at dksX4_begin_5 13 rfl rfl)
theorem dX4_begin_133 : decode cX4_begin 133 = .ok (.getfield 199, 3) := dk_180 0 199 (dk_at dksX4_begin_5 14 rfl rfl)
theorem dX4_begin_136 : decode cX4_begin 136 = .ok (.invokevirtual 65, 3) := dk_182 0 65 (dk_at dksX4_begin_5 17 rfl rfl)
theorem dX4_begin_139 : decode cX4_begin 139 = .ok (.checkcast 57, 3) := dk_192 0 57 (dk_at dksX4_begin_5 20 rfl rfl)
theorem dX4_begin_142 : decode cX4_begin 142 = .ok (.astore 4, 2) := dk_58 4 (dk_at dksX4_begin_6 0 rfl rfl)
theorem dX4_begin_144 : decode cX4_begin 144 = .ok (.aload_n 2, 1) := dk_44 (dk_at dksX4_begin_6 2 rfl rfl)
theorem dX4_begin_145 : decode cX4_begin 145 = .ok (.getfield 272, 3) := dk_180 1 16 (dk_at dksX4_begin_6 3 rfl rfl)
theorem dX4_begin_148 : decode cX4_begin 148 = .ok (.aload 4, 2) := dk_25 4 (dk_at dksX4_begin_6 6 rfl rfl)
theorem dX4_begin_150 : decode cX4_begin 150 = .ok (.getfield 275, 3) := dk_180 1 19 (dk_at dksX4_begin_6 8 rfl rfl)
theorem dX4_begin_153 : decode cX4_begin 153 = .ok (.if_icmp .ne 7, 3) := dk_160 0 7 (dk_at dksX4_begin_6 11 rfl rfl)
theorem dX4_begin_156 : decode cX4_begin 156 = .ok (.iconst 0, 1) := dk_3 (dk_at dksX4_begin_6 14 rfl rfl)
theorem dX4_begin_157 : decode cX4_begin 157 = .ok (.goto 7, 3) := dk_167 0 7 (dk_at dksX4_begin_6 15 rfl rfl)
theorem dX4_begin_160 : decode cX4_begin 160 = .ok (.aload_n 2, 1) := dk_44 (dk_at dksX4_begin_6 18 rfl rfl)
theorem dX4_begin_161 : decode cX4_begin 161 = .ok (.getfield 276, 3) := dk_180 1 20 (dk_at dksX4_begin_6 19 rfl rfl)
theorem dX4_begin_164 : decode cX4_begin 164 = .ok (.istore 5, 2) := dk_54 5 (dk_at dksX4_begin_6 22 rfl rfl)
theorem dX4_begin_166 : decode cX4_begin 166 = .ok (.iconst 1, 1) := dk_4 (dk_at dksX4_begin_7 0 rfl rfl)
theorem dX4_begin_167 : decode cX4_begin 167 = .ok (.iload 5, 2) := dk_21 5 (dk_at dksX4_begin_7 1 rfl rfl)
theorem dX4_begin_169 : decode cX4_begin 169 = .ok (.aload 4, 2) := dk_25 4 (dk_at dksX4_begin_7 3 rfl rfl)
theorem dX4_begin_171 : decode cX4_begin 171 = .ok (.getfield 79, 3) := dk_180 0 79 (dk_at dksX4_begin_7 5 rfl rfl)
theorem dX4_begin_174 : decode cX4_begin 174 = .ok (.aload_n 3, 1) := dk_45 (dk_at dksX4_begin_7 8 rfl rfl)
theorem dX4_begin_175 : decode cX4_begin 175 = .ok (.getfield 246, 3) := dk_180 0 246 (dk_at dksX4_begin_7 9 rfl rfl)
theorem dX4_begin_178 : decode cX4_begin 178 = .ok (.invokevirtual 65, 3) := dk_182 0 65 (dk_at dksX4_begin_7 12 rfl rfl)
theorem dX4_begin_181 : decode cX4_begin 181 = .ok (.checkcast 200, 3) := dk_192 0 200 (dk_at dksX4_begin_7 15 rfl rfl)
theorem dX4_begin_184 : decode cX4_begin 184 = .ok (.iconst 2, 1) := dk_5 (dk_at dksX4_begin_7 18 rfl rfl)
theorem dX4_begin_185 : decode cX4_begin 185 = .ok (.iaload, 1) := dk_46 (dk_at dksX4_begin_7 19 rfl rfl)
theorem dX4_begin_186 : decode cX4_begin 186 = .ok (.aload_n 3, 1) := dk_45 (dk_at dksX4_begin_7 20 rfl rfl)
theorem dX4_begin_187 : decode cX4_begin 187 = .ok (.getfield 229, 3) := dk_180 0 229 (dk_at dksX4_begin_7 21 rfl rfl)
theorem dX4_begin_190 : decode cX4_begin 190 = .ok (.imul, 1) := dk_104 (dk_at dksX4_begin_8 0 rfl rfl)
theorem dX4_begin_191 : decode cX4_begin 191 = .ok (.iadd, 1) := dk_96 (dk_at dksX4_begin_8 1 rfl rfl)
theorem dX4_begin_192 : decode cX4_begin 192 = .ok (.invokestatic 113, 3) := dk_184 0 113 (dk_at dksX4_begin_8 2 rfl rfl)
theorem dX4_begin_195 : decode cX4_begin 195 = .ok (.istore 6, 2) := dk_54 6 (dk_at dksX4_begin_8 5 rfl rfl)
theorem dX4_begin_197 : decode cX4_begin 197 = .ok (.aload_n 2, 1) := dk_44 (dk_at dksX4_begin_8 7 rfl rfl)
theorem dX4_begin_198 : decode cX4_begin 198 = .ok (.aload 4, 2) := dk_25 4 (dk_at dksX4_begin_8 8 rfl rfl)
theorem dX4_begin_200 : decode cX4_begin 200 = .ok (.getfield 275, 3) := dk_180 1 19 (dk_at dksX4_begin_8 10 rfl rfl)
theorem dX4_begin_203 : decode cX4_begin 203 = .ok (.putfield 272, 3) := dk_181 1 16 (dk_at dksX4_begin_8 13 rfl rfl)
theorem dX4_begin_206 : decode cX4_begin 206 = .ok (.aload_n 2, 1) := dk_44 (dk_at dksX4_begin_8 16 rfl rfl)
theorem dX4_begin_207 : decode cX4_begin 207 = .ok (.bipush 111, 2) := dk_16 111 (dk_at dksX4_begin_8 17 rfl rfl)
theorem dX4_begin_209 : decode cX4_begin 209 = .ok (.putfield 242, 3) := dk_181 0 242 (dk_at dksX4_begin_8 19 rfl rfl)
theorem dX4_begin_212 : decode cX4_begin 212 = .ok (.aload_n 2, 1) := dk_44 (dk_at dksX4_begin_8 22 rfl rfl)
theorem dX4_begin_213 : decode cX4_begin 213 = .ok (.aload_n 3, 1) := dk_45 (dk_at dksX4_begin_8 23 rfl rfl)
theorem dX4_begin_214 : decode cX4_begin 214 = .ok (.putfield 279, 3) := dk_181 1 23 (dk_at dksX4_begin_9 0 rfl rfl)
theorem dX4_begin_217 : decode cX4_begin 217 = .ok (.aload_n 2, 1) := dk_44 (dk_at dksX4_begin_9 3 rfl rfl)
theorem dX4_begin_218 : decode cX4_begin 218 = .ok (.aload_n 0, 1) := dk_42 (dk_at dksX4_begin_9 4 rfl rfl)
theorem dX4_begin_219 : decode cX4_begin 219 = .ok (.getfield 252, 3) := dk_180 0 252 (dk_at dksX4_begin_9 5 rfl rfl)
theorem dX4_begin_222 : decode cX4_begin 222 = .ok (.putfield 283, 3) := dk_181 1 27 (dk_at dksX4_begin_9 8 rfl rfl)
theorem dX4_begin_225 : decode cX4_begin 225 = .ok (.aload_n 2, 1) := dk_44 (dk_at dksX4_begin_9 11 rfl rfl)
theorem dX4_begin_226 : decode cX4_begin 226 = .ok (.aload_n 0, 1) := dk_42 (dk_at dksX4_begin_9 12 rfl rfl)
theorem dX4_begin_227 : decode cX4_begin 227 = .ok (.getfield 252, 3) := dk_180 0 252 (dk_at dksX4_begin_9 13 rfl rfl)
theorem dX4_begin_230 : decode cX4_begin 230 = .ok (.iload 6, 2) := dk_21 6 (dk_at dksX4_begin_9 16 rfl rfl)
theorem dX4_begin_232 : decode cX4_begin 232 = .ok (.iadd, 1) := dk_96 (dk_at dksX4_begin_9 18 rfl rfl)
theorem dX4_begin_233 : decode cX4_begin 233 = .ok (.putfield 286, 3) := dk_181 1 30 (dk_at dksX4_begin_9 19 rfl rfl)
theorem dX4_begin_236 : decode cX4_begin 236 = .ok (.aload_n 3, 1) := dk_45 (dk_at dksX4_begin_9 22 rfl rfl)
theorem dX4_begin_237 : decode cX4_begin 237 = .ok (.dup, 1) := dk_89 (dk_at dksX4_begin_9 23 rfl rfl)
theorem dX4_begin_238 : decode cX4_begin 238 = .ok (.getfield 224, 3) := dk_180 0 224 (dk_at dksX4_begin_10 0 rfl rfl)
theorem dX4_begin_241 : decode cX4_begin 241 = .ok (.iload 6, 2) := dk_21 6 (dk_at dksX4_begin_10 3 rfl rfl)
theorem dX4_begin_243 : decode cX4_begin 243 = .ok (.i2l, 1) := dk_133 (dk_at dksX4_begin_10 5 rfl rfl)
theorem dX4_begin_244 : decode cX4_begin 244 = .ok (.aload_n 2, 1) := dk_44 (dk_at dksX4_begin_10 6 rfl rfl)
theorem dX4_begin_245 : decode cX4_begin 245 = .ok (.getfield 289, 3) := dk_180 1 33 (dk_at dksX4_begin_10 7 rfl rfl)
theorem dX4_begin_248 : decode cX4_begin 248 = .ok (.i2l, 1) := dk_133 (dk_at dksX4_begin_10 10 rfl rfl)
theorem dX4_begin_249 : decode cX4_begin 249 = .ok (.lmul, 1) := dk_105 (dk_at dksX4_begin_10 11 rfl rfl)
theorem dX4_begin_250 : decode cX4_begin 250 = .ok (.ladd, 1) := dk_97 (dk_at dksX4_begin_10 12 rfl rfl)
theorem dX4_begin_251 : decode cX4_begin 251 = .ok (.putfield 224, 3) := dk_181 0 224 (dk_at dksX4_begin_10 13 rfl rfl)
theorem dX4_begin_254 : decode cX4_begin 254 = .ok (.aload_n 3, 1) := dk_45 (dk_at dksX4_begin_10 16 rfl rfl)
theorem dX4_begin_255 : decode cX4_begin 255 = .ok (.bipush 111, 2) := dk_16 111 (dk_at dksX4_begin_10 17 rfl rfl)
theorem dX4_begin_257 : decode cX4_begin 257 = .ok (.putfield 139, 3) := dk_181 0 139 (dk_at dksX4_begin_10 19 rfl rfl)
theorem dX4_begin_260 : decode cX4_begin 260 = .ok (.iinc 1 1, 3) := dk_132 1 1 (dk_at dksX4_begin_11 0 rfl rfl)
theorem dX4_begin_263 : decode cX4_begin 263 = .ok (.goto (-261), 3) := dk_167 254 251 (dk_at dksX4_begin_11 3 rfl rfl)
theorem dX4_begin_266 : decode cX4_begin 266 = .ok (.return_, 1) := dk_177 (dk_at dksX4_begin_11 6 rfl rfl)
abbrev cX4_scrap : ByteArray := prog_19_method_39_code
def yX4_scrap : MethodName := ⟨RX4, "scrap", "(II)I"⟩
def dkwX4_scrap_3 : List UInt8 := [180, 0, 229, 28, 100, 181, 0, 229, 45, 180, 0, 229, 172]
abbrev dktX4_scrap_3 : List UInt8 := dkwX4_scrap_3 ++ []
def dkwX4_scrap_2 : List UInt8 := [180, 0, 229, 184, 0, 40, 154, 0, 7, 6, 167, 0, 4, 3, 182, 0, 48, 153, 0, 5, 3, 172, 45, 89]
abbrev dktX4_scrap_2 : List UInt8 := dkwX4_scrap_2 ++ dktX4_scrap_3
def dkwX4_scrap_1 : List UInt8 := [180, 0, 139, 16, 119, 159, 0, 16, 45, 180, 0, 139, 16, 111, 159, 0, 7, 5, 167, 0, 20, 28, 4, 45]
abbrev dktX4_scrap_1 : List UInt8 := dkwX4_scrap_1 ++ dktX4_scrap_2
def dkwX4_scrap_0 : List UInt8 := [42, 27, 182, 0, 214, 153, 0, 5, 3, 172, 42, 180, 0, 22, 27, 182, 0, 65, 192, 0, 136, 78, 42, 45]
abbrev dktX4_scrap_0 : List UInt8 := dkwX4_scrap_0 ++ dktX4_scrap_1
theorem dksX4_scrap_0 : cX4_scrap.data.toList.drop 0 = dktX4_scrap_0 := by decide +kernel
theorem dksX4_scrap_1 : cX4_scrap.data.toList.drop 24 = dktX4_scrap_1 := dk_seg dksX4_scrap_0 24 rfl rfl
theorem dksX4_scrap_2 : cX4_scrap.data.toList.drop 48 = dktX4_scrap_2 := dk_seg dksX4_scrap_1 24 rfl rfl
theorem dksX4_scrap_3 : cX4_scrap.data.toList.drop 72 = dktX4_scrap_3 := dk_seg dksX4_scrap_2 24 rfl rfl
theorem dX4_scrap_0 : decode cX4_scrap 0 = .ok (.aload_n 0, 1) := dk_42 (dk_at dksX4_scrap_0 0 rfl rfl)
theorem dX4_scrap_1 : decode cX4_scrap 1 = .ok (.iload_n 1, 1) := dk_27 (dk_at dksX4_scrap_0 1 rfl rfl)
theorem dX4_scrap_2 : decode cX4_scrap 2 = .ok (.invokevirtual 214, 3) := dk_182 0 214 (dk_at dksX4_scrap_0 2 rfl rfl)
theorem dX4_scrap_5 : decode cX4_scrap 5 = .ok (.ifCond .eq 5, 3) := dk_153 0 5 (dk_at dksX4_scrap_0 5 rfl rfl)
theorem dX4_scrap_8 : decode cX4_scrap 8 = .ok (.iconst 0, 1) := dk_3 (dk_at dksX4_scrap_0 8 rfl rfl)
theorem dX4_scrap_9 : decode cX4_scrap 9 = .ok (.ireturn, 1) := dk_172 (dk_at dksX4_scrap_0 9 rfl rfl)
theorem dX4_scrap_10 : decode cX4_scrap 10 = .ok (.aload_n 0, 1) := dk_42 (dk_at dksX4_scrap_0 10 rfl rfl)
theorem dX4_scrap_11 : decode cX4_scrap 11 = .ok (.getfield 22, 3) := dk_180 0 22 (dk_at dksX4_scrap_0 11 rfl rfl)
theorem dX4_scrap_14 : decode cX4_scrap 14 = .ok (.iload_n 1, 1) := dk_27 (dk_at dksX4_scrap_0 14 rfl rfl)
theorem dX4_scrap_15 : decode cX4_scrap 15 = .ok (.invokevirtual 65, 3) := dk_182 0 65 (dk_at dksX4_scrap_0 15 rfl rfl)
theorem dX4_scrap_18 : decode cX4_scrap 18 = .ok (.checkcast 136, 3) := dk_192 0 136 (dk_at dksX4_scrap_0 18 rfl rfl)
theorem dX4_scrap_21 : decode cX4_scrap 21 = .ok (.astore_n 3, 1) := dk_78 (dk_at dksX4_scrap_0 21 rfl rfl)
theorem dX4_scrap_22 : decode cX4_scrap 22 = .ok (.aload_n 0, 1) := dk_42 (dk_at dksX4_scrap_0 22 rfl rfl)
theorem dX4_scrap_23 : decode cX4_scrap 23 = .ok (.aload_n 3, 1) := dk_45 (dk_at dksX4_scrap_0 23 rfl rfl)
theorem dX4_scrap_24 : decode cX4_scrap 24 = .ok (.getfield 139, 3) := dk_180 0 139 (dk_at dksX4_scrap_1 0 rfl rfl)
theorem dX4_scrap_27 : decode cX4_scrap 27 = .ok (.bipush 119, 2) := dk_16 119 (dk_at dksX4_scrap_1 3 rfl rfl)
theorem dX4_scrap_29 : decode cX4_scrap 29 = .ok (.if_icmp .eq 16, 3) := dk_159 0 16 (dk_at dksX4_scrap_1 5 rfl rfl)
theorem dX4_scrap_32 : decode cX4_scrap 32 = .ok (.aload_n 3, 1) := dk_45 (dk_at dksX4_scrap_1 8 rfl rfl)
theorem dX4_scrap_33 : decode cX4_scrap 33 = .ok (.getfield 139, 3) := dk_180 0 139 (dk_at dksX4_scrap_1 9 rfl rfl)
theorem dX4_scrap_36 : decode cX4_scrap 36 = .ok (.bipush 111, 2) := dk_16 111 (dk_at dksX4_scrap_1 12 rfl rfl)
theorem dX4_scrap_38 : decode cX4_scrap 38 = .ok (.if_icmp .eq 7, 3) := dk_159 0 7 (dk_at dksX4_scrap_1 14 rfl rfl)
theorem dX4_scrap_41 : decode cX4_scrap 41 = .ok (.iconst 2, 1) := dk_5 (dk_at dksX4_scrap_1 17 rfl rfl)
theorem dX4_scrap_42 : decode cX4_scrap 42 = .ok (.goto 20, 3) := dk_167 0 20 (dk_at dksX4_scrap_1 18 rfl rfl)
theorem dX4_scrap_45 : decode cX4_scrap 45 = .ok (.iload_n 2, 1) := dk_28 (dk_at dksX4_scrap_1 21 rfl rfl)
theorem dX4_scrap_46 : decode cX4_scrap 46 = .ok (.iconst 1, 1) := dk_4 (dk_at dksX4_scrap_1 22 rfl rfl)
theorem dX4_scrap_47 : decode cX4_scrap 47 = .ok (.aload_n 3, 1) := dk_45 (dk_at dksX4_scrap_1 23 rfl rfl)
theorem dX4_scrap_48 : decode cX4_scrap 48 = .ok (.getfield 229, 3) := dk_180 0 229 (dk_at dksX4_scrap_2 0 rfl rfl)
theorem dX4_scrap_51 : decode cX4_scrap 51 = .ok (.invokestatic 40, 3) := dk_184 0 40 (dk_at dksX4_scrap_2 3 rfl rfl)
theorem dX4_scrap_54 : decode cX4_scrap 54 = .ok (.ifCond .ne 7, 3) := dk_154 0 7 (dk_at dksX4_scrap_2 6 rfl rfl)
theorem dX4_scrap_57 : decode cX4_scrap 57 = .ok (.iconst 3, 1) := dk_6 (dk_at dksX4_scrap_2 9 rfl rfl)
theorem dX4_scrap_58 : decode cX4_scrap 58 = .ok (.goto 4, 3) := dk_167 0 4 (dk_at dksX4_scrap_2 10 rfl rfl)
theorem dX4_scrap_61 : decode cX4_scrap 61 = .ok (.iconst 0, 1) := dk_3 (dk_at dksX4_scrap_2 13 rfl rfl)
theorem dX4_scrap_62 : decode cX4_scrap 62 = .ok (.invokevirtual 48, 3) := dk_182 0 48 (dk_at dksX4_scrap_2 14 rfl rfl)
theorem dX4_scrap_65 : decode cX4_scrap 65 = .ok (.ifCond .eq 5, 3) := dk_153 0 5 (dk_at dksX4_scrap_2 17 rfl rfl)
theorem dX4_scrap_68 : decode cX4_scrap 68 = .ok (.iconst 0, 1) := dk_3 (dk_at dksX4_scrap_2 20 rfl rfl)
theorem dX4_scrap_69 : decode cX4_scrap 69 = .ok (.ireturn, 1) := dk_172 (dk_at dksX4_scrap_2 21 rfl rfl)
theorem dX4_scrap_70 : decode cX4_scrap 70 = .ok (.aload_n 3, 1) := dk_45 (dk_at dksX4_scrap_2 22 rfl rfl)
theorem dX4_scrap_71 : decode cX4_scrap 71 = .ok (.dup, 1) := dk_89 (dk_at dksX4_scrap_2 23 rfl rfl)
theorem dX4_scrap_72 : decode cX4_scrap 72 = .ok (.getfield 229, 3) := dk_180 0 229 (dk_at dksX4_scrap_3 0 rfl rfl)
theorem dX4_scrap_75 : decode cX4_scrap 75 = .ok (.iload_n 2, 1) := dk_28 (dk_at dksX4_scrap_3 3 rfl rfl)
theorem dX4_scrap_76 : decode cX4_scrap 76 = .ok (.isub, 1) := dk_100 (dk_at dksX4_scrap_3 4 rfl rfl)
theorem dX4_scrap_77 : decode cX4_scrap 77 = .ok (.putfield 229, 3) := dk_181 0 229 (dk_at dksX4_scrap_3 5 rfl rfl)
theorem dX4_scrap_80 : decode cX4_scrap 80 = .ok (.aload_n 3, 1) := dk_45 (dk_at dksX4_scrap_3 8 rfl rfl)
theorem dX4_scrap_81 : decode cX4_scrap 81 = .ok (.getfield 229, 3) := dk_180 0 229 (dk_at dksX4_scrap_3 9 rfl rfl)
theorem dX4_scrap_84 : decode cX4_scrap 84 = .ok (.ireturn, 1) := dk_172 (dk_at dksX4_scrap_3 12 rfl rfl)
abbrev cX4_advance : ByteArray := prog_19_method_40_code
def yX4_advance : MethodName := ⟨RX4, "advance", "(I)I"⟩
def dkwX4_advance_3 : List UInt8 := [167, 255, 230, 42, 180, 0, 252, 172]
abbrev dktX4_advance_3 : List UInt8 := dkwX4_advance_3 ++ []
def dkwX4_advance_2 : List UInt8 := [162, 0, 27, 42, 89, 180, 0, 252, 4, 96, 181, 0, 252, 42, 182, 1, 48, 42, 182, 0, 236, 132, 2, 1]
abbrev dktX4_advance_2 : List UInt8 := dkwX4_advance_2 ++ dktX4_advance_3
def dkwX4_advance_1 : List UInt8 := [17, 19, 136, 164, 0, 7, 5, 167, 0, 4, 3, 182, 0, 48, 153, 0, 5, 3, 172, 3, 61, 28, 27]
abbrev dktX4_advance_1 : List UInt8 := dkwX4_advance_1 ++ dktX4_advance_2
def dkwX4_advance_0 : List UInt8 := [42, 27, 4, 17, 1, 244, 184, 0, 40, 154, 0, 7, 4, 167, 0, 20, 42, 180, 0, 252, 27, 96]
abbrev dktX4_advance_0 : List UInt8 := dkwX4_advance_0 ++ dktX4_advance_1
theorem dksX4_advance_0 : cX4_advance.data.toList.drop 0 = dktX4_advance_0 := by decide +kernel
theorem dksX4_advance_1 : cX4_advance.data.toList.drop 22 = dktX4_advance_1 := dk_seg dksX4_advance_0 22 rfl rfl
theorem dksX4_advance_2 : cX4_advance.data.toList.drop 45 = dktX4_advance_2 := dk_seg dksX4_advance_1 23 rfl rfl
theorem dksX4_advance_3 : cX4_advance.data.toList.drop 69 = dktX4_advance_3 := dk_seg dksX4_advance_2 24 rfl rfl
theorem dX4_advance_0 : decode cX4_advance 0 = .ok (.aload_n 0, 1) := dk_42 (dk_at dksX4_advance_0 0 rfl rfl)
theorem dX4_advance_1 : decode cX4_advance 1 = .ok (.iload_n 1, 1) := dk_27 (dk_at dksX4_advance_0 1 rfl rfl)
theorem dX4_advance_2 : decode cX4_advance 2 = .ok (.iconst 1, 1) := dk_4 (dk_at dksX4_advance_0 2 rfl rfl)
theorem dX4_advance_3 : decode cX4_advance 3 = .ok (.sipush 500, 3) := dk_17 1 244 (dk_at dksX4_advance_0 3 rfl rfl)
theorem dX4_advance_6 : decode cX4_advance 6 = .ok (.invokestatic 40, 3) := dk_184 0 40 (dk_at dksX4_advance_0 6 rfl rfl)
theorem dX4_advance_9 : decode cX4_advance 9 = .ok (.ifCond .ne 7, 3) := dk_154 0 7 (dk_at dksX4_advance_0 9 rfl rfl)
theorem dX4_advance_12 : decode cX4_advance 12 = .ok (.iconst 1, 1) := dk_4 (dk_at dksX4_advance_0 12 rfl rfl)
theorem dX4_advance_13 : decode cX4_advance 13 = .ok (.goto 20, 3) := dk_167 0 20 (dk_at dksX4_advance_0 13 rfl rfl)
theorem dX4_advance_16 : decode cX4_advance 16 = .ok (.aload_n 0, 1) := dk_42 (dk_at dksX4_advance_0 16 rfl rfl)
theorem dX4_advance_17 : decode cX4_advance 17 = .ok (.getfield 252, 3) := dk_180 0 252 (dk_at dksX4_advance_0 17 rfl rfl)
theorem dX4_advance_20 : decode cX4_advance 20 = .ok (.iload_n 1, 1) := dk_27 (dk_at dksX4_advance_0 20 rfl rfl)
theorem dX4_advance_21 : decode cX4_advance 21 = .ok (.iadd, 1) := dk_96 (dk_at dksX4_advance_0 21 rfl rfl)
theorem dX4_advance_22 : decode cX4_advance 22 = .ok (.sipush 5000, 3) := dk_17 19 136 (dk_at dksX4_advance_1 0 rfl rfl)
theorem dX4_advance_25 : decode cX4_advance 25 = .ok (.if_icmp .le 7, 3) := dk_164 0 7 (dk_at dksX4_advance_1 3 rfl rfl)
theorem dX4_advance_28 : decode cX4_advance 28 = .ok (.iconst 2, 1) := dk_5 (dk_at dksX4_advance_1 6 rfl rfl)
theorem dX4_advance_29 : decode cX4_advance 29 = .ok (.goto 4, 3) := dk_167 0 4 (dk_at dksX4_advance_1 7 rfl rfl)
theorem dX4_advance_32 : decode cX4_advance 32 = .ok (.iconst 0, 1) := dk_3 (dk_at dksX4_advance_1 10 rfl rfl)
theorem dX4_advance_33 : decode cX4_advance 33 = .ok (.invokevirtual 48, 3) := dk_182 0 48 (dk_at dksX4_advance_1 11 rfl rfl)
theorem dX4_advance_36 : decode cX4_advance 36 = .ok (.ifCond .eq 5, 3) := dk_153 0 5 (dk_at dksX4_advance_1 14 rfl rfl)
theorem dX4_advance_39 : decode cX4_advance 39 = .ok (.iconst 0, 1) := dk_3 (dk_at dksX4_advance_1 17 rfl rfl)
theorem dX4_advance_40 : decode cX4_advance 40 = .ok (.ireturn, 1) := dk_172 (dk_at dksX4_advance_1 18 rfl rfl)
theorem dX4_advance_41 : decode cX4_advance 41 = .ok (.iconst 0, 1) := dk_3 (dk_at dksX4_advance_1 19 rfl rfl)
theorem dX4_advance_42 : decode cX4_advance 42 = .ok (.istore_n 2, 1) := dk_61 (dk_at dksX4_advance_1 20 rfl rfl)
theorem dX4_advance_43 : decode cX4_advance 43 = .ok (.iload_n 2, 1) := dk_28 (dk_at dksX4_advance_1 21 rfl rfl)
theorem dX4_advance_44 : decode cX4_advance 44 = .ok (.iload_n 1, 1) := dk_27 (dk_at dksX4_advance_1 22 rfl rfl)
theorem dX4_advance_45 : decode cX4_advance 45 = .ok (.if_icmp .ge 27, 3) := dk_162 0 27 (dk_at dksX4_advance_2 0 rfl rfl)
theorem dX4_advance_48 : decode cX4_advance 48 = .ok (.aload_n 0, 1) := dk_42 (dk_at dksX4_advance_2 3 rfl rfl)
theorem dX4_advance_49 : decode cX4_advance 49 = .ok (.dup, 1) := dk_89 (dk_at dksX4_advance_2 4 rfl rfl)
theorem dX4_advance_50 : decode cX4_advance 50 = .ok (.getfield 252, 3) := dk_180 0 252 (dk_at dksX4_advance_2 5 rfl rfl)
theorem dX4_advance_53 : decode cX4_advance 53 = .ok (.iconst 1, 1) := dk_4 (dk_at dksX4_advance_2 8 rfl rfl)
theorem dX4_advance_54 : decode cX4_advance 54 = .ok (.iadd, 1) := dk_96 (dk_at dksX4_advance_2 9 rfl rfl)
theorem dX4_advance_55 : decode cX4_advance 55 = .ok (.putfield 252, 3) := dk_181 0 252 (dk_at dksX4_advance_2 10 rfl rfl)
theorem dX4_advance_58 : decode cX4_advance 58 = .ok (.aload_n 0, 1) := dk_42 (dk_at dksX4_advance_2 13 rfl rfl)
theorem dX4_advance_59 : decode cX4_advance 59 = .ok (.invokevirtual 304, 3) := dk_182 1 48 (dk_at dksX4_advance_2 14 rfl rfl)
theorem dX4_advance_62 : decode cX4_advance 62 = .ok (.aload_n 0, 1) := dk_42 (dk_at dksX4_advance_2 17 rfl rfl)
theorem dX4_advance_63 : decode cX4_advance 63 = .ok (.invokevirtual 236, 3) := dk_182 0 236 (dk_at dksX4_advance_2 18 rfl rfl)
theorem dX4_advance_66 : decode cX4_advance 66 = .ok (.iinc 2 1, 3) := dk_132 2 1 (dk_at dksX4_advance_2 21 rfl rfl)
theorem dX4_advance_69 : decode cX4_advance 69 = .ok (.goto (-26), 3) := dk_167 255 230 (dk_at dksX4_advance_3 0 rfl rfl)
theorem dX4_advance_72 : decode cX4_advance 72 = .ok (.aload_n 0, 1) := dk_42 (dk_at dksX4_advance_3 3 rfl rfl)
theorem dX4_advance_73 : decode cX4_advance 73 = .ok (.getfield 252, 3) := dk_180 0 252 (dk_at dksX4_advance_3 4 rfl rfl)
theorem dX4_advance_76 : decode cX4_advance 76 = .ok (.ireturn, 1) := dk_172 (dk_at dksX4_advance_3 7 rfl rfl)
abbrev cX4_end : ByteArray := prog_19_method_38_code
def yX4_end : MethodName := ⟨RX4, "end", "()V"⟩
def dkwX4_end_6 : List UInt8 := [180, 0, 246, 4, 96, 181, 0, 246, 42, 45, 182, 0, 232, 167, 255, 108, 177]
abbrev dktX4_end_6 : List UInt8 := dkwX4_end_6 ++ []
def dkwX4_end_5 : List UInt8 := [181, 1, 39, 44, 16, 98, 181, 0, 242, 44, 42, 180, 0, 252, 44, 180, 1, 45, 96, 181, 1, 30, 45, 89]
abbrev dktX4_end_5 : List UInt8 := dkwX4_end_5 ++ dktX4_end_6
def dkwX4_end_4 : List UInt8 := [180, 1, 39, 45, 180, 0, 229, 96, 181, 1, 39, 44, 180, 1, 39, 44, 180, 1, 42, 161, 0, 27, 44, 3]
abbrev dktX4_end_4 : List UInt8 := dkwX4_end_4 ++ dktX4_end_5
def dkwX4_end_3 : List UInt8 := [45, 198, 0, 84, 44, 89, 180, 1, 36, 42, 180, 0, 252, 44, 180, 1, 27, 100, 96, 181, 1, 36, 44, 89]
abbrev dktX4_end_3 : List UInt8 := dkwX4_end_3 ++ dktX4_end_4
def dkwX4_end_2 : List UInt8 := [44, 180, 0, 242, 16, 111, 160, 0, 10, 44, 180, 1, 23, 167, 0, 4, 1, 78, 44, 16, 45, 181, 0, 242]
abbrev dktX4_end_2 : List UInt8 := dkwX4_end_2 ++ dktX4_end_3
def dkwX4_end_1 : List UInt8 := [192, 0, 52, 77, 44, 180, 0, 242, 16, 45, 159, 0, 123, 44, 180, 1, 30, 42, 180, 0, 252, 160, 0, 112]
abbrev dktX4_end_1 : List UInt8 := dkwX4_end_1 ++ dktX4_end_2
def dkwX4_end_0 : List UInt8 := [42, 180, 0, 10, 182, 0, 123, 76, 43, 185, 0, 127, 1, 0, 153, 0, 145, 43, 185, 0, 132, 1, 0]
abbrev dktX4_end_0 : List UInt8 := dkwX4_end_0 ++ dktX4_end_1
theorem dksX4_end_0 : cX4_end.data.toList.drop 0 = dktX4_end_0 := by decide +kernel
theorem dksX4_end_1 : cX4_end.data.toList.drop 23 = dktX4_end_1 := dk_seg dksX4_end_0 23 rfl rfl
theorem dksX4_end_2 : cX4_end.data.toList.drop 47 = dktX4_end_2 := dk_seg dksX4_end_1 24 rfl rfl
theorem dksX4_end_3 : cX4_end.data.toList.drop 71 = dktX4_end_3 := dk_seg dksX4_end_2 24 rfl rfl
theorem dksX4_end_4 : cX4_end.data.toList.drop 95 = dktX4_end_4 := dk_seg dksX4_end_3 24 rfl rfl
theorem dksX4_end_5 : cX4_end.data.toList.drop 119 = dktX4_end_5 := dk_seg dksX4_end_4 24 rfl rfl
theorem dksX4_end_6 : cX4_end.data.toList.drop 143 = dktX4_end_6 := dk_seg dksX4_end_5 24 rfl rfl
theorem dX4_end_0 : decode cX4_end 0 = .ok (.aload_n 0, 1) := dk_42 (dk_at dksX4_end_0 0 rfl rfl)
theorem dX4_end_1 : decode cX4_end 1 = .ok (.getfield 10, 3) := dk_180 0 10 (dk_at dksX4_end_0 1 rfl rfl)
theorem dX4_end_4 : decode cX4_end 4 = .ok (.invokevirtual 123, 3) := dk_182 0 123 (dk_at dksX4_end_0 4 rfl rfl)
theorem dX4_end_7 : decode cX4_end 7 = .ok (.astore_n 1, 1) := dk_76 (dk_at dksX4_end_0 7 rfl rfl)
theorem dX4_end_8 : decode cX4_end 8 = .ok (.aload_n 1, 1) := dk_43 (dk_at dksX4_end_0 8 rfl rfl)
theorem dX4_end_9 : decode cX4_end 9 = .ok (.invokeinterface 127 1, 5) := by decide +kernel
theorem dX4_end_14 : decode cX4_end 14 = .ok (.ifCond .eq 145, 3) := dk_153 0 145 (dk_at dksX4_end_0 14 rfl rfl)
theorem dX4_end_17 : decode cX4_end 17 = .ok (.aload_n 1, 1) := dk_43 (dk_at dksX4_end_0 17 rfl rfl)
theorem dX4_end_18 : decode cX4_end 18 = .ok (.invokeinterface 132 1, 5) := by decide +kernel
theorem dX4_end_23 : decode cX4_end 23 = .ok (.checkcast 52, 3) := dk_192 0 52 (dk_at dksX4_end_1 0 rfl rfl)
theorem dX4_end_26 : decode cX4_end 26 = .ok (.astore_n 2, 1) := dk_77 (dk_at dksX4_end_1 3 rfl rfl)
theorem dX4_end_27 : decode cX4_end 27 = .ok (.aload_n 2, 1) := dk_44 (dk_at dksX4_end_1 4 rfl rfl)
theorem dX4_end_28 : decode cX4_end 28 = .ok (.getfield 242, 3) := dk_180 0 242 (dk_at dksX4_end_1 5 rfl rfl)
theorem dX4_end_31 : decode cX4_end 31 = .ok (.bipush 45, 2) := dk_16 45 (dk_at dksX4_end_1 8 rfl rfl)
theorem dX4_end_33 : decode cX4_end 33 = .ok (.if_icmp .eq 123, 3) := dk_159 0 123 (dk_at dksX4_end_1 10 rfl rfl)
theorem dX4_end_36 : decode cX4_end 36 = .ok (.aload_n 2, 1) := dk_44 (dk_at dksX4_end_1 13 rfl rfl)
theorem dX4_end_37 : decode cX4_end 37 = .ok (.getfield 286, 3) := dk_180 1 30 (dk_at dksX4_end_1 14 rfl rfl)
theorem dX4_end_40 : decode cX4_end 40 = .ok (.aload_n 0, 1) := dk_42 (dk_at dksX4_end_1 17 rfl rfl)
theorem dX4_end_41 : decode cX4_end 41 = .ok (.getfield 252, 3) := dk_180 0 252 (dk_at dksX4_end_1 18 rfl rfl)
theorem dX4_end_44 : decode cX4_end 44 = .ok (.if_icmp .ne 112, 3) := dk_160 0 112 (dk_at dksX4_end_1 21 rfl rfl)
theorem dX4_end_47 : decode cX4_end 47 = .ok (.aload_n 2, 1) := dk_44 (dk_at dksX4_end_2 0 rfl rfl)
theorem dX4_end_48 : decode cX4_end 48 = .ok (.getfield 242, 3) := dk_180 0 242 (dk_at dksX4_end_2 1 rfl rfl)
theorem dX4_end_51 : decode cX4_end 51 = .ok (.bipush 111, 2) := dk_16 111 (dk_at dksX4_end_2 4 rfl rfl)
theorem dX4_end_53 : decode cX4_end 53 = .ok (.if_icmp .ne 10, 3) := dk_160 0 10 (dk_at dksX4_end_2 6 rfl rfl)
theorem dX4_end_56 : decode cX4_end 56 = .ok (.aload_n 2, 1) := dk_44 (dk_at dksX4_end_2 9 rfl rfl)
theorem dX4_end_57 : decode cX4_end 57 = .ok (.getfield 279, 3) := dk_180 1 23 (dk_at dksX4_end_2 10 rfl rfl)
theorem dX4_end_60 : decode cX4_end 60 = .ok (.goto 4, 3) := dk_167 0 4 (dk_at dksX4_end_2 13 rfl rfl)
theorem dX4_end_63 : decode cX4_end 63 = .ok (.aconst_null, 1) := dk_1 (dk_at dksX4_end_2 16 rfl rfl)
theorem dX4_end_64 : decode cX4_end 64 = .ok (.astore_n 3, 1) := dk_78 (dk_at dksX4_end_2 17 rfl rfl)
theorem dX4_end_65 : decode cX4_end 65 = .ok (.aload_n 2, 1) := dk_44 (dk_at dksX4_end_2 18 rfl rfl)
theorem dX4_end_66 : decode cX4_end 66 = .ok (.bipush 45, 2) := dk_16 45 (dk_at dksX4_end_2 19 rfl rfl)
theorem dX4_end_68 : decode cX4_end 68 = .ok (.putfield 242, 3) := dk_181 0 242 (dk_at dksX4_end_2 21 rfl rfl)
theorem dX4_end_71 : decode cX4_end 71 = .ok (.aload_n 3, 1) := dk_45 (dk_at dksX4_end_3 0 rfl rfl)
theorem dX4_end_72 : decode cX4_end 72 = .ok (.ifnull 84, 3) := dk_198 0 84 (dk_at dksX4_end_3 1 rfl rfl)
theorem dX4_end_75 : decode cX4_end 75 = .ok (.aload_n 2, 1) := dk_44 (dk_at dksX4_end_3 4 rfl rfl)
theorem dX4_end_76 : decode cX4_end 76 = .ok (.dup, 1) := dk_89 (dk_at dksX4_end_3 5 rfl rfl)
theorem dX4_end_77 : decode cX4_end 77 = .ok (.getfield 292, 3) := dk_180 1 36 (dk_at dksX4_end_3 6 rfl rfl)
theorem dX4_end_80 : decode cX4_end 80 = .ok (.aload_n 0, 1) := dk_42 (dk_at dksX4_end_3 9 rfl rfl)
theorem dX4_end_81 : decode cX4_end 81 = .ok (.getfield 252, 3) := dk_180 0 252 (dk_at dksX4_end_3 10 rfl rfl)
theorem dX4_end_84 : decode cX4_end 84 = .ok (.aload_n 2, 1) := dk_44 (dk_at dksX4_end_3 13 rfl rfl)
theorem dX4_end_85 : decode cX4_end 85 = .ok (.getfield 283, 3) := dk_180 1 27 (dk_at dksX4_end_3 14 rfl rfl)
theorem dX4_end_88 : decode cX4_end 88 = .ok (.isub, 1) := dk_100 (dk_at dksX4_end_3 17 rfl rfl)
theorem dX4_end_89 : decode cX4_end 89 = .ok (.iadd, 1) := dk_96 (dk_at dksX4_end_3 18 rfl rfl)
theorem dX4_end_90 : decode cX4_end 90 = .ok (.putfield 292, 3) := dk_181 1 36 (dk_at dksX4_end_3 19 rfl rfl)
theorem dX4_end_93 : decode cX4_end 93 = .ok (.aload_n 2, 1) := dk_44 (dk_at dksX4_end_3 22 rfl rfl)
theorem dX4_end_94 : decode cX4_end 94 = .ok (.dup, 1) := dk_89 (dk_at dksX4_end_3 23 rfl rfl)
theorem dX4_end_95 : decode cX4_end 95 = .ok (.getfield 295, 3) := dk_180 1 39 (dk_at dksX4_end_4 0 rfl rfl)
theorem dX4_end_98 : decode cX4_end 98 = .ok (.aload_n 3, 1) := dk_45 (dk_at dksX4_end_4 3 rfl rfl)
theorem dX4_end_99 : decode cX4_end 99 = .ok (.getfield 229, 3) := dk_180 0 229 (dk_at dksX4_end_4 4 rfl rfl)
theorem dX4_end_102 : decode cX4_end 102 = .ok (.iadd, 1) := dk_96 (dk_at dksX4_end_4 7 rfl rfl)
theorem dX4_end_103 : decode cX4_end 103 = .ok (.putfield 295, 3) := dk_181 1 39 (dk_at dksX4_end_4 8 rfl rfl)
theorem dX4_end_106 : decode cX4_end 106 = .ok (.aload_n 2, 1) := dk_44 (dk_at dksX4_end_4 11 rfl rfl)
theorem dX4_end_107 : decode cX4_end 107 = .ok (.getfield 295, 3) := dk_180 1 39 (dk_at dksX4_end_4 12 rfl rfl)
theorem dX4_end_110 : decode cX4_end 110 = .ok (.aload_n 2, 1) := dk_44 (dk_at dksX4_end_4 15 rfl rfl)
theorem dX4_end_111 : decode cX4_end 111 = .ok (.getfield 298, 3) := dk_180 1 42 (dk_at dksX4_end_4 16 rfl rfl)
theorem dX4_end_114 : decode cX4_end 114 = .ok (.if_icmp .lt 27, 3) := dk_161 0 27 (dk_at dksX4_end_4 19 rfl rfl)
theorem dX4_end_117 : decode cX4_end 117 = .ok (.aload_n 2, 1) := dk_44 (dk_at dksX4_end_4 22 rfl rfl)
theorem dX4_end_118 : decode cX4_end 118 = .ok (.iconst 0, 1) := dk_3 (dk_at dksX4_end_4 23 rfl rfl)
theorem dX4_end_119 : decode cX4_end 119 = .ok (.putfield 295, 3) := dk_181 1 39 (dk_at dksX4_end_5 0 rfl rfl)
theorem dX4_end_122 : decode cX4_end 122 = .ok (.aload_n 2, 1) := dk_44 (dk_at dksX4_end_5 3 rfl rfl)
theorem dX4_end_123 : decode cX4_end 123 = .ok (.bipush 98, 2) := dk_16 98 (dk_at dksX4_end_5 4 rfl rfl)
theorem dX4_end_125 : decode cX4_end 125 = .ok (.putfield 242, 3) := dk_181 0 242 (dk_at dksX4_end_5 6 rfl rfl)
theorem dX4_end_128 : decode cX4_end 128 = .ok (.aload_n 2, 1) := dk_44 (dk_at dksX4_end_5 9 rfl rfl)
theorem dX4_end_129 : decode cX4_end 129 = .ok (.aload_n 0, 1) := dk_42 (dk_at dksX4_end_5 10 rfl rfl)
theorem dX4_end_130 : decode cX4_end 130 = .ok (.getfield 252, 3) := dk_180 0 252 (dk_at dksX4_end_5 11 rfl rfl)
theorem dX4_end_133 : decode cX4_end 133 = .ok (.aload_n 2, 1) := dk_44 (dk_at dksX4_end_5 14 rfl rfl)
theorem dX4_end_134 : decode cX4_end 134 = .ok (.getfield 301, 3) := dk_180 1 45 (dk_at dksX4_end_5 15 rfl rfl)
theorem dX4_end_137 : decode cX4_end 137 = .ok (.iadd, 1) := dk_96 (dk_at dksX4_end_5 18 rfl rfl)
theorem dX4_end_138 : decode cX4_end 138 = .ok (.putfield 286, 3) := dk_181 1 30 (dk_at dksX4_end_5 19 rfl rfl)
theorem dX4_end_141 : decode cX4_end 141 = .ok (.aload_n 3, 1) := dk_45 (dk_at dksX4_end_5 22 rfl rfl)
theorem dX4_end_142 : decode cX4_end 142 = .ok (.dup, 1) := dk_89 (dk_at dksX4_end_5 23 rfl rfl)
theorem dX4_end_143 : decode cX4_end 143 = .ok (.getfield 246, 3) := dk_180 0 246 (dk_at dksX4_end_6 0 rfl rfl)
theorem dX4_end_146 : decode cX4_end 146 = .ok (.iconst 1, 1) := dk_4 (dk_at dksX4_end_6 3 rfl rfl)
theorem dX4_end_147 : decode cX4_end 147 = .ok (.iadd, 1) := dk_96 (dk_at dksX4_end_6 4 rfl rfl)
theorem dX4_end_148 : decode cX4_end 148 = .ok (.putfield 246, 3) := dk_181 0 246 (dk_at dksX4_end_6 5 rfl rfl)
theorem dX4_end_151 : decode cX4_end 151 = .ok (.aload_n 0, 1) := dk_42 (dk_at dksX4_end_6 8 rfl rfl)
theorem dX4_end_152 : decode cX4_end 152 = .ok (.aload_n 3, 1) := dk_45 (dk_at dksX4_end_6 9 rfl rfl)
theorem dX4_end_153 : decode cX4_end 153 = .ok (.invokevirtual 232, 3) := dk_182 0 232 (dk_at dksX4_end_6 10 rfl rfl)
theorem dX4_end_156 : decode cX4_end 156 = .ok (.goto (-148), 3) := dk_167 255 108 (dk_at dksX4_end_6 13 rfl rfl)
theorem dX4_end_159 : decode cX4_end 159 = .ok (.return_, 1) := dk_177 (dk_at dksX4_end_6 16 rfl rfl)
abbrev cX4_deliver : ByteArray := prog_19_method_42_code
def yX4_deliver : MethodName := ⟨RX4, "deliver", "(I)Z"⟩
def dkwX4_deliver_10 : List UInt8 := [181, 0, 139, 44, 42, 180, 0, 252, 181, 1, 61, 4, 172]
abbrev dktX4_deliver_10 : List UInt8 := dkwX4_deliver_10 ++ []
def dkwX4_deliver_9 : List UInt8 := [180, 1, 58, 25, 7, 182, 0, 32, 54, 9, 21, 5, 21, 8, 100, 54, 5, 167, 255, 177, 44, 16, 100]
abbrev dktX4_deliver_9 : List UInt8 := dkwX4_deliver_9 ++ dktX4_deliver_10
def dkwX4_deliver_8 : List UInt8 := [21, 8, 158, 0, 37, 44, 89, 180, 1, 55, 25, 7, 21, 8, 184, 0, 225, 97, 181, 1, 55, 44]
abbrev dktX4_deliver_8 : List UInt8 := dkwX4_deliver_8 ++ dktX4_deliver_9
def dkwX4_deliver_7 : List UInt8 := [192, 0, 82, 58, 7, 21, 5, 25, 7, 180, 0, 189, 25, 7, 180, 0, 150, 100, 184, 0, 208, 54, 8]
abbrev dktX4_deliver_7 : List UInt8 := dkwX4_deliver_7 ++ dktX4_deliver_8
def dkwX4_deliver_6 : List UInt8 := [182, 0, 123, 58, 6, 25, 6, 185, 0, 127, 1, 0, 153, 0, 75, 25, 6, 185, 0, 132, 1, 0]
abbrev dktX4_deliver_6 : List UInt8 := dkwX4_deliver_6 ++ dktX4_deliver_7
def dkwX4_deliver_5 : List UInt8 := [100, 96, 54, 4, 167, 255, 218, 44, 180, 0, 205, 54, 5, 21, 4, 21, 5, 162, 0, 5, 3, 172, 45]
abbrev dktX4_deliver_5 : List UInt8 := dkwX4_deliver_5 ++ dktX4_deliver_6
def dkwX4_deliver_4 : List UInt8 := [25, 5, 185, 0, 132, 1, 0, 192, 0, 82, 58, 6, 21, 4, 25, 6, 180, 0, 189, 25, 6, 180, 0, 150]
abbrev dktX4_deliver_4 : List UInt8 := dkwX4_deliver_4 ++ dktX4_deliver_5
def dkwX4_deliver_3 : List UInt8 := [44, 182, 1, 51, 78, 3, 54, 4, 45, 182, 0, 123, 58, 5, 25, 5, 185, 0, 127, 1, 0, 153, 0, 34]
abbrev dktX4_deliver_3 : List UInt8 := dkwX4_deliver_3 ++ dktX4_deliver_4
def dkwX4_deliver_2 : List UInt8 := [16, 102, 167, 0, 5, 16, 45, 159, 0, 7, 5, 167, 0, 4, 3, 182, 0, 48, 153, 0, 5, 3, 172, 42]
abbrev dktX4_deliver_2 : List UInt8 := dkwX4_deliver_2 ++ dktX4_deliver_3
def dkwX4_deliver_1 : List UInt8 := [180, 0, 139, 42, 180, 0, 16, 44, 180, 0, 199, 182, 0, 65, 192, 0, 57, 180, 0, 69, 153, 0, 8]
abbrev dktX4_deliver_1 : List UInt8 := dkwX4_deliver_1 ++ dktX4_deliver_2
def dkwX4_deliver_0 : List UInt8 := [42, 27, 182, 0, 214, 153, 0, 5, 3, 172, 42, 180, 0, 22, 27, 182, 0, 65, 192, 0, 136, 77, 42, 44]
abbrev dktX4_deliver_0 : List UInt8 := dkwX4_deliver_0 ++ dktX4_deliver_1
theorem dksX4_deliver_0 : cX4_deliver.data.toList.drop 0 = dktX4_deliver_0 := by decide +kernel
theorem dksX4_deliver_1 : cX4_deliver.data.toList.drop 24 = dktX4_deliver_1 := dk_seg dksX4_deliver_0 24 rfl rfl
theorem dksX4_deliver_2 : cX4_deliver.data.toList.drop 47 = dktX4_deliver_2 := dk_seg dksX4_deliver_1 23 rfl rfl
theorem dksX4_deliver_3 : cX4_deliver.data.toList.drop 71 = dktX4_deliver_3 := dk_seg dksX4_deliver_2 24 rfl rfl
theorem dksX4_deliver_4 : cX4_deliver.data.toList.drop 95 = dktX4_deliver_4 := dk_seg dksX4_deliver_3 24 rfl rfl
theorem dksX4_deliver_5 : cX4_deliver.data.toList.drop 119 = dktX4_deliver_5 := dk_seg dksX4_deliver_4 24 rfl rfl
theorem dksX4_deliver_6 : cX4_deliver.data.toList.drop 142 = dktX4_deliver_6 := dk_seg dksX4_deliver_5 23 rfl rfl
theorem dksX4_deliver_7 : cX4_deliver.data.toList.drop 164 = dktX4_deliver_7 := dk_seg dksX4_deliver_6 22 rfl rfl
theorem dksX4_deliver_8 : cX4_deliver.data.toList.drop 187 = dktX4_deliver_8 := dk_seg dksX4_deliver_7 23 rfl rfl
theorem dksX4_deliver_9 : cX4_deliver.data.toList.drop 209 = dktX4_deliver_9 := dk_seg dksX4_deliver_8 22 rfl rfl
theorem dksX4_deliver_10 : cX4_deliver.data.toList.drop 232 = dktX4_deliver_10 := dk_seg dksX4_deliver_9 23 rfl rfl
theorem dX4_deliver_0 : decode cX4_deliver 0 = .ok (.aload_n 0, 1) := dk_42 (dk_at dksX4_deliver_0 0 rfl rfl)
theorem dX4_deliver_1 : decode cX4_deliver 1 = .ok (.iload_n 1, 1) := dk_27 (dk_at dksX4_deliver_0 1 rfl rfl)
theorem dX4_deliver_2 : decode cX4_deliver 2 = .ok (.invokevirtual 214, 3) := dk_182 0 214 (dk_at dksX4_deliver_0 2 rfl rfl)
theorem dX4_deliver_5 : decode cX4_deliver 5 = .ok (.ifCond .eq 5, 3) := dk_153 0 5 (dk_at dksX4_deliver_0 5 rfl rfl)
theorem dX4_deliver_8 : decode cX4_deliver 8 = .ok (.iconst 0, 1) := dk_3 (dk_at dksX4_deliver_0 8 rfl rfl)
theorem dX4_deliver_9 : decode cX4_deliver 9 = .ok (.ireturn, 1) := dk_172 (dk_at dksX4_deliver_0 9 rfl rfl)
theorem dX4_deliver_10 : decode cX4_deliver 10 = .ok (.aload_n 0, 1) := dk_42 (dk_at dksX4_deliver_0 10 rfl rfl)
theorem dX4_deliver_11 : decode cX4_deliver 11 = .ok (.getfield 22, 3) := dk_180 0 22 (dk_at dksX4_deliver_0 11 rfl rfl)
theorem dX4_deliver_14 : decode cX4_deliver 14 = .ok (.iload_n 1, 1) := dk_27 (dk_at dksX4_deliver_0 14 rfl rfl)
theorem dX4_deliver_15 : decode cX4_deliver 15 = .ok (.invokevirtual 65, 3) := dk_182 0 65 (dk_at dksX4_deliver_0 15 rfl rfl)
theorem dX4_deliver_18 : decode cX4_deliver 18 = .ok (.checkcast 136, 3) := dk_192 0 136 (dk_at dksX4_deliver_0 18 rfl rfl)
theorem dX4_deliver_21 : decode cX4_deliver 21 = .ok (.astore_n 2, 1) := dk_77 (dk_at dksX4_deliver_0 21 rfl rfl)
theorem dX4_deliver_22 : decode cX4_deliver 22 = .ok (.aload_n 0, 1) := dk_42 (dk_at dksX4_deliver_0 22 rfl rfl)
theorem dX4_deliver_23 : decode cX4_deliver 23 = .ok (.aload_n 2, 1) := dk_44 (dk_at dksX4_deliver_0 23 rfl rfl)
theorem dX4_deliver_24 : decode cX4_deliver 24 = .ok (.getfield 139, 3) := dk_180 0 139 (dk_at dksX4_deliver_1 0 rfl rfl)
theorem dX4_deliver_27 : decode cX4_deliver 27 = .ok (.aload_n 0, 1) := dk_42 (dk_at dksX4_deliver_1 3 rfl rfl)
theorem dX4_deliver_28 : decode cX4_deliver 28 = .ok (.getfield 16, 3) := dk_180 0 16 (dk_at dksX4_deliver_1 4 rfl rfl)
theorem dX4_deliver_31 : decode cX4_deliver 31 = .ok (.aload_n 2, 1) := dk_44 (dk_at dksX4_deliver_1 7 rfl rfl)
theorem dX4_deliver_32 : decode cX4_deliver 32 = .ok (.getfield 199, 3) := dk_180 0 199 (dk_at dksX4_deliver_1 8 rfl rfl)
theorem dX4_deliver_35 : decode cX4_deliver 35 = .ok (.invokevirtual 65, 3) := dk_182 0 65 (dk_at dksX4_deliver_1 11 rfl rfl)
theorem dX4_deliver_38 : decode cX4_deliver 38 = .ok (.checkcast 57, 3) := dk_192 0 57 (dk_at dksX4_deliver_1 14 rfl rfl)
theorem dX4_deliver_41 : decode cX4_deliver 41 = .ok (.getfield 69, 3) := dk_180 0 69 (dk_at dksX4_deliver_1 17 rfl rfl)
theorem dX4_deliver_44 : decode cX4_deliver 44 = .ok (.ifCond .eq 8, 3) := dk_153 0 8 (dk_at dksX4_deliver_1 20 rfl rfl)
theorem dX4_deliver_47 : decode cX4_deliver 47 = .ok (.bipush 102, 2) := dk_16 102 (dk_at dksX4_deliver_2 0 rfl rfl)
theorem dX4_deliver_49 : decode cX4_deliver 49 = .ok (.goto 5, 3) := dk_167 0 5 (dk_at dksX4_deliver_2 2 rfl rfl)
theorem dX4_deliver_52 : decode cX4_deliver 52 = .ok (.bipush 45, 2) := dk_16 45 (dk_at dksX4_deliver_2 5 rfl rfl)
theorem dX4_deliver_54 : decode cX4_deliver 54 = .ok (.if_icmp .eq 7, 3) := dk_159 0 7 (dk_at dksX4_deliver_2 7 rfl rfl)
theorem dX4_deliver_57 : decode cX4_deliver 57 = .ok (.iconst 2, 1) := dk_5 (dk_at dksX4_deliver_2 10 rfl rfl)
theorem dX4_deliver_58 : decode cX4_deliver 58 = .ok (.goto 4, 3) := dk_167 0 4 (dk_at dksX4_deliver_2 11 rfl rfl)
theorem dX4_deliver_61 : decode cX4_deliver 61 = .ok (.iconst 0, 1) := dk_3 (dk_at dksX4_deliver_2 14 rfl rfl)
theorem dX4_deliver_62 : decode cX4_deliver 62 = .ok (.invokevirtual 48, 3) := dk_182 0 48 (dk_at dksX4_deliver_2 15 rfl rfl)
theorem dX4_deliver_65 : decode cX4_deliver 65 = .ok (.ifCond .eq 5, 3) := dk_153 0 5 (dk_at dksX4_deliver_2 18 rfl rfl)
theorem dX4_deliver_68 : decode cX4_deliver 68 = .ok (.iconst 0, 1) := dk_3 (dk_at dksX4_deliver_2 21 rfl rfl)
theorem dX4_deliver_69 : decode cX4_deliver 69 = .ok (.ireturn, 1) := dk_172 (dk_at dksX4_deliver_2 22 rfl rfl)
theorem dX4_deliver_70 : decode cX4_deliver 70 = .ok (.aload_n 0, 1) := dk_42 (dk_at dksX4_deliver_2 23 rfl rfl)
theorem dX4_deliver_71 : decode cX4_deliver 71 = .ok (.aload_n 2, 1) := dk_44 (dk_at dksX4_deliver_3 0 rfl rfl)
theorem dX4_deliver_72 : decode cX4_deliver 72 = .ok (.invokevirtual 307, 3) := dk_182 1 51 (dk_at dksX4_deliver_3 1 rfl rfl)
theorem dX4_deliver_75 : decode cX4_deliver 75 = .ok (.astore_n 3, 1) := dk_78 (dk_at dksX4_deliver_3 4 rfl rfl)
theorem dX4_deliver_76 : decode cX4_deliver 76 = .ok (.iconst 0, 1) := dk_3 (dk_at dksX4_deliver_3 5 rfl rfl)
theorem dX4_deliver_77 : decode cX4_deliver 77 = .ok (.istore 4, 2) := dk_54 4 (dk_at dksX4_deliver_3 6 rfl rfl)
theorem dX4_deliver_79 : decode cX4_deliver 79 = .ok (.aload_n 3, 1) := dk_45 (dk_at dksX4_deliver_3 8 rfl rfl)
theorem dX4_deliver_80 : decode cX4_deliver 80 = .ok (.invokevirtual 123, 3) := dk_182 0 123 (dk_at dksX4_deliver_3 9 rfl rfl)
theorem dX4_deliver_83 : decode cX4_deliver 83 = .ok (.astore 5, 2) := dk_58 5 (dk_at dksX4_deliver_3 12 rfl rfl)
theorem dX4_deliver_85 : decode cX4_deliver 85 = .ok (.aload 5, 2) := dk_25 5 (dk_at dksX4_deliver_3 14 rfl rfl)
theorem dX4_deliver_87 : decode cX4_deliver 87 = .ok (.invokeinterface 127 1, 5) := by decide +kernel
theorem dX4_deliver_92 : decode cX4_deliver 92 = .ok (.ifCond .eq 34, 3) := dk_153 0 34 (dk_at dksX4_deliver_3 21 rfl rfl)
theorem dX4_deliver_95 : decode cX4_deliver 95 = .ok (.aload 5, 2) := dk_25 5 (dk_at dksX4_deliver_4 0 rfl rfl)
theorem dX4_deliver_97 : decode cX4_deliver 97 = .ok (.invokeinterface 132 1, 5) := by decide +kernel
theorem dX4_deliver_102 : decode cX4_deliver 102 = .ok (.checkcast 82, 3) := dk_192 0 82 (dk_at dksX4_deliver_4 7 rfl rfl)
theorem dX4_deliver_105 : decode cX4_deliver 105 = .ok (.astore 6, 2) := dk_58 6 (dk_at dksX4_deliver_4 10 rfl rfl)
theorem dX4_deliver_107 : decode cX4_deliver 107 = .ok (.iload 4, 2) := dk_21 4 (dk_at dksX4_deliver_4 12 rfl rfl)
theorem dX4_deliver_109 : decode cX4_deliver 109 = .ok (.aload 6, 2) := dk_25 6 (dk_at dksX4_deliver_4 14 rfl rfl)
theorem dX4_deliver_111 : decode cX4_deliver 111 = .ok (.getfield 189, 3) := dk_180 0 189 (dk_at dksX4_deliver_4 16 rfl rfl)
theorem dX4_deliver_114 : decode cX4_deliver 114 = .ok (.aload 6, 2) := dk_25 6 (dk_at dksX4_deliver_4 19 rfl rfl)
theorem dX4_deliver_116 : decode cX4_deliver 116 = .ok (.getfield 150, 3) := dk_180 0 150 (dk_at dksX4_deliver_4 21 rfl rfl)
theorem dX4_deliver_119 : decode cX4_deliver 119 = .ok (.isub, 1) := dk_100 (dk_at dksX4_deliver_5 0 rfl rfl)
theorem dX4_deliver_120 : decode cX4_deliver 120 = .ok (.iadd, 1) := dk_96 (dk_at dksX4_deliver_5 1 rfl rfl)
theorem dX4_deliver_121 : decode cX4_deliver 121 = .ok (.istore 4, 2) := dk_54 4 (dk_at dksX4_deliver_5 2 rfl rfl)
theorem dX4_deliver_123 : decode cX4_deliver 123 = .ok (.goto (-38), 3) := dk_167 255 218 (dk_at dksX4_deliver_5 4 rfl rfl)
theorem dX4_deliver_126 : decode cX4_deliver 126 = .ok (.aload_n 2, 1) := dk_44 (dk_at dksX4_deliver_5 7 rfl rfl)
theorem dX4_deliver_127 : decode cX4_deliver 127 = .ok (.getfield 205, 3) := dk_180 0 205 (dk_at dksX4_deliver_5 8 rfl rfl)
theorem dX4_deliver_130 : decode cX4_deliver 130 = .ok (.istore 5, 2) := dk_54 5 (dk_at dksX4_deliver_5 11 rfl rfl)
theorem dX4_deliver_132 : decode cX4_deliver 132 = .ok (.iload 4, 2) := dk_21 4 (dk_at dksX4_deliver_5 13 rfl rfl)
theorem dX4_deliver_134 : decode cX4_deliver 134 = .ok (.iload 5, 2) := dk_21 5 (dk_at dksX4_deliver_5 15 rfl rfl)
theorem dX4_deliver_136 : decode cX4_deliver 136 = .ok (.if_icmp .ge 5, 3) := dk_162 0 5 (dk_at dksX4_deliver_5 17 rfl rfl)
theorem dX4_deliver_139 : decode cX4_deliver 139 = .ok (.iconst 0, 1) := dk_3 (dk_at dksX4_deliver_5 20 rfl rfl)
theorem dX4_deliver_140 : decode cX4_deliver 140 = .ok (.ireturn, 1) := dk_172 (dk_at dksX4_deliver_5 21 rfl rfl)
theorem dX4_deliver_141 : decode cX4_deliver 141 = .ok (.aload_n 3, 1) := dk_45 (dk_at dksX4_deliver_5 22 rfl rfl)
theorem dX4_deliver_142 : decode cX4_deliver 142 = .ok (.invokevirtual 123, 3) := dk_182 0 123 (dk_at dksX4_deliver_6 0 rfl rfl)
theorem dX4_deliver_145 : decode cX4_deliver 145 = .ok (.astore 6, 2) := dk_58 6 (dk_at dksX4_deliver_6 3 rfl rfl)
theorem dX4_deliver_147 : decode cX4_deliver 147 = .ok (.aload 6, 2) := dk_25 6 (dk_at dksX4_deliver_6 5 rfl rfl)
theorem dX4_deliver_149 : decode cX4_deliver 149 = .ok (.invokeinterface 127 1, 5) := by decide +kernel
theorem dX4_deliver_154 : decode cX4_deliver 154 = .ok (.ifCond .eq 75, 3) := dk_153 0 75 (dk_at dksX4_deliver_6 12 rfl rfl)
theorem dX4_deliver_157 : decode cX4_deliver 157 = .ok (.aload 6, 2) := dk_25 6 (dk_at dksX4_deliver_6 15 rfl rfl)
theorem dX4_deliver_159 : decode cX4_deliver 159 = .ok (.invokeinterface 132 1, 5) := by decide +kernel
theorem dX4_deliver_164 : decode cX4_deliver 164 = .ok (.checkcast 82, 3) := dk_192 0 82 (dk_at dksX4_deliver_7 0 rfl rfl)
theorem dX4_deliver_167 : decode cX4_deliver 167 = .ok (.astore 7, 2) := dk_58 7 (dk_at dksX4_deliver_7 3 rfl rfl)
theorem dX4_deliver_169 : decode cX4_deliver 169 = .ok (.iload 5, 2) := dk_21 5 (dk_at dksX4_deliver_7 5 rfl rfl)
theorem dX4_deliver_171 : decode cX4_deliver 171 = .ok (.aload 7, 2) := dk_25 7 (dk_at dksX4_deliver_7 7 rfl rfl)
theorem dX4_deliver_173 : decode cX4_deliver 173 = .ok (.getfield 189, 3) := dk_180 0 189 (dk_at dksX4_deliver_7 9 rfl rfl)
theorem dX4_deliver_176 : decode cX4_deliver 176 = .ok (.aload 7, 2) := dk_25 7 (dk_at dksX4_deliver_7 12 rfl rfl)
theorem dX4_deliver_178 : decode cX4_deliver 178 = .ok (.getfield 150, 3) := dk_180 0 150 (dk_at dksX4_deliver_7 14 rfl rfl)
theorem dX4_deliver_181 : decode cX4_deliver 181 = .ok (.isub, 1) := dk_100 (dk_at dksX4_deliver_7 17 rfl rfl)
theorem dX4_deliver_182 : decode cX4_deliver 182 = .ok (.invokestatic 208, 3) := dk_184 0 208 (dk_at dksX4_deliver_7 18 rfl rfl)
theorem dX4_deliver_185 : decode cX4_deliver 185 = .ok (.istore 8, 2) := dk_54 8 (dk_at dksX4_deliver_7 21 rfl rfl)
theorem dX4_deliver_187 : decode cX4_deliver 187 = .ok (.iload 8, 2) := dk_21 8 (dk_at dksX4_deliver_8 0 rfl rfl)
theorem dX4_deliver_189 : decode cX4_deliver 189 = .ok (.ifCond .le 37, 3) := dk_158 0 37 (dk_at dksX4_deliver_8 2 rfl rfl)
theorem dX4_deliver_192 : decode cX4_deliver 192 = .ok (.aload_n 2, 1) := dk_44 (dk_at dksX4_deliver_8 5 rfl rfl)
theorem dX4_deliver_193 : decode cX4_deliver 193 = .ok (.dup, 1) := dk_89 (dk_at dksX4_deliver_8 6 rfl rfl)
theorem dX4_deliver_194 : decode cX4_deliver 194 = .ok (.getfield 311, 3) := dk_180 1 55 (dk_at dksX4_deliver_8 7 rfl rfl)
theorem dX4_deliver_197 : decode cX4_deliver 197 = .ok (.aload 7, 2) := dk_25 7 (dk_at dksX4_deliver_8 10 rfl rfl)
theorem dX4_deliver_199 : decode cX4_deliver 199 = .ok (.iload 8, 2) := dk_21 8 (dk_at dksX4_deliver_8 12 rfl rfl)
theorem dX4_deliver_201 : decode cX4_deliver 201 = .ok (.invokestatic 225, 3) := dk_184 0 225 (dk_at dksX4_deliver_8 14 rfl rfl)
theorem dX4_deliver_204 : decode cX4_deliver 204 = .ok (.ladd, 1) := dk_97 (dk_at dksX4_deliver_8 17 rfl rfl)
theorem dX4_deliver_205 : decode cX4_deliver 205 = .ok (.putfield 311, 3) := dk_181 1 55 (dk_at dksX4_deliver_8 18 rfl rfl)
theorem dX4_deliver_208 : decode cX4_deliver 208 = .ok (.aload_n 2, 1) := dk_44 (dk_at dksX4_deliver_8 21 rfl rfl)
theorem dX4_deliver_209 : decode cX4_deliver 209 = .ok (.getfield 314, 3) := dk_180 1 58 (dk_at dksX4_deliver_9 0 rfl rfl)
theorem dX4_deliver_212 : decode cX4_deliver 212 = .ok (.aload 7, 2) := dk_25 7 (dk_at dksX4_deliver_9 3 rfl rfl)
theorem dX4_deliver_214 : decode cX4_deliver 214 = .ok (.invokevirtual 32, 3) := dk_182 0 32 (dk_at dksX4_deliver_9 5 rfl rfl)
theorem dX4_deliver_217 : decode cX4_deliver 217 = .ok (.istore 9, 2) := dk_54 9 (dk_at dksX4_deliver_9 8 rfl rfl)
theorem dX4_deliver_219 : decode cX4_deliver 219 = .ok (.iload 5, 2) := dk_21 5 (dk_at dksX4_deliver_9 10 rfl rfl)
theorem dX4_deliver_221 : decode cX4_deliver 221 = .ok (.iload 8, 2) := dk_21 8 (dk_at dksX4_deliver_9 12 rfl rfl)
theorem dX4_deliver_223 : decode cX4_deliver 223 = .ok (.isub, 1) := dk_100 (dk_at dksX4_deliver_9 14 rfl rfl)
theorem dX4_deliver_224 : decode cX4_deliver 224 = .ok (.istore 5, 2) := dk_54 5 (dk_at dksX4_deliver_9 15 rfl rfl)
theorem dX4_deliver_226 : decode cX4_deliver 226 = .ok (.goto (-79), 3) := dk_167 255 177 (dk_at dksX4_deliver_9 17 rfl rfl)
theorem dX4_deliver_229 : decode cX4_deliver 229 = .ok (.aload_n 2, 1) := dk_44 (dk_at dksX4_deliver_9 20 rfl rfl)
theorem dX4_deliver_230 : decode cX4_deliver 230 = .ok (.bipush 100, 2) := dk_16 100 (dk_at dksX4_deliver_9 21 rfl rfl)
theorem dX4_deliver_232 : decode cX4_deliver 232 = .ok (.putfield 139, 3) := dk_181 0 139 (dk_at dksX4_deliver_10 0 rfl rfl)
theorem dX4_deliver_235 : decode cX4_deliver 235 = .ok (.aload_n 2, 1) := dk_44 (dk_at dksX4_deliver_10 3 rfl rfl)
theorem dX4_deliver_236 : decode cX4_deliver 236 = .ok (.aload_n 0, 1) := dk_42 (dk_at dksX4_deliver_10 4 rfl rfl)
theorem dX4_deliver_237 : decode cX4_deliver 237 = .ok (.getfield 252, 3) := dk_180 0 252 (dk_at dksX4_deliver_10 5 rfl rfl)
theorem dX4_deliver_240 : decode cX4_deliver 240 = .ok (.putfield 317, 3) := dk_181 1 61 (dk_at dksX4_deliver_10 8 rfl rfl)
theorem dX4_deliver_243 : decode cX4_deliver 243 = .ok (.iconst 1, 1) := dk_4 (dk_at dksX4_deliver_10 11 rfl rfl)
theorem dX4_deliver_244 : decode cX4_deliver 244 = .ok (.ireturn, 1) := dk_172 (dk_at dksX4_deliver_10 12 rfl rfl)
abbrev cX4_sources : ByteArray := prog_19_method_41_code
def yX4_sources : MethodName := ⟨RX4, "sources", "(LFoundrymarkModel$Order;)Ljava/util/ArrayList;"⟩
def dkwX4_sources_5 : List UInt8 := [3, 62, 167, 255, 190, 44, 176]
abbrev dktX4_sources_5 : List UInt8 := dkwX4_sources_5 ++ []
def dkwX4_sources_4 : List UInt8 := [165, 0, 24, 25, 5, 182, 0, 143, 154, 0, 16, 44, 25, 5, 182, 0, 32, 153, 0, 7, 4, 167, 0, 4]
abbrev dktX4_sources_4 : List UInt8 := dkwX4_sources_4 ++ dktX4_sources_5
def dkwX4_sources_3 : List UInt8 := [192, 0, 82, 58, 5, 25, 5, 180, 0, 182, 43, 180, 0, 199, 160, 0, 33, 25, 5, 43, 180, 1, 2]
abbrev dktX4_sources_3 : List UInt8 := dkwX4_sources_3 ++ dktX4_sources_4
def dkwX4_sources_2 : List UInt8 := [182, 0, 123, 58, 4, 25, 4, 185, 0, 127, 1, 0, 153, 0, 62, 25, 4, 185, 0, 132, 1, 0]
abbrev dktX4_sources_2 : List UInt8 := dkwX4_sources_2 ++ dktX4_sources_3
def dkwX4_sources_1 : List UInt8 := [154, 0, 18, 44, 43, 180, 1, 2, 182, 0, 32, 153, 0, 7, 4, 167, 0, 4, 3, 62, 42, 180, 0, 19]
abbrev dktX4_sources_1 : List UInt8 := dkwX4_sources_1 ++ dktX4_sources_2
def dkwX4_sources_0 : List UInt8 := [187, 0, 7, 89, 183, 0, 9, 77, 43, 180, 1, 2, 198, 0, 28, 43, 180, 1, 2, 182, 0, 143]
abbrev dktX4_sources_0 : List UInt8 := dkwX4_sources_0 ++ dktX4_sources_1
theorem dksX4_sources_0 : cX4_sources.data.toList.drop 0 = dktX4_sources_0 := by decide +kernel
theorem dksX4_sources_1 : cX4_sources.data.toList.drop 22 = dktX4_sources_1 := dk_seg dksX4_sources_0 22 rfl rfl
theorem dksX4_sources_2 : cX4_sources.data.toList.drop 46 = dktX4_sources_2 := dk_seg dksX4_sources_1 24 rfl rfl
theorem dksX4_sources_3 : cX4_sources.data.toList.drop 68 = dktX4_sources_3 := dk_seg dksX4_sources_2 22 rfl rfl
theorem dksX4_sources_4 : cX4_sources.data.toList.drop 91 = dktX4_sources_4 := dk_seg dksX4_sources_3 23 rfl rfl
theorem dksX4_sources_5 : cX4_sources.data.toList.drop 115 = dktX4_sources_5 := dk_seg dksX4_sources_4 24 rfl rfl
theorem dX4_sources_0 : decode cX4_sources 0 = .ok (.new 7, 3) := dk_187 0 7 (dk_at dksX4_sources_0 0 rfl rfl)
theorem dX4_sources_3 : decode cX4_sources 3 = .ok (.dup, 1) := dk_89 (dk_at dksX4_sources_0 3 rfl rfl)
theorem dX4_sources_4 : decode cX4_sources 4 = .ok (.invokespecial 9, 3) := dk_183 0 9 (dk_at dksX4_sources_0 4 rfl rfl)
theorem dX4_sources_7 : decode cX4_sources 7 = .ok (.astore_n 2, 1) := dk_77 (dk_at dksX4_sources_0 7 rfl rfl)
theorem dX4_sources_8 : decode cX4_sources 8 = .ok (.aload_n 1, 1) := dk_43 (dk_at dksX4_sources_0 8 rfl rfl)
theorem dX4_sources_9 : decode cX4_sources 9 = .ok (.getfield 258, 3) := dk_180 1 2 (dk_at dksX4_sources_0 9 rfl rfl)
theorem dX4_sources_12 : decode cX4_sources 12 = .ok (.ifnull 28, 3) := dk_198 0 28 (dk_at dksX4_sources_0 12 rfl rfl)
theorem dX4_sources_15 : decode cX4_sources 15 = .ok (.aload_n 1, 1) := dk_43 (dk_at dksX4_sources_0 15 rfl rfl)
theorem dX4_sources_16 : decode cX4_sources 16 = .ok (.getfield 258, 3) := dk_180 1 2 (dk_at dksX4_sources_0 16 rfl rfl)
theorem dX4_sources_19 : decode cX4_sources 19 = .ok (.invokevirtual 143, 3) := dk_182 0 143 (dk_at dksX4_sources_0 19 rfl rfl)
theorem dX4_sources_22 : decode cX4_sources 22 = .ok (.ifCond .ne 18, 3) := dk_154 0 18 (dk_at dksX4_sources_1 0 rfl rfl)
theorem dX4_sources_25 : decode cX4_sources 25 = .ok (.aload_n 2, 1) := dk_44 (dk_at dksX4_sources_1 3 rfl rfl)
theorem dX4_sources_26 : decode cX4_sources 26 = .ok (.aload_n 1, 1) := dk_43 (dk_at dksX4_sources_1 4 rfl rfl)
theorem dX4_sources_27 : decode cX4_sources 27 = .ok (.getfield 258, 3) := dk_180 1 2 (dk_at dksX4_sources_1 5 rfl rfl)
theorem dX4_sources_30 : decode cX4_sources 30 = .ok (.invokevirtual 32, 3) := dk_182 0 32 (dk_at dksX4_sources_1 8 rfl rfl)
theorem dX4_sources_33 : decode cX4_sources 33 = .ok (.ifCond .eq 7, 3) := dk_153 0 7 (dk_at dksX4_sources_1 11 rfl rfl)
theorem dX4_sources_36 : decode cX4_sources 36 = .ok (.iconst 1, 1) := dk_4 (dk_at dksX4_sources_1 14 rfl rfl)
theorem dX4_sources_37 : decode cX4_sources 37 = .ok (.goto 4, 3) := dk_167 0 4 (dk_at dksX4_sources_1 15 rfl rfl)
theorem dX4_sources_40 : decode cX4_sources 40 = .ok (.iconst 0, 1) := dk_3 (dk_at dksX4_sources_1 18 rfl rfl)
theorem dX4_sources_41 : decode cX4_sources 41 = .ok (.istore_n 3, 1) := dk_62 (dk_at dksX4_sources_1 19 rfl rfl)
theorem dX4_sources_42 : decode cX4_sources 42 = .ok (.aload_n 0, 1) := dk_42 (dk_at dksX4_sources_1 20 rfl rfl)
theorem dX4_sources_43 : decode cX4_sources 43 = .ok (.getfield 19, 3) := dk_180 0 19 (dk_at dksX4_sources_1 21 rfl rfl)
theorem dX4_sources_46 : decode cX4_sources 46 = .ok (.invokevirtual 123, 3) := dk_182 0 123 (dk_at dksX4_sources_2 0 rfl rfl)
theorem dX4_sources_49 : decode cX4_sources 49 = .ok (.astore 4, 2) := dk_58 4 (dk_at dksX4_sources_2 3 rfl rfl)
theorem dX4_sources_51 : decode cX4_sources 51 = .ok (.aload 4, 2) := dk_25 4 (dk_at dksX4_sources_2 5 rfl rfl)
theorem dX4_sources_53 : decode cX4_sources 53 = .ok (.invokeinterface 127 1, 5) := by decide +kernel
theorem dX4_sources_58 : decode cX4_sources 58 = .ok (.ifCond .eq 62, 3) := dk_153 0 62 (dk_at dksX4_sources_2 12 rfl rfl)
theorem dX4_sources_61 : decode cX4_sources 61 = .ok (.aload 4, 2) := dk_25 4 (dk_at dksX4_sources_2 15 rfl rfl)
theorem dX4_sources_63 : decode cX4_sources 63 = .ok (.invokeinterface 132 1, 5) := by decide +kernel
theorem dX4_sources_68 : decode cX4_sources 68 = .ok (.checkcast 82, 3) := dk_192 0 82 (dk_at dksX4_sources_3 0 rfl rfl)
theorem dX4_sources_71 : decode cX4_sources 71 = .ok (.astore 5, 2) := dk_58 5 (dk_at dksX4_sources_3 3 rfl rfl)
theorem dX4_sources_73 : decode cX4_sources 73 = .ok (.aload 5, 2) := dk_25 5 (dk_at dksX4_sources_3 5 rfl rfl)
theorem dX4_sources_75 : decode cX4_sources 75 = .ok (.getfield 182, 3) := dk_180 0 182 (dk_at dksX4_sources_3 7 rfl rfl)
theorem dX4_sources_78 : decode cX4_sources 78 = .ok (.aload_n 1, 1) := dk_43 (dk_at dksX4_sources_3 10 rfl rfl)
theorem dX4_sources_79 : decode cX4_sources 79 = .ok (.getfield 199, 3) := dk_180 0 199 (dk_at dksX4_sources_3 11 rfl rfl)
theorem dX4_sources_82 : decode cX4_sources 82 = .ok (.if_icmp .ne 33, 3) := dk_160 0 33 (dk_at dksX4_sources_3 14 rfl rfl)
theorem dX4_sources_85 : decode cX4_sources 85 = .ok (.aload 5, 2) := dk_25 5 (dk_at dksX4_sources_3 17 rfl rfl)
theorem dX4_sources_87 : decode cX4_sources 87 = .ok (.aload_n 1, 1) := dk_43 (dk_at dksX4_sources_3 19 rfl rfl)
theorem dX4_sources_88 : decode cX4_sources 88 = .ok (.getfield 258, 3) := dk_180 1 2 (dk_at dksX4_sources_3 20 rfl rfl)
theorem dX4_sources_91 : decode cX4_sources 91 = .ok (.if_acmp .eq 24, 3) := dk_165 0 24 (dk_at dksX4_sources_4 0 rfl rfl)
theorem dX4_sources_94 : decode cX4_sources 94 = .ok (.aload 5, 2) := dk_25 5 (dk_at dksX4_sources_4 3 rfl rfl)
theorem dX4_sources_96 : decode cX4_sources 96 = .ok (.invokevirtual 143, 3) := dk_182 0 143 (dk_at dksX4_sources_4 5 rfl rfl)
theorem dX4_sources_99 : decode cX4_sources 99 = .ok (.ifCond .ne 16, 3) := dk_154 0 16 (dk_at dksX4_sources_4 8 rfl rfl)
theorem dX4_sources_102 : decode cX4_sources 102 = .ok (.aload_n 2, 1) := dk_44 (dk_at dksX4_sources_4 11 rfl rfl)
theorem dX4_sources_103 : decode cX4_sources 103 = .ok (.aload 5, 2) := dk_25 5 (dk_at dksX4_sources_4 12 rfl rfl)
theorem dX4_sources_105 : decode cX4_sources 105 = .ok (.invokevirtual 32, 3) := dk_182 0 32 (dk_at dksX4_sources_4 14 rfl rfl)
theorem dX4_sources_108 : decode cX4_sources 108 = .ok (.ifCond .eq 7, 3) := dk_153 0 7 (dk_at dksX4_sources_4 17 rfl rfl)
theorem dX4_sources_111 : decode cX4_sources 111 = .ok (.iconst 1, 1) := dk_4 (dk_at dksX4_sources_4 20 rfl rfl)
theorem dX4_sources_112 : decode cX4_sources 112 = .ok (.goto 4, 3) := dk_167 0 4 (dk_at dksX4_sources_4 21 rfl rfl)
theorem dX4_sources_115 : decode cX4_sources 115 = .ok (.iconst 0, 1) := dk_3 (dk_at dksX4_sources_5 0 rfl rfl)
theorem dX4_sources_116 : decode cX4_sources 116 = .ok (.istore_n 3, 1) := dk_62 (dk_at dksX4_sources_5 1 rfl rfl)
theorem dX4_sources_117 : decode cX4_sources 117 = .ok (.goto (-66), 3) := dk_167 255 190 (dk_at dksX4_sources_5 2 rfl rfl)
theorem dX4_sources_120 : decode cX4_sources 120 = .ok (.aload_n 2, 1) := dk_44 (dk_at dksX4_sources_5 5 rfl rfl)
theorem dX4_sources_121 : decode cX4_sources 121 = .ok (.areturn, 1) := dk_176 (dk_at dksX4_sources_5 6 rfl rfl)
abbrev cX4_stateOf : ByteArray := prog_19_method_43_code
def yX4_stateOf : MethodName := ⟨RX4, "stateOf", "(I)C"⟩
def dkwX4_stateOf_1 : List UInt8 := [180, 0, 139, 172]
abbrev dktX4_stateOf_1 : List UInt8 := dkwX4_stateOf_1 ++ []
def dkwX4_stateOf_0 : List UInt8 := [42, 27, 182, 0, 214, 153, 0, 7, 3, 167, 0, 17, 42, 180, 0, 22, 27, 182, 0, 65, 192, 0, 136]
abbrev dktX4_stateOf_0 : List UInt8 := dkwX4_stateOf_0 ++ dktX4_stateOf_1
theorem dksX4_stateOf_0 : cX4_stateOf.data.toList.drop 0 = dktX4_stateOf_0 := by decide +kernel
theorem dksX4_stateOf_1 : cX4_stateOf.data.toList.drop 23 = dktX4_stateOf_1 := dk_seg dksX4_stateOf_0 23 rfl rfl
theorem dX4_stateOf_0 : decode cX4_stateOf 0 = .ok (.aload_n 0, 1) := dk_42 (dk_at dksX4_stateOf_0 0 rfl rfl)
theorem dX4_stateOf_1 : decode cX4_stateOf 1 = .ok (.iload_n 1, 1) := dk_27 (dk_at dksX4_stateOf_0 1 rfl rfl)
theorem dX4_stateOf_2 : decode cX4_stateOf 2 = .ok (.invokevirtual 214, 3) := dk_182 0 214 (dk_at dksX4_stateOf_0 2 rfl rfl)
theorem dX4_stateOf_5 : decode cX4_stateOf 5 = .ok (.ifCond .eq 7, 3) := dk_153 0 7 (dk_at dksX4_stateOf_0 5 rfl rfl)
theorem dX4_stateOf_8 : decode cX4_stateOf 8 = .ok (.iconst 0, 1) := dk_3 (dk_at dksX4_stateOf_0 8 rfl rfl)
theorem dX4_stateOf_9 : decode cX4_stateOf 9 = .ok (.goto 17, 3) := dk_167 0 17 (dk_at dksX4_stateOf_0 9 rfl rfl)
theorem dX4_stateOf_12 : decode cX4_stateOf 12 = .ok (.aload_n 0, 1) := dk_42 (dk_at dksX4_stateOf_0 12 rfl rfl)
theorem dX4_stateOf_13 : decode cX4_stateOf 13 = .ok (.getfield 22, 3) := dk_180 0 22 (dk_at dksX4_stateOf_0 13 rfl rfl)
theorem dX4_stateOf_16 : decode cX4_stateOf 16 = .ok (.iload_n 1, 1) := dk_27 (dk_at dksX4_stateOf_0 16 rfl rfl)
theorem dX4_stateOf_17 : decode cX4_stateOf 17 = .ok (.invokevirtual 65, 3) := dk_182 0 65 (dk_at dksX4_stateOf_0 17 rfl rfl)
theorem dX4_stateOf_20 : decode cX4_stateOf 20 = .ok (.checkcast 136, 3) := dk_192 0 136 (dk_at dksX4_stateOf_0 20 rfl rfl)
theorem dX4_stateOf_23 : decode cX4_stateOf 23 = .ok (.getfield 139, 3) := dk_180 0 139 (dk_at dksX4_stateOf_1 0 rfl rfl)
theorem dX4_stateOf_26 : decode cX4_stateOf 26 = .ok (.ireturn, 1) := dk_172 (dk_at dksX4_stateOf_1 3 rfl rfl)
abbrev cX4_lotOf : ByteArray := prog_19_method_44_code
def yX4_lotOf : MethodName := ⟨RX4, "lotOf", "(I)I"⟩
def dkwX4_lotOf_2 : List UInt8 := [182, 0, 65, 192, 0, 136, 180, 1, 2, 180, 0, 110, 172]
abbrev dktX4_lotOf_2 : List UInt8 := dkwX4_lotOf_2 ++ []
def dkwX4_lotOf_1 : List UInt8 := [199, 0, 7, 5, 167, 0, 4, 3, 182, 0, 48, 153, 0, 7, 3, 167, 0, 20, 42, 180, 0, 22, 27]
abbrev dktX4_lotOf_1 : List UInt8 := dkwX4_lotOf_1 ++ dktX4_lotOf_2
def dkwX4_lotOf_0 : List UInt8 := [42, 27, 182, 0, 214, 154, 0, 32, 42, 42, 180, 0, 22, 27, 182, 0, 65, 192, 0, 136, 180, 1, 2]
abbrev dktX4_lotOf_0 : List UInt8 := dkwX4_lotOf_0 ++ dktX4_lotOf_1
theorem dksX4_lotOf_0 : cX4_lotOf.data.toList.drop 0 = dktX4_lotOf_0 := by decide +kernel
theorem dksX4_lotOf_1 : cX4_lotOf.data.toList.drop 23 = dktX4_lotOf_1 := dk_seg dksX4_lotOf_0 23 rfl rfl
theorem dksX4_lotOf_2 : cX4_lotOf.data.toList.drop 46 = dktX4_lotOf_2 := dk_seg dksX4_lotOf_1 23 rfl rfl
theorem dX4_lotOf_0 : decode cX4_lotOf 0 = .ok (.aload_n 0, 1) := dk_42 (dk_at dksX4_lotOf_0 0 rfl rfl)
theorem dX4_lotOf_1 : decode cX4_lotOf 1 = .ok (.iload_n 1, 1) := dk_27 (dk_at dksX4_lotOf_0 1 rfl rfl)
theorem dX4_lotOf_2 : decode cX4_lotOf 2 = .ok (.invokevirtual 214, 3) := dk_182 0 214 (dk_at dksX4_lotOf_0 2 rfl rfl)
theorem dX4_lotOf_5 : decode cX4_lotOf 5 = .ok (.ifCond .ne 32, 3) := dk_154 0 32 (dk_at dksX4_lotOf_0 5 rfl rfl)
theorem dX4_lotOf_8 : decode cX4_lotOf 8 = .ok (.aload_n 0, 1) := dk_42 (dk_at dksX4_lotOf_0 8 rfl rfl)
theorem dX4_lotOf_9 : decode cX4_lotOf 9 = .ok (.aload_n 0, 1) := dk_42 (dk_at dksX4_lotOf_0 9 rfl rfl)
theorem dX4_lotOf_10 : decode cX4_lotOf 10 = .ok (.getfield 22, 3) := dk_180 0 22 (dk_at dksX4_lotOf_0 10 rfl rfl)
theorem dX4_lotOf_13 : decode cX4_lotOf 13 = .ok (.iload_n 1, 1) := dk_27 (dk_at dksX4_lotOf_0 13 rfl rfl)
theorem dX4_lotOf_14 : decode cX4_lotOf 14 = .ok (.invokevirtual 65, 3) := dk_182 0 65 (dk_at dksX4_lotOf_0 14 rfl rfl)
theorem dX4_lotOf_17 : decode cX4_lotOf 17 = .ok (.checkcast 136, 3) := dk_192 0 136 (dk_at dksX4_lotOf_0 17 rfl rfl)
theorem dX4_lotOf_20 : decode cX4_lotOf 20 = .ok (.getfield 258, 3) := dk_180 1 2 (dk_at dksX4_lotOf_0 20 rfl rfl)
theorem dX4_lotOf_23 : decode cX4_lotOf 23 = .ok (.ifnonnull 7, 3) := dk_199 0 7 (dk_at dksX4_lotOf_1 0 rfl rfl)
theorem dX4_lotOf_26 : decode cX4_lotOf 26 = .ok (.iconst 2, 1) := dk_5 (dk_at dksX4_lotOf_1 3 rfl rfl)
theorem dX4_lotOf_27 : decode cX4_lotOf 27 = .ok (.goto 4, 3) := dk_167 0 4 (dk_at dksX4_lotOf_1 4 rfl rfl)
theorem dX4_lotOf_30 : decode cX4_lotOf 30 = .ok (.iconst 0, 1) := dk_3 (dk_at dksX4_lotOf_1 7 rfl rfl)
theorem dX4_lotOf_31 : decode cX4_lotOf 31 = .ok (.invokevirtual 48, 3) := dk_182 0 48 (dk_at dksX4_lotOf_1 8 rfl rfl)
theorem dX4_lotOf_34 : decode cX4_lotOf 34 = .ok (.ifCond .eq 7, 3) := dk_153 0 7 (dk_at dksX4_lotOf_1 11 rfl rfl)
theorem dX4_lotOf_37 : decode cX4_lotOf 37 = .ok (.iconst 0, 1) := dk_3 (dk_at dksX4_lotOf_1 14 rfl rfl)
theorem dX4_lotOf_38 : decode cX4_lotOf 38 = .ok (.goto 20, 3) := dk_167 0 20 (dk_at dksX4_lotOf_1 15 rfl rfl)
theorem dX4_lotOf_41 : decode cX4_lotOf 41 = .ok (.aload_n 0, 1) := dk_42 (dk_at dksX4_lotOf_1 18 rfl rfl)
theorem dX4_lotOf_42 : decode cX4_lotOf 42 = .ok (.getfield 22, 3) := dk_180 0 22 (dk_at dksX4_lotOf_1 19 rfl rfl)
theorem dX4_lotOf_45 : decode cX4_lotOf 45 = .ok (.iload_n 1, 1) := dk_27 (dk_at dksX4_lotOf_1 22 rfl rfl)
theorem dX4_lotOf_46 : decode cX4_lotOf 46 = .ok (.invokevirtual 65, 3) := dk_182 0 65 (dk_at dksX4_lotOf_2 0 rfl rfl)
theorem dX4_lotOf_49 : decode cX4_lotOf 49 = .ok (.checkcast 136, 3) := dk_192 0 136 (dk_at dksX4_lotOf_2 3 rfl rfl)
theorem dX4_lotOf_52 : decode cX4_lotOf 52 = .ok (.getfield 258, 3) := dk_180 1 2 (dk_at dksX4_lotOf_2 6 rfl rfl)
theorem dX4_lotOf_55 : decode cX4_lotOf 55 = .ok (.getfield 110, 3) := dk_180 0 110 (dk_at dksX4_lotOf_2 9 rfl rfl)
theorem dX4_lotOf_58 : decode cX4_lotOf 58 = .ok (.ireturn, 1) := dk_172 (dk_at dksX4_lotOf_2 12 rfl rfl)
abbrev cX4_finishedAt : ByteArray := prog_19_method_45_code
def yX4_finishedAt : MethodName := ⟨RX4, "finishedAt", "(I)I"⟩
def dkwX4_finishedAt_2 : List UInt8 := [182, 0, 65, 192, 0, 136, 180, 0, 255, 172]
abbrev dktX4_finishedAt_2 : List UInt8 := dkwX4_finishedAt_2 ++ []
def dkwX4_finishedAt_1 : List UInt8 := [156, 0, 7, 5, 167, 0, 4, 3, 182, 0, 48, 153, 0, 7, 3, 167, 0, 17, 42, 180, 0, 22, 27]
abbrev dktX4_finishedAt_1 : List UInt8 := dkwX4_finishedAt_1 ++ dktX4_finishedAt_2
def dkwX4_finishedAt_0 : List UInt8 := [42, 27, 182, 0, 214, 154, 0, 32, 42, 42, 180, 0, 22, 27, 182, 0, 65, 192, 0, 136, 180, 0, 255]
abbrev dktX4_finishedAt_0 : List UInt8 := dkwX4_finishedAt_0 ++ dktX4_finishedAt_1
theorem dksX4_finishedAt_0 : cX4_finishedAt.data.toList.drop 0 = dktX4_finishedAt_0 := by decide +kernel
theorem dksX4_finishedAt_1 : cX4_finishedAt.data.toList.drop 23 = dktX4_finishedAt_1 := dk_seg dksX4_finishedAt_0 23 rfl rfl
theorem dksX4_finishedAt_2 : cX4_finishedAt.data.toList.drop 46 = dktX4_finishedAt_2 := dk_seg dksX4_finishedAt_1 23 rfl rfl
theorem dX4_finishedAt_0 : decode cX4_finishedAt 0 = .ok (.aload_n 0, 1) := dk_42 (dk_at dksX4_finishedAt_0 0 rfl rfl)
theorem dX4_finishedAt_1 : decode cX4_finishedAt 1 = .ok (.iload_n 1, 1) := dk_27 (dk_at dksX4_finishedAt_0 1 rfl rfl)
theorem dX4_finishedAt_2 : decode cX4_finishedAt 2 = .ok (.invokevirtual 214, 3) := dk_182 0 214 (dk_at dksX4_finishedAt_0 2 rfl rfl)
theorem dX4_finishedAt_5 : decode cX4_finishedAt 5 = .ok (.ifCond .ne 32, 3) := dk_154 0 32 (dk_at dksX4_finishedAt_0 5 rfl rfl)
theorem dX4_finishedAt_8 : decode cX4_finishedAt 8 = .ok (.aload_n 0, 1) := dk_42 (dk_at dksX4_finishedAt_0 8 rfl rfl)
theorem dX4_finishedAt_9 : decode cX4_finishedAt 9 = .ok (.aload_n 0, 1) := dk_42 (dk_at dksX4_finishedAt_0 9 rfl rfl)
theorem dX4_finishedAt_10 : decode cX4_finishedAt 10 = .ok (.getfield 22, 3) := dk_180 0 22 (dk_at dksX4_finishedAt_0 10 rfl rfl)
theorem dX4_finishedAt_13 : decode cX4_finishedAt 13 = .ok (.iload_n 1, 1) := dk_27 (dk_at dksX4_finishedAt_0 13 rfl rfl)
theorem dX4_finishedAt_14 : decode cX4_finishedAt 14 = .ok (.invokevirtual 65, 3) := dk_182 0 65 (dk_at dksX4_finishedAt_0 14 rfl rfl)
theorem dX4_finishedAt_17 : decode cX4_finishedAt 17 = .ok (.checkcast 136, 3) := dk_192 0 136 (dk_at dksX4_finishedAt_0 17 rfl rfl)
theorem dX4_finishedAt_20 : decode cX4_finishedAt 20 = .ok (.getfield 255, 3) := dk_180 0 255 (dk_at dksX4_finishedAt_0 20 rfl rfl)
theorem dX4_finishedAt_23 : decode cX4_finishedAt 23 = .ok (.ifCond .ge 7, 3) := dk_156 0 7 (dk_at dksX4_finishedAt_1 0 rfl rfl)
theorem dX4_finishedAt_26 : decode cX4_finishedAt 26 = .ok (.iconst 2, 1) := dk_5 (dk_at dksX4_finishedAt_1 3 rfl rfl)
theorem dX4_finishedAt_27 : decode cX4_finishedAt 27 = .ok (.goto 4, 3) := dk_167 0 4 (dk_at dksX4_finishedAt_1 4 rfl rfl)
theorem dX4_finishedAt_30 : decode cX4_finishedAt 30 = .ok (.iconst 0, 1) := dk_3 (dk_at dksX4_finishedAt_1 7 rfl rfl)
theorem dX4_finishedAt_31 : decode cX4_finishedAt 31 = .ok (.invokevirtual 48, 3) := dk_182 0 48 (dk_at dksX4_finishedAt_1 8 rfl rfl)
theorem dX4_finishedAt_34 : decode cX4_finishedAt 34 = .ok (.ifCond .eq 7, 3) := dk_153 0 7 (dk_at dksX4_finishedAt_1 11 rfl rfl)
theorem dX4_finishedAt_37 : decode cX4_finishedAt 37 = .ok (.iconst 0, 1) := dk_3 (dk_at dksX4_finishedAt_1 14 rfl rfl)
theorem dX4_finishedAt_38 : decode cX4_finishedAt 38 = .ok (.goto 17, 3) := dk_167 0 17 (dk_at dksX4_finishedAt_1 15 rfl rfl)
theorem dX4_finishedAt_41 : decode cX4_finishedAt 41 = .ok (.aload_n 0, 1) := dk_42 (dk_at dksX4_finishedAt_1 18 rfl rfl)
theorem dX4_finishedAt_42 : decode cX4_finishedAt 42 = .ok (.getfield 22, 3) := dk_180 0 22 (dk_at dksX4_finishedAt_1 19 rfl rfl)
theorem dX4_finishedAt_45 : decode cX4_finishedAt 45 = .ok (.iload_n 1, 1) := dk_27 (dk_at dksX4_finishedAt_1 22 rfl rfl)
theorem dX4_finishedAt_46 : decode cX4_finishedAt 46 = .ok (.invokevirtual 65, 3) := dk_182 0 65 (dk_at dksX4_finishedAt_2 0 rfl rfl)
theorem dX4_finishedAt_49 : decode cX4_finishedAt 49 = .ok (.checkcast 136, 3) := dk_192 0 136 (dk_at dksX4_finishedAt_2 3 rfl rfl)
theorem dX4_finishedAt_52 : decode cX4_finishedAt 52 = .ok (.getfield 255, 3) := dk_180 0 255 (dk_at dksX4_finishedAt_2 6 rfl rfl)
theorem dX4_finishedAt_55 : decode cX4_finishedAt 55 = .ok (.ireturn, 1) := dk_172 (dk_at dksX4_finishedAt_2 9 rfl rfl)
abbrev cX4_machineIs : ByteArray := prog_19_method_47_code
def yX4_machineIs : MethodName := ⟨RX4, "machineIs", "(I)C"⟩
def dkwX4_machineIs_1 : List UInt8 := [180, 0, 242, 172]
abbrev dktX4_machineIs_1 : List UInt8 := dkwX4_machineIs_1 ++ []
def dkwX4_machineIs_0 : List UInt8 := [42, 27, 182, 1, 64, 153, 0, 7, 3, 167, 0, 17, 42, 180, 0, 10, 27, 182, 0, 65, 192, 0, 52]
abbrev dktX4_machineIs_0 : List UInt8 := dkwX4_machineIs_0 ++ dktX4_machineIs_1
theorem dksX4_machineIs_0 : cX4_machineIs.data.toList.drop 0 = dktX4_machineIs_0 := by decide +kernel
theorem dksX4_machineIs_1 : cX4_machineIs.data.toList.drop 23 = dktX4_machineIs_1 := dk_seg dksX4_machineIs_0 23 rfl rfl
theorem dX4_machineIs_0 : decode cX4_machineIs 0 = .ok (.aload_n 0, 1) := dk_42 (dk_at dksX4_machineIs_0 0 rfl rfl)
theorem dX4_machineIs_1 : decode cX4_machineIs 1 = .ok (.iload_n 1, 1) := dk_27 (dk_at dksX4_machineIs_0 1 rfl rfl)
theorem dX4_machineIs_2 : decode cX4_machineIs 2 = .ok (.invokevirtual 320, 3) := dk_182 1 64 (dk_at dksX4_machineIs_0 2 rfl rfl)
theorem dX4_machineIs_5 : decode cX4_machineIs 5 = .ok (.ifCond .eq 7, 3) := dk_153 0 7 (dk_at dksX4_machineIs_0 5 rfl rfl)
theorem dX4_machineIs_8 : decode cX4_machineIs 8 = .ok (.iconst 0, 1) := dk_3 (dk_at dksX4_machineIs_0 8 rfl rfl)
theorem dX4_machineIs_9 : decode cX4_machineIs 9 = .ok (.goto 17, 3) := dk_167 0 17 (dk_at dksX4_machineIs_0 9 rfl rfl)
theorem dX4_machineIs_12 : decode cX4_machineIs 12 = .ok (.aload_n 0, 1) := dk_42 (dk_at dksX4_machineIs_0 12 rfl rfl)
theorem dX4_machineIs_13 : decode cX4_machineIs 13 = .ok (.getfield 10, 3) := dk_180 0 10 (dk_at dksX4_machineIs_0 13 rfl rfl)
theorem dX4_machineIs_16 : decode cX4_machineIs 16 = .ok (.iload_n 1, 1) := dk_27 (dk_at dksX4_machineIs_0 16 rfl rfl)
theorem dX4_machineIs_17 : decode cX4_machineIs 17 = .ok (.invokevirtual 65, 3) := dk_182 0 65 (dk_at dksX4_machineIs_0 17 rfl rfl)
theorem dX4_machineIs_20 : decode cX4_machineIs 20 = .ok (.checkcast 52, 3) := dk_192 0 52 (dk_at dksX4_machineIs_0 20 rfl rfl)
theorem dX4_machineIs_23 : decode cX4_machineIs 23 = .ok (.getfield 242, 3) := dk_180 0 242 (dk_at dksX4_machineIs_1 0 rfl rfl)
theorem dX4_machineIs_26 : decode cX4_machineIs 26 = .ok (.ireturn, 1) := dk_172 (dk_at dksX4_machineIs_1 3 rfl rfl)
abbrev cX4_failsMachine : ByteArray := prog_19_method_46_code
def yX4_failsMachine : MethodName := ⟨RX4, "failsMachine", "(I)Z"⟩
def dkwX4_failsMachine_0 : List UInt8 := [42, 42, 27, 182, 0, 76, 153, 0, 7, 3, 167, 0, 4, 4, 182, 0, 48, 172]
abbrev dktX4_failsMachine_0 : List UInt8 := dkwX4_failsMachine_0 ++ []
theorem dksX4_failsMachine_0 : cX4_failsMachine.data.toList.drop 0 = dktX4_failsMachine_0 := by decide +kernel
theorem dX4_failsMachine_0 : decode cX4_failsMachine 0 = .ok (.aload_n 0, 1) := dk_42 (dk_at dksX4_failsMachine_0 0 rfl rfl)
theorem dX4_failsMachine_1 : decode cX4_failsMachine 1 = .ok (.aload_n 0, 1) := dk_42 (dk_at dksX4_failsMachine_0 1 rfl rfl)
theorem dX4_failsMachine_2 : decode cX4_failsMachine 2 = .ok (.iload_n 1, 1) := dk_27 (dk_at dksX4_failsMachine_0 2 rfl rfl)
theorem dX4_failsMachine_3 : decode cX4_failsMachine 3 = .ok (.invokevirtual 76, 3) := dk_182 0 76 (dk_at dksX4_failsMachine_0 3 rfl rfl)
theorem dX4_failsMachine_6 : decode cX4_failsMachine 6 = .ok (.ifCond .eq 7, 3) := dk_153 0 7 (dk_at dksX4_failsMachine_0 6 rfl rfl)
theorem dX4_failsMachine_9 : decode cX4_failsMachine 9 = .ok (.iconst 0, 1) := dk_3 (dk_at dksX4_failsMachine_0 9 rfl rfl)
theorem dX4_failsMachine_10 : decode cX4_failsMachine 10 = .ok (.goto 4, 3) := dk_167 0 4 (dk_at dksX4_failsMachine_0 10 rfl rfl)
theorem dX4_failsMachine_13 : decode cX4_failsMachine 13 = .ok (.iconst 1, 1) := dk_4 (dk_at dksX4_failsMachine_0 13 rfl rfl)
theorem dX4_failsMachine_14 : decode cX4_failsMachine 14 = .ok (.invokevirtual 48, 3) := dk_182 0 48 (dk_at dksX4_failsMachine_0 14 rfl rfl)
theorem dX4_failsMachine_17 : decode cX4_failsMachine 17 = .ok (.ireturn, 1) := dk_172 (dk_at dksX4_failsMachine_0 17 rfl rfl)
abbrev cX4_wear : ByteArray := prog_19_method_48_code
def yX4_wear : MethodName := ⟨RX4, "wear", "(I)I"⟩
def dkwX4_wear_1 : List UInt8 := [180, 1, 39, 172]
abbrev dktX4_wear_1 : List UInt8 := dkwX4_wear_1 ++ []
def dkwX4_wear_0 : List UInt8 := [42, 27, 182, 1, 64, 153, 0, 7, 3, 167, 0, 17, 42, 180, 0, 10, 27, 182, 0, 65, 192, 0, 52]
abbrev dktX4_wear_0 : List UInt8 := dkwX4_wear_0 ++ dktX4_wear_1
theorem dksX4_wear_0 : cX4_wear.data.toList.drop 0 = dktX4_wear_0 := by decide +kernel
theorem dksX4_wear_1 : cX4_wear.data.toList.drop 23 = dktX4_wear_1 := dk_seg dksX4_wear_0 23 rfl rfl
theorem dX4_wear_0 : decode cX4_wear 0 = .ok (.aload_n 0, 1) := dk_42 (dk_at dksX4_wear_0 0 rfl rfl)
theorem dX4_wear_1 : decode cX4_wear 1 = .ok (.iload_n 1, 1) := dk_27 (dk_at dksX4_wear_0 1 rfl rfl)
theorem dX4_wear_2 : decode cX4_wear 2 = .ok (.invokevirtual 320, 3) := dk_182 1 64 (dk_at dksX4_wear_0 2 rfl rfl)
theorem dX4_wear_5 : decode cX4_wear 5 = .ok (.ifCond .eq 7, 3) := dk_153 0 7 (dk_at dksX4_wear_0 5 rfl rfl)
theorem dX4_wear_8 : decode cX4_wear 8 = .ok (.iconst 0, 1) := dk_3 (dk_at dksX4_wear_0 8 rfl rfl)
theorem dX4_wear_9 : decode cX4_wear 9 = .ok (.goto 17, 3) := dk_167 0 17 (dk_at dksX4_wear_0 9 rfl rfl)
theorem dX4_wear_12 : decode cX4_wear 12 = .ok (.aload_n 0, 1) := dk_42 (dk_at dksX4_wear_0 12 rfl rfl)
theorem dX4_wear_13 : decode cX4_wear 13 = .ok (.getfield 10, 3) := dk_180 0 10 (dk_at dksX4_wear_0 13 rfl rfl)
theorem dX4_wear_16 : decode cX4_wear 16 = .ok (.iload_n 1, 1) := dk_27 (dk_at dksX4_wear_0 16 rfl rfl)
theorem dX4_wear_17 : decode cX4_wear 17 = .ok (.invokevirtual 65, 3) := dk_182 0 65 (dk_at dksX4_wear_0 17 rfl rfl)
theorem dX4_wear_20 : decode cX4_wear 20 = .ok (.checkcast 52, 3) := dk_192 0 52 (dk_at dksX4_wear_0 20 rfl rfl)
theorem dX4_wear_23 : decode cX4_wear 23 = .ok (.getfield 295, 3) := dk_180 1 39 (dk_at dksX4_wear_1 0 rfl rfl)
theorem dX4_wear_26 : decode cX4_wear 26 = .ok (.ireturn, 1) := dk_172 (dk_at dksX4_wear_1 3 rfl rfl)
abbrev cX4_waiting : ByteArray := prog_19_method_49_code
def yX4_waiting : MethodName := ⟨RX4, "waiting", "(I)I"⟩
def dkwX4_waiting_0 : List UInt8 := [42, 27, 182, 1, 64, 153, 0, 7, 3, 167, 0, 8, 42, 27, 182, 0, 239, 172]
abbrev dktX4_waiting_0 : List UInt8 := dkwX4_waiting_0 ++ []
theorem dksX4_waiting_0 : cX4_waiting.data.toList.drop 0 = dktX4_waiting_0 := by decide +kernel
theorem dX4_waiting_0 : decode cX4_waiting 0 = .ok (.aload_n 0, 1) := dk_42 (dk_at dksX4_waiting_0 0 rfl rfl)
theorem dX4_waiting_1 : decode cX4_waiting 1 = .ok (.iload_n 1, 1) := dk_27 (dk_at dksX4_waiting_0 1 rfl rfl)
theorem dX4_waiting_2 : decode cX4_waiting 2 = .ok (.invokevirtual 320, 3) := dk_182 1 64 (dk_at dksX4_waiting_0 2 rfl rfl)
theorem dX4_waiting_5 : decode cX4_waiting 5 = .ok (.ifCond .eq 7, 3) := dk_153 0 7 (dk_at dksX4_waiting_0 5 rfl rfl)
theorem dX4_waiting_8 : decode cX4_waiting 8 = .ok (.iconst 0, 1) := dk_3 (dk_at dksX4_waiting_0 8 rfl rfl)
theorem dX4_waiting_9 : decode cX4_waiting 9 = .ok (.goto 8, 3) := dk_167 0 8 (dk_at dksX4_waiting_0 9 rfl rfl)
theorem dX4_waiting_12 : decode cX4_waiting 12 = .ok (.aload_n 0, 1) := dk_42 (dk_at dksX4_waiting_0 12 rfl rfl)
theorem dX4_waiting_13 : decode cX4_waiting 13 = .ok (.iload_n 1, 1) := dk_27 (dk_at dksX4_waiting_0 13 rfl rfl)
theorem dX4_waiting_14 : decode cX4_waiting 14 = .ok (.invokevirtual 239, 3) := dk_182 0 239 (dk_at dksX4_waiting_0 14 rfl rfl)
theorem dX4_waiting_17 : decode cX4_waiting 17 = .ok (.ireturn, 1) := dk_172 (dk_at dksX4_waiting_0 17 rfl rfl)
abbrev cX4_isIn : ByteArray := prog_19_method_50_code
def yX4_isIn : MethodName := ⟨RX4, "isIn", "(II)Z"⟩
def dkwX4_isIn_3 : List UInt8 := [180, 0, 19, 27, 182, 0, 65, 192, 0, 82, 182, 1, 67, 153, 0, 7, 4, 167, 0, 4, 3, 172]
abbrev dktX4_isIn_3 : List UInt8 := dkwX4_isIn_3 ++ []
def dkwX4_isIn_2 : List UInt8 := [167, 0, 4, 4, 182, 0, 48, 154, 0, 35, 42, 180, 0, 19, 28, 182, 0, 65, 192, 0, 82, 42]
abbrev dktX4_isIn_2 : List UInt8 := dkwX4_isIn_2 ++ dktX4_isIn_3
def dkwX4_isIn_1 : List UInt8 := [182, 0, 44, 4, 100, 184, 0, 40, 153, 0, 7, 4, 167, 0, 4, 3, 62, 42, 29, 153, 0, 7, 3]
abbrev dktX4_isIn_1 : List UInt8 := dkwX4_isIn_1 ++ dktX4_isIn_2
def dkwX4_isIn_0 : List UInt8 := [27, 3, 42, 180, 0, 19, 182, 0, 44, 4, 100, 184, 0, 40, 153, 0, 24, 28, 3, 42, 180, 0, 19]
abbrev dktX4_isIn_0 : List UInt8 := dkwX4_isIn_0 ++ dktX4_isIn_1
theorem dksX4_isIn_0 : cX4_isIn.data.toList.drop 0 = dktX4_isIn_0 := by decide +kernel
theorem dksX4_isIn_1 : cX4_isIn.data.toList.drop 23 = dktX4_isIn_1 := dk_seg dksX4_isIn_0 23 rfl rfl
theorem dksX4_isIn_2 : cX4_isIn.data.toList.drop 46 = dktX4_isIn_2 := dk_seg dksX4_isIn_1 23 rfl rfl
theorem dksX4_isIn_3 : cX4_isIn.data.toList.drop 68 = dktX4_isIn_3 := dk_seg dksX4_isIn_2 22 rfl rfl
theorem dX4_isIn_0 : decode cX4_isIn 0 = .ok (.iload_n 1, 1) := dk_27 (dk_at dksX4_isIn_0 0 rfl rfl)
theorem dX4_isIn_1 : decode cX4_isIn 1 = .ok (.iconst 0, 1) := dk_3 (dk_at dksX4_isIn_0 1 rfl rfl)
theorem dX4_isIn_2 : decode cX4_isIn 2 = .ok (.aload_n 0, 1) := dk_42 (dk_at dksX4_isIn_0 2 rfl rfl)
theorem dX4_isIn_3 : decode cX4_isIn 3 = .ok (.getfield 19, 3) := dk_180 0 19 (dk_at dksX4_isIn_0 3 rfl rfl)
theorem dX4_isIn_6 : decode cX4_isIn 6 = .ok (.invokevirtual 44, 3) := dk_182 0 44 (dk_at dksX4_isIn_0 6 rfl rfl)
theorem dX4_isIn_9 : decode cX4_isIn 9 = .ok (.iconst 1, 1) := dk_4 (dk_at dksX4_isIn_0 9 rfl rfl)
theorem dX4_isIn_10 : decode cX4_isIn 10 = .ok (.isub, 1) := dk_100 (dk_at dksX4_isIn_0 10 rfl rfl)
theorem dX4_isIn_11 : decode cX4_isIn 11 = .ok (.invokestatic 40, 3) := dk_184 0 40 (dk_at dksX4_isIn_0 11 rfl rfl)
theorem dX4_isIn_14 : decode cX4_isIn 14 = .ok (.ifCond .eq 24, 3) := dk_153 0 24 (dk_at dksX4_isIn_0 14 rfl rfl)
theorem dX4_isIn_17 : decode cX4_isIn 17 = .ok (.iload_n 2, 1) := dk_28 (dk_at dksX4_isIn_0 17 rfl rfl)
theorem dX4_isIn_18 : decode cX4_isIn 18 = .ok (.iconst 0, 1) := dk_3 (dk_at dksX4_isIn_0 18 rfl rfl)
theorem dX4_isIn_19 : decode cX4_isIn 19 = .ok (.aload_n 0, 1) := dk_42 (dk_at dksX4_isIn_0 19 rfl rfl)
theorem dX4_isIn_20 : decode cX4_isIn 20 = .ok (.getfield 19, 3) := dk_180 0 19 (dk_at dksX4_isIn_0 20 rfl rfl)
theorem dX4_isIn_23 : decode cX4_isIn 23 = .ok (.invokevirtual 44, 3) := dk_182 0 44 (dk_at dksX4_isIn_1 0 rfl rfl)
theorem dX4_isIn_26 : decode cX4_isIn 26 = .ok (.iconst 1, 1) := dk_4 (dk_at dksX4_isIn_1 3 rfl rfl)
theorem dX4_isIn_27 : decode cX4_isIn 27 = .ok (.isub, 1) := dk_100 (dk_at dksX4_isIn_1 4 rfl rfl)
theorem dX4_isIn_28 : decode cX4_isIn 28 = .ok (.invokestatic 40, 3) := dk_184 0 40 (dk_at dksX4_isIn_1 5 rfl rfl)
theorem dX4_isIn_31 : decode cX4_isIn 31 = .ok (.ifCond .eq 7, 3) := dk_153 0 7 (dk_at dksX4_isIn_1 8 rfl rfl)
theorem dX4_isIn_34 : decode cX4_isIn 34 = .ok (.iconst 1, 1) := dk_4 (dk_at dksX4_isIn_1 11 rfl rfl)
theorem dX4_isIn_35 : decode cX4_isIn 35 = .ok (.goto 4, 3) := dk_167 0 4 (dk_at dksX4_isIn_1 12 rfl rfl)
theorem dX4_isIn_38 : decode cX4_isIn 38 = .ok (.iconst 0, 1) := dk_3 (dk_at dksX4_isIn_1 15 rfl rfl)
theorem dX4_isIn_39 : decode cX4_isIn 39 = .ok (.istore_n 3, 1) := dk_62 (dk_at dksX4_isIn_1 16 rfl rfl)
theorem dX4_isIn_40 : decode cX4_isIn 40 = .ok (.aload_n 0, 1) := dk_42 (dk_at dksX4_isIn_1 17 rfl rfl)
theorem dX4_isIn_41 : decode cX4_isIn 41 = .ok (.iload_n 3, 1) := dk_29 (dk_at dksX4_isIn_1 18 rfl rfl)
theorem dX4_isIn_42 : decode cX4_isIn 42 = .ok (.ifCond .eq 7, 3) := dk_153 0 7 (dk_at dksX4_isIn_1 19 rfl rfl)
theorem dX4_isIn_45 : decode cX4_isIn 45 = .ok (.iconst 0, 1) := dk_3 (dk_at dksX4_isIn_1 22 rfl rfl)
theorem dX4_isIn_46 : decode cX4_isIn 46 = .ok (.goto 4, 3) := dk_167 0 4 (dk_at dksX4_isIn_2 0 rfl rfl)
theorem dX4_isIn_49 : decode cX4_isIn 49 = .ok (.iconst 1, 1) := dk_4 (dk_at dksX4_isIn_2 3 rfl rfl)
theorem dX4_isIn_50 : decode cX4_isIn 50 = .ok (.invokevirtual 48, 3) := dk_182 0 48 (dk_at dksX4_isIn_2 4 rfl rfl)
theorem dX4_isIn_53 : decode cX4_isIn 53 = .ok (.ifCond .ne 35, 3) := dk_154 0 35 (dk_at dksX4_isIn_2 7 rfl rfl)
theorem dX4_isIn_56 : decode cX4_isIn 56 = .ok (.aload_n 0, 1) := dk_42 (dk_at dksX4_isIn_2 10 rfl rfl)
theorem dX4_isIn_57 : decode cX4_isIn 57 = .ok (.getfield 19, 3) := dk_180 0 19 (dk_at dksX4_isIn_2 11 rfl rfl)
theorem dX4_isIn_60 : decode cX4_isIn 60 = .ok (.iload_n 2, 1) := dk_28 (dk_at dksX4_isIn_2 14 rfl rfl)
theorem dX4_isIn_61 : decode cX4_isIn 61 = .ok (.invokevirtual 65, 3) := dk_182 0 65 (dk_at dksX4_isIn_2 15 rfl rfl)
theorem dX4_isIn_64 : decode cX4_isIn 64 = .ok (.checkcast 82, 3) := dk_192 0 82 (dk_at dksX4_isIn_2 18 rfl rfl)
theorem dX4_isIn_67 : decode cX4_isIn 67 = .ok (.aload_n 0, 1) := dk_42 (dk_at dksX4_isIn_2 21 rfl rfl)
theorem dX4_isIn_68 : decode cX4_isIn 68 = .ok (.getfield 19, 3) := dk_180 0 19 (dk_at dksX4_isIn_3 0 rfl rfl)
theorem dX4_isIn_71 : decode cX4_isIn 71 = .ok (.iload_n 1, 1) := dk_27 (dk_at dksX4_isIn_3 3 rfl rfl)
theorem dX4_isIn_72 : decode cX4_isIn 72 = .ok (.invokevirtual 65, 3) := dk_182 0 65 (dk_at dksX4_isIn_3 4 rfl rfl)
theorem dX4_isIn_75 : decode cX4_isIn 75 = .ok (.checkcast 82, 3) := dk_192 0 82 (dk_at dksX4_isIn_3 7 rfl rfl)
theorem dX4_isIn_78 : decode cX4_isIn 78 = .ok (.invokevirtual 323, 3) := dk_182 1 67 (dk_at dksX4_isIn_3 10 rfl rfl)
theorem dX4_isIn_81 : decode cX4_isIn 81 = .ok (.ifCond .eq 7, 3) := dk_153 0 7 (dk_at dksX4_isIn_3 13 rfl rfl)
theorem dX4_isIn_84 : decode cX4_isIn 84 = .ok (.iconst 1, 1) := dk_4 (dk_at dksX4_isIn_3 16 rfl rfl)
theorem dX4_isIn_85 : decode cX4_isIn 85 = .ok (.goto 4, 3) := dk_167 0 4 (dk_at dksX4_isIn_3 17 rfl rfl)
theorem dX4_isIn_88 : decode cX4_isIn 88 = .ok (.iconst 0, 1) := dk_3 (dk_at dksX4_isIn_3 20 rfl rfl)
theorem dX4_isIn_89 : decode cX4_isIn 89 = .ok (.ireturn, 1) := dk_172 (dk_at dksX4_isIn_3 21 rfl rfl)
abbrev cX4_touched : ByteArray := prog_19_method_52_code
def yX4_touched : MethodName := ⟨RX4, "touched", "(I)I"⟩
def dkwX4_touched_3 : List UInt8 := [167, 255, 209, 28, 172]
abbrev dktX4_touched_3 : List UInt8 := dkwX4_touched_3 ++ []
def dkwX4_touched_2 : List UInt8 := [27, 182, 0, 65, 192, 0, 82, 25, 4, 184, 1, 71, 153, 0, 7, 4, 167, 0, 4, 3, 96, 61]
abbrev dktX4_touched_2 : List UInt8 := dkwX4_touched_2 ++ dktX4_touched_3
def dkwX4_touched_1 : List UInt8 := [185, 0, 127, 1, 0, 153, 0, 44, 45, 185, 0, 132, 1, 0, 192, 0, 136, 58, 4, 28, 42, 180, 0, 19]
abbrev dktX4_touched_1 : List UInt8 := dkwX4_touched_1 ++ dktX4_touched_2
def dkwX4_touched_0 : List UInt8 := [42, 27, 182, 0, 161, 153, 0, 5, 3, 172, 3, 61, 42, 180, 0, 22, 182, 0, 123, 78, 45]
abbrev dktX4_touched_0 : List UInt8 := dkwX4_touched_0 ++ dktX4_touched_1
theorem dksX4_touched_0 : cX4_touched.data.toList.drop 0 = dktX4_touched_0 := by decide +kernel
theorem dksX4_touched_1 : cX4_touched.data.toList.drop 21 = dktX4_touched_1 := dk_seg dksX4_touched_0 21 rfl rfl
theorem dksX4_touched_2 : cX4_touched.data.toList.drop 45 = dktX4_touched_2 := dk_seg dksX4_touched_1 24 rfl rfl
theorem dksX4_touched_3 : cX4_touched.data.toList.drop 67 = dktX4_touched_3 := dk_seg dksX4_touched_2 22 rfl rfl
theorem dX4_touched_0 : decode cX4_touched 0 = .ok (.aload_n 0, 1) := dk_42 (dk_at dksX4_touched_0 0 rfl rfl)
theorem dX4_touched_1 : decode cX4_touched 1 = .ok (.iload_n 1, 1) := dk_27 (dk_at dksX4_touched_0 1 rfl rfl)
theorem dX4_touched_2 : decode cX4_touched 2 = .ok (.invokevirtual 161, 3) := dk_182 0 161 (dk_at dksX4_touched_0 2 rfl rfl)
theorem dX4_touched_5 : decode cX4_touched 5 = .ok (.ifCond .eq 5, 3) := dk_153 0 5 (dk_at dksX4_touched_0 5 rfl rfl)
theorem dX4_touched_8 : decode cX4_touched 8 = .ok (.iconst 0, 1) := dk_3 (dk_at dksX4_touched_0 8 rfl rfl)
theorem dX4_touched_9 : decode cX4_touched 9 = .ok (.ireturn, 1) := dk_172 (dk_at dksX4_touched_0 9 rfl rfl)
theorem dX4_touched_10 : decode cX4_touched 10 = .ok (.iconst 0, 1) := dk_3 (dk_at dksX4_touched_0 10 rfl rfl)
theorem dX4_touched_11 : decode cX4_touched 11 = .ok (.istore_n 2, 1) := dk_61 (dk_at dksX4_touched_0 11 rfl rfl)
theorem dX4_touched_12 : decode cX4_touched 12 = .ok (.aload_n 0, 1) := dk_42 (dk_at dksX4_touched_0 12 rfl rfl)
theorem dX4_touched_13 : decode cX4_touched 13 = .ok (.getfield 22, 3) := dk_180 0 22 (dk_at dksX4_touched_0 13 rfl rfl)
theorem dX4_touched_16 : decode cX4_touched 16 = .ok (.invokevirtual 123, 3) := dk_182 0 123 (dk_at dksX4_touched_0 16 rfl rfl)
theorem dX4_touched_19 : decode cX4_touched 19 = .ok (.astore_n 3, 1) := dk_78 (dk_at dksX4_touched_0 19 rfl rfl)
theorem dX4_touched_20 : decode cX4_touched 20 = .ok (.aload_n 3, 1) := dk_45 (dk_at dksX4_touched_0 20 rfl rfl)
theorem dX4_touched_21 : decode cX4_touched 21 = .ok (.invokeinterface 127 1, 5) := by decide +kernel
theorem dX4_touched_26 : decode cX4_touched 26 = .ok (.ifCond .eq 44, 3) := dk_153 0 44 (dk_at dksX4_touched_1 5 rfl rfl)
theorem dX4_touched_29 : decode cX4_touched 29 = .ok (.aload_n 3, 1) := dk_45 (dk_at dksX4_touched_1 8 rfl rfl)
theorem dX4_touched_30 : decode cX4_touched 30 = .ok (.invokeinterface 132 1, 5) := by decide +kernel
theorem dX4_touched_35 : decode cX4_touched 35 = .ok (.checkcast 136, 3) := dk_192 0 136 (dk_at dksX4_touched_1 14 rfl rfl)
theorem dX4_touched_38 : decode cX4_touched 38 = .ok (.astore 4, 2) := dk_58 4 (dk_at dksX4_touched_1 17 rfl rfl)
theorem dX4_touched_40 : decode cX4_touched 40 = .ok (.iload_n 2, 1) := dk_28 (dk_at dksX4_touched_1 19 rfl rfl)
theorem dX4_touched_41 : decode cX4_touched 41 = .ok (.aload_n 0, 1) := dk_42 (dk_at dksX4_touched_1 20 rfl rfl)
theorem dX4_touched_42 : decode cX4_touched 42 = .ok (.getfield 19, 3) := dk_180 0 19 (dk_at dksX4_touched_1 21 rfl rfl)
theorem dX4_touched_45 : decode cX4_touched 45 = .ok (.iload_n 1, 1) := dk_27 (dk_at dksX4_touched_2 0 rfl rfl)
theorem dX4_touched_46 : decode cX4_touched 46 = .ok (.invokevirtual 65, 3) := dk_182 0 65 (dk_at dksX4_touched_2 1 rfl rfl)
theorem dX4_touched_49 : decode cX4_touched 49 = .ok (.checkcast 82, 3) := dk_192 0 82 (dk_at dksX4_touched_2 4 rfl rfl)
theorem dX4_touched_52 : decode cX4_touched 52 = .ok (.aload 4, 2) := dk_25 4 (dk_at dksX4_touched_2 7 rfl rfl)
theorem dX4_touched_54 : decode cX4_touched 54 = .ok (.invokestatic 327, 3) := dk_184 1 71 (dk_at dksX4_touched_2 9 rfl rfl)
theorem dX4_touched_57 : decode cX4_touched 57 = .ok (.ifCond .eq 7, 3) := dk_153 0 7 (dk_at dksX4_touched_2 12 rfl rfl)
theorem dX4_touched_60 : decode cX4_touched 60 = .ok (.iconst 1, 1) := dk_4 (dk_at dksX4_touched_2 15 rfl rfl)
theorem dX4_touched_61 : decode cX4_touched 61 = .ok (.goto 4, 3) := dk_167 0 4 (dk_at dksX4_touched_2 16 rfl rfl)
theorem dX4_touched_64 : decode cX4_touched 64 = .ok (.iconst 0, 1) := dk_3 (dk_at dksX4_touched_2 19 rfl rfl)
theorem dX4_touched_65 : decode cX4_touched 65 = .ok (.iadd, 1) := dk_96 (dk_at dksX4_touched_2 20 rfl rfl)
theorem dX4_touched_66 : decode cX4_touched 66 = .ok (.istore_n 2, 1) := dk_61 (dk_at dksX4_touched_2 21 rfl rfl)
theorem dX4_touched_67 : decode cX4_touched 67 = .ok (.goto (-47), 3) := dk_167 255 209 (dk_at dksX4_touched_3 0 rfl rfl)
theorem dX4_touched_70 : decode cX4_touched 70 = .ok (.iload_n 2, 1) := dk_28 (dk_at dksX4_touched_3 3 rfl rfl)
theorem dX4_touched_71 : decode cX4_touched 71 = .ok (.ireturn, 1) := dk_172 (dk_at dksX4_touched_3 4 rfl rfl)
abbrev cX4_isIn_2 : ByteArray := prog_19_method_51_code
def yX4_isIn_2 : MethodName := ⟨RX4, "isIn", "(LFoundrymarkModel$Lot;LFoundrymarkModel$Order;)Z"⟩
def dkwX4_isIn_2_2 : List UInt8 := [182, 1, 67, 153, 0, 7, 4, 167, 0, 4, 3, 61, 167, 255, 211, 28, 172]
abbrev dktX4_isIn_2_2 : List UInt8 := dkwX4_isIn_2_2 ++ []
def dkwX4_isIn_2_1 : List UInt8 := [185, 0, 132, 1, 0, 192, 0, 82, 58, 4, 28, 154, 0, 18, 25, 4, 42, 165, 0, 12, 25, 4, 42]
abbrev dktX4_isIn_2_1 : List UInt8 := dkwX4_isIn_2_1 ++ dktX4_isIn_2_2
def dkwX4_isIn_2_0 : List UInt8 := [3, 61, 43, 180, 1, 58, 182, 0, 123, 78, 45, 185, 0, 127, 1, 0, 153, 0, 42, 45]
abbrev dktX4_isIn_2_0 : List UInt8 := dkwX4_isIn_2_0 ++ dktX4_isIn_2_1
theorem dksX4_isIn_2_0 : cX4_isIn_2.data.toList.drop 0 = dktX4_isIn_2_0 := by decide +kernel
theorem dksX4_isIn_2_1 : cX4_isIn_2.data.toList.drop 20 = dktX4_isIn_2_1 := dk_seg dksX4_isIn_2_0 20 rfl rfl
theorem dksX4_isIn_2_2 : cX4_isIn_2.data.toList.drop 43 = dktX4_isIn_2_2 := dk_seg dksX4_isIn_2_1 23 rfl rfl
theorem dX4_isIn_2_0 : decode cX4_isIn_2 0 = .ok (.iconst 0, 1) := dk_3 (dk_at dksX4_isIn_2_0 0 rfl rfl)
theorem dX4_isIn_2_1 : decode cX4_isIn_2 1 = .ok (.istore_n 2, 1) := dk_61 (dk_at dksX4_isIn_2_0 1 rfl rfl)
theorem dX4_isIn_2_2 : decode cX4_isIn_2 2 = .ok (.aload_n 1, 1) := dk_43 (dk_at dksX4_isIn_2_0 2 rfl rfl)
theorem dX4_isIn_2_3 : decode cX4_isIn_2 3 = .ok (.getfield 314, 3) := dk_180 1 58 (dk_at dksX4_isIn_2_0 3 rfl rfl)
theorem dX4_isIn_2_6 : decode cX4_isIn_2 6 = .ok (.invokevirtual 123, 3) := dk_182 0 123 (dk_at dksX4_isIn_2_0 6 rfl rfl)
theorem dX4_isIn_2_9 : decode cX4_isIn_2 9 = .ok (.astore_n 3, 1) := dk_78 (dk_at dksX4_isIn_2_0 9 rfl rfl)
theorem dX4_isIn_2_10 : decode cX4_isIn_2 10 = .ok (.aload_n 3, 1) := dk_45 (dk_at dksX4_isIn_2_0 10 rfl rfl)
theorem dX4_isIn_2_11 : decode cX4_isIn_2 11 = .ok (.invokeinterface 127 1, 5) := by decide +kernel
theorem dX4_isIn_2_16 : decode cX4_isIn_2 16 = .ok (.ifCond .eq 42, 3) := dk_153 0 42 (dk_at dksX4_isIn_2_0 16 rfl rfl)
theorem dX4_isIn_2_19 : decode cX4_isIn_2 19 = .ok (.aload_n 3, 1) := dk_45 (dk_at dksX4_isIn_2_0 19 rfl rfl)
theorem dX4_isIn_2_20 : decode cX4_isIn_2 20 = .ok (.invokeinterface 132 1, 5) := by decide +kernel
theorem dX4_isIn_2_25 : decode cX4_isIn_2 25 = .ok (.checkcast 82, 3) := dk_192 0 82 (dk_at dksX4_isIn_2_1 5 rfl rfl)
theorem dX4_isIn_2_28 : decode cX4_isIn_2 28 = .ok (.astore 4, 2) := dk_58 4 (dk_at dksX4_isIn_2_1 8 rfl rfl)
theorem dX4_isIn_2_30 : decode cX4_isIn_2 30 = .ok (.iload_n 2, 1) := dk_28 (dk_at dksX4_isIn_2_1 10 rfl rfl)
theorem dX4_isIn_2_31 : decode cX4_isIn_2 31 = .ok (.ifCond .ne 18, 3) := dk_154 0 18 (dk_at dksX4_isIn_2_1 11 rfl rfl)
theorem dX4_isIn_2_34 : decode cX4_isIn_2 34 = .ok (.aload 4, 2) := dk_25 4 (dk_at dksX4_isIn_2_1 14 rfl rfl)
theorem dX4_isIn_2_36 : decode cX4_isIn_2 36 = .ok (.aload_n 0, 1) := dk_42 (dk_at dksX4_isIn_2_1 16 rfl rfl)
theorem dX4_isIn_2_37 : decode cX4_isIn_2 37 = .ok (.if_acmp .eq 12, 3) := dk_165 0 12 (dk_at dksX4_isIn_2_1 17 rfl rfl)
theorem dX4_isIn_2_40 : decode cX4_isIn_2 40 = .ok (.aload 4, 2) := dk_25 4 (dk_at dksX4_isIn_2_1 20 rfl rfl)
theorem dX4_isIn_2_42 : decode cX4_isIn_2 42 = .ok (.aload_n 0, 1) := dk_42 (dk_at dksX4_isIn_2_1 22 rfl rfl)
theorem dX4_isIn_2_43 : decode cX4_isIn_2 43 = .ok (.invokevirtual 323, 3) := dk_182 1 67 (dk_at dksX4_isIn_2_2 0 rfl rfl)
theorem dX4_isIn_2_46 : decode cX4_isIn_2 46 = .ok (.ifCond .eq 7, 3) := dk_153 0 7 (dk_at dksX4_isIn_2_2 3 rfl rfl)
theorem dX4_isIn_2_49 : decode cX4_isIn_2 49 = .ok (.iconst 1, 1) := dk_4 (dk_at dksX4_isIn_2_2 6 rfl rfl)
theorem dX4_isIn_2_50 : decode cX4_isIn_2 50 = .ok (.goto 4, 3) := dk_167 0 4 (dk_at dksX4_isIn_2_2 7 rfl rfl)
theorem dX4_isIn_2_53 : decode cX4_isIn_2 53 = .ok (.iconst 0, 1) := dk_3 (dk_at dksX4_isIn_2_2 10 rfl rfl)
theorem dX4_isIn_2_54 : decode cX4_isIn_2 54 = .ok (.istore_n 2, 1) := dk_61 (dk_at dksX4_isIn_2_2 11 rfl rfl)
theorem dX4_isIn_2_55 : decode cX4_isIn_2 55 = .ok (.goto (-45), 3) := dk_167 255 211 (dk_at dksX4_isIn_2_2 12 rfl rfl)
theorem dX4_isIn_2_58 : decode cX4_isIn_2 58 = .ok (.iload_n 2, 1) := dk_28 (dk_at dksX4_isIn_2_2 15 rfl rfl)
theorem dX4_isIn_2_59 : decode cX4_isIn_2 59 = .ok (.ireturn, 1) := dk_172 (dk_at dksX4_isIn_2_2 16 rfl rfl)
abbrev cX4_lotsIn : ByteArray := prog_19_method_53_code
def yX4_lotsIn : MethodName := ⟨RX4, "lotsIn", "(I)I"⟩
def dkwX4_lotsIn_3 : List UInt8 := [167, 255, 209, 28, 172]
abbrev dktX4_lotsIn_3 : List UInt8 := dkwX4_lotsIn_3 ++ []
def dkwX4_lotsIn_2 : List UInt8 := [180, 0, 22, 27, 182, 0, 65, 192, 0, 136, 184, 1, 71, 153, 0, 7, 4, 167, 0, 4, 3, 96, 61]
abbrev dktX4_lotsIn_2 : List UInt8 := dkwX4_lotsIn_2 ++ dktX4_lotsIn_3
def dkwX4_lotsIn_1 : List UInt8 := [185, 0, 127, 1, 0, 153, 0, 44, 45, 185, 0, 132, 1, 0, 192, 0, 82, 58, 4, 28, 25, 4, 42]
abbrev dktX4_lotsIn_1 : List UInt8 := dkwX4_lotsIn_1 ++ dktX4_lotsIn_2
def dkwX4_lotsIn_0 : List UInt8 := [42, 27, 182, 0, 214, 153, 0, 5, 3, 172, 3, 61, 42, 180, 0, 19, 182, 0, 123, 78, 45]
abbrev dktX4_lotsIn_0 : List UInt8 := dkwX4_lotsIn_0 ++ dktX4_lotsIn_1
theorem dksX4_lotsIn_0 : cX4_lotsIn.data.toList.drop 0 = dktX4_lotsIn_0 := by decide +kernel
theorem dksX4_lotsIn_1 : cX4_lotsIn.data.toList.drop 21 = dktX4_lotsIn_1 := dk_seg dksX4_lotsIn_0 21 rfl rfl
theorem dksX4_lotsIn_2 : cX4_lotsIn.data.toList.drop 44 = dktX4_lotsIn_2 := dk_seg dksX4_lotsIn_1 23 rfl rfl
theorem dksX4_lotsIn_3 : cX4_lotsIn.data.toList.drop 67 = dktX4_lotsIn_3 := dk_seg dksX4_lotsIn_2 23 rfl rfl
theorem dX4_lotsIn_0 : decode cX4_lotsIn 0 = .ok (.aload_n 0, 1) := dk_42 (dk_at dksX4_lotsIn_0 0 rfl rfl)
theorem dX4_lotsIn_1 : decode cX4_lotsIn 1 = .ok (.iload_n 1, 1) := dk_27 (dk_at dksX4_lotsIn_0 1 rfl rfl)
theorem dX4_lotsIn_2 : decode cX4_lotsIn 2 = .ok (.invokevirtual 214, 3) := dk_182 0 214 (dk_at dksX4_lotsIn_0 2 rfl rfl)
theorem dX4_lotsIn_5 : decode cX4_lotsIn 5 = .ok (.ifCond .eq 5, 3) := dk_153 0 5 (dk_at dksX4_lotsIn_0 5 rfl rfl)
theorem dX4_lotsIn_8 : decode cX4_lotsIn 8 = .ok (.iconst 0, 1) := dk_3 (dk_at dksX4_lotsIn_0 8 rfl rfl)
theorem dX4_lotsIn_9 : decode cX4_lotsIn 9 = .ok (.ireturn, 1) := dk_172 (dk_at dksX4_lotsIn_0 9 rfl rfl)
theorem dX4_lotsIn_10 : decode cX4_lotsIn 10 = .ok (.iconst 0, 1) := dk_3 (dk_at dksX4_lotsIn_0 10 rfl rfl)
theorem dX4_lotsIn_11 : decode cX4_lotsIn 11 = .ok (.istore_n 2, 1) := dk_61 (dk_at dksX4_lotsIn_0 11 rfl rfl)
theorem dX4_lotsIn_12 : decode cX4_lotsIn 12 = .ok (.aload_n 0, 1) := dk_42 (dk_at dksX4_lotsIn_0 12 rfl rfl)
theorem dX4_lotsIn_13 : decode cX4_lotsIn 13 = .ok (.getfield 19, 3) := dk_180 0 19 (dk_at dksX4_lotsIn_0 13 rfl rfl)
theorem dX4_lotsIn_16 : decode cX4_lotsIn 16 = .ok (.invokevirtual 123, 3) := dk_182 0 123 (dk_at dksX4_lotsIn_0 16 rfl rfl)
theorem dX4_lotsIn_19 : decode cX4_lotsIn 19 = .ok (.astore_n 3, 1) := dk_78 (dk_at dksX4_lotsIn_0 19 rfl rfl)
theorem dX4_lotsIn_20 : decode cX4_lotsIn 20 = .ok (.aload_n 3, 1) := dk_45 (dk_at dksX4_lotsIn_0 20 rfl rfl)
theorem dX4_lotsIn_21 : decode cX4_lotsIn 21 = .ok (.invokeinterface 127 1, 5) := by decide +kernel
theorem dX4_lotsIn_26 : decode cX4_lotsIn 26 = .ok (.ifCond .eq 44, 3) := dk_153 0 44 (dk_at dksX4_lotsIn_1 5 rfl rfl)
theorem dX4_lotsIn_29 : decode cX4_lotsIn 29 = .ok (.aload_n 3, 1) := dk_45 (dk_at dksX4_lotsIn_1 8 rfl rfl)
theorem dX4_lotsIn_30 : decode cX4_lotsIn 30 = .ok (.invokeinterface 132 1, 5) := by decide +kernel
theorem dX4_lotsIn_35 : decode cX4_lotsIn 35 = .ok (.checkcast 82, 3) := dk_192 0 82 (dk_at dksX4_lotsIn_1 14 rfl rfl)
theorem dX4_lotsIn_38 : decode cX4_lotsIn 38 = .ok (.astore 4, 2) := dk_58 4 (dk_at dksX4_lotsIn_1 17 rfl rfl)
theorem dX4_lotsIn_40 : decode cX4_lotsIn 40 = .ok (.iload_n 2, 1) := dk_28 (dk_at dksX4_lotsIn_1 19 rfl rfl)
theorem dX4_lotsIn_41 : decode cX4_lotsIn 41 = .ok (.aload 4, 2) := dk_25 4 (dk_at dksX4_lotsIn_1 20 rfl rfl)
theorem dX4_lotsIn_43 : decode cX4_lotsIn 43 = .ok (.aload_n 0, 1) := dk_42 (dk_at dksX4_lotsIn_1 22 rfl rfl)
theorem dX4_lotsIn_44 : decode cX4_lotsIn 44 = .ok (.getfield 22, 3) := dk_180 0 22 (dk_at dksX4_lotsIn_2 0 rfl rfl)
theorem dX4_lotsIn_47 : decode cX4_lotsIn 47 = .ok (.iload_n 1, 1) := dk_27 (dk_at dksX4_lotsIn_2 3 rfl rfl)
theorem dX4_lotsIn_48 : decode cX4_lotsIn 48 = .ok (.invokevirtual 65, 3) := dk_182 0 65 (dk_at dksX4_lotsIn_2 4 rfl rfl)
theorem dX4_lotsIn_51 : decode cX4_lotsIn 51 = .ok (.checkcast 136, 3) := dk_192 0 136 (dk_at dksX4_lotsIn_2 7 rfl rfl)
theorem dX4_lotsIn_54 : decode cX4_lotsIn 54 = .ok (.invokestatic 327, 3) := dk_184 1 71 (dk_at dksX4_lotsIn_2 10 rfl rfl)
theorem dX4_lotsIn_57 : decode cX4_lotsIn 57 = .ok (.ifCond .eq 7, 3) := dk_153 0 7 (dk_at dksX4_lotsIn_2 13 rfl rfl)
theorem dX4_lotsIn_60 : decode cX4_lotsIn 60 = .ok (.iconst 1, 1) := dk_4 (dk_at dksX4_lotsIn_2 16 rfl rfl)
theorem dX4_lotsIn_61 : decode cX4_lotsIn 61 = .ok (.goto 4, 3) := dk_167 0 4 (dk_at dksX4_lotsIn_2 17 rfl rfl)
theorem dX4_lotsIn_64 : decode cX4_lotsIn 64 = .ok (.iconst 0, 1) := dk_3 (dk_at dksX4_lotsIn_2 20 rfl rfl)
theorem dX4_lotsIn_65 : decode cX4_lotsIn 65 = .ok (.iadd, 1) := dk_96 (dk_at dksX4_lotsIn_2 21 rfl rfl)
theorem dX4_lotsIn_66 : decode cX4_lotsIn 66 = .ok (.istore_n 2, 1) := dk_61 (dk_at dksX4_lotsIn_2 22 rfl rfl)
theorem dX4_lotsIn_67 : decode cX4_lotsIn 67 = .ok (.goto (-47), 3) := dk_167 255 209 (dk_at dksX4_lotsIn_3 0 rfl rfl)
theorem dX4_lotsIn_70 : decode cX4_lotsIn 70 = .ok (.iload_n 2, 1) := dk_28 (dk_at dksX4_lotsIn_3 3 rfl rfl)
theorem dX4_lotsIn_71 : decode cX4_lotsIn 71 = .ok (.ireturn, 1) := dk_172 (dk_at dksX4_lotsIn_3 4 rfl rfl)
abbrev cX4_deliveredCost : ByteArray := prog_19_method_54_code
def yX4_deliveredCost : MethodName := ⟨RX4, "deliveredCost", "(I)J"⟩
def dkwX4_deliveredCost_2 : List UInt8 := [27, 182, 0, 65, 192, 0, 136, 180, 1, 55, 173]
abbrev dktX4_deliveredCost_2 : List UInt8 := dkwX4_deliveredCost_2 ++ []
def dkwX4_deliveredCost_1 : List UInt8 := [16, 100, 160, 0, 7, 3, 167, 0, 4, 5, 182, 0, 48, 153, 0, 7, 9, 167, 0, 17, 42, 180, 0, 22]
abbrev dktX4_deliveredCost_1 : List UInt8 := dkwX4_deliveredCost_1 ++ dktX4_deliveredCost_2
def dkwX4_deliveredCost_0 : List UInt8 := [42, 27, 182, 0, 214, 154, 0, 34, 42, 42, 180, 0, 22, 27, 182, 0, 65, 192, 0, 136, 180, 0, 139]
abbrev dktX4_deliveredCost_0 : List UInt8 := dkwX4_deliveredCost_0 ++ dktX4_deliveredCost_1
theorem dksX4_deliveredCost_0 : cX4_deliveredCost.data.toList.drop 0 = dktX4_deliveredCost_0 := by decide +kernel
theorem dksX4_deliveredCost_1 : cX4_deliveredCost.data.toList.drop 23 = dktX4_deliveredCost_1 := dk_seg dksX4_deliveredCost_0 23 rfl rfl
theorem dksX4_deliveredCost_2 : cX4_deliveredCost.data.toList.drop 47 = dktX4_deliveredCost_2 := dk_seg dksX4_deliveredCost_1 24 rfl rfl
theorem dX4_deliveredCost_0 : decode cX4_deliveredCost 0 = .ok (.aload_n 0, 1) := dk_42 (dk_at dksX4_deliveredCost_0 0 rfl rfl)
theorem dX4_deliveredCost_1 : decode cX4_deliveredCost 1 = .ok (.iload_n 1, 1) := dk_27 (dk_at dksX4_deliveredCost_0 1 rfl rfl)
theorem dX4_deliveredCost_2 : decode cX4_deliveredCost 2 = .ok (.invokevirtual 214, 3) := dk_182 0 214 (dk_at dksX4_deliveredCost_0 2 rfl rfl)
theorem dX4_deliveredCost_5 : decode cX4_deliveredCost 5 = .ok (.ifCond .ne 34, 3) := dk_154 0 34 (dk_at dksX4_deliveredCost_0 5 rfl rfl)
theorem dX4_deliveredCost_8 : decode cX4_deliveredCost 8 = .ok (.aload_n 0, 1) := dk_42 (dk_at dksX4_deliveredCost_0 8 rfl rfl)
theorem dX4_deliveredCost_9 : decode cX4_deliveredCost 9 = .ok (.aload_n 0, 1) := dk_42 (dk_at dksX4_deliveredCost_0 9 rfl rfl)
theorem dX4_deliveredCost_10 : decode cX4_deliveredCost 10 = .ok (.getfield 22, 3) := dk_180 0 22 (dk_at dksX4_deliveredCost_0 10 rfl rfl)
theorem dX4_deliveredCost_13 : decode cX4_deliveredCost 13 = .ok (.iload_n 1, 1) := dk_27 (dk_at dksX4_deliveredCost_0 13 rfl rfl)
theorem dX4_deliveredCost_14 : decode cX4_deliveredCost 14 = .ok (.invokevirtual 65, 3) := dk_182 0 65 (dk_at dksX4_deliveredCost_0 14 rfl rfl)
theorem dX4_deliveredCost_17 : decode cX4_deliveredCost 17 = .ok (.checkcast 136, 3) := dk_192 0 136 (dk_at dksX4_deliveredCost_0 17 rfl rfl)
theorem dX4_deliveredCost_20 : decode cX4_deliveredCost 20 = .ok (.getfield 139, 3) := dk_180 0 139 (dk_at dksX4_deliveredCost_0 20 rfl rfl)
theorem dX4_deliveredCost_23 : decode cX4_deliveredCost 23 = .ok (.bipush 100, 2) := dk_16 100 (dk_at dksX4_deliveredCost_1 0 rfl rfl)
theorem dX4_deliveredCost_25 : decode cX4_deliveredCost 25 = .ok (.if_icmp .ne 7, 3) := dk_160 0 7 (dk_at dksX4_deliveredCost_1 2 rfl rfl)
theorem dX4_deliveredCost_28 : decode cX4_deliveredCost 28 = .ok (.iconst 0, 1) := dk_3 (dk_at dksX4_deliveredCost_1 5 rfl rfl)
theorem dX4_deliveredCost_29 : decode cX4_deliveredCost 29 = .ok (.goto 4, 3) := dk_167 0 4 (dk_at dksX4_deliveredCost_1 6 rfl rfl)
theorem dX4_deliveredCost_32 : decode cX4_deliveredCost 32 = .ok (.iconst 2, 1) := dk_5 (dk_at dksX4_deliveredCost_1 9 rfl rfl)
theorem dX4_deliveredCost_33 : decode cX4_deliveredCost 33 = .ok (.invokevirtual 48, 3) := dk_182 0 48 (dk_at dksX4_deliveredCost_1 10 rfl rfl)
theorem dX4_deliveredCost_36 : decode cX4_deliveredCost 36 = .ok (.ifCond .eq 7, 3) := dk_153 0 7 (dk_at dksX4_deliveredCost_1 13 rfl rfl)
theorem dX4_deliveredCost_39 : decode cX4_deliveredCost 39 = .ok (.lconst 0, 1) := dk_9 (dk_at dksX4_deliveredCost_1 16 rfl rfl)
theorem dX4_deliveredCost_40 : decode cX4_deliveredCost 40 = .ok (.goto 17, 3) := dk_167 0 17 (dk_at dksX4_deliveredCost_1 17 rfl rfl)
theorem dX4_deliveredCost_43 : decode cX4_deliveredCost 43 = .ok (.aload_n 0, 1) := dk_42 (dk_at dksX4_deliveredCost_1 20 rfl rfl)
theorem dX4_deliveredCost_44 : decode cX4_deliveredCost 44 = .ok (.getfield 22, 3) := dk_180 0 22 (dk_at dksX4_deliveredCost_1 21 rfl rfl)
theorem dX4_deliveredCost_47 : decode cX4_deliveredCost 47 = .ok (.iload_n 1, 1) := dk_27 (dk_at dksX4_deliveredCost_2 0 rfl rfl)
theorem dX4_deliveredCost_48 : decode cX4_deliveredCost 48 = .ok (.invokevirtual 65, 3) := dk_182 0 65 (dk_at dksX4_deliveredCost_2 1 rfl rfl)
theorem dX4_deliveredCost_51 : decode cX4_deliveredCost 51 = .ok (.checkcast 136, 3) := dk_192 0 136 (dk_at dksX4_deliveredCost_2 4 rfl rfl)
theorem dX4_deliveredCost_54 : decode cX4_deliveredCost 54 = .ok (.getfield 311, 3) := dk_180 1 55 (dk_at dksX4_deliveredCost_2 7 rfl rfl)
theorem dX4_deliveredCost_57 : decode cX4_deliveredCost 57 = .ok (.lreturn, 1) := dk_173 (dk_at dksX4_deliveredCost_2 10 rfl rfl)
abbrev cX4_inTimeShare : ByteArray := prog_19_method_55_code
def yX4_inTimeShare : MethodName := ⟨RX4, "inTimeShare", "()F"⟩
def dkwX4_inTimeShare_4 : List UInt8 := [153, 0, 7, 11, 167, 0, 8, 28, 134, 27, 134, 110, 174]
abbrev dktX4_inTimeShare_4 : List UInt8 := dkwX4_inTimeShare_4 ++ []
def dkwX4_inTimeShare_3 : List UInt8 := [4, 167, 0, 4, 3, 96, 61, 167, 255, 191, 42, 27, 154, 0, 7, 4, 167, 0, 4, 3, 182, 0, 48]
abbrev dktX4_inTimeShare_3 : List UInt8 := dkwX4_inTimeShare_3 ++ dktX4_inTimeShare_4
def dkwX4_inTimeShare_2 : List UInt8 := [96, 60, 28, 25, 4, 180, 1, 61, 155, 0, 20, 25, 4, 180, 1, 61, 25, 4, 180, 1, 13, 163, 0, 7]
abbrev dktX4_inTimeShare_2 : List UInt8 := dkwX4_inTimeShare_2 ++ dktX4_inTimeShare_3
def dkwX4_inTimeShare_1 : List UInt8 := [185, 0, 132, 1, 0, 192, 0, 136, 58, 4, 27, 25, 4, 180, 1, 61, 155, 0, 7, 4, 167, 0, 4, 3]
abbrev dktX4_inTimeShare_1 : List UInt8 := dkwX4_inTimeShare_1 ++ dktX4_inTimeShare_2
def dkwX4_inTimeShare_0 : List UInt8 := [3, 60, 3, 61, 42, 180, 0, 22, 182, 0, 123, 78, 45, 185, 0, 127, 1, 0, 153, 0, 62, 45]
abbrev dktX4_inTimeShare_0 : List UInt8 := dkwX4_inTimeShare_0 ++ dktX4_inTimeShare_1
theorem dksX4_inTimeShare_0 : cX4_inTimeShare.data.toList.drop 0 = dktX4_inTimeShare_0 := by decide +kernel
theorem dksX4_inTimeShare_1 : cX4_inTimeShare.data.toList.drop 22 = dktX4_inTimeShare_1 := dk_seg dksX4_inTimeShare_0 22 rfl rfl
theorem dksX4_inTimeShare_2 : cX4_inTimeShare.data.toList.drop 46 = dktX4_inTimeShare_2 := dk_seg dksX4_inTimeShare_1 24 rfl rfl
theorem dksX4_inTimeShare_3 : cX4_inTimeShare.data.toList.drop 70 = dktX4_inTimeShare_3 := dk_seg dksX4_inTimeShare_2 24 rfl rfl
theorem dksX4_inTimeShare_4 : cX4_inTimeShare.data.toList.drop 93 = dktX4_inTimeShare_4 := dk_seg dksX4_inTimeShare_3 23 rfl rfl
theorem dX4_inTimeShare_0 : decode cX4_inTimeShare 0 = .ok (.iconst 0, 1) := dk_3 (dk_at dksX4_inTimeShare_0 0 rfl rfl)
theorem dX4_inTimeShare_1 : decode cX4_inTimeShare 1 = .ok (.istore_n 1, 1) := dk_60 (dk_at dksX4_inTimeShare_0 1 rfl rfl)
theorem dX4_inTimeShare_2 : decode cX4_inTimeShare 2 = .ok (.iconst 0, 1) := dk_3 (dk_at dksX4_inTimeShare_0 2 rfl rfl)
theorem dX4_inTimeShare_3 : decode cX4_inTimeShare 3 = .ok (.istore_n 2, 1) := dk_61 (dk_at dksX4_inTimeShare_0 3 rfl rfl)
theorem dX4_inTimeShare_4 : decode cX4_inTimeShare 4 = .ok (.aload_n 0, 1) := dk_42 (dk_at dksX4_inTimeShare_0 4 rfl rfl)
theorem dX4_inTimeShare_5 : decode cX4_inTimeShare 5 = .ok (.getfield 22, 3) := dk_180 0 22 (dk_at dksX4_inTimeShare_0 5 rfl rfl)
theorem dX4_inTimeShare_8 : decode cX4_inTimeShare 8 = .ok (.invokevirtual 123, 3) := dk_182 0 123 (dk_at dksX4_inTimeShare_0 8 rfl rfl)
theorem dX4_inTimeShare_11 : decode cX4_inTimeShare 11 = .ok (.astore_n 3, 1) := dk_78 (dk_at dksX4_inTimeShare_0 11 rfl rfl)
theorem dX4_inTimeShare_12 : decode cX4_inTimeShare 12 = .ok (.aload_n 3, 1) := dk_45 (dk_at dksX4_inTimeShare_0 12 rfl rfl)
theorem dX4_inTimeShare_13 : decode cX4_inTimeShare 13 = .ok (.invokeinterface 127 1, 5) := by decide +kernel
theorem dX4_inTimeShare_18 : decode cX4_inTimeShare 18 = .ok (.ifCond .eq 62, 3) := dk_153 0 62 (dk_at dksX4_inTimeShare_0 18 rfl rfl)
theorem dX4_inTimeShare_21 : decode cX4_inTimeShare 21 = .ok (.aload_n 3, 1) := dk_45 (dk_at dksX4_inTimeShare_0 21 rfl rfl)
theorem dX4_inTimeShare_22 : decode cX4_inTimeShare 22 = .ok (.invokeinterface 132 1, 5) := by decide +kernel
theorem dX4_inTimeShare_27 : decode cX4_inTimeShare 27 = .ok (.checkcast 136, 3) := dk_192 0 136 (dk_at dksX4_inTimeShare_1 5 rfl rfl)
theorem dX4_inTimeShare_30 : decode cX4_inTimeShare 30 = .ok (.astore 4, 2) := dk_58 4 (dk_at dksX4_inTimeShare_1 8 rfl rfl)
theorem dX4_inTimeShare_32 : decode cX4_inTimeShare 32 = .ok (.iload_n 1, 1) := dk_27 (dk_at dksX4_inTimeShare_1 10 rfl rfl)
theorem dX4_inTimeShare_33 : decode cX4_inTimeShare 33 = .ok (.aload 4, 2) := dk_25 4 (dk_at dksX4_inTimeShare_1 11 rfl rfl)
theorem dX4_inTimeShare_35 : decode cX4_inTimeShare 35 = .ok (.getfield 317, 3) := dk_180 1 61 (dk_at dksX4_inTimeShare_1 13 rfl rfl)
theorem dX4_inTimeShare_38 : decode cX4_inTimeShare 38 = .ok (.ifCond .lt 7, 3) := dk_155 0 7 (dk_at dksX4_inTimeShare_1 16 rfl rfl)
theorem dX4_inTimeShare_41 : decode cX4_inTimeShare 41 = .ok (.iconst 1, 1) := dk_4 (dk_at dksX4_inTimeShare_1 19 rfl rfl)
theorem dX4_inTimeShare_42 : decode cX4_inTimeShare 42 = .ok (.goto 4, 3) := dk_167 0 4 (dk_at dksX4_inTimeShare_1 20 rfl rfl)
theorem dX4_inTimeShare_45 : decode cX4_inTimeShare 45 = .ok (.iconst 0, 1) := dk_3 (dk_at dksX4_inTimeShare_1 23 rfl rfl)
theorem dX4_inTimeShare_46 : decode cX4_inTimeShare 46 = .ok (.iadd, 1) := dk_96 (dk_at dksX4_inTimeShare_2 0 rfl rfl)
theorem dX4_inTimeShare_47 : decode cX4_inTimeShare 47 = .ok (.istore_n 1, 1) := dk_60 (dk_at dksX4_inTimeShare_2 1 rfl rfl)
theorem dX4_inTimeShare_48 : decode cX4_inTimeShare 48 = .ok (.iload_n 2, 1) := dk_28 (dk_at dksX4_inTimeShare_2 2 rfl rfl)
theorem dX4_inTimeShare_49 : decode cX4_inTimeShare 49 = .ok (.aload 4, 2) := dk_25 4 (dk_at dksX4_inTimeShare_2 3 rfl rfl)
theorem dX4_inTimeShare_51 : decode cX4_inTimeShare 51 = .ok (.getfield 317, 3) := dk_180 1 61 (dk_at dksX4_inTimeShare_2 5 rfl rfl)
theorem dX4_inTimeShare_54 : decode cX4_inTimeShare 54 = .ok (.ifCond .lt 20, 3) := dk_155 0 20 (dk_at dksX4_inTimeShare_2 8 rfl rfl)
theorem dX4_inTimeShare_57 : decode cX4_inTimeShare 57 = .ok (.aload 4, 2) := dk_25 4 (dk_at dksX4_inTimeShare_2 11 rfl rfl)
theorem dX4_inTimeShare_59 : decode cX4_inTimeShare 59 = .ok (.getfield 317, 3) := dk_180 1 61 (dk_at dksX4_inTimeShare_2 13 rfl rfl)
theorem dX4_inTimeShare_62 : decode cX4_inTimeShare 62 = .ok (.aload 4, 2) := dk_25 4 (dk_at dksX4_inTimeShare_2 16 rfl rfl)
theorem dX4_inTimeShare_64 : decode cX4_inTimeShare 64 = .ok (.getfield 269, 3) := dk_180 1 13 (dk_at dksX4_inTimeShare_2 18 rfl rfl)
theorem dX4_inTimeShare_67 : decode cX4_inTimeShare 67 = .ok (.if_icmp .gt 7, 3) := dk_163 0 7 (dk_at dksX4_inTimeShare_2 21 rfl rfl)
theorem dX4_inTimeShare_70 : decode cX4_inTimeShare 70 = .ok (.iconst 1, 1) := dk_4 (dk_at dksX4_inTimeShare_3 0 rfl rfl)
theorem dX4_inTimeShare_71 : decode cX4_inTimeShare 71 = .ok (.goto 4, 3) := dk_167 0 4 (dk_at dksX4_inTimeShare_3 1 rfl rfl)
theorem dX4_inTimeShare_74 : decode cX4_inTimeShare 74 = .ok (.iconst 0, 1) := dk_3 (dk_at dksX4_inTimeShare_3 4 rfl rfl)
theorem dX4_inTimeShare_75 : decode cX4_inTimeShare 75 = .ok (.iadd, 1) := dk_96 (dk_at dksX4_inTimeShare_3 5 rfl rfl)
theorem dX4_inTimeShare_76 : decode cX4_inTimeShare 76 = .ok (.istore_n 2, 1) := dk_61 (dk_at dksX4_inTimeShare_3 6 rfl rfl)
theorem dX4_inTimeShare_77 : decode cX4_inTimeShare 77 = .ok (.goto (-65), 3) := dk_167 255 191 (dk_at dksX4_inTimeShare_3 7 rfl rfl)
theorem dX4_inTimeShare_80 : decode cX4_inTimeShare 80 = .ok (.aload_n 0, 1) := dk_42 (dk_at dksX4_inTimeShare_3 10 rfl rfl)
theorem dX4_inTimeShare_81 : decode cX4_inTimeShare 81 = .ok (.iload_n 1, 1) := dk_27 (dk_at dksX4_inTimeShare_3 11 rfl rfl)
theorem dX4_inTimeShare_82 : decode cX4_inTimeShare 82 = .ok (.ifCond .ne 7, 3) := dk_154 0 7 (dk_at dksX4_inTimeShare_3 12 rfl rfl)
theorem dX4_inTimeShare_85 : decode cX4_inTimeShare 85 = .ok (.iconst 1, 1) := dk_4 (dk_at dksX4_inTimeShare_3 15 rfl rfl)
theorem dX4_inTimeShare_86 : decode cX4_inTimeShare 86 = .ok (.goto 4, 3) := dk_167 0 4 (dk_at dksX4_inTimeShare_3 16 rfl rfl)
theorem dX4_inTimeShare_89 : decode cX4_inTimeShare 89 = .ok (.iconst 0, 1) := dk_3 (dk_at dksX4_inTimeShare_3 19 rfl rfl)
theorem dX4_inTimeShare_90 : decode cX4_inTimeShare 90 = .ok (.invokevirtual 48, 3) := dk_182 0 48 (dk_at dksX4_inTimeShare_3 20 rfl rfl)
theorem dX4_inTimeShare_93 : decode cX4_inTimeShare 93 = .ok (.ifCond .eq 7, 3) := dk_153 0 7 (dk_at dksX4_inTimeShare_4 0 rfl rfl)
theorem dX4_inTimeShare_96 : decode cX4_inTimeShare 96 = .ok (.fconst 0, 1) := dk_11 (dk_at dksX4_inTimeShare_4 3 rfl rfl)
theorem dX4_inTimeShare_97 : decode cX4_inTimeShare 97 = .ok (.goto 8, 3) := dk_167 0 8 (dk_at dksX4_inTimeShare_4 4 rfl rfl)
theorem dX4_inTimeShare_100 : decode cX4_inTimeShare 100 = .ok (.iload_n 2, 1) := dk_28 (dk_at dksX4_inTimeShare_4 7 rfl rfl)
theorem dX4_inTimeShare_101 : decode cX4_inTimeShare 101 = .ok (.i2f, 1) := dk_134 (dk_at dksX4_inTimeShare_4 8 rfl rfl)
theorem dX4_inTimeShare_102 : decode cX4_inTimeShare 102 = .ok (.iload_n 1, 1) := dk_27 (dk_at dksX4_inTimeShare_4 9 rfl rfl)
theorem dX4_inTimeShare_103 : decode cX4_inTimeShare 103 = .ok (.i2f, 1) := dk_134 (dk_at dksX4_inTimeShare_4 10 rfl rfl)
theorem dX4_inTimeShare_104 : decode cX4_inTimeShare 104 = .ok (.fdiv, 1) := dk_110 (dk_at dksX4_inTimeShare_4 11 rfl rfl)
theorem dX4_inTimeShare_105 : decode cX4_inTimeShare 105 = .ok (.freturn, 1) := dk_174 (dk_at dksX4_inTimeShare_4 12 rfl rfl)
abbrev cX4_meanBusy : ByteArray := prog_19_method_56_code
def yX4_meanBusy : MethodName := ⟨RX4, "meanBusy", "()D"⟩
def dkwX4_meanBusy_4 : List UInt8 := [180, 0, 10, 182, 0, 44, 135, 111, 175]
abbrev dktX4_meanBusy_4 : List UInt8 := dkwX4_meanBusy_4 ++ []
def dkwX4_meanBusy_3 : List UInt8 := [182, 1, 75, 153, 0, 7, 4, 167, 0, 4, 3, 182, 0, 48, 153, 0, 7, 14, 167, 0, 14, 27, 135, 42]
abbrev dktX4_meanBusy_3 : List UInt8 := dkwX4_meanBusy_3 ++ dktX4_meanBusy_4
def dkwX4_meanBusy_2 : List UInt8 := [180, 0, 252, 45, 180, 1, 27, 100, 167, 0, 4, 3, 96, 96, 60, 167, 255, 207, 42, 42, 180, 0, 10]
abbrev dktX4_meanBusy_2 : List UInt8 := dkwX4_meanBusy_2 ++ dktX4_meanBusy_3
def dkwX4_meanBusy_1 : List UInt8 := [185, 0, 132, 1, 0, 192, 0, 52, 78, 27, 45, 180, 1, 36, 45, 180, 0, 242, 16, 111, 160, 0, 15, 42]
abbrev dktX4_meanBusy_1 : List UInt8 := dkwX4_meanBusy_1 ++ dktX4_meanBusy_2
def dkwX4_meanBusy_0 : List UInt8 := [3, 60, 42, 180, 0, 10, 182, 0, 123, 77, 44, 185, 0, 127, 1, 0, 153, 0, 46, 44]
abbrev dktX4_meanBusy_0 : List UInt8 := dkwX4_meanBusy_0 ++ dktX4_meanBusy_1
theorem dksX4_meanBusy_0 : cX4_meanBusy.data.toList.drop 0 = dktX4_meanBusy_0 := by decide +kernel
theorem dksX4_meanBusy_1 : cX4_meanBusy.data.toList.drop 20 = dktX4_meanBusy_1 := dk_seg dksX4_meanBusy_0 20 rfl rfl
theorem dksX4_meanBusy_2 : cX4_meanBusy.data.toList.drop 44 = dktX4_meanBusy_2 := dk_seg dksX4_meanBusy_1 24 rfl rfl
theorem dksX4_meanBusy_3 : cX4_meanBusy.data.toList.drop 67 = dktX4_meanBusy_3 := dk_seg dksX4_meanBusy_2 23 rfl rfl
theorem dksX4_meanBusy_4 : cX4_meanBusy.data.toList.drop 91 = dktX4_meanBusy_4 := dk_seg dksX4_meanBusy_3 24 rfl rfl
theorem dX4_meanBusy_0 : decode cX4_meanBusy 0 = .ok (.iconst 0, 1) := dk_3 (dk_at dksX4_meanBusy_0 0 rfl rfl)
theorem dX4_meanBusy_1 : decode cX4_meanBusy 1 = .ok (.istore_n 1, 1) := dk_60 (dk_at dksX4_meanBusy_0 1 rfl rfl)
theorem dX4_meanBusy_2 : decode cX4_meanBusy 2 = .ok (.aload_n 0, 1) := dk_42 (dk_at dksX4_meanBusy_0 2 rfl rfl)
theorem dX4_meanBusy_3 : decode cX4_meanBusy 3 = .ok (.getfield 10, 3) := dk_180 0 10 (dk_at dksX4_meanBusy_0 3 rfl rfl)
theorem dX4_meanBusy_6 : decode cX4_meanBusy 6 = .ok (.invokevirtual 123, 3) := dk_182 0 123 (dk_at dksX4_meanBusy_0 6 rfl rfl)
theorem dX4_meanBusy_9 : decode cX4_meanBusy 9 = .ok (.astore_n 2, 1) := dk_77 (dk_at dksX4_meanBusy_0 9 rfl rfl)
theorem dX4_meanBusy_10 : decode cX4_meanBusy 10 = .ok (.aload_n 2, 1) := dk_44 (dk_at dksX4_meanBusy_0 10 rfl rfl)
theorem dX4_meanBusy_11 : decode cX4_meanBusy 11 = .ok (.invokeinterface 127 1, 5) := by decide +kernel
theorem dX4_meanBusy_16 : decode cX4_meanBusy 16 = .ok (.ifCond .eq 46, 3) := dk_153 0 46 (dk_at dksX4_meanBusy_0 16 rfl rfl)
theorem dX4_meanBusy_19 : decode cX4_meanBusy 19 = .ok (.aload_n 2, 1) := dk_44 (dk_at dksX4_meanBusy_0 19 rfl rfl)
theorem dX4_meanBusy_20 : decode cX4_meanBusy 20 = .ok (.invokeinterface 132 1, 5) := by decide +kernel
theorem dX4_meanBusy_25 : decode cX4_meanBusy 25 = .ok (.checkcast 52, 3) := dk_192 0 52 (dk_at dksX4_meanBusy_1 5 rfl rfl)
theorem dX4_meanBusy_28 : decode cX4_meanBusy 28 = .ok (.astore_n 3, 1) := dk_78 (dk_at dksX4_meanBusy_1 8 rfl rfl)
theorem dX4_meanBusy_29 : decode cX4_meanBusy 29 = .ok (.iload_n 1, 1) := dk_27 (dk_at dksX4_meanBusy_1 9 rfl rfl)
theorem dX4_meanBusy_30 : decode cX4_meanBusy 30 = .ok (.aload_n 3, 1) := dk_45 (dk_at dksX4_meanBusy_1 10 rfl rfl)
theorem dX4_meanBusy_31 : decode cX4_meanBusy 31 = .ok (.getfield 292, 3) := dk_180 1 36 (dk_at dksX4_meanBusy_1 11 rfl rfl)
theorem dX4_meanBusy_34 : decode cX4_meanBusy 34 = .ok (.aload_n 3, 1) := dk_45 (dk_at dksX4_meanBusy_1 14 rfl rfl)
theorem dX4_meanBusy_35 : decode cX4_meanBusy 35 = .ok (.getfield 242, 3) := dk_180 0 242 (dk_at dksX4_meanBusy_1 15 rfl rfl)
theorem dX4_meanBusy_38 : decode cX4_meanBusy 38 = .ok (.bipush 111, 2) := dk_16 111 (dk_at dksX4_meanBusy_1 18 rfl rfl)
theorem dX4_meanBusy_40 : decode cX4_meanBusy 40 = .ok (.if_icmp .ne 15, 3) := dk_160 0 15 (dk_at dksX4_meanBusy_1 20 rfl rfl)
theorem dX4_meanBusy_43 : decode cX4_meanBusy 43 = .ok (.aload_n 0, 1) := dk_42 (dk_at dksX4_meanBusy_1 23 rfl rfl)
theorem dX4_meanBusy_44 : decode cX4_meanBusy 44 = .ok (.getfield 252, 3) := dk_180 0 252 (dk_at dksX4_meanBusy_2 0 rfl rfl)
theorem dX4_meanBusy_47 : decode cX4_meanBusy 47 = .ok (.aload_n 3, 1) := dk_45 (dk_at dksX4_meanBusy_2 3 rfl rfl)
theorem dX4_meanBusy_48 : decode cX4_meanBusy 48 = .ok (.getfield 283, 3) := dk_180 1 27 (dk_at dksX4_meanBusy_2 4 rfl rfl)
theorem dX4_meanBusy_51 : decode cX4_meanBusy 51 = .ok (.isub, 1) := dk_100 (dk_at dksX4_meanBusy_2 7 rfl rfl)
theorem dX4_meanBusy_52 : decode cX4_meanBusy 52 = .ok (.goto 4, 3) := dk_167 0 4 (dk_at dksX4_meanBusy_2 8 rfl rfl)
theorem dX4_meanBusy_55 : decode cX4_meanBusy 55 = .ok (.iconst 0, 1) := dk_3 (dk_at dksX4_meanBusy_2 11 rfl rfl)
theorem dX4_meanBusy_56 : decode cX4_meanBusy 56 = .ok (.iadd, 1) := dk_96 (dk_at dksX4_meanBusy_2 12 rfl rfl)
theorem dX4_meanBusy_57 : decode cX4_meanBusy 57 = .ok (.iadd, 1) := dk_96 (dk_at dksX4_meanBusy_2 13 rfl rfl)
theorem dX4_meanBusy_58 : decode cX4_meanBusy 58 = .ok (.istore_n 1, 1) := dk_60 (dk_at dksX4_meanBusy_2 14 rfl rfl)
theorem dX4_meanBusy_59 : decode cX4_meanBusy 59 = .ok (.goto (-49), 3) := dk_167 255 207 (dk_at dksX4_meanBusy_2 15 rfl rfl)
theorem dX4_meanBusy_62 : decode cX4_meanBusy 62 = .ok (.aload_n 0, 1) := dk_42 (dk_at dksX4_meanBusy_2 18 rfl rfl)
theorem dX4_meanBusy_63 : decode cX4_meanBusy 63 = .ok (.aload_n 0, 1) := dk_42 (dk_at dksX4_meanBusy_2 19 rfl rfl)
theorem dX4_meanBusy_64 : decode cX4_meanBusy 64 = .ok (.getfield 10, 3) := dk_180 0 10 (dk_at dksX4_meanBusy_2 20 rfl rfl)
theorem dX4_meanBusy_67 : decode cX4_meanBusy 67 = .ok (.invokevirtual 331, 3) := dk_182 1 75 (dk_at dksX4_meanBusy_3 0 rfl rfl)
theorem dX4_meanBusy_70 : decode cX4_meanBusy 70 = .ok (.ifCond .eq 7, 3) := dk_153 0 7 (dk_at dksX4_meanBusy_3 3 rfl rfl)
theorem dX4_meanBusy_73 : decode cX4_meanBusy 73 = .ok (.iconst 1, 1) := dk_4 (dk_at dksX4_meanBusy_3 6 rfl rfl)
theorem dX4_meanBusy_74 : decode cX4_meanBusy 74 = .ok (.goto 4, 3) := dk_167 0 4 (dk_at dksX4_meanBusy_3 7 rfl rfl)
theorem dX4_meanBusy_77 : decode cX4_meanBusy 77 = .ok (.iconst 0, 1) := dk_3 (dk_at dksX4_meanBusy_3 10 rfl rfl)
theorem dX4_meanBusy_78 : decode cX4_meanBusy 78 = .ok (.invokevirtual 48, 3) := dk_182 0 48 (dk_at dksX4_meanBusy_3 11 rfl rfl)
theorem dX4_meanBusy_81 : decode cX4_meanBusy 81 = .ok (.ifCond .eq 7, 3) := dk_153 0 7 (dk_at dksX4_meanBusy_3 14 rfl rfl)
theorem dX4_meanBusy_84 : decode cX4_meanBusy 84 = .ok (.dconst 0, 1) := dk_14 (dk_at dksX4_meanBusy_3 17 rfl rfl)
theorem dX4_meanBusy_85 : decode cX4_meanBusy 85 = .ok (.goto 14, 3) := dk_167 0 14 (dk_at dksX4_meanBusy_3 18 rfl rfl)
theorem dX4_meanBusy_88 : decode cX4_meanBusy 88 = .ok (.iload_n 1, 1) := dk_27 (dk_at dksX4_meanBusy_3 21 rfl rfl)
theorem dX4_meanBusy_89 : decode cX4_meanBusy 89 = .ok (.i2d, 1) := dk_135 (dk_at dksX4_meanBusy_3 22 rfl rfl)
theorem dX4_meanBusy_90 : decode cX4_meanBusy 90 = .ok (.aload_n 0, 1) := dk_42 (dk_at dksX4_meanBusy_3 23 rfl rfl)
theorem dX4_meanBusy_91 : decode cX4_meanBusy 91 = .ok (.getfield 10, 3) := dk_180 0 10 (dk_at dksX4_meanBusy_4 0 rfl rfl)
theorem dX4_meanBusy_94 : decode cX4_meanBusy 94 = .ok (.invokevirtual 44, 3) := dk_182 0 44 (dk_at dksX4_meanBusy_4 3 rfl rfl)
theorem dX4_meanBusy_97 : decode cX4_meanBusy 97 = .ok (.i2d, 1) := dk_135 (dk_at dksX4_meanBusy_4 6 rfl rfl)
theorem dX4_meanBusy_98 : decode cX4_meanBusy 98 = .ok (.ddiv, 1) := dk_111 (dk_at dksX4_meanBusy_4 7 rfl rfl)
theorem dX4_meanBusy_99 : decode cX4_meanBusy 99 = .ok (.dreturn, 1) := dk_175 (dk_at dksX4_meanBusy_4 8 rfl rfl)
abbrev cX4_isSound : ByteArray := prog_19_method_57_code
def yX4_isSound : MethodName := ⟨RX4, "isSound", "()Z"⟩
def dkwX4_isSound_0 : List UInt8 := [42, 3, 181, 0, 36, 4, 172]
abbrev dktX4_isSound_0 : List UInt8 := dkwX4_isSound_0 ++ []
theorem dksX4_isSound_0 : cX4_isSound.data.toList.drop 0 = dktX4_isSound_0 := by decide +kernel
theorem dX4_isSound_0 : decode cX4_isSound 0 = .ok (.aload_n 0, 1) := dk_42 (dk_at dksX4_isSound_0 0 rfl rfl)
theorem dX4_isSound_1 : decode cX4_isSound 1 = .ok (.iconst 0, 1) := dk_3 (dk_at dksX4_isSound_0 1 rfl rfl)
theorem dX4_isSound_2 : decode cX4_isSound 2 = .ok (.putfield 36, 3) := dk_181 0 36 (dk_at dksX4_isSound_0 2 rfl rfl)
theorem dX4_isSound_5 : decode cX4_isSound 5 = .ok (.iconst 1, 1) := dk_4 (dk_at dksX4_isSound_0 5 rfl rfl)
theorem dX4_isSound_6 : decode cX4_isSound 6 = .ok (.ireturn, 1) := dk_172 (dk_at dksX4_isSound_0 6 rfl rfl)
theorem q47 : (Jvm.Cond.initialized "FoundrymarkModel") ∈ lw_all := lw_g (lw_at lw_m1 8 rfl) rfl
theorem q572 : (Jvm.Cond.selects "FoundrymarkModel" ({ cls := "java/lang/Object", name := "getClass", desc := "()Ljava/lang/Class;" } : Jvm.MethodName) ({ cls := "java/lang/Object", name := "getClass", desc := "()Ljava/lang/Class;" } : Jvm.MethodName)) ∈ lw_all := lw_g (lw_at lw_m3 53 rfl) rfl
theorem q1458 : (Jvm.Cond.instantiable "FoundrymarkModel" (9 : Nat)) ∈ lw_all := lw_g (lw_at lw_m6 219 rfl) rfl
theorem q1460 : (Jvm.Cond.instanceMethod ({ cls := "FoundrymarkModel", name := "<init>", desc := "()V" } : Jvm.MethodName)) ∈ lw_all := lw_g (lw_at lw_m6 221 rfl) rfl
theorem q1461 : (Jvm.Cond.code ({ cls := "FoundrymarkModel", name := "<init>", desc := "()V" } : Jvm.MethodName) prog_19_method_1_code (3 : Nat) (Option.none : Option Jvm.ClassFile.FieldType)) ∈ lw_all := lw_g (lw_at lw_m6 222 rfl) rfl
theorem q1462 : (Jvm.Cond.methodLink "FoundrymarkModel" (1 : Nat) ({ cls := "java/lang/Object", name := "<init>", desc := "()V" } : Jvm.MethodName)) ∈ lw_all := lw_g (lw_at lw_m6 223 rfl) rfl
theorem q1463 : (Jvm.Cond.classLink "FoundrymarkModel" (7 : Nat) "java/util/ArrayList") ∈ lw_all := lw_g (lw_at lw_m6 224 rfl) rfl
theorem q1464 : (Jvm.Cond.methodLink "FoundrymarkModel" (9 : Nat) ({ cls := "java/util/ArrayList", name := "<init>", desc := "()V" } : Jvm.MethodName)) ∈ lw_all := lw_g (lw_at lw_m6 225 rfl) rfl
theorem q1465 : (Jvm.Cond.methodLink "FoundrymarkModel" (32 : Nat) ({ cls := "java/util/ArrayList", name := "add", desc := "(Ljava/lang/Object;)Z" } : Jvm.MethodName)) ∈ lw_all := lw_g (lw_at lw_m6 226 rfl) rfl
theorem q1466 : (Jvm.Cond.fieldLink "FoundrymarkModel" (36 : Nat) "FoundrymarkModel" "thrown" "I") ∈ lw_all := lw_g (lw_at lw_m6 227 rfl) rfl
theorem q1467 : (Jvm.Cond.fieldLink "FoundrymarkModel" (10 : Nat) "FoundrymarkModel" "machines" "Ljava/util/ArrayList;") ∈ lw_all := lw_g (lw_at lw_m6 228 rfl) rfl
theorem q1468 : (Jvm.Cond.fieldLink "FoundrymarkModel" (16 : Nat) "FoundrymarkModel" "parts" "Ljava/util/ArrayList;") ∈ lw_all := lw_g (lw_at lw_m6 229 rfl) rfl
theorem q1469 : (Jvm.Cond.fieldLink "FoundrymarkModel" (19 : Nat) "FoundrymarkModel" "lots" "Ljava/util/ArrayList;") ∈ lw_all := lw_g (lw_at lw_m6 230 rfl) rfl
theorem q1470 : (Jvm.Cond.fieldLink "FoundrymarkModel" (22 : Nat) "FoundrymarkModel" "orders" "Ljava/util/ArrayList;") ∈ lw_all := lw_g (lw_at lw_m6 231 rfl) rfl
theorem q1471 : (Jvm.Cond.fieldLink "FoundrymarkModel" (87 : Nat) "FoundrymarkModel" "bought" "I") ∈ lw_all := lw_g (lw_at lw_m6 232 rfl) rfl
theorem q1472 : (Jvm.Cond.fieldLink "FoundrymarkModel" (25 : Nat) "FoundrymarkModel" "rules" "[C") ∈ lw_all := lw_g (lw_at lw_m6 233 rfl) rfl
theorem q1473 : (Jvm.Cond.fieldLink "FoundrymarkModel" (29 : Nat) "FoundrymarkModel" "refused" "Ljava/util/ArrayList;") ∈ lw_all := lw_g (lw_at lw_m6 234 rfl) rfl
theorem q1474 : (Jvm.Cond.fieldLink "FoundrymarkModel" (252 : Nat) "FoundrymarkModel" "time" "I") ∈ lw_all := lw_g (lw_at lw_m6 235 rfl) rfl
theorem q1475 : (Jvm.Cond.lays "FoundrymarkModel" "FoundrymarkModel" "thrown" "I") ∈ lw_all := lw_g (lw_at lw_m6 236 rfl) rfl
theorem q1476 : (Jvm.Cond.soleField "FoundrymarkModel" "thrown") ∈ lw_all := lw_g (lw_at lw_m6 237 rfl) rfl
theorem q1477 : (Jvm.Cond.laysFinal "FoundrymarkModel" "FoundrymarkModel" "machines" "Ljava/util/ArrayList;") ∈ lw_all := lw_g (lw_at lw_m6 238 rfl) rfl
theorem q1478 : (Jvm.Cond.soleField "FoundrymarkModel" "machines") ∈ lw_all := lw_g (lw_at lw_m6 239 rfl) rfl
theorem q1479 : (Jvm.Cond.laysFinal "FoundrymarkModel" "FoundrymarkModel" "parts" "Ljava/util/ArrayList;") ∈ lw_all := lw_g (lw_at lw_m7 0 rfl) rfl
theorem q1480 : (Jvm.Cond.soleField "FoundrymarkModel" "parts") ∈ lw_all := lw_g (lw_at lw_m7 1 rfl) rfl
theorem q1481 : (Jvm.Cond.laysFinal "FoundrymarkModel" "FoundrymarkModel" "lots" "Ljava/util/ArrayList;") ∈ lw_all := lw_g (lw_at lw_m7 2 rfl) rfl
theorem q1482 : (Jvm.Cond.soleField "FoundrymarkModel" "lots") ∈ lw_all := lw_g (lw_at lw_m7 3 rfl) rfl
theorem q1483 : (Jvm.Cond.laysFinal "FoundrymarkModel" "FoundrymarkModel" "orders" "Ljava/util/ArrayList;") ∈ lw_all := lw_g (lw_at lw_m7 4 rfl) rfl
theorem q1484 : (Jvm.Cond.soleField "FoundrymarkModel" "orders") ∈ lw_all := lw_g (lw_at lw_m7 5 rfl) rfl
theorem q1485 : (Jvm.Cond.lays "FoundrymarkModel" "FoundrymarkModel" "bought" "I") ∈ lw_all := lw_g (lw_at lw_m7 6 rfl) rfl
theorem q1486 : (Jvm.Cond.soleField "FoundrymarkModel" "bought") ∈ lw_all := lw_g (lw_at lw_m7 7 rfl) rfl
theorem q1487 : (Jvm.Cond.laysFinal "FoundrymarkModel" "FoundrymarkModel" "rules" "[C") ∈ lw_all := lw_g (lw_at lw_m7 8 rfl) rfl
theorem q1488 : (Jvm.Cond.soleField "FoundrymarkModel" "rules") ∈ lw_all := lw_g (lw_at lw_m7 9 rfl) rfl
theorem q1489 : (Jvm.Cond.laysFinal "FoundrymarkModel" "FoundrymarkModel" "refused" "Ljava/util/ArrayList;") ∈ lw_all := lw_g (lw_at lw_m7 10 rfl) rfl
theorem q1490 : (Jvm.Cond.soleField "FoundrymarkModel" "refused") ∈ lw_all := lw_g (lw_at lw_m7 11 rfl) rfl
theorem q1491 : (Jvm.Cond.lays "FoundrymarkModel" "FoundrymarkModel" "time" "I") ∈ lw_all := lw_g (lw_at lw_m7 12 rfl) rfl
theorem q1492 : (Jvm.Cond.soleField "FoundrymarkModel" "time") ∈ lw_all := lw_g (lw_at lw_m7 13 rfl) rfl
theorem q1493 : (Jvm.Cond.superclass "FoundrymarkModel" "java/lang/Object") ∈ lw_all := lw_g (lw_at lw_m7 14 rfl) rfl
theorem q1496 : (Jvm.Cond.instanceMethod ({ cls := "FoundrymarkModel", name := "thrown", desc := "()I" } : Jvm.MethodName)) ∈ lw_all := lw_g (lw_at lw_m7 17 rfl) rfl
theorem q1497 : (Jvm.Cond.selects "FoundrymarkModel" ({ cls := "FoundrymarkModel", name := "thrown", desc := "()I" } : Jvm.MethodName) ({ cls := "FoundrymarkModel", name := "thrown", desc := "()I" } : Jvm.MethodName)) ∈ lw_all := lw_g (lw_at lw_m7 18 rfl) rfl
theorem q1498 : (Jvm.Cond.code ({ cls := "FoundrymarkModel", name := "thrown", desc := "()I" } : Jvm.MethodName) prog_19_method_2_code (1 : Nat) (Option.some Jvm.ClassFile.FieldType.int)) ∈ lw_all := lw_g (lw_at lw_m7 19 rfl) rfl
theorem q1500 : (Jvm.Cond.instanceMethod ({ cls := "FoundrymarkModel", name := "addMachine", desc := "(IIII)I" } : Jvm.MethodName)) ∈ lw_all := lw_g (lw_at lw_m7 21 rfl) rfl
theorem q1501 : (Jvm.Cond.selects "FoundrymarkModel" ({ cls := "FoundrymarkModel", name := "addMachine", desc := "(IIII)I" } : Jvm.MethodName) ({ cls := "FoundrymarkModel", name := "addMachine", desc := "(IIII)I" } : Jvm.MethodName)) ∈ lw_all := lw_g (lw_at lw_m7 22 rfl) rfl
theorem q1502 : (Jvm.Cond.code ({ cls := "FoundrymarkModel", name := "addMachine", desc := "(IIII)I" } : Jvm.MethodName) prog_19_method_5_code (7 : Nat) (Option.some Jvm.ClassFile.FieldType.int)) ∈ lw_all := lw_g (lw_at lw_m7 23 rfl) rfl
theorem q1503 : (Jvm.Cond.methodLink "FoundrymarkModel" (40 : Nat) ({ cls := "FoundrymarkModel", name := "in", desc := "(III)Z" } : Jvm.MethodName)) ∈ lw_all := lw_g (lw_at lw_m7 24 rfl) rfl
theorem q1504 : (Jvm.Cond.static ({ cls := "FoundrymarkModel", name := "in", desc := "(III)Z" } : Jvm.MethodName)) ∈ lw_all := lw_g (lw_at lw_m7 25 rfl) rfl
theorem q1505 : (Jvm.Cond.code ({ cls := "FoundrymarkModel", name := "in", desc := "(III)Z" } : Jvm.MethodName) prog_19_method_4_code (3 : Nat) (Option.some Jvm.ClassFile.FieldType.boolean)) ∈ lw_all := lw_g (lw_at lw_m7 26 rfl) rfl
theorem q1506 : (Jvm.Cond.methodLink "FoundrymarkModel" (44 : Nat) ({ cls := "java/util/ArrayList", name := "size", desc := "()I" } : Jvm.MethodName)) ∈ lw_all := lw_g (lw_at lw_m7 27 rfl) rfl
theorem q1507 : (Jvm.Cond.methodLink "FoundrymarkModel" (48 : Nat) ({ cls := "FoundrymarkModel", name := "fails", desc := "(I)Z" } : Jvm.MethodName)) ∈ lw_all := lw_g (lw_at lw_m7 28 rfl) rfl
theorem q1508 : (Jvm.Cond.privateMethod ({ cls := "FoundrymarkModel", name := "fails", desc := "(I)Z" } : Jvm.MethodName)) ∈ lw_tbl := lw_at lw_m7 29 rfl
theorem q1509 : (Jvm.Cond.instanceMethod ({ cls := "FoundrymarkModel", name := "fails", desc := "(I)Z" } : Jvm.MethodName)) ∈ lw_all := lw_g (lw_at lw_m7 30 rfl) rfl
theorem q1510 : (Jvm.Cond.code ({ cls := "FoundrymarkModel", name := "fails", desc := "(I)Z" } : Jvm.MethodName) prog_19_method_3_code (2 : Nat) (Option.some Jvm.ClassFile.FieldType.boolean)) ∈ lw_all := lw_g (lw_at lw_m7 31 rfl) rfl
theorem q1511 : (Jvm.Cond.classLink "FoundrymarkModel" (52 : Nat) "FoundrymarkModel$Machine") ∈ lw_all := lw_g (lw_at lw_m7 32 rfl) rfl
theorem q1513 : (Jvm.Cond.methodLink "FoundrymarkModel" (54 : Nat) ({ cls := "FoundrymarkModel$Machine", name := "<init>", desc := "(IIII)V" } : Jvm.MethodName)) ∈ lw_all := lw_g (lw_at lw_m7 34 rfl) rfl
theorem q1518 : (Jvm.Cond.fieldLinkNest "FoundrymarkModel" (289 : Nat) "FoundrymarkModel$Machine" "rate" "I" "FoundrymarkModel") ∈ lw_tbl := lw_at lw_m7 39 rfl
theorem q1520 : (Jvm.Cond.fieldLinkNest "FoundrymarkModel" (276 : Nat) "FoundrymarkModel$Machine" "setup" "I" "FoundrymarkModel") ∈ lw_tbl := lw_at lw_m7 41 rfl
theorem q1522 : (Jvm.Cond.fieldLinkNest "FoundrymarkModel" (298 : Nat) "FoundrymarkModel$Machine" "life" "I" "FoundrymarkModel") ∈ lw_tbl := lw_at lw_m7 43 rfl
theorem q1524 : (Jvm.Cond.fieldLinkNest "FoundrymarkModel" (301 : Nat) "FoundrymarkModel$Machine" "repair" "I" "FoundrymarkModel") ∈ lw_tbl := lw_at lw_m7 45 rfl
theorem q1526 : (Jvm.Cond.fieldLinkNest "FoundrymarkModel" (272 : Nat) "FoundrymarkModel$Machine" "family" "I" "FoundrymarkModel") ∈ lw_tbl := lw_at lw_m7 47 rfl
theorem q1527 : (Jvm.Cond.fieldLinkNest "FoundrymarkModel" (295 : Nat) "FoundrymarkModel$Machine" "wear" "I" "FoundrymarkModel") ∈ lw_tbl := lw_at lw_m7 48 rfl
theorem q1529 : (Jvm.Cond.fieldLinkNest "FoundrymarkModel" (242 : Nat) "FoundrymarkModel$Machine" "state" "C" "FoundrymarkModel") ∈ lw_tbl := lw_at lw_m7 50 rfl
theorem q1530 : (Jvm.Cond.fieldLinkNest "FoundrymarkModel" (286 : Nat) "FoundrymarkModel$Machine" "ends" "I" "FoundrymarkModel") ∈ lw_tbl := lw_at lw_m7 51 rfl
theorem q1531 : (Jvm.Cond.fieldLinkNest "FoundrymarkModel" (283 : Nat) "FoundrymarkModel$Machine" "began" "I" "FoundrymarkModel") ∈ lw_tbl := lw_at lw_m7 52 rfl
theorem q1532 : (Jvm.Cond.fieldLinkNest "FoundrymarkModel" (279 : Nat) "FoundrymarkModel$Machine" "order" "LFoundrymarkModel$Order;" "FoundrymarkModel") ∈ lw_tbl := lw_at lw_m7 53 rfl
theorem q1533 : (Jvm.Cond.fieldLinkNest "FoundrymarkModel" (292 : Nat) "FoundrymarkModel$Machine" "busy" "I" "FoundrymarkModel") ∈ lw_tbl := lw_at lw_m7 54 rfl
theorem q1558 : (Jvm.Cond.instanceMethod ({ cls := "FoundrymarkModel", name := "addPart", desc := "(ZI)I" } : Jvm.MethodName)) ∈ lw_all := lw_g (lw_at lw_m7 79 rfl) rfl
theorem q1559 : (Jvm.Cond.selects "FoundrymarkModel" ({ cls := "FoundrymarkModel", name := "addPart", desc := "(ZI)I" } : Jvm.MethodName) ({ cls := "FoundrymarkModel", name := "addPart", desc := "(ZI)I" } : Jvm.MethodName)) ∈ lw_all := lw_g (lw_at lw_m7 80 rfl) rfl
theorem q1560 : (Jvm.Cond.code ({ cls := "FoundrymarkModel", name := "addPart", desc := "(ZI)I" } : Jvm.MethodName) prog_19_method_6_code (4 : Nat) (Option.some Jvm.ClassFile.FieldType.int)) ∈ lw_all := lw_g (lw_at lw_m7 81 rfl) rfl
theorem q1561 : (Jvm.Cond.classLink "FoundrymarkModel" (57 : Nat) "FoundrymarkModel$Part") ∈ lw_all := lw_g (lw_at lw_m7 82 rfl) rfl
theorem q1563 : (Jvm.Cond.methodLink "FoundrymarkModel" (59 : Nat) ({ cls := "FoundrymarkModel$Part", name := "<init>", desc := "(ZI)V" } : Jvm.MethodName)) ∈ lw_all := lw_g (lw_at lw_m7 84 rfl) rfl
theorem q1570 : (Jvm.Cond.fieldLinkNest "FoundrymarkModel" (69 : Nat) "FoundrymarkModel$Part" "isMade" "Z" "FoundrymarkModel") ∈ lw_tbl := lw_at lw_m7 91 rfl
theorem q1572 : (Jvm.Cond.fieldLinkNest "FoundrymarkModel" (275 : Nat) "FoundrymarkModel$Part" "family" "I" "FoundrymarkModel") ∈ lw_tbl := lw_at lw_m7 93 rfl
theorem q1574 : (Jvm.Cond.fieldLinkNest "FoundrymarkModel" (73 : Nat) "FoundrymarkModel$Part" "components" "Ljava/util/ArrayList;" "FoundrymarkModel") ∈ lw_tbl := lw_at lw_m7 95 rfl
theorem q1576 : (Jvm.Cond.fieldLinkNest "FoundrymarkModel" (79 : Nat) "FoundrymarkModel$Part" "operations" "Ljava/util/ArrayList;" "FoundrymarkModel") ∈ lw_tbl := lw_at lw_m7 97 rfl
theorem q1578 : (Jvm.Cond.fieldLinkNest "FoundrymarkModel" (167 : Nat) "FoundrymarkModel$Part" "centre" "I" "FoundrymarkModel") ∈ lw_tbl := lw_at lw_m7 99 rfl
theorem q1580 : (Jvm.Cond.fieldLinkNest "FoundrymarkModel" (170 : Nat) "FoundrymarkModel$Part" "width" "I" "FoundrymarkModel") ∈ lw_tbl := lw_at lw_m7 101 rfl
theorem q1581 : (Jvm.Cond.fieldLinkNest "FoundrymarkModel" (173 : Nat) "FoundrymarkModel$Part" "above" "I" "FoundrymarkModel") ∈ lw_tbl := lw_at lw_m7 102 rfl
theorem q1582 : (Jvm.Cond.fieldLinkNest "FoundrymarkModel" (176 : Nat) "FoundrymarkModel$Part" "below" "I" "FoundrymarkModel") ∈ lw_tbl := lw_at lw_m7 103 rfl
theorem q1583 : (Jvm.Cond.fieldLinkNest "FoundrymarkModel" (179 : Nat) "FoundrymarkModel$Part" "measured" "I" "FoundrymarkModel") ∈ lw_tbl := lw_at lw_m7 104 rfl
theorem q1604 : (Jvm.Cond.instanceMethod ({ cls := "FoundrymarkModel", name := "addComponent", desc := "(IIII)I" } : Jvm.MethodName)) ∈ lw_all := lw_g (lw_at lw_m7 125 rfl) rfl
theorem q1605 : (Jvm.Cond.selects "FoundrymarkModel" ({ cls := "FoundrymarkModel", name := "addComponent", desc := "(IIII)I" } : Jvm.MethodName) ({ cls := "FoundrymarkModel", name := "addComponent", desc := "(IIII)I" } : Jvm.MethodName)) ∈ lw_all := lw_g (lw_at lw_m7 126 rfl) rfl
theorem q1606 : (Jvm.Cond.code ({ cls := "FoundrymarkModel", name := "addComponent", desc := "(IIII)I" } : Jvm.MethodName) prog_19_method_8_code (7 : Nat) (Option.some Jvm.ClassFile.FieldType.int)) ∈ lw_all := lw_g (lw_at lw_m7 127 rfl) rfl
theorem q1607 : (Jvm.Cond.methodLink "FoundrymarkModel" (62 : Nat) ({ cls := "FoundrymarkModel", name := "isPart", desc := "(I)Z" } : Jvm.MethodName)) ∈ lw_all := lw_g (lw_at lw_m7 128 rfl) rfl
theorem q1608 : (Jvm.Cond.privateMethod ({ cls := "FoundrymarkModel", name := "isPart", desc := "(I)Z" } : Jvm.MethodName)) ∈ lw_tbl := lw_at lw_m7 129 rfl
theorem q1609 : (Jvm.Cond.instanceMethod ({ cls := "FoundrymarkModel", name := "isPart", desc := "(I)Z" } : Jvm.MethodName)) ∈ lw_all := lw_g (lw_at lw_m7 130 rfl) rfl
theorem q1610 : (Jvm.Cond.code ({ cls := "FoundrymarkModel", name := "isPart", desc := "(I)Z" } : Jvm.MethodName) prog_19_method_7_code (2 : Nat) (Option.some Jvm.ClassFile.FieldType.boolean)) ∈ lw_all := lw_g (lw_at lw_m7 131 rfl) rfl
theorem q1611 : (Jvm.Cond.methodLink "FoundrymarkModel" (65 : Nat) ({ cls := "java/util/ArrayList", name := "get", desc := "(I)Ljava/lang/Object;" } : Jvm.MethodName)) ∈ lw_all := lw_g (lw_at lw_m7 132 rfl) rfl
theorem q1613 : (Jvm.Cond.instanceMethod ({ cls := "FoundrymarkModel", name := "addOperation", desc := "(IIII)I" } : Jvm.MethodName)) ∈ lw_all := lw_g (lw_at lw_m7 134 rfl) rfl
theorem q1614 : (Jvm.Cond.selects "FoundrymarkModel" ({ cls := "FoundrymarkModel", name := "addOperation", desc := "(IIII)I" } : Jvm.MethodName) ({ cls := "FoundrymarkModel", name := "addOperation", desc := "(IIII)I" } : Jvm.MethodName)) ∈ lw_all := lw_g (lw_at lw_m7 135 rfl) rfl
theorem q1615 : (Jvm.Cond.code ({ cls := "FoundrymarkModel", name := "addOperation", desc := "(IIII)I" } : Jvm.MethodName) prog_19_method_10_code (7 : Nat) (Option.some Jvm.ClassFile.FieldType.int)) ∈ lw_all := lw_g (lw_at lw_m7 136 rfl) rfl
theorem q1616 : (Jvm.Cond.methodLink "FoundrymarkModel" (76 : Nat) ({ cls := "FoundrymarkModel", name := "isMachine", desc := "(I)Z" } : Jvm.MethodName)) ∈ lw_all := lw_g (lw_at lw_m7 137 rfl) rfl
theorem q1617 : (Jvm.Cond.privateMethod ({ cls := "FoundrymarkModel", name := "isMachine", desc := "(I)Z" } : Jvm.MethodName)) ∈ lw_tbl := lw_at lw_m7 138 rfl
theorem q1618 : (Jvm.Cond.instanceMethod ({ cls := "FoundrymarkModel", name := "isMachine", desc := "(I)Z" } : Jvm.MethodName)) ∈ lw_all := lw_g (lw_at lw_m7 139 rfl) rfl
theorem q1619 : (Jvm.Cond.code ({ cls := "FoundrymarkModel", name := "isMachine", desc := "(I)Z" } : Jvm.MethodName) prog_19_method_9_code (2 : Nat) (Option.some Jvm.ClassFile.FieldType.boolean)) ∈ lw_all := lw_g (lw_at lw_m7 140 rfl) rfl
theorem q1621 : (Jvm.Cond.instanceMethod ({ cls := "FoundrymarkModel", name := "receive", desc := "(IIIII)I" } : Jvm.MethodName)) ∈ lw_all := lw_g (lw_at lw_m7 142 rfl) rfl
theorem q1622 : (Jvm.Cond.selects "FoundrymarkModel" ({ cls := "FoundrymarkModel", name := "receive", desc := "(IIIII)I" } : Jvm.MethodName) ({ cls := "FoundrymarkModel", name := "receive", desc := "(IIIII)I" } : Jvm.MethodName)) ∈ lw_all := lw_g (lw_at lw_m7 143 rfl) rfl
theorem q1623 : (Jvm.Cond.code ({ cls := "FoundrymarkModel", name := "receive", desc := "(IIIII)I" } : Jvm.MethodName) prog_19_method_12_code (12 : Nat) (Option.some Jvm.ClassFile.FieldType.int)) ∈ lw_all := lw_g (lw_at lw_m7 144 rfl) rfl
theorem q1624 : (Jvm.Cond.methodLink "FoundrymarkModel" (90 : Nat) ({ cls := "FoundrymarkModel", name := "lot", desc := "(IIJ)LFoundrymarkModel$Lot;" } : Jvm.MethodName)) ∈ lw_all := lw_g (lw_at lw_m7 145 rfl) rfl
theorem q1625 : (Jvm.Cond.privateMethod ({ cls := "FoundrymarkModel", name := "lot", desc := "(IIJ)LFoundrymarkModel$Lot;" } : Jvm.MethodName)) ∈ lw_tbl := lw_at lw_m7 146 rfl
theorem q1626 : (Jvm.Cond.instanceMethod ({ cls := "FoundrymarkModel", name := "lot", desc := "(IIJ)LFoundrymarkModel$Lot;" } : Jvm.MethodName)) ∈ lw_all := lw_g (lw_at lw_m7 147 rfl) rfl
theorem q1627 : (Jvm.Cond.code ({ cls := "FoundrymarkModel", name := "lot", desc := "(IIJ)LFoundrymarkModel$Lot;" } : Jvm.MethodName) prog_19_method_11_code (7 : Nat) (Option.some (Jvm.ClassFile.FieldType.object "FoundrymarkModel$Lot"))) ∈ lw_all := lw_g (lw_at lw_m7 148 rfl) rfl
theorem q1628 : (Jvm.Cond.classLink "FoundrymarkModel" (82 : Nat) "FoundrymarkModel$Lot") ∈ lw_all := lw_g (lw_at lw_m7 149 rfl) rfl
theorem q1630 : (Jvm.Cond.methodLink "FoundrymarkModel" (84 : Nat) ({ cls := "FoundrymarkModel$Lot", name := "<init>", desc := "(IIIJ)V" } : Jvm.MethodName)) ∈ lw_all := lw_g (lw_at lw_m7 151 rfl) rfl
theorem q1637 : (Jvm.Cond.fieldLinkNest "FoundrymarkModel" (110 : Nat) "FoundrymarkModel$Lot" "number" "I" "FoundrymarkModel") ∈ lw_tbl := lw_at lw_m7 158 rfl
theorem q1639 : (Jvm.Cond.fieldLinkNest "FoundrymarkModel" (182 : Nat) "FoundrymarkModel$Lot" "part" "I" "FoundrymarkModel") ∈ lw_tbl := lw_at lw_m7 160 rfl
theorem q1641 : (Jvm.Cond.fieldLinkNest "FoundrymarkModel" (189 : Nat) "FoundrymarkModel$Lot" "rest" "I" "FoundrymarkModel") ∈ lw_tbl := lw_at lw_m7 162 rfl
theorem q1642 : (Jvm.Cond.fieldLinkNest "FoundrymarkModel" (150 : Nat) "FoundrymarkModel$Lot" "reserved" "I" "FoundrymarkModel") ∈ lw_tbl := lw_at lw_m7 163 rfl
theorem q1644 : (Jvm.Cond.fieldLinkNest "FoundrymarkModel" (192 : Nat) "FoundrymarkModel$Lot" "cost" "J" "FoundrymarkModel") ∈ lw_tbl := lw_at lw_m7 165 rfl
theorem q1646 : (Jvm.Cond.fieldLinkNest "FoundrymarkModel" (94 : Nat) "FoundrymarkModel$Lot" "isOnHold" "Z" "FoundrymarkModel") ∈ lw_tbl := lw_at lw_m7 167 rfl
theorem q1648 : (Jvm.Cond.fieldLinkNest "FoundrymarkModel" (262 : Nat) "FoundrymarkModel$Lot" "of" "Ljava/util/ArrayList;" "FoundrymarkModel") ∈ lw_tbl := lw_at lw_m7 169 rfl
theorem q1664 : (Jvm.Cond.methodLink "FoundrymarkModel" (97 : Nat) ({ cls := "java/lang/Boolean", name := "valueOf", desc := "(Z)Ljava/lang/Boolean;" } : Jvm.MethodName)) ∈ lw_all := lw_g (lw_at lw_m7 185 rfl) rfl
theorem q1665 : (Jvm.Cond.methodLink "FoundrymarkModel" (103 : Nat) ({ cls := "FoundrymarkModel", name := "among", desc := "(Ljava/util/ArrayList;IZ)I" } : Jvm.MethodName)) ∈ lw_all := lw_g (lw_at lw_m7 186 rfl) rfl
theorem q1666 : (Jvm.Cond.static ({ cls := "FoundrymarkModel", name := "among", desc := "(Ljava/util/ArrayList;IZ)I" } : Jvm.MethodName)) ∈ lw_all := lw_g (lw_at lw_m7 187 rfl) rfl
theorem q1667 : (Jvm.Cond.code ({ cls := "FoundrymarkModel", name := "among", desc := "(Ljava/util/ArrayList;IZ)I" } : Jvm.MethodName) prog_19_method_13_code (5 : Nat) (Option.some Jvm.ClassFile.FieldType.int)) ∈ lw_all := lw_g (lw_at lw_m7 188 rfl) rfl
theorem q1668 : (Jvm.Cond.methodLink "FoundrymarkModel" (113 : Nat) ({ cls := "java/lang/Math", name := "max", desc := "(II)I" } : Jvm.MethodName)) ∈ lw_all := lw_g (lw_at lw_m7 189 rfl) rfl
theorem q1669 : (Jvm.Cond.classLink "FoundrymarkModel" (98 : Nat) "java/lang/Boolean") ∈ lw_all := lw_g (lw_at lw_m7 190 rfl) rfl
theorem q1670 : (Jvm.Cond.methodLink "FoundrymarkModel" (119 : Nat) ({ cls := "java/lang/Boolean", name := "booleanValue", desc := "()Z" } : Jvm.MethodName)) ∈ lw_all := lw_g (lw_at lw_m7 191 rfl) rfl
theorem q1671 : (Jvm.Cond.methodLink "FoundrymarkModel" (107 : Nat) ({ cls := "java/util/ArrayList", name := "clear", desc := "()V" } : Jvm.MethodName)) ∈ lw_all := lw_g (lw_at lw_m7 192 rfl) rfl
theorem q1673 : (Jvm.Cond.instanceMethod ({ cls := "FoundrymarkModel", name := "rule", desc := "(I)C" } : Jvm.MethodName)) ∈ lw_all := lw_g (lw_at lw_m7 194 rfl) rfl
theorem q1674 : (Jvm.Cond.selects "FoundrymarkModel" ({ cls := "FoundrymarkModel", name := "rule", desc := "(I)C" } : Jvm.MethodName) ({ cls := "FoundrymarkModel", name := "rule", desc := "(I)C" } : Jvm.MethodName)) ∈ lw_all := lw_g (lw_at lw_m7 195 rfl) rfl
theorem q1675 : (Jvm.Cond.code ({ cls := "FoundrymarkModel", name := "rule", desc := "(I)C" } : Jvm.MethodName) prog_19_method_14_code (2 : Nat) (Option.some Jvm.ClassFile.FieldType.char)) ∈ lw_all := lw_g (lw_at lw_m7 196 rfl) rfl
theorem q1677 : (Jvm.Cond.instanceMethod ({ cls := "FoundrymarkModel", name := "hold", desc := "(IZ)I" } : Jvm.MethodName)) ∈ lw_all := lw_g (lw_at lw_m7 198 rfl) rfl
theorem q1678 : (Jvm.Cond.selects "FoundrymarkModel" ({ cls := "FoundrymarkModel", name := "hold", desc := "(IZ)I" } : Jvm.MethodName) ({ cls := "FoundrymarkModel", name := "hold", desc := "(IZ)I" } : Jvm.MethodName)) ∈ lw_all := lw_g (lw_at lw_m7 199 rfl) rfl
theorem q1679 : (Jvm.Cond.code ({ cls := "FoundrymarkModel", name := "hold", desc := "(IZ)I" } : Jvm.MethodName) prog_19_method_18_code (3 : Nat) (Option.some Jvm.ClassFile.FieldType.int)) ∈ lw_all := lw_g (lw_at lw_m7 200 rfl) rfl
theorem q1680 : (Jvm.Cond.methodLink "FoundrymarkModel" (161 : Nat) ({ cls := "FoundrymarkModel", name := "failsLot", desc := "(I)Z" } : Jvm.MethodName)) ∈ lw_all := lw_g (lw_at lw_m7 201 rfl) rfl
theorem q1681 : (Jvm.Cond.privateMethod ({ cls := "FoundrymarkModel", name := "failsLot", desc := "(I)Z" } : Jvm.MethodName)) ∈ lw_tbl := lw_at lw_m7 202 rfl
theorem q1682 : (Jvm.Cond.instanceMethod ({ cls := "FoundrymarkModel", name := "failsLot", desc := "(I)Z" } : Jvm.MethodName)) ∈ lw_all := lw_g (lw_at lw_m7 203 rfl) rfl
theorem q1683 : (Jvm.Cond.code ({ cls := "FoundrymarkModel", name := "failsLot", desc := "(I)Z" } : Jvm.MethodName) prog_19_method_15_code (2 : Nat) (Option.some Jvm.ClassFile.FieldType.boolean)) ∈ lw_all := lw_g (lw_at lw_m7 204 rfl) rfl
theorem q1684 : (Jvm.Cond.methodLink "FoundrymarkModel" (164 : Nat) ({ cls := "FoundrymarkModel", name := "lose", desc := "()I" } : Jvm.MethodName)) ∈ lw_all := lw_g (lw_at lw_m7 205 rfl) rfl
theorem q1685 : (Jvm.Cond.privateMethod ({ cls := "FoundrymarkModel", name := "lose", desc := "()I" } : Jvm.MethodName)) ∈ lw_tbl := lw_at lw_m7 206 rfl
theorem q1686 : (Jvm.Cond.instanceMethod ({ cls := "FoundrymarkModel", name := "lose", desc := "()I" } : Jvm.MethodName)) ∈ lw_all := lw_g (lw_at lw_m7 207 rfl) rfl
theorem q1687 : (Jvm.Cond.code ({ cls := "FoundrymarkModel", name := "lose", desc := "()I" } : Jvm.MethodName) prog_19_method_16_code (7 : Nat) (Option.some Jvm.ClassFile.FieldType.int)) ∈ lw_all := lw_g (lw_at lw_m7 208 rfl) rfl
theorem q1688 : (Jvm.Cond.methodLink "FoundrymarkModel" (123 : Nat) ({ cls := "java/util/ArrayList", name := "iterator", desc := "()Ljava/util/Iterator;" } : Jvm.MethodName)) ∈ lw_all := lw_g (lw_at lw_m7 209 rfl) rfl
theorem q1689 : (Jvm.Cond.interfaceEntry "FoundrymarkModel" (127 : Nat)) ∈ lw_tbl := lw_at lw_m7 210 rfl
theorem q1690 : (Jvm.Cond.methodLink "FoundrymarkModel" (127 : Nat) ({ cls := "java/util/Iterator", name := "hasNext", desc := "()Z" } : Jvm.MethodName)) ∈ lw_all := lw_g (lw_at lw_m7 211 rfl) rfl
theorem q1691 : (Jvm.Cond.interfaceEntry "FoundrymarkModel" (132 : Nat)) ∈ lw_tbl := lw_at lw_m7 212 rfl
theorem q1692 : (Jvm.Cond.methodLink "FoundrymarkModel" (132 : Nat) ({ cls := "java/util/Iterator", name := "next", desc := "()Ljava/lang/Object;" } : Jvm.MethodName)) ∈ lw_all := lw_g (lw_at lw_m7 213 rfl) rfl
theorem q1693 : (Jvm.Cond.classLink "FoundrymarkModel" (136 : Nat) "FoundrymarkModel$Order") ∈ lw_all := lw_g (lw_at lw_m7 214 rfl) rfl
theorem q1694 : (Jvm.Cond.methodLink "FoundrymarkModel" (143 : Nat) ({ cls := "FoundrymarkModel$Lot", name := "isHeld", desc := "()Z" } : Jvm.MethodName)) ∈ lw_all := lw_g (lw_at lw_m7 215 rfl) rfl
theorem q1705 : (Jvm.Cond.methodLink "FoundrymarkModel" (146 : Nat) ({ cls := "FoundrymarkModel", name := "free", desc := "(LFoundrymarkModel$Order;)I" } : Jvm.MethodName)) ∈ lw_all := lw_g (lw_at lw_m7 226 rfl) rfl
theorem q1706 : (Jvm.Cond.privateMethod ({ cls := "FoundrymarkModel", name := "free", desc := "(LFoundrymarkModel$Order;)I" } : Jvm.MethodName)) ∈ lw_tbl := lw_at lw_m7 227 rfl
theorem q1707 : (Jvm.Cond.instanceMethod ({ cls := "FoundrymarkModel", name := "free", desc := "(LFoundrymarkModel$Order;)I" } : Jvm.MethodName)) ∈ lw_all := lw_g (lw_at lw_m7 228 rfl) rfl
theorem q1708 : (Jvm.Cond.code ({ cls := "FoundrymarkModel", name := "free", desc := "(LFoundrymarkModel$Order;)I" } : Jvm.MethodName) prog_19_method_17_code (4 : Nat) (Option.some Jvm.ClassFile.FieldType.int)) ∈ lw_all := lw_g (lw_at lw_m7 229 rfl) rfl
theorem q1709 : (Jvm.Cond.classLink "FoundrymarkModel" (156 : Nat) "java/lang/Integer") ∈ lw_all := lw_g (lw_at lw_m7 230 rfl) rfl
theorem q1710 : (Jvm.Cond.methodLink "FoundrymarkModel" (158 : Nat) ({ cls := "java/lang/Integer", name := "intValue", desc := "()I" } : Jvm.MethodName)) ∈ lw_all := lw_g (lw_at lw_m7 231 rfl) rfl
theorem q1715 : (Jvm.Cond.instanceMethod ({ cls := "FoundrymarkModel", name := "isHeld", desc := "(I)Z" } : Jvm.MethodName)) ∈ lw_all := lw_g (lw_at lw_m7 236 rfl) rfl
theorem q1716 : (Jvm.Cond.selects "FoundrymarkModel" ({ cls := "FoundrymarkModel", name := "isHeld", desc := "(I)Z" } : Jvm.MethodName) ({ cls := "FoundrymarkModel", name := "isHeld", desc := "(I)Z" } : Jvm.MethodName)) ∈ lw_all := lw_g (lw_at lw_m7 237 rfl) rfl
theorem q1717 : (Jvm.Cond.code ({ cls := "FoundrymarkModel", name := "isHeld", desc := "(I)Z" } : Jvm.MethodName) prog_19_method_19_code (2 : Nat) (Option.some Jvm.ClassFile.FieldType.boolean)) ∈ lw_all := lw_g (lw_at lw_m7 238 rfl) rfl
theorem q1719 : (Jvm.Cond.instanceMethod ({ cls := "FoundrymarkModel", name := "setChart", desc := "(III)I" } : Jvm.MethodName)) ∈ lw_all := lw_g (lw_at lw_m8 0 rfl) rfl
theorem q1720 : (Jvm.Cond.selects "FoundrymarkModel" ({ cls := "FoundrymarkModel", name := "setChart", desc := "(III)I" } : Jvm.MethodName) ({ cls := "FoundrymarkModel", name := "setChart", desc := "(III)I" } : Jvm.MethodName)) ∈ lw_all := lw_g (lw_at lw_m8 1 rfl) rfl
theorem q1721 : (Jvm.Cond.code ({ cls := "FoundrymarkModel", name := "setChart", desc := "(III)I" } : Jvm.MethodName) prog_19_method_20_code (5 : Nat) (Option.some Jvm.ClassFile.FieldType.int)) ∈ lw_all := lw_g (lw_at lw_m8 2 rfl) rfl
theorem q1723 : (Jvm.Cond.instanceMethod ({ cls := "FoundrymarkModel", name := "measure", desc := "(II)Z" } : Jvm.MethodName)) ∈ lw_all := lw_g (lw_at lw_m8 4 rfl) rfl
theorem q1724 : (Jvm.Cond.selects "FoundrymarkModel" ({ cls := "FoundrymarkModel", name := "measure", desc := "(II)Z" } : Jvm.MethodName) ({ cls := "FoundrymarkModel", name := "measure", desc := "(II)Z" } : Jvm.MethodName)) ∈ lw_all := lw_g (lw_at lw_m8 5 rfl) rfl
theorem q1725 : (Jvm.Cond.code ({ cls := "FoundrymarkModel", name := "measure", desc := "(II)Z" } : Jvm.MethodName) prog_19_method_21_code (8 : Nat) (Option.some Jvm.ClassFile.FieldType.boolean)) ∈ lw_all := lw_g (lw_at lw_m8 6 rfl) rfl
theorem q1726 : (Jvm.Cond.methodLink "FoundrymarkModel" (185 : Nat) ({ cls := "java/lang/Math", name := "abs", desc := "(I)I" } : Jvm.MethodName)) ∈ lw_all := lw_g (lw_at lw_m8 7 rfl) rfl
theorem q1728 : (Jvm.Cond.instanceMethod ({ cls := "FoundrymarkModel", name := "lots", desc := "()I" } : Jvm.MethodName)) ∈ lw_all := lw_g (lw_at lw_m8 9 rfl) rfl
theorem q1729 : (Jvm.Cond.selects "FoundrymarkModel" ({ cls := "FoundrymarkModel", name := "lots", desc := "()I" } : Jvm.MethodName) ({ cls := "FoundrymarkModel", name := "lots", desc := "()I" } : Jvm.MethodName)) ∈ lw_all := lw_g (lw_at lw_m8 10 rfl) rfl
theorem q1730 : (Jvm.Cond.code ({ cls := "FoundrymarkModel", name := "lots", desc := "()I" } : Jvm.MethodName) prog_19_method_22_code (1 : Nat) (Option.some Jvm.ClassFile.FieldType.int)) ∈ lw_all := lw_g (lw_at lw_m8 11 rfl) rfl
theorem q1732 : (Jvm.Cond.instanceMethod ({ cls := "FoundrymarkModel", name := "partOf", desc := "(I)I" } : Jvm.MethodName)) ∈ lw_all := lw_g (lw_at lw_m8 13 rfl) rfl
theorem q1733 : (Jvm.Cond.selects "FoundrymarkModel" ({ cls := "FoundrymarkModel", name := "partOf", desc := "(I)I" } : Jvm.MethodName) ({ cls := "FoundrymarkModel", name := "partOf", desc := "(I)I" } : Jvm.MethodName)) ∈ lw_all := lw_g (lw_at lw_m8 14 rfl) rfl
theorem q1734 : (Jvm.Cond.code ({ cls := "FoundrymarkModel", name := "partOf", desc := "(I)I" } : Jvm.MethodName) prog_19_method_23_code (2 : Nat) (Option.some Jvm.ClassFile.FieldType.int)) ∈ lw_all := lw_g (lw_at lw_m8 15 rfl) rfl
theorem q1736 : (Jvm.Cond.instanceMethod ({ cls := "FoundrymarkModel", name := "rest", desc := "(I)I" } : Jvm.MethodName)) ∈ lw_all := lw_g (lw_at lw_m8 17 rfl) rfl
theorem q1737 : (Jvm.Cond.selects "FoundrymarkModel" ({ cls := "FoundrymarkModel", name := "rest", desc := "(I)I" } : Jvm.MethodName) ({ cls := "FoundrymarkModel", name := "rest", desc := "(I)I" } : Jvm.MethodName)) ∈ lw_all := lw_g (lw_at lw_m8 18 rfl) rfl
theorem q1738 : (Jvm.Cond.code ({ cls := "FoundrymarkModel", name := "rest", desc := "(I)I" } : Jvm.MethodName) prog_19_method_24_code (2 : Nat) (Option.some Jvm.ClassFile.FieldType.int)) ∈ lw_all := lw_g (lw_at lw_m8 19 rfl) rfl
theorem q1740 : (Jvm.Cond.instanceMethod ({ cls := "FoundrymarkModel", name := "reserved", desc := "(I)I" } : Jvm.MethodName)) ∈ lw_all := lw_g (lw_at lw_m8 21 rfl) rfl
theorem q1741 : (Jvm.Cond.selects "FoundrymarkModel" ({ cls := "FoundrymarkModel", name := "reserved", desc := "(I)I" } : Jvm.MethodName) ({ cls := "FoundrymarkModel", name := "reserved", desc := "(I)I" } : Jvm.MethodName)) ∈ lw_all := lw_g (lw_at lw_m8 22 rfl) rfl
theorem q1742 : (Jvm.Cond.code ({ cls := "FoundrymarkModel", name := "reserved", desc := "(I)I" } : Jvm.MethodName) prog_19_method_25_code (2 : Nat) (Option.some Jvm.ClassFile.FieldType.int)) ∈ lw_all := lw_g (lw_at lw_m8 23 rfl) rfl
theorem q1744 : (Jvm.Cond.instanceMethod ({ cls := "FoundrymarkModel", name := "costOf", desc := "(I)J" } : Jvm.MethodName)) ∈ lw_all := lw_g (lw_at lw_m8 25 rfl) rfl
theorem q1745 : (Jvm.Cond.selects "FoundrymarkModel" ({ cls := "FoundrymarkModel", name := "costOf", desc := "(I)J" } : Jvm.MethodName) ({ cls := "FoundrymarkModel", name := "costOf", desc := "(I)J" } : Jvm.MethodName)) ∈ lw_all := lw_g (lw_at lw_m8 26 rfl) rfl
theorem q1746 : (Jvm.Cond.code ({ cls := "FoundrymarkModel", name := "costOf", desc := "(I)J" } : Jvm.MethodName) prog_19_method_26_code (2 : Nat) (Option.some Jvm.ClassFile.FieldType.long)) ∈ lw_all := lw_g (lw_at lw_m8 27 rfl) rfl
theorem q1748 : (Jvm.Cond.instanceMethod ({ cls := "FoundrymarkModel", name := "order", desc := "(IIII)I" } : Jvm.MethodName)) ∈ lw_all := lw_g (lw_at lw_m8 29 rfl) rfl
theorem q1749 : (Jvm.Cond.selects "FoundrymarkModel" ({ cls := "FoundrymarkModel", name := "order", desc := "(IIII)I" } : Jvm.MethodName) ({ cls := "FoundrymarkModel", name := "order", desc := "(IIII)I" } : Jvm.MethodName)) ∈ lw_all := lw_g (lw_at lw_m8 30 rfl) rfl
theorem q1750 : (Jvm.Cond.code ({ cls := "FoundrymarkModel", name := "order", desc := "(IIII)I" } : Jvm.MethodName) prog_19_method_27_code (7 : Nat) (Option.some Jvm.ClassFile.FieldType.int)) ∈ lw_all := lw_g (lw_at lw_m8 31 rfl) rfl
theorem q1752 : (Jvm.Cond.methodLink "FoundrymarkModel" (196 : Nat) ({ cls := "FoundrymarkModel$Order", name := "<init>", desc := "(IIIII)V" } : Jvm.MethodName)) ∈ lw_all := lw_g (lw_at lw_m8 33 rfl) rfl
theorem q1760 : (Jvm.Cond.fieldLinkNest "FoundrymarkModel" (199 : Nat) "FoundrymarkModel$Order" "part" "I" "FoundrymarkModel") ∈ lw_tbl := lw_at lw_m8 41 rfl
theorem q1762 : (Jvm.Cond.fieldLinkNest "FoundrymarkModel" (205 : Nat) "FoundrymarkModel$Order" "quantity" "I" "FoundrymarkModel") ∈ lw_tbl := lw_at lw_m8 43 rfl
theorem q1764 : (Jvm.Cond.fieldLinkNest "FoundrymarkModel" (202 : Nat) "FoundrymarkModel$Order" "option" "I" "FoundrymarkModel") ∈ lw_tbl := lw_at lw_m8 45 rfl
theorem q1766 : (Jvm.Cond.fieldLinkNest "FoundrymarkModel" (269 : Nat) "FoundrymarkModel$Order" "due" "I" "FoundrymarkModel") ∈ lw_tbl := lw_at lw_m8 47 rfl
theorem q1768 : (Jvm.Cond.fieldLinkNest "FoundrymarkModel" (139 : Nat) "FoundrymarkModel$Order" "state" "C" "FoundrymarkModel") ∈ lw_tbl := lw_at lw_m8 49 rfl
theorem q1770 : (Jvm.Cond.fieldLinkNest "FoundrymarkModel" (138 : Nat) "FoundrymarkModel$Order" "lots" "Ljava/util/ArrayList;" "FoundrymarkModel") ∈ lw_tbl := lw_at lw_m8 51 rfl
theorem q1772 : (Jvm.Cond.fieldLinkNest "FoundrymarkModel" (153 : Nat) "FoundrymarkModel$Order" "pieces" "Ljava/util/ArrayList;" "FoundrymarkModel") ∈ lw_tbl := lw_at lw_m8 53 rfl
theorem q1773 : (Jvm.Cond.fieldLinkNest "FoundrymarkModel" (229 : Nat) "FoundrymarkModel$Order" "left" "I" "FoundrymarkModel") ∈ lw_tbl := lw_at lw_m8 54 rfl
theorem q1774 : (Jvm.Cond.fieldLinkNest "FoundrymarkModel" (246 : Nat) "FoundrymarkModel$Order" "operation" "I" "FoundrymarkModel") ∈ lw_tbl := lw_at lw_m8 55 rfl
theorem q1775 : (Jvm.Cond.fieldLinkNest "FoundrymarkModel" (243 : Nat) "FoundrymarkModel$Order" "machine" "I" "FoundrymarkModel") ∈ lw_tbl := lw_at lw_m8 56 rfl
theorem q1776 : (Jvm.Cond.fieldLinkNest "FoundrymarkModel" (224 : Nat) "FoundrymarkModel$Order" "cost" "J" "FoundrymarkModel") ∈ lw_tbl := lw_at lw_m8 57 rfl
theorem q1777 : (Jvm.Cond.fieldLinkNest "FoundrymarkModel" (258 : Nat) "FoundrymarkModel$Order" "made" "LFoundrymarkModel$Lot;" "FoundrymarkModel") ∈ lw_tbl := lw_at lw_m8 58 rfl
theorem q1779 : (Jvm.Cond.fieldLinkNest "FoundrymarkModel" (255 : Nat) "FoundrymarkModel$Order" "finished" "I" "FoundrymarkModel") ∈ lw_tbl := lw_at lw_m8 60 rfl
theorem q1781 : (Jvm.Cond.fieldLinkNest "FoundrymarkModel" (317 : Nat) "FoundrymarkModel$Order" "delivered" "I" "FoundrymarkModel") ∈ lw_tbl := lw_at lw_m8 62 rfl
theorem q1782 : (Jvm.Cond.fieldLinkNest "FoundrymarkModel" (311 : Nat) "FoundrymarkModel$Order" "deliveredCost" "J" "FoundrymarkModel") ∈ lw_tbl := lw_at lw_m8 63 rfl
theorem q1784 : (Jvm.Cond.fieldLinkNest "FoundrymarkModel" (314 : Nat) "FoundrymarkModel$Order" "given" "Ljava/util/ArrayList;" "FoundrymarkModel") ∈ lw_tbl := lw_at lw_m8 65 rfl
theorem q1821 : (Jvm.Cond.instanceMethod ({ cls := "FoundrymarkModel", name := "promise", desc := "(I)Z" } : Jvm.MethodName)) ∈ lw_all := lw_g (lw_at lw_m8 102 rfl) rfl
theorem q1822 : (Jvm.Cond.selects "FoundrymarkModel" ({ cls := "FoundrymarkModel", name := "promise", desc := "(I)Z" } : Jvm.MethodName) ({ cls := "FoundrymarkModel", name := "promise", desc := "(I)Z" } : Jvm.MethodName)) ∈ lw_all := lw_g (lw_at lw_m8 103 rfl) rfl
theorem q1823 : (Jvm.Cond.code ({ cls := "FoundrymarkModel", name := "promise", desc := "(I)Z" } : Jvm.MethodName) prog_19_method_30_code (3 : Nat) (Option.some Jvm.ClassFile.FieldType.boolean)) ∈ lw_all := lw_g (lw_at lw_m8 104 rfl) rfl
theorem q1824 : (Jvm.Cond.methodLink "FoundrymarkModel" (214 : Nat) ({ cls := "FoundrymarkModel", name := "failsOrder", desc := "(I)Z" } : Jvm.MethodName)) ∈ lw_all := lw_g (lw_at lw_m8 105 rfl) rfl
theorem q1825 : (Jvm.Cond.privateMethod ({ cls := "FoundrymarkModel", name := "failsOrder", desc := "(I)Z" } : Jvm.MethodName)) ∈ lw_tbl := lw_at lw_m8 106 rfl
theorem q1826 : (Jvm.Cond.instanceMethod ({ cls := "FoundrymarkModel", name := "failsOrder", desc := "(I)Z" } : Jvm.MethodName)) ∈ lw_all := lw_g (lw_at lw_m8 107 rfl) rfl
theorem q1827 : (Jvm.Cond.code ({ cls := "FoundrymarkModel", name := "failsOrder", desc := "(I)Z" } : Jvm.MethodName) prog_19_method_28_code (2 : Nat) (Option.some Jvm.ClassFile.FieldType.boolean)) ∈ lw_all := lw_g (lw_at lw_m8 108 rfl) rfl
theorem q1828 : (Jvm.Cond.methodLink "FoundrymarkModel" (217 : Nat) ({ cls := "FoundrymarkModel", name := "reserve", desc := "(LFoundrymarkModel$Order;)Z" } : Jvm.MethodName)) ∈ lw_all := lw_g (lw_at lw_m8 109 rfl) rfl
theorem q1829 : (Jvm.Cond.privateMethod ({ cls := "FoundrymarkModel", name := "reserve", desc := "(LFoundrymarkModel$Order;)Z" } : Jvm.MethodName)) ∈ lw_tbl := lw_at lw_m8 110 rfl
theorem q1830 : (Jvm.Cond.instanceMethod ({ cls := "FoundrymarkModel", name := "reserve", desc := "(LFoundrymarkModel$Order;)Z" } : Jvm.MethodName)) ∈ lw_all := lw_g (lw_at lw_m8 111 rfl) rfl
theorem q1831 : (Jvm.Cond.code ({ cls := "FoundrymarkModel", name := "reserve", desc := "(LFoundrymarkModel$Order;)Z" } : Jvm.MethodName) prog_19_method_29_code (9 : Nat) (Option.some Jvm.ClassFile.FieldType.boolean)) ∈ lw_all := lw_g (lw_at lw_m8 112 rfl) rfl
theorem q1832 : (Jvm.Cond.classLink "FoundrymarkModel" (200 : Nat) "[I") ∈ lw_all := lw_g (lw_at lw_m8 113 rfl) rfl
theorem q1833 : (Jvm.Cond.methodLink "FoundrymarkModel" (208 : Nat) ({ cls := "java/lang/Math", name := "min", desc := "(II)I" } : Jvm.MethodName)) ∈ lw_all := lw_g (lw_at lw_m8 114 rfl) rfl
theorem q1834 : (Jvm.Cond.methodLink "FoundrymarkModel" (211 : Nat) ({ cls := "java/lang/Integer", name := "valueOf", desc := "(I)Ljava/lang/Integer;" } : Jvm.MethodName)) ∈ lw_all := lw_g (lw_at lw_m8 115 rfl) rfl
theorem q1854 : (Jvm.Cond.instanceMethod ({ cls := "FoundrymarkModel", name := "withdraw", desc := "(I)I" } : Jvm.MethodName)) ∈ lw_all := lw_g (lw_at lw_m8 135 rfl) rfl
theorem q1855 : (Jvm.Cond.selects "FoundrymarkModel" ({ cls := "FoundrymarkModel", name := "withdraw", desc := "(I)I" } : Jvm.MethodName) ({ cls := "FoundrymarkModel", name := "withdraw", desc := "(I)I" } : Jvm.MethodName)) ∈ lw_all := lw_g (lw_at lw_m8 136 rfl) rfl
theorem q1856 : (Jvm.Cond.code ({ cls := "FoundrymarkModel", name := "withdraw", desc := "(I)I" } : Jvm.MethodName) prog_19_method_31_code (2 : Nat) (Option.some Jvm.ClassFile.FieldType.int)) ∈ lw_all := lw_g (lw_at lw_m8 137 rfl) rfl
theorem q1858 : (Jvm.Cond.instanceMethod ({ cls := "FoundrymarkModel", name := "release", desc := "(I)Z" } : Jvm.MethodName)) ∈ lw_all := lw_g (lw_at lw_m8 139 rfl) rfl
theorem q1859 : (Jvm.Cond.selects "FoundrymarkModel" ({ cls := "FoundrymarkModel", name := "release", desc := "(I)Z" } : Jvm.MethodName) ({ cls := "FoundrymarkModel", name := "release", desc := "(I)Z" } : Jvm.MethodName)) ∈ lw_all := lw_g (lw_at lw_m8 140 rfl) rfl
theorem q1860 : (Jvm.Cond.code ({ cls := "FoundrymarkModel", name := "release", desc := "(I)Z" } : Jvm.MethodName) prog_19_method_33_code (4 : Nat) (Option.some Jvm.ClassFile.FieldType.boolean)) ∈ lw_all := lw_g (lw_at lw_m8 141 rfl) rfl
theorem q1861 : (Jvm.Cond.methodLink "FoundrymarkModel" (221 : Nat) ({ cls := "FoundrymarkModel$Order", name := "isReleased", desc := "()Z" } : Jvm.MethodName)) ∈ lw_all := lw_g (lw_at lw_m8 142 rfl) rfl
theorem q1865 : (Jvm.Cond.methodLink "FoundrymarkModel" (225 : Nat) ({ cls := "FoundrymarkModel", name := "take", desc := "(LFoundrymarkModel$Lot;I)J" } : Jvm.MethodName)) ∈ lw_all := lw_g (lw_at lw_m8 146 rfl) rfl
theorem q1866 : (Jvm.Cond.static ({ cls := "FoundrymarkModel", name := "take", desc := "(LFoundrymarkModel$Lot;I)J" } : Jvm.MethodName)) ∈ lw_all := lw_g (lw_at lw_m8 147 rfl) rfl
theorem q1867 : (Jvm.Cond.code ({ cls := "FoundrymarkModel", name := "take", desc := "(LFoundrymarkModel$Lot;I)J" } : Jvm.MethodName) prog_19_method_32_code (4 : Nat) (Option.some Jvm.ClassFile.FieldType.long)) ∈ lw_all := lw_g (lw_at lw_m8 148 rfl) rfl
theorem q1868 : (Jvm.Cond.methodLink "FoundrymarkModel" (232 : Nat) ({ cls := "FoundrymarkModel", name := "goOn", desc := "(LFoundrymarkModel$Order;)V" } : Jvm.MethodName)) ∈ lw_all := lw_g (lw_at lw_m8 149 rfl) rfl
theorem q1869 : (Jvm.Cond.privateMethod ({ cls := "FoundrymarkModel", name := "goOn", desc := "(LFoundrymarkModel$Order;)V" } : Jvm.MethodName)) ∈ lw_tbl := lw_at lw_m8 150 rfl
theorem q1870 : (Jvm.Cond.instanceMethod ({ cls := "FoundrymarkModel", name := "goOn", desc := "(LFoundrymarkModel$Order;)V" } : Jvm.MethodName)) ∈ lw_all := lw_g (lw_at lw_m8 151 rfl) rfl
theorem q1871 : (Jvm.Cond.code ({ cls := "FoundrymarkModel", name := "goOn", desc := "(LFoundrymarkModel$Order;)V" } : Jvm.MethodName) prog_19_method_36_code (4 : Nat) (Option.none : Option Jvm.ClassFile.FieldType)) ∈ lw_all := lw_g (lw_at lw_m8 152 rfl) rfl
theorem q1872 : (Jvm.Cond.methodLink "FoundrymarkModel" (249 : Nat) ({ cls := "FoundrymarkModel", name := "jobs", desc := "(I)I" } : Jvm.MethodName)) ∈ lw_all := lw_g (lw_at lw_m8 153 rfl) rfl
theorem q1873 : (Jvm.Cond.privateMethod ({ cls := "FoundrymarkModel", name := "jobs", desc := "(I)I" } : Jvm.MethodName)) ∈ lw_tbl := lw_at lw_m8 154 rfl
theorem q1874 : (Jvm.Cond.instanceMethod ({ cls := "FoundrymarkModel", name := "jobs", desc := "(I)I" } : Jvm.MethodName)) ∈ lw_all := lw_g (lw_at lw_m8 155 rfl) rfl
theorem q1875 : (Jvm.Cond.code ({ cls := "FoundrymarkModel", name := "jobs", desc := "(I)I" } : Jvm.MethodName) prog_19_method_34_code (2 : Nat) (Option.some Jvm.ClassFile.FieldType.int)) ∈ lw_all := lw_g (lw_at lw_m8 156 rfl) rfl
theorem q1876 : (Jvm.Cond.methodLink "FoundrymarkModel" (239 : Nat) ({ cls := "FoundrymarkModel", name := "waits", desc := "(I)I" } : Jvm.MethodName)) ∈ lw_all := lw_g (lw_at lw_m8 157 rfl) rfl
theorem q1877 : (Jvm.Cond.privateMethod ({ cls := "FoundrymarkModel", name := "waits", desc := "(I)I" } : Jvm.MethodName)) ∈ lw_tbl := lw_at lw_m8 158 rfl
theorem q1878 : (Jvm.Cond.instanceMethod ({ cls := "FoundrymarkModel", name := "waits", desc := "(I)I" } : Jvm.MethodName)) ∈ lw_all := lw_g (lw_at lw_m8 159 rfl) rfl
theorem q1879 : (Jvm.Cond.code ({ cls := "FoundrymarkModel", name := "waits", desc := "(I)I" } : Jvm.MethodName) prog_19_method_35_code (5 : Nat) (Option.some Jvm.ClassFile.FieldType.int)) ∈ lw_all := lw_g (lw_at lw_m8 160 rfl) rfl
theorem q1880 : (Jvm.Cond.methodLink "FoundrymarkModel" (265 : Nat) ({ cls := "java/util/ArrayList", name := "addAll", desc := "(Ljava/util/Collection;)Z" } : Jvm.MethodName)) ∈ lw_all := lw_g (lw_at lw_m8 161 rfl) rfl
theorem q1881 : (Jvm.Cond.methodLink "FoundrymarkModel" (236 : Nat) ({ cls := "FoundrymarkModel", name := "begin", desc := "()V" } : Jvm.MethodName)) ∈ lw_all := lw_g (lw_at lw_m8 162 rfl) rfl
theorem q1882 : (Jvm.Cond.privateMethod ({ cls := "FoundrymarkModel", name := "begin", desc := "()V" } : Jvm.MethodName)) ∈ lw_tbl := lw_at lw_m8 163 rfl
theorem q1883 : (Jvm.Cond.instanceMethod ({ cls := "FoundrymarkModel", name := "begin", desc := "()V" } : Jvm.MethodName)) ∈ lw_all := lw_g (lw_at lw_m8 164 rfl) rfl
theorem q1884 : (Jvm.Cond.code ({ cls := "FoundrymarkModel", name := "begin", desc := "()V" } : Jvm.MethodName) prog_19_method_37_code (7 : Nat) (Option.none : Option Jvm.ClassFile.FieldType)) ∈ lw_all := lw_g (lw_at lw_m8 165 rfl) rfl
theorem q1886 : (Jvm.Cond.instanceMethod ({ cls := "FoundrymarkModel", name := "scrap", desc := "(II)I" } : Jvm.MethodName)) ∈ lw_all := lw_g (lw_at lw_m8 167 rfl) rfl
theorem q1887 : (Jvm.Cond.selects "FoundrymarkModel" ({ cls := "FoundrymarkModel", name := "scrap", desc := "(II)I" } : Jvm.MethodName) ({ cls := "FoundrymarkModel", name := "scrap", desc := "(II)I" } : Jvm.MethodName)) ∈ lw_all := lw_g (lw_at lw_m8 168 rfl) rfl
theorem q1888 : (Jvm.Cond.code ({ cls := "FoundrymarkModel", name := "scrap", desc := "(II)I" } : Jvm.MethodName) prog_19_method_39_code (4 : Nat) (Option.some Jvm.ClassFile.FieldType.int)) ∈ lw_all := lw_g (lw_at lw_m8 169 rfl) rfl
theorem q1890 : (Jvm.Cond.instanceMethod ({ cls := "FoundrymarkModel", name := "advance", desc := "(I)I" } : Jvm.MethodName)) ∈ lw_all := lw_g (lw_at lw_m8 171 rfl) rfl
theorem q1891 : (Jvm.Cond.selects "FoundrymarkModel" ({ cls := "FoundrymarkModel", name := "advance", desc := "(I)I" } : Jvm.MethodName) ({ cls := "FoundrymarkModel", name := "advance", desc := "(I)I" } : Jvm.MethodName)) ∈ lw_all := lw_g (lw_at lw_m8 172 rfl) rfl
theorem q1892 : (Jvm.Cond.code ({ cls := "FoundrymarkModel", name := "advance", desc := "(I)I" } : Jvm.MethodName) prog_19_method_40_code (3 : Nat) (Option.some Jvm.ClassFile.FieldType.int)) ∈ lw_all := lw_g (lw_at lw_m8 173 rfl) rfl
theorem q1893 : (Jvm.Cond.methodLink "FoundrymarkModel" (304 : Nat) ({ cls := "FoundrymarkModel", name := "end", desc := "()V" } : Jvm.MethodName)) ∈ lw_all := lw_g (lw_at lw_m8 174 rfl) rfl
theorem q1894 : (Jvm.Cond.privateMethod ({ cls := "FoundrymarkModel", name := "end", desc := "()V" } : Jvm.MethodName)) ∈ lw_tbl := lw_at lw_m8 175 rfl
theorem q1895 : (Jvm.Cond.instanceMethod ({ cls := "FoundrymarkModel", name := "end", desc := "()V" } : Jvm.MethodName)) ∈ lw_all := lw_g (lw_at lw_m8 176 rfl) rfl
theorem q1896 : (Jvm.Cond.code ({ cls := "FoundrymarkModel", name := "end", desc := "()V" } : Jvm.MethodName) prog_19_method_38_code (4 : Nat) (Option.none : Option Jvm.ClassFile.FieldType)) ∈ lw_all := lw_g (lw_at lw_m8 177 rfl) rfl
theorem q1898 : (Jvm.Cond.instanceMethod ({ cls := "FoundrymarkModel", name := "deliver", desc := "(I)Z" } : Jvm.MethodName)) ∈ lw_all := lw_g (lw_at lw_m8 179 rfl) rfl
theorem q1899 : (Jvm.Cond.selects "FoundrymarkModel" ({ cls := "FoundrymarkModel", name := "deliver", desc := "(I)Z" } : Jvm.MethodName) ({ cls := "FoundrymarkModel", name := "deliver", desc := "(I)Z" } : Jvm.MethodName)) ∈ lw_all := lw_g (lw_at lw_m8 180 rfl) rfl
theorem q1900 : (Jvm.Cond.code ({ cls := "FoundrymarkModel", name := "deliver", desc := "(I)Z" } : Jvm.MethodName) prog_19_method_42_code (10 : Nat) (Option.some Jvm.ClassFile.FieldType.boolean)) ∈ lw_all := lw_g (lw_at lw_m8 181 rfl) rfl
theorem q1901 : (Jvm.Cond.methodLink "FoundrymarkModel" (307 : Nat) ({ cls := "FoundrymarkModel", name := "sources", desc := "(LFoundrymarkModel$Order;)Ljava/util/ArrayList;" } : Jvm.MethodName)) ∈ lw_all := lw_g (lw_at lw_m8 182 rfl) rfl
theorem q1902 : (Jvm.Cond.privateMethod ({ cls := "FoundrymarkModel", name := "sources", desc := "(LFoundrymarkModel$Order;)Ljava/util/ArrayList;" } : Jvm.MethodName)) ∈ lw_tbl := lw_at lw_m8 183 rfl
theorem q1903 : (Jvm.Cond.instanceMethod ({ cls := "FoundrymarkModel", name := "sources", desc := "(LFoundrymarkModel$Order;)Ljava/util/ArrayList;" } : Jvm.MethodName)) ∈ lw_all := lw_g (lw_at lw_m8 184 rfl) rfl
theorem q1904 : (Jvm.Cond.code ({ cls := "FoundrymarkModel", name := "sources", desc := "(LFoundrymarkModel$Order;)Ljava/util/ArrayList;" } : Jvm.MethodName) prog_19_method_41_code (6 : Nat) (Option.some (Jvm.ClassFile.FieldType.object "java/util/ArrayList"))) ∈ lw_all := lw_g (lw_at lw_m8 185 rfl) rfl
theorem q1906 : (Jvm.Cond.instanceMethod ({ cls := "FoundrymarkModel", name := "stateOf", desc := "(I)C" } : Jvm.MethodName)) ∈ lw_all := lw_g (lw_at lw_m8 187 rfl) rfl
theorem q1907 : (Jvm.Cond.selects "FoundrymarkModel" ({ cls := "FoundrymarkModel", name := "stateOf", desc := "(I)C" } : Jvm.MethodName) ({ cls := "FoundrymarkModel", name := "stateOf", desc := "(I)C" } : Jvm.MethodName)) ∈ lw_all := lw_g (lw_at lw_m8 188 rfl) rfl
theorem q1908 : (Jvm.Cond.code ({ cls := "FoundrymarkModel", name := "stateOf", desc := "(I)C" } : Jvm.MethodName) prog_19_method_43_code (2 : Nat) (Option.some Jvm.ClassFile.FieldType.char)) ∈ lw_all := lw_g (lw_at lw_m8 189 rfl) rfl
theorem q1910 : (Jvm.Cond.instanceMethod ({ cls := "FoundrymarkModel", name := "lotOf", desc := "(I)I" } : Jvm.MethodName)) ∈ lw_all := lw_g (lw_at lw_m8 191 rfl) rfl
theorem q1911 : (Jvm.Cond.selects "FoundrymarkModel" ({ cls := "FoundrymarkModel", name := "lotOf", desc := "(I)I" } : Jvm.MethodName) ({ cls := "FoundrymarkModel", name := "lotOf", desc := "(I)I" } : Jvm.MethodName)) ∈ lw_all := lw_g (lw_at lw_m8 192 rfl) rfl
theorem q1912 : (Jvm.Cond.code ({ cls := "FoundrymarkModel", name := "lotOf", desc := "(I)I" } : Jvm.MethodName) prog_19_method_44_code (2 : Nat) (Option.some Jvm.ClassFile.FieldType.int)) ∈ lw_all := lw_g (lw_at lw_m8 193 rfl) rfl
theorem q1914 : (Jvm.Cond.instanceMethod ({ cls := "FoundrymarkModel", name := "finishedAt", desc := "(I)I" } : Jvm.MethodName)) ∈ lw_all := lw_g (lw_at lw_m8 195 rfl) rfl
theorem q1915 : (Jvm.Cond.selects "FoundrymarkModel" ({ cls := "FoundrymarkModel", name := "finishedAt", desc := "(I)I" } : Jvm.MethodName) ({ cls := "FoundrymarkModel", name := "finishedAt", desc := "(I)I" } : Jvm.MethodName)) ∈ lw_all := lw_g (lw_at lw_m8 196 rfl) rfl
theorem q1916 : (Jvm.Cond.code ({ cls := "FoundrymarkModel", name := "finishedAt", desc := "(I)I" } : Jvm.MethodName) prog_19_method_45_code (2 : Nat) (Option.some Jvm.ClassFile.FieldType.int)) ∈ lw_all := lw_g (lw_at lw_m8 197 rfl) rfl
theorem q1918 : (Jvm.Cond.instanceMethod ({ cls := "FoundrymarkModel", name := "machineIs", desc := "(I)C" } : Jvm.MethodName)) ∈ lw_all := lw_g (lw_at lw_m8 199 rfl) rfl
theorem q1919 : (Jvm.Cond.selects "FoundrymarkModel" ({ cls := "FoundrymarkModel", name := "machineIs", desc := "(I)C" } : Jvm.MethodName) ({ cls := "FoundrymarkModel", name := "machineIs", desc := "(I)C" } : Jvm.MethodName)) ∈ lw_all := lw_g (lw_at lw_m8 200 rfl) rfl
theorem q1920 : (Jvm.Cond.code ({ cls := "FoundrymarkModel", name := "machineIs", desc := "(I)C" } : Jvm.MethodName) prog_19_method_47_code (2 : Nat) (Option.some Jvm.ClassFile.FieldType.char)) ∈ lw_all := lw_g (lw_at lw_m8 201 rfl) rfl
theorem q1921 : (Jvm.Cond.methodLink "FoundrymarkModel" (320 : Nat) ({ cls := "FoundrymarkModel", name := "failsMachine", desc := "(I)Z" } : Jvm.MethodName)) ∈ lw_all := lw_g (lw_at lw_m8 202 rfl) rfl
theorem q1922 : (Jvm.Cond.privateMethod ({ cls := "FoundrymarkModel", name := "failsMachine", desc := "(I)Z" } : Jvm.MethodName)) ∈ lw_tbl := lw_at lw_m8 203 rfl
theorem q1923 : (Jvm.Cond.instanceMethod ({ cls := "FoundrymarkModel", name := "failsMachine", desc := "(I)Z" } : Jvm.MethodName)) ∈ lw_all := lw_g (lw_at lw_m8 204 rfl) rfl
theorem q1924 : (Jvm.Cond.code ({ cls := "FoundrymarkModel", name := "failsMachine", desc := "(I)Z" } : Jvm.MethodName) prog_19_method_46_code (2 : Nat) (Option.some Jvm.ClassFile.FieldType.boolean)) ∈ lw_all := lw_g (lw_at lw_m8 205 rfl) rfl
theorem q1926 : (Jvm.Cond.instanceMethod ({ cls := "FoundrymarkModel", name := "wear", desc := "(I)I" } : Jvm.MethodName)) ∈ lw_all := lw_g (lw_at lw_m8 207 rfl) rfl
theorem q1927 : (Jvm.Cond.selects "FoundrymarkModel" ({ cls := "FoundrymarkModel", name := "wear", desc := "(I)I" } : Jvm.MethodName) ({ cls := "FoundrymarkModel", name := "wear", desc := "(I)I" } : Jvm.MethodName)) ∈ lw_all := lw_g (lw_at lw_m8 208 rfl) rfl
theorem q1928 : (Jvm.Cond.code ({ cls := "FoundrymarkModel", name := "wear", desc := "(I)I" } : Jvm.MethodName) prog_19_method_48_code (2 : Nat) (Option.some Jvm.ClassFile.FieldType.int)) ∈ lw_all := lw_g (lw_at lw_m8 209 rfl) rfl
theorem q1930 : (Jvm.Cond.instanceMethod ({ cls := "FoundrymarkModel", name := "waiting", desc := "(I)I" } : Jvm.MethodName)) ∈ lw_all := lw_g (lw_at lw_m8 211 rfl) rfl
theorem q1931 : (Jvm.Cond.selects "FoundrymarkModel" ({ cls := "FoundrymarkModel", name := "waiting", desc := "(I)I" } : Jvm.MethodName) ({ cls := "FoundrymarkModel", name := "waiting", desc := "(I)I" } : Jvm.MethodName)) ∈ lw_all := lw_g (lw_at lw_m8 212 rfl) rfl
theorem q1932 : (Jvm.Cond.code ({ cls := "FoundrymarkModel", name := "waiting", desc := "(I)I" } : Jvm.MethodName) prog_19_method_49_code (2 : Nat) (Option.some Jvm.ClassFile.FieldType.int)) ∈ lw_all := lw_g (lw_at lw_m8 213 rfl) rfl
theorem q1934 : (Jvm.Cond.instanceMethod ({ cls := "FoundrymarkModel", name := "isIn", desc := "(II)Z" } : Jvm.MethodName)) ∈ lw_all := lw_g (lw_at lw_m8 215 rfl) rfl
theorem q1935 : (Jvm.Cond.selects "FoundrymarkModel" ({ cls := "FoundrymarkModel", name := "isIn", desc := "(II)Z" } : Jvm.MethodName) ({ cls := "FoundrymarkModel", name := "isIn", desc := "(II)Z" } : Jvm.MethodName)) ∈ lw_all := lw_g (lw_at lw_m8 216 rfl) rfl
theorem q1936 : (Jvm.Cond.code ({ cls := "FoundrymarkModel", name := "isIn", desc := "(II)Z" } : Jvm.MethodName) prog_19_method_50_code (4 : Nat) (Option.some Jvm.ClassFile.FieldType.boolean)) ∈ lw_all := lw_g (lw_at lw_m8 217 rfl) rfl
theorem q1937 : (Jvm.Cond.methodLink "FoundrymarkModel" (323 : Nat) ({ cls := "FoundrymarkModel$Lot", name := "has", desc := "(LFoundrymarkModel$Lot;)Z" } : Jvm.MethodName)) ∈ lw_all := lw_g (lw_at lw_m8 218 rfl) rfl
theorem q1943 : (Jvm.Cond.instanceMethod ({ cls := "FoundrymarkModel", name := "touched", desc := "(I)I" } : Jvm.MethodName)) ∈ lw_all := lw_g (lw_at lw_m8 224 rfl) rfl
theorem q1944 : (Jvm.Cond.selects "FoundrymarkModel" ({ cls := "FoundrymarkModel", name := "touched", desc := "(I)I" } : Jvm.MethodName) ({ cls := "FoundrymarkModel", name := "touched", desc := "(I)I" } : Jvm.MethodName)) ∈ lw_all := lw_g (lw_at lw_m8 225 rfl) rfl
theorem q1945 : (Jvm.Cond.code ({ cls := "FoundrymarkModel", name := "touched", desc := "(I)I" } : Jvm.MethodName) prog_19_method_52_code (5 : Nat) (Option.some Jvm.ClassFile.FieldType.int)) ∈ lw_all := lw_g (lw_at lw_m8 226 rfl) rfl
theorem q1946 : (Jvm.Cond.methodLink "FoundrymarkModel" (327 : Nat) ({ cls := "FoundrymarkModel", name := "isIn", desc := "(LFoundrymarkModel$Lot;LFoundrymarkModel$Order;)Z" } : Jvm.MethodName)) ∈ lw_all := lw_g (lw_at lw_m8 227 rfl) rfl
theorem q1947 : (Jvm.Cond.static ({ cls := "FoundrymarkModel", name := "isIn", desc := "(LFoundrymarkModel$Lot;LFoundrymarkModel$Order;)Z" } : Jvm.MethodName)) ∈ lw_all := lw_g (lw_at lw_m8 228 rfl) rfl
theorem q1948 : (Jvm.Cond.code ({ cls := "FoundrymarkModel", name := "isIn", desc := "(LFoundrymarkModel$Lot;LFoundrymarkModel$Order;)Z" } : Jvm.MethodName) prog_19_method_51_code (5 : Nat) (Option.some Jvm.ClassFile.FieldType.boolean)) ∈ lw_all := lw_g (lw_at lw_m8 229 rfl) rfl
theorem q1950 : (Jvm.Cond.instanceMethod ({ cls := "FoundrymarkModel", name := "lotsIn", desc := "(I)I" } : Jvm.MethodName)) ∈ lw_all := lw_g (lw_at lw_m8 231 rfl) rfl
theorem q1951 : (Jvm.Cond.selects "FoundrymarkModel" ({ cls := "FoundrymarkModel", name := "lotsIn", desc := "(I)I" } : Jvm.MethodName) ({ cls := "FoundrymarkModel", name := "lotsIn", desc := "(I)I" } : Jvm.MethodName)) ∈ lw_all := lw_g (lw_at lw_m8 232 rfl) rfl
theorem q1952 : (Jvm.Cond.code ({ cls := "FoundrymarkModel", name := "lotsIn", desc := "(I)I" } : Jvm.MethodName) prog_19_method_53_code (5 : Nat) (Option.some Jvm.ClassFile.FieldType.int)) ∈ lw_all := lw_g (lw_at lw_m8 233 rfl) rfl
theorem q1954 : (Jvm.Cond.instanceMethod ({ cls := "FoundrymarkModel", name := "deliveredCost", desc := "(I)J" } : Jvm.MethodName)) ∈ lw_all := lw_g (lw_at lw_m8 235 rfl) rfl
theorem q1955 : (Jvm.Cond.selects "FoundrymarkModel" ({ cls := "FoundrymarkModel", name := "deliveredCost", desc := "(I)J" } : Jvm.MethodName) ({ cls := "FoundrymarkModel", name := "deliveredCost", desc := "(I)J" } : Jvm.MethodName)) ∈ lw_all := lw_g (lw_at lw_m8 236 rfl) rfl
theorem q1956 : (Jvm.Cond.code ({ cls := "FoundrymarkModel", name := "deliveredCost", desc := "(I)J" } : Jvm.MethodName) prog_19_method_54_code (2 : Nat) (Option.some Jvm.ClassFile.FieldType.long)) ∈ lw_all := lw_g (lw_at lw_m8 237 rfl) rfl
theorem q1958 : (Jvm.Cond.instanceMethod ({ cls := "FoundrymarkModel", name := "inTimeShare", desc := "()F" } : Jvm.MethodName)) ∈ lw_all := lw_g (lw_at lw_m8 239 rfl) rfl
theorem q1959 : (Jvm.Cond.selects "FoundrymarkModel" ({ cls := "FoundrymarkModel", name := "inTimeShare", desc := "()F" } : Jvm.MethodName) ({ cls := "FoundrymarkModel", name := "inTimeShare", desc := "()F" } : Jvm.MethodName)) ∈ lw_all := lw_g (lw_at lw_m9 0 rfl) rfl
theorem q1960 : (Jvm.Cond.code ({ cls := "FoundrymarkModel", name := "inTimeShare", desc := "()F" } : Jvm.MethodName) prog_19_method_55_code (5 : Nat) (Option.some Jvm.ClassFile.FieldType.float)) ∈ lw_all := lw_g (lw_at lw_m9 1 rfl) rfl
theorem q1962 : (Jvm.Cond.instanceMethod ({ cls := "FoundrymarkModel", name := "meanBusy", desc := "()D" } : Jvm.MethodName)) ∈ lw_all := lw_g (lw_at lw_m9 3 rfl) rfl
theorem q1963 : (Jvm.Cond.selects "FoundrymarkModel" ({ cls := "FoundrymarkModel", name := "meanBusy", desc := "()D" } : Jvm.MethodName) ({ cls := "FoundrymarkModel", name := "meanBusy", desc := "()D" } : Jvm.MethodName)) ∈ lw_all := lw_g (lw_at lw_m9 4 rfl) rfl
theorem q1964 : (Jvm.Cond.code ({ cls := "FoundrymarkModel", name := "meanBusy", desc := "()D" } : Jvm.MethodName) prog_19_method_56_code (4 : Nat) (Option.some Jvm.ClassFile.FieldType.double)) ∈ lw_all := lw_g (lw_at lw_m9 5 rfl) rfl
theorem q1965 : (Jvm.Cond.methodLink "FoundrymarkModel" (331 : Nat) ({ cls := "java/util/ArrayList", name := "isEmpty", desc := "()Z" } : Jvm.MethodName)) ∈ lw_all := lw_g (lw_at lw_m9 6 rfl) rfl
theorem q1967 : (Jvm.Cond.instanceMethod ({ cls := "FoundrymarkModel", name := "isSound", desc := "()Z" } : Jvm.MethodName)) ∈ lw_all := lw_g (lw_at lw_m9 8 rfl) rfl
theorem q1968 : (Jvm.Cond.selects "FoundrymarkModel" ({ cls := "FoundrymarkModel", name := "isSound", desc := "()Z" } : Jvm.MethodName) ({ cls := "FoundrymarkModel", name := "isSound", desc := "()Z" } : Jvm.MethodName)) ∈ lw_all := lw_g (lw_at lw_m9 9 rfl) rfl
theorem q1969 : (Jvm.Cond.code ({ cls := "FoundrymarkModel", name := "isSound", desc := "()Z" } : Jvm.MethodName) prog_19_method_57_code (1 : Nat) (Option.some Jvm.ClassFile.FieldType.boolean)) ∈ lw_all := lw_g (lw_at lw_m9 10 rfl) rfl
theorem q1986 : (Jvm.Cond.castable "FoundrymarkModel" "java/lang/Object") ∈ lw_tbl := lw_at lw_m9 27 rfl
theorem in_X4 : ∀ w ∈ wsX40, w ∈ lw_all := lw_in wsX40 [1475, 1477, 1479, 1481, 1483, 1485, 1487, 1489, 1491] (by decide +kernel) (by decide +kernel)
